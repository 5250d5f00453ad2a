/-! UnimodularTablesModel -/
set_option maxRecDepth 100000
def RX5 : String := "UnimodularTablesModel"
def TX5 : u_T := fun k => match k with
  | 0 => ("UnimodularTablesModel", "thrown", "I", false)
  | 1 => ("UnimodularTablesModel", "tape", "[B", true)
  | 2 => ("UnimodularTablesModel", "length", "I", false)
  | 3 => ("UnimodularTablesModel", "at", "I", false)
  | 4 => ("UnimodularTablesModel", "fault", "I", false)
  | 5 => ("UnimodularTablesModel", "now", "[I", true)
  | 6 => ("UnimodularTablesModel", "read", "[I", true)
  | 7 => ("UnimodularTablesModel", "trial", "[I", true)
  | 8 => ("UnimodularTablesModel", "kept", "[I", true)
  | 9 => ("UnimodularTablesModel", "plan", "[I", true)
  | 10 => ("UnimodularTablesModel", "planLong", "[I", true)
  | 11 => ("UnimodularTablesModel", "status", "[I", true)
  | 12 => ("UnimodularTablesModel", "keptMany", "I", false)
  | 13 => ("UnimodularTablesModel", "plans", "I", false)
  | 14 => ("UnimodularTablesModel", "undoRow", "[I", true)
  | 15 => ("UnimodularTablesModel", "acts", "I", false)
  | 16 => ("UnimodularTablesModel", "dets", "[I", true)
  | 17 => ("UnimodularTablesModel", "from", "[I", true)
  | 18 => ("UnimodularTablesModel", "to", "[I", true)
  | 19 => ("UnimodularTablesModel", "treeRow", "[I", true)
  | 20 => ("UnimodularTablesModel", "walk", "[I", true)
  | 21 => ("UnimodularTablesModel", "walkLong", "I", false)
  | 22 => ("UnimodularTablesModel", "part", "[I", true)
  | 23 => ("UnimodularTablesModel", "steps", "[I", true)
  | 24 => ("UnimodularTablesModel", "sign", "[I", true)
  | 25 => ("UnimodularTablesModel", "factor", "[I", true)
  | 26 => ("UnimodularTablesModel", "goal", "[I", true)
  | 27 => ("UnimodularTablesModel", "laid", "[I", true)
  | 28 => ("UnimodularTablesModel", "rowsLaid", "[I", true)
  | 29 => ("UnimodularTablesModel", "columnsLaid", "[I", true)
  | 30 => ("UnimodularTablesModel", "apart", "[I", true)
  | 31 => ("UnimodularTablesModel", "x", "J", false)
  | 32 => ("UnimodularTablesModel", "imageRow", "[I", true)
  | 33 => ("UnimodularTablesModel", "imageKept", "I", false)
  | _ => ("UnimodularTablesModel", "hasImage", "Z", false)
def tyX5 : Nat → FieldType := fun k => match k with
  | 0 => .int
  | 1 => .array .byte
  | 2 => .int
  | 3 => .int
  | 4 => .int
  | 5 => .array .int
  | 6 => .array .int
  | 7 => .array .int
  | 8 => .array .int
  | 9 => .array .int
  | 10 => .array .int
  | 11 => .array .int
  | 12 => .int
  | 13 => .int
  | 14 => .array .int
  | 15 => .int
  | 16 => .array .int
  | 17 => .array .int
  | 18 => .array .int
  | 19 => .array .int
  | 20 => .array .int
  | 21 => .int
  | 22 => .array .int
  | 23 => .array .int
  | 24 => .array .int
  | 25 => .array .int
  | 26 => .array .int
  | 27 => .array .int
  | 28 => .array .int
  | 29 => .array .int
  | 30 => .array .int
  | 31 => .long
  | 32 => .array .int
  | 33 => .int
  | _ => .boolean
abbrev wsX50 : List Cond := u_ws RX5 TX5 35
set_option maxRecDepth 100000 in
theorem nmX5 : ∀ a, a < 35 → ∀ b, b < 35 → a ≠ b → (TX5 a).2.1 ≠ (TX5 b).2.1 := by decide +kernel
set_option maxRecDepth 100000 in
theorem tyX5_ok : ∀ k, k < 35 → parseFieldDescriptor (TX5 k).2.2.1 = some (tyX5 k) := by decide +kernel
abbrev cX5_init : ByteArray := prog_9_method_1_code
def yX5_init : MethodName := ⟨RX5, "<init>", "()V"⟩
def dkwX5_init_8 : List UInt8 := [181, 0, 77, 42, 16, 38, 188, 10, 181, 0, 80, 177]
abbrev dktX5_init_8 : List UInt8 := dkwX5_init_8 ++ []
def dkwX5_init_7 : List UInt8 := [181, 0, 68, 42, 16, 6, 188, 10, 181, 0, 71, 42, 16, 6, 188, 10, 181, 0, 74, 42, 16, 38, 188, 10]
abbrev dktX5_init_7 : List UInt8 := dkwX5_init_7 ++ dktX5_init_8
def dkwX5_init_6 : List UInt8 := [181, 0, 59, 42, 16, 12, 188, 10, 181, 0, 62, 42, 16, 38, 188, 10, 181, 0, 65, 42, 16, 38, 188, 10]
abbrev dktX5_init_6 : List UInt8 := dkwX5_init_6 ++ dktX5_init_7
def dkwX5_init_5 : List UInt8 := [181, 0, 50, 42, 16, 12, 188, 10, 181, 0, 53, 42, 16, 12, 188, 10, 181, 0, 56, 42, 16, 38, 188, 10]
abbrev dktX5_init_5 : List UInt8 := dkwX5_init_5 ++ dktX5_init_6
def dkwX5_init_4 : List UInt8 := [181, 0, 41, 42, 16, 12, 188, 10, 181, 0, 44, 42, 16, 38, 188, 10, 181, 0, 47, 42, 16, 6, 188, 10]
abbrev dktX5_init_4 : List UInt8 := dkwX5_init_4 ++ dktX5_init_5
def dkwX5_init_3 : List UInt8 := [17, 5, 240, 188, 10, 181, 0, 35, 42, 17, 16, 0, 188, 10, 181, 0, 38, 42, 16, 12, 188, 10]
abbrev dktX5_init_3 : List UInt8 := dkwX5_init_3 ++ dktX5_init_4
def dkwX5_init_2 : List UInt8 := [17, 0, 240, 188, 10, 181, 0, 26, 42, 8, 188, 10, 181, 0, 29, 42, 7, 188, 10, 181, 0, 32, 42]
abbrev dktX5_init_2 : List UInt8 := dkwX5_init_2 ++ dktX5_init_3
def dkwX5_init_1 : List UInt8 := [188, 10, 181, 0, 17, 42, 16, 38, 188, 10, 181, 0, 20, 42, 17, 0, 152, 188, 10, 181, 0, 23, 42]
abbrev dktX5_init_1 : List UInt8 := dkwX5_init_1 ++ dktX5_init_2
def dkwX5_init_0 : List UInt8 := [42, 183, 0, 3, 42, 17, 0, 240, 188, 8, 181, 0, 9, 42, 16, 38, 188, 10, 181, 0, 13, 42, 16, 38]
abbrev dktX5_init_0 : List UInt8 := dkwX5_init_0 ++ dktX5_init_1
theorem dksX5_init_0 : cX5_init.data.toList.drop 0 = dktX5_init_0 := by decide +kernel
theorem dksX5_init_1 : cX5_init.data.toList.drop 24 = dktX5_init_1 := dk_seg dksX5_init_0 24 rfl rfl
theorem dksX5_init_2 : cX5_init.data.toList.drop 47 = dktX5_init_2 := dk_seg dksX5_init_1 23 rfl rfl
theorem dksX5_init_3 : cX5_init.data.toList.drop 70 = dktX5_init_3 := dk_seg dksX5_init_2 23 rfl rfl
theorem dksX5_init_4 : cX5_init.data.toList.drop 92 = dktX5_init_4 := dk_seg dksX5_init_3 22 rfl rfl
theorem dksX5_init_5 : cX5_init.data.toList.drop 116 = dktX5_init_5 := dk_seg dksX5_init_4 24 rfl rfl
theorem dksX5_init_6 : cX5_init.data.toList.drop 140 = dktX5_init_6 := dk_seg dksX5_init_5 24 rfl rfl
theorem dksX5_init_7 : cX5_init.data.toList.drop 164 = dktX5_init_7 := dk_seg dksX5_init_6 24 rfl rfl
theorem dksX5_init_8 : cX5_init.data.toList.drop 188 = dktX5_init_8 := dk_seg dksX5_init_7 24 rfl rfl
theorem dX5_init_0 : decode cX5_init 0 = .ok (.aload_n 0, 1) := dk_42 (dk_at dksX5_init_0 0 rfl rfl)
theorem dX5_init_1 : decode cX5_init 1 = .ok (.invokespecial 3, 3) := dk_183 0 3 (dk_at dksX5_init_0 1 rfl rfl)
theorem dX5_init_4 : decode cX5_init 4 = .ok (.aload_n 0, 1) := dk_42 (dk_at dksX5_init_0 4 rfl rfl)
theorem dX5_init_5 : decode cX5_init 5 = .ok (.sipush 240, 3) := dk_17 0 240 (dk_at dksX5_init_0 5 rfl rfl)
theorem dX5_init_8 : decode cX5_init 8 = .ok (.newarray .byte, 2) := dk_188_8 (dk_at dksX5_init_0 8 rfl rfl)
theorem dX5_init_10 : decode cX5_init 10 = .ok (.putfield 9, 3) := dk_181 0 9 (dk_at dksX5_init_0 10 rfl rfl)
theorem dX5_init_13 : decode cX5_init 13 = .ok (.aload_n 0, 1) := dk_42 (dk_at dksX5_init_0 13 rfl rfl)
theorem dX5_init_14 : decode cX5_init 14 = .ok (.bipush 38, 2) := dk_16 38 (dk_at dksX5_init_0 14 rfl rfl)
theorem dX5_init_16 : decode cX5_init 16 = .ok (.newarray .int, 2) := dk_188_10 (dk_at dksX5_init_0 16 rfl rfl)
theorem dX5_init_18 : decode cX5_init 18 = .ok (.putfield 13, 3) := dk_181 0 13 (dk_at dksX5_init_0 18 rfl rfl)
theorem dX5_init_21 : decode cX5_init 21 = .ok (.aload_n 0, 1) := dk_42 (dk_at dksX5_init_0 21 rfl rfl)
theorem dX5_init_22 : decode cX5_init 22 = .ok (.bipush 38, 2) := dk_16 38 (dk_at dksX5_init_0 22 rfl rfl)
theorem dX5_init_24 : decode cX5_init 24 = .ok (.newarray .int, 2) := dk_188_10 (dk_at dksX5_init_1 0 rfl rfl)
theorem dX5_init_26 : decode cX5_init 26 = .ok (.putfield 17, 3) := dk_181 0 17 (dk_at dksX5_init_1 2 rfl rfl)
theorem dX5_init_29 : decode cX5_init 29 = .ok (.aload_n 0, 1) := dk_42 (dk_at dksX5_init_1 5 rfl rfl)
theorem dX5_init_30 : decode cX5_init 30 = .ok (.bipush 38, 2) := dk_16 38 (dk_at dksX5_init_1 6 rfl rfl)
theorem dX5_init_32 : decode cX5_init 32 = .ok (.newarray .int, 2) := dk_188_10 (dk_at dksX5_init_1 8 rfl rfl)
theorem dX5_init_34 : decode cX5_init 34 = .ok (.putfield 20, 3) := dk_181 0 20 (dk_at dksX5_init_1 10 rfl rfl)
theorem dX5_init_37 : decode cX5_init 37 = .ok (.aload_n 0, 1) := dk_42 (dk_at dksX5_init_1 13 rfl rfl)
theorem dX5_init_38 : decode cX5_init 38 = .ok (.sipush 152, 3) := dk_17 0 152 (dk_at dksX5_init_1 14 rfl rfl)
theorem dX5_init_41 : decode cX5_init 41 = .ok (.newarray .int, 2) := dk_188_10 (dk_at dksX5_init_1 17 rfl rfl)
theorem dX5_init_43 : decode cX5_init 43 = .ok (.putfield 23, 3) := dk_181 0 23 (dk_at dksX5_init_1 19 rfl rfl)
theorem dX5_init_46 : decode cX5_init 46 = .ok (.aload_n 0, 1) := dk_42 (dk_at dksX5_init_1 22 rfl rfl)
theorem dX5_init_47 : decode cX5_init 47 = .ok (.sipush 240, 3) := dk_17 0 240 (dk_at dksX5_init_2 0 rfl rfl)
theorem dX5_init_50 : decode cX5_init 50 = .ok (.newarray .int, 2) := dk_188_10 (dk_at dksX5_init_2 3 rfl rfl)
theorem dX5_init_52 : decode cX5_init 52 = .ok (.putfield 26, 3) := dk_181 0 26 (dk_at dksX5_init_2 5 rfl rfl)
theorem dX5_init_55 : decode cX5_init 55 = .ok (.aload_n 0, 1) := dk_42 (dk_at dksX5_init_2 8 rfl rfl)
theorem dX5_init_56 : decode cX5_init 56 = .ok (.iconst 5, 1) := dk_8 (dk_at dksX5_init_2 9 rfl rfl)
theorem dX5_init_57 : decode cX5_init 57 = .ok (.newarray .int, 2) := dk_188_10 (dk_at dksX5_init_2 10 rfl rfl)
theorem dX5_init_59 : decode cX5_init 59 = .ok (.putfield 29, 3) := dk_181 0 29 (dk_at dksX5_init_2 12 rfl rfl)
theorem dX5_init_62 : decode cX5_init 62 = .ok (.aload_n 0, 1) := dk_42 (dk_at dksX5_init_2 15 rfl rfl)
theorem dX5_init_63 : decode cX5_init 63 = .ok (.iconst 4, 1) := dk_7 (dk_at dksX5_init_2 16 rfl rfl)
theorem dX5_init_64 : decode cX5_init 64 = .ok (.newarray .int, 2) := dk_188_10 (dk_at dksX5_init_2 17 rfl rfl)
theorem dX5_init_66 : decode cX5_init 66 = .ok (.putfield 32, 3) := dk_181 0 32 (dk_at dksX5_init_2 19 rfl rfl)
theorem dX5_init_69 : decode cX5_init 69 = .ok (.aload_n 0, 1) := dk_42 (dk_at dksX5_init_2 22 rfl rfl)
theorem dX5_init_70 : decode cX5_init 70 = .ok (.sipush 1520, 3) := dk_17 5 240 (dk_at dksX5_init_3 0 rfl rfl)
theorem dX5_init_73 : decode cX5_init 73 = .ok (.newarray .int, 2) := dk_188_10 (dk_at dksX5_init_3 3 rfl rfl)
theorem dX5_init_75 : decode cX5_init 75 = .ok (.putfield 35, 3) := dk_181 0 35 (dk_at dksX5_init_3 5 rfl rfl)
theorem dX5_init_78 : decode cX5_init 78 = .ok (.aload_n 0, 1) := dk_42 (dk_at dksX5_init_3 8 rfl rfl)
theorem dX5_init_79 : decode cX5_init 79 = .ok (.sipush 4096, 3) := dk_17 16 0 (dk_at dksX5_init_3 9 rfl rfl)
theorem dX5_init_82 : decode cX5_init 82 = .ok (.newarray .int, 2) := dk_188_10 (dk_at dksX5_init_3 12 rfl rfl)
theorem dX5_init_84 : decode cX5_init 84 = .ok (.putfield 38, 3) := dk_181 0 38 (dk_at dksX5_init_3 14 rfl rfl)
theorem dX5_init_87 : decode cX5_init 87 = .ok (.aload_n 0, 1) := dk_42 (dk_at dksX5_init_3 17 rfl rfl)
theorem dX5_init_88 : decode cX5_init 88 = .ok (.bipush 12, 2) := dk_16 12 (dk_at dksX5_init_3 18 rfl rfl)
theorem dX5_init_90 : decode cX5_init 90 = .ok (.newarray .int, 2) := dk_188_10 (dk_at dksX5_init_3 20 rfl rfl)
theorem dX5_init_92 : decode cX5_init 92 = .ok (.putfield 41, 3) := dk_181 0 41 (dk_at dksX5_init_4 0 rfl rfl)
theorem dX5_init_95 : decode cX5_init 95 = .ok (.aload_n 0, 1) := dk_42 (dk_at dksX5_init_4 3 rfl rfl)
theorem dX5_init_96 : decode cX5_init 96 = .ok (.bipush 12, 2) := dk_16 12 (dk_at dksX5_init_4 4 rfl rfl)
theorem dX5_init_98 : decode cX5_init 98 = .ok (.newarray .int, 2) := dk_188_10 (dk_at dksX5_init_4 6 rfl rfl)
theorem dX5_init_100 : decode cX5_init 100 = .ok (.putfield 44, 3) := dk_181 0 44 (dk_at dksX5_init_4 8 rfl rfl)
theorem dX5_init_103 : decode cX5_init 103 = .ok (.aload_n 0, 1) := dk_42 (dk_at dksX5_init_4 11 rfl rfl)
theorem dX5_init_104 : decode cX5_init 104 = .ok (.bipush 38, 2) := dk_16 38 (dk_at dksX5_init_4 12 rfl rfl)
theorem dX5_init_106 : decode cX5_init 106 = .ok (.newarray .int, 2) := dk_188_10 (dk_at dksX5_init_4 14 rfl rfl)
theorem dX5_init_108 : decode cX5_init 108 = .ok (.putfield 47, 3) := dk_181 0 47 (dk_at dksX5_init_4 16 rfl rfl)
theorem dX5_init_111 : decode cX5_init 111 = .ok (.aload_n 0, 1) := dk_42 (dk_at dksX5_init_4 19 rfl rfl)
theorem dX5_init_112 : decode cX5_init 112 = .ok (.bipush 6, 2) := dk_16 6 (dk_at dksX5_init_4 20 rfl rfl)
theorem dX5_init_114 : decode cX5_init 114 = .ok (.newarray .int, 2) := dk_188_10 (dk_at dksX5_init_4 22 rfl rfl)
theorem dX5_init_116 : decode cX5_init 116 = .ok (.putfield 50, 3) := dk_181 0 50 (dk_at dksX5_init_5 0 rfl rfl)
theorem dX5_init_119 : decode cX5_init 119 = .ok (.aload_n 0, 1) := dk_42 (dk_at dksX5_init_5 3 rfl rfl)
theorem dX5_init_120 : decode cX5_init 120 = .ok (.bipush 12, 2) := dk_16 12 (dk_at dksX5_init_5 4 rfl rfl)
theorem dX5_init_122 : decode cX5_init 122 = .ok (.newarray .int, 2) := dk_188_10 (dk_at dksX5_init_5 6 rfl rfl)
theorem dX5_init_124 : decode cX5_init 124 = .ok (.putfield 53, 3) := dk_181 0 53 (dk_at dksX5_init_5 8 rfl rfl)
theorem dX5_init_127 : decode cX5_init 127 = .ok (.aload_n 0, 1) := dk_42 (dk_at dksX5_init_5 11 rfl rfl)
theorem dX5_init_128 : decode cX5_init 128 = .ok (.bipush 12, 2) := dk_16 12 (dk_at dksX5_init_5 12 rfl rfl)
theorem dX5_init_130 : decode cX5_init 130 = .ok (.newarray .int, 2) := dk_188_10 (dk_at dksX5_init_5 14 rfl rfl)
theorem dX5_init_132 : decode cX5_init 132 = .ok (.putfield 56, 3) := dk_181 0 56 (dk_at dksX5_init_5 16 rfl rfl)
theorem dX5_init_135 : decode cX5_init 135 = .ok (.aload_n 0, 1) := dk_42 (dk_at dksX5_init_5 19 rfl rfl)
theorem dX5_init_136 : decode cX5_init 136 = .ok (.bipush 38, 2) := dk_16 38 (dk_at dksX5_init_5 20 rfl rfl)
theorem dX5_init_138 : decode cX5_init 138 = .ok (.newarray .int, 2) := dk_188_10 (dk_at dksX5_init_5 22 rfl rfl)
theorem dX5_init_140 : decode cX5_init 140 = .ok (.putfield 59, 3) := dk_181 0 59 (dk_at dksX5_init_6 0 rfl rfl)
theorem dX5_init_143 : decode cX5_init 143 = .ok (.aload_n 0, 1) := dk_42 (dk_at dksX5_init_6 3 rfl rfl)
theorem dX5_init_144 : decode cX5_init 144 = .ok (.bipush 12, 2) := dk_16 12 (dk_at dksX5_init_6 4 rfl rfl)
theorem dX5_init_146 : decode cX5_init 146 = .ok (.newarray .int, 2) := dk_188_10 (dk_at dksX5_init_6 6 rfl rfl)
theorem dX5_init_148 : decode cX5_init 148 = .ok (.putfield 62, 3) := dk_181 0 62 (dk_at dksX5_init_6 8 rfl rfl)
theorem dX5_init_151 : decode cX5_init 151 = .ok (.aload_n 0, 1) := dk_42 (dk_at dksX5_init_6 11 rfl rfl)
theorem dX5_init_152 : decode cX5_init 152 = .ok (.bipush 38, 2) := dk_16 38 (dk_at dksX5_init_6 12 rfl rfl)
theorem dX5_init_154 : decode cX5_init 154 = .ok (.newarray .int, 2) := dk_188_10 (dk_at dksX5_init_6 14 rfl rfl)
theorem dX5_init_156 : decode cX5_init 156 = .ok (.putfield 65, 3) := dk_181 0 65 (dk_at dksX5_init_6 16 rfl rfl)
theorem dX5_init_159 : decode cX5_init 159 = .ok (.aload_n 0, 1) := dk_42 (dk_at dksX5_init_6 19 rfl rfl)
theorem dX5_init_160 : decode cX5_init 160 = .ok (.bipush 38, 2) := dk_16 38 (dk_at dksX5_init_6 20 rfl rfl)
theorem dX5_init_162 : decode cX5_init 162 = .ok (.newarray .int, 2) := dk_188_10 (dk_at dksX5_init_6 22 rfl rfl)
theorem dX5_init_164 : decode cX5_init 164 = .ok (.putfield 68, 3) := dk_181 0 68 (dk_at dksX5_init_7 0 rfl rfl)
theorem dX5_init_167 : decode cX5_init 167 = .ok (.aload_n 0, 1) := dk_42 (dk_at dksX5_init_7 3 rfl rfl)
theorem dX5_init_168 : decode cX5_init 168 = .ok (.bipush 6, 2) := dk_16 6 (dk_at dksX5_init_7 4 rfl rfl)
theorem dX5_init_170 : decode cX5_init 170 = .ok (.newarray .int, 2) := dk_188_10 (dk_at dksX5_init_7 6 rfl rfl)
theorem dX5_init_172 : decode cX5_init 172 = .ok (.putfield 71, 3) := dk_181 0 71 (dk_at dksX5_init_7 8 rfl rfl)
theorem dX5_init_175 : decode cX5_init 175 = .ok (.aload_n 0, 1) := dk_42 (dk_at dksX5_init_7 11 rfl rfl)
theorem dX5_init_176 : decode cX5_init 176 = .ok (.bipush 6, 2) := dk_16 6 (dk_at dksX5_init_7 12 rfl rfl)
theorem dX5_init_178 : decode cX5_init 178 = .ok (.newarray .int, 2) := dk_188_10 (dk_at dksX5_init_7 14 rfl rfl)
theorem dX5_init_180 : decode cX5_init 180 = .ok (.putfield 74, 3) := dk_181 0 74 (dk_at dksX5_init_7 16 rfl rfl)
theorem dX5_init_183 : decode cX5_init 183 = .ok (.aload_n 0, 1) := dk_42 (dk_at dksX5_init_7 19 rfl rfl)
theorem dX5_init_184 : decode cX5_init 184 = .ok (.bipush 38, 2) := dk_16 38 (dk_at dksX5_init_7 20 rfl rfl)
theorem dX5_init_186 : decode cX5_init 186 = .ok (.newarray .int, 2) := dk_188_10 (dk_at dksX5_init_7 22 rfl rfl)
theorem dX5_init_188 : decode cX5_init 188 = .ok (.putfield 77, 3) := dk_181 0 77 (dk_at dksX5_init_8 0 rfl rfl)
theorem dX5_init_191 : decode cX5_init 191 = .ok (.aload_n 0, 1) := dk_42 (dk_at dksX5_init_8 3 rfl rfl)
theorem dX5_init_192 : decode cX5_init 192 = .ok (.bipush 38, 2) := dk_16 38 (dk_at dksX5_init_8 4 rfl rfl)
theorem dX5_init_194 : decode cX5_init 194 = .ok (.newarray .int, 2) := dk_188_10 (dk_at dksX5_init_8 6 rfl rfl)
theorem dX5_init_196 : decode cX5_init 196 = .ok (.putfield 80, 3) := dk_181 0 80 (dk_at dksX5_init_8 8 rfl rfl)
theorem dX5_init_199 : decode cX5_init 199 = .ok (.return_, 1) := dk_177 (dk_at dksX5_init_8 11 rfl rfl)
abbrev cX5_thrown : ByteArray := prog_9_method_2_code
def yX5_thrown : MethodName := ⟨RX5, "thrown", "()I"⟩
theorem dX5_thrown_0 : decode cX5_thrown 0 = .ok (.aload_n 0, 1) := by decide +kernel
theorem dX5_thrown_1 : decode cX5_thrown 1 = .ok (.getfield 83, 3) := by decide +kernel
theorem dX5_thrown_4 : decode cX5_thrown 4 = .ok (.ireturn, 1) := by decide +kernel
abbrev cX5_feed : ByteArray := prog_9_method_8_code
def yX5_feed : MethodName := ⟨RX5, "feed", "(IIIII)I"⟩
def dkwX5_feed_3 : List UInt8 := [182, 0, 94, 42, 180, 0, 87, 172]
abbrev dktX5_feed_3 : List UInt8 := dkwX5_feed_3 ++ []
def dkwX5_feed_2 : List UInt8 := [182, 0, 94, 42, 28, 182, 0, 94, 42, 29, 182, 0, 94, 42, 21, 4, 182, 0, 94, 42, 21, 5]
abbrev dktX5_feed_2 : List UInt8 := dkwX5_feed_2 ++ dktX5_feed_3
def dkwX5_feed_1 : List UInt8 := [21, 4, 184, 0, 90, 96, 21, 5, 184, 0, 90, 96, 17, 0, 240, 164, 0, 5, 2, 172, 42, 27]
abbrev dktX5_feed_1 : List UInt8 := dkwX5_feed_1 ++ dktX5_feed_2
def dkwX5_feed_0 : List UInt8 := [42, 3, 181, 0, 83, 42, 180, 0, 87, 27, 184, 0, 90, 96, 28, 184, 0, 90, 96, 29, 184, 0, 90, 96]
abbrev dktX5_feed_0 : List UInt8 := dkwX5_feed_0 ++ dktX5_feed_1
theorem dksX5_feed_0 : cX5_feed.data.toList.drop 0 = dktX5_feed_0 := by decide +kernel
theorem dksX5_feed_1 : cX5_feed.data.toList.drop 24 = dktX5_feed_1 := dk_seg dksX5_feed_0 24 rfl rfl
theorem dksX5_feed_2 : cX5_feed.data.toList.drop 46 = dktX5_feed_2 := dk_seg dksX5_feed_1 22 rfl rfl
theorem dksX5_feed_3 : cX5_feed.data.toList.drop 68 = dktX5_feed_3 := dk_seg dksX5_feed_2 22 rfl rfl
theorem dX5_feed_0 : decode cX5_feed 0 = .ok (.aload_n 0, 1) := dk_42 (dk_at dksX5_feed_0 0 rfl rfl)
theorem dX5_feed_1 : decode cX5_feed 1 = .ok (.iconst 0, 1) := dk_3 (dk_at dksX5_feed_0 1 rfl rfl)
theorem dX5_feed_2 : decode cX5_feed 2 = .ok (.putfield 83, 3) := dk_181 0 83 (dk_at dksX5_feed_0 2 rfl rfl)
theorem dX5_feed_5 : decode cX5_feed 5 = .ok (.aload_n 0, 1) := dk_42 (dk_at dksX5_feed_0 5 rfl rfl)
theorem dX5_feed_6 : decode cX5_feed 6 = .ok (.getfield 87, 3) := dk_180 0 87 (dk_at dksX5_feed_0 6 rfl rfl)
theorem dX5_feed_9 : decode cX5_feed 9 = .ok (.iload_n 1, 1) := dk_27 (dk_at dksX5_feed_0 9 rfl rfl)
theorem dX5_feed_10 : decode cX5_feed 10 = .ok (.invokestatic 90, 3) := dk_184 0 90 (dk_at dksX5_feed_0 10 rfl rfl)
theorem dX5_feed_13 : decode cX5_feed 13 = .ok (.iadd, 1) := dk_96 (dk_at dksX5_feed_0 13 rfl rfl)
theorem dX5_feed_14 : decode cX5_feed 14 = .ok (.iload_n 2, 1) := dk_28 (dk_at dksX5_feed_0 14 rfl rfl)
theorem dX5_feed_15 : decode cX5_feed 15 = .ok (.invokestatic 90, 3) := dk_184 0 90 (dk_at dksX5_feed_0 15 rfl rfl)
theorem dX5_feed_18 : decode cX5_feed 18 = .ok (.iadd, 1) := dk_96 (dk_at dksX5_feed_0 18 rfl rfl)
theorem dX5_feed_19 : decode cX5_feed 19 = .ok (.iload_n 3, 1) := dk_29 (dk_at dksX5_feed_0 19 rfl rfl)
theorem dX5_feed_20 : decode cX5_feed 20 = .ok (.invokestatic 90, 3) := dk_184 0 90 (dk_at dksX5_feed_0 20 rfl rfl)
theorem dX5_feed_23 : decode cX5_feed 23 = .ok (.iadd, 1) := dk_96 (dk_at dksX5_feed_0 23 rfl rfl)
theorem dX5_feed_24 : decode cX5_feed 24 = .ok (.iload 4, 2) := dk_21 4 (dk_at dksX5_feed_1 0 rfl rfl)
theorem dX5_feed_26 : decode cX5_feed 26 = .ok (.invokestatic 90, 3) := dk_184 0 90 (dk_at dksX5_feed_1 2 rfl rfl)
theorem dX5_feed_29 : decode cX5_feed 29 = .ok (.iadd, 1) := dk_96 (dk_at dksX5_feed_1 5 rfl rfl)
theorem dX5_feed_30 : decode cX5_feed 30 = .ok (.iload 5, 2) := dk_21 5 (dk_at dksX5_feed_1 6 rfl rfl)
theorem dX5_feed_32 : decode cX5_feed 32 = .ok (.invokestatic 90, 3) := dk_184 0 90 (dk_at dksX5_feed_1 8 rfl rfl)
theorem dX5_feed_35 : decode cX5_feed 35 = .ok (.iadd, 1) := dk_96 (dk_at dksX5_feed_1 11 rfl rfl)
theorem dX5_feed_36 : decode cX5_feed 36 = .ok (.sipush 240, 3) := dk_17 0 240 (dk_at dksX5_feed_1 12 rfl rfl)
theorem dX5_feed_39 : decode cX5_feed 39 = .ok (.if_icmp .le 5, 3) := dk_164 0 5 (dk_at dksX5_feed_1 15 rfl rfl)
theorem dX5_feed_42 : decode cX5_feed 42 = .ok (.iconst (-1), 1) := dk_2 (dk_at dksX5_feed_1 18 rfl rfl)
theorem dX5_feed_43 : decode cX5_feed 43 = .ok (.ireturn, 1) := dk_172 (dk_at dksX5_feed_1 19 rfl rfl)
theorem dX5_feed_44 : decode cX5_feed 44 = .ok (.aload_n 0, 1) := dk_42 (dk_at dksX5_feed_1 20 rfl rfl)
theorem dX5_feed_45 : decode cX5_feed 45 = .ok (.iload_n 1, 1) := dk_27 (dk_at dksX5_feed_1 21 rfl rfl)
theorem dX5_feed_46 : decode cX5_feed 46 = .ok (.invokevirtual 94, 3) := dk_182 0 94 (dk_at dksX5_feed_2 0 rfl rfl)
theorem dX5_feed_49 : decode cX5_feed 49 = .ok (.aload_n 0, 1) := dk_42 (dk_at dksX5_feed_2 3 rfl rfl)
theorem dX5_feed_50 : decode cX5_feed 50 = .ok (.iload_n 2, 1) := dk_28 (dk_at dksX5_feed_2 4 rfl rfl)
theorem dX5_feed_51 : decode cX5_feed 51 = .ok (.invokevirtual 94, 3) := dk_182 0 94 (dk_at dksX5_feed_2 5 rfl rfl)
theorem dX5_feed_54 : decode cX5_feed 54 = .ok (.aload_n 0, 1) := dk_42 (dk_at dksX5_feed_2 8 rfl rfl)
theorem dX5_feed_55 : decode cX5_feed 55 = .ok (.iload_n 3, 1) := dk_29 (dk_at dksX5_feed_2 9 rfl rfl)
theorem dX5_feed_56 : decode cX5_feed 56 = .ok (.invokevirtual 94, 3) := dk_182 0 94 (dk_at dksX5_feed_2 10 rfl rfl)
theorem dX5_feed_59 : decode cX5_feed 59 = .ok (.aload_n 0, 1) := dk_42 (dk_at dksX5_feed_2 13 rfl rfl)
theorem dX5_feed_60 : decode cX5_feed 60 = .ok (.iload 4, 2) := dk_21 4 (dk_at dksX5_feed_2 14 rfl rfl)
theorem dX5_feed_62 : decode cX5_feed 62 = .ok (.invokevirtual 94, 3) := dk_182 0 94 (dk_at dksX5_feed_2 16 rfl rfl)
theorem dX5_feed_65 : decode cX5_feed 65 = .ok (.aload_n 0, 1) := dk_42 (dk_at dksX5_feed_2 19 rfl rfl)
theorem dX5_feed_66 : decode cX5_feed 66 = .ok (.iload 5, 2) := dk_21 5 (dk_at dksX5_feed_2 20 rfl rfl)
theorem dX5_feed_68 : decode cX5_feed 68 = .ok (.invokevirtual 94, 3) := dk_182 0 94 (dk_at dksX5_feed_3 0 rfl rfl)
theorem dX5_feed_71 : decode cX5_feed 71 = .ok (.aload_n 0, 1) := dk_42 (dk_at dksX5_feed_3 3 rfl rfl)
theorem dX5_feed_72 : decode cX5_feed 72 = .ok (.getfield 87, 3) := dk_180 0 87 (dk_at dksX5_feed_3 4 rfl rfl)
theorem dX5_feed_75 : decode cX5_feed 75 = .ok (.ireturn, 1) := dk_172 (dk_at dksX5_feed_3 7 rfl rfl)
abbrev cX5_bytesOf : ByteArray := prog_9_method_6_code
def yX5_bytesOf : MethodName := ⟨RX5, "bytesOf", "(I)I"⟩
def dkwX5_bytesOf_1 : List UInt8 := [167, 0, 4, 4, 96, 60, 132, 2, 1, 167, 255, 227, 27, 172]
abbrev dktX5_bytesOf_1 : List UInt8 := dkwX5_bytesOf_1 ++ []
def dkwX5_bytesOf_0 : List UInt8 := [3, 60, 3, 61, 28, 7, 162, 0, 30, 27, 26, 16, 8, 28, 104, 122, 17, 0, 255, 126, 154, 0, 7, 3]
abbrev dktX5_bytesOf_0 : List UInt8 := dkwX5_bytesOf_0 ++ dktX5_bytesOf_1
theorem dksX5_bytesOf_0 : cX5_bytesOf.data.toList.drop 0 = dktX5_bytesOf_0 := by decide +kernel
theorem dksX5_bytesOf_1 : cX5_bytesOf.data.toList.drop 24 = dktX5_bytesOf_1 := dk_seg dksX5_bytesOf_0 24 rfl rfl
theorem dX5_bytesOf_0 : decode cX5_bytesOf 0 = .ok (.iconst 0, 1) := dk_3 (dk_at dksX5_bytesOf_0 0 rfl rfl)
theorem dX5_bytesOf_1 : decode cX5_bytesOf 1 = .ok (.istore_n 1, 1) := dk_60 (dk_at dksX5_bytesOf_0 1 rfl rfl)
theorem dX5_bytesOf_2 : decode cX5_bytesOf 2 = .ok (.iconst 0, 1) := dk_3 (dk_at dksX5_bytesOf_0 2 rfl rfl)
theorem dX5_bytesOf_3 : decode cX5_bytesOf 3 = .ok (.istore_n 2, 1) := dk_61 (dk_at dksX5_bytesOf_0 3 rfl rfl)
theorem dX5_bytesOf_4 : decode cX5_bytesOf 4 = .ok (.iload_n 2, 1) := dk_28 (dk_at dksX5_bytesOf_0 4 rfl rfl)
theorem dX5_bytesOf_5 : decode cX5_bytesOf 5 = .ok (.iconst 4, 1) := dk_7 (dk_at dksX5_bytesOf_0 5 rfl rfl)
theorem dX5_bytesOf_6 : decode cX5_bytesOf 6 = .ok (.if_icmp .ge 30, 3) := dk_162 0 30 (dk_at dksX5_bytesOf_0 6 rfl rfl)
theorem dX5_bytesOf_9 : decode cX5_bytesOf 9 = .ok (.iload_n 1, 1) := dk_27 (dk_at dksX5_bytesOf_0 9 rfl rfl)
theorem dX5_bytesOf_10 : decode cX5_bytesOf 10 = .ok (.iload_n 0, 1) := dk_26 (dk_at dksX5_bytesOf_0 10 rfl rfl)
theorem dX5_bytesOf_11 : decode cX5_bytesOf 11 = .ok (.bipush 8, 2) := dk_16 8 (dk_at dksX5_bytesOf_0 11 rfl rfl)
theorem dX5_bytesOf_13 : decode cX5_bytesOf 13 = .ok (.iload_n 2, 1) := dk_28 (dk_at dksX5_bytesOf_0 13 rfl rfl)
theorem dX5_bytesOf_14 : decode cX5_bytesOf 14 = .ok (.imul, 1) := dk_104 (dk_at dksX5_bytesOf_0 14 rfl rfl)
theorem dX5_bytesOf_15 : decode cX5_bytesOf 15 = .ok (.ishr, 1) := dk_122 (dk_at dksX5_bytesOf_0 15 rfl rfl)
theorem dX5_bytesOf_16 : decode cX5_bytesOf 16 = .ok (.sipush 255, 3) := dk_17 0 255 (dk_at dksX5_bytesOf_0 16 rfl rfl)
theorem dX5_bytesOf_19 : decode cX5_bytesOf 19 = .ok (.iand, 1) := dk_126 (dk_at dksX5_bytesOf_0 19 rfl rfl)
theorem dX5_bytesOf_20 : decode cX5_bytesOf 20 = .ok (.ifCond .ne 7, 3) := dk_154 0 7 (dk_at dksX5_bytesOf_0 20 rfl rfl)
theorem dX5_bytesOf_23 : decode cX5_bytesOf 23 = .ok (.iconst 0, 1) := dk_3 (dk_at dksX5_bytesOf_0 23 rfl rfl)
theorem dX5_bytesOf_24 : decode cX5_bytesOf 24 = .ok (.goto 4, 3) := dk_167 0 4 (dk_at dksX5_bytesOf_1 0 rfl rfl)
theorem dX5_bytesOf_27 : decode cX5_bytesOf 27 = .ok (.iconst 1, 1) := dk_4 (dk_at dksX5_bytesOf_1 3 rfl rfl)
theorem dX5_bytesOf_28 : decode cX5_bytesOf 28 = .ok (.iadd, 1) := dk_96 (dk_at dksX5_bytesOf_1 4 rfl rfl)
theorem dX5_bytesOf_29 : decode cX5_bytesOf 29 = .ok (.istore_n 1, 1) := dk_60 (dk_at dksX5_bytesOf_1 5 rfl rfl)
theorem dX5_bytesOf_30 : decode cX5_bytesOf 30 = .ok (.iinc 2 1, 3) := dk_132 2 1 (dk_at dksX5_bytesOf_1 6 rfl rfl)
theorem dX5_bytesOf_33 : decode cX5_bytesOf 33 = .ok (.goto (-29), 3) := dk_167 255 227 (dk_at dksX5_bytesOf_1 9 rfl rfl)
theorem dX5_bytesOf_36 : decode cX5_bytesOf 36 = .ok (.iload_n 1, 1) := dk_27 (dk_at dksX5_bytesOf_1 12 rfl rfl)
theorem dX5_bytesOf_37 : decode cX5_bytesOf 37 = .ok (.ireturn, 1) := dk_172 (dk_at dksX5_bytesOf_1 13 rfl rfl)
abbrev cX5_brings : ByteArray := prog_9_method_7_code
def yX5_brings : MethodName := ⟨RX5, "brings", "(I)V"⟩
def dkwX5_brings_2 : List UInt8 := [167, 255, 213, 177]
abbrev dktX5_brings_2 : List UInt8 := dkwX5_brings_2 ++ []
def dkwX5_brings_1 : List UInt8 := [180, 0, 9, 42, 180, 0, 87, 29, 145, 84, 42, 89, 180, 0, 87, 4, 96, 181, 0, 87, 132, 2, 248]
abbrev dktX5_brings_1 : List UInt8 := dkwX5_brings_1 ++ dktX5_brings_2
def dkwX5_brings_0 : List UInt8 := [16, 24, 61, 28, 155, 0, 45, 27, 28, 122, 17, 0, 255, 126, 62, 29, 154, 0, 6, 167, 0, 24, 42]
abbrev dktX5_brings_0 : List UInt8 := dkwX5_brings_0 ++ dktX5_brings_1
theorem dksX5_brings_0 : cX5_brings.data.toList.drop 0 = dktX5_brings_0 := by decide +kernel
theorem dksX5_brings_1 : cX5_brings.data.toList.drop 23 = dktX5_brings_1 := dk_seg dksX5_brings_0 23 rfl rfl
theorem dksX5_brings_2 : cX5_brings.data.toList.drop 46 = dktX5_brings_2 := dk_seg dksX5_brings_1 23 rfl rfl
theorem dX5_brings_0 : decode cX5_brings 0 = .ok (.bipush 24, 2) := dk_16 24 (dk_at dksX5_brings_0 0 rfl rfl)
theorem dX5_brings_2 : decode cX5_brings 2 = .ok (.istore_n 2, 1) := dk_61 (dk_at dksX5_brings_0 2 rfl rfl)
theorem dX5_brings_3 : decode cX5_brings 3 = .ok (.iload_n 2, 1) := dk_28 (dk_at dksX5_brings_0 3 rfl rfl)
theorem dX5_brings_4 : decode cX5_brings 4 = .ok (.ifCond .lt 45, 3) := dk_155 0 45 (dk_at dksX5_brings_0 4 rfl rfl)
theorem dX5_brings_7 : decode cX5_brings 7 = .ok (.iload_n 1, 1) := dk_27 (dk_at dksX5_brings_0 7 rfl rfl)
theorem dX5_brings_8 : decode cX5_brings 8 = .ok (.iload_n 2, 1) := dk_28 (dk_at dksX5_brings_0 8 rfl rfl)
theorem dX5_brings_9 : decode cX5_brings 9 = .ok (.ishr, 1) := dk_122 (dk_at dksX5_brings_0 9 rfl rfl)
theorem dX5_brings_10 : decode cX5_brings 10 = .ok (.sipush 255, 3) := dk_17 0 255 (dk_at dksX5_brings_0 10 rfl rfl)
theorem dX5_brings_13 : decode cX5_brings 13 = .ok (.iand, 1) := dk_126 (dk_at dksX5_brings_0 13 rfl rfl)
theorem dX5_brings_14 : decode cX5_brings 14 = .ok (.istore_n 3, 1) := dk_62 (dk_at dksX5_brings_0 14 rfl rfl)
theorem dX5_brings_15 : decode cX5_brings 15 = .ok (.iload_n 3, 1) := dk_29 (dk_at dksX5_brings_0 15 rfl rfl)
theorem dX5_brings_16 : decode cX5_brings 16 = .ok (.ifCond .ne 6, 3) := dk_154 0 6 (dk_at dksX5_brings_0 16 rfl rfl)
theorem dX5_brings_19 : decode cX5_brings 19 = .ok (.goto 24, 3) := dk_167 0 24 (dk_at dksX5_brings_0 19 rfl rfl)
theorem dX5_brings_22 : decode cX5_brings 22 = .ok (.aload_n 0, 1) := dk_42 (dk_at dksX5_brings_0 22 rfl rfl)
theorem dX5_brings_23 : decode cX5_brings 23 = .ok (.getfield 9, 3) := dk_180 0 9 (dk_at dksX5_brings_1 0 rfl rfl)
theorem dX5_brings_26 : decode cX5_brings 26 = .ok (.aload_n 0, 1) := dk_42 (dk_at dksX5_brings_1 3 rfl rfl)
theorem dX5_brings_27 : decode cX5_brings 27 = .ok (.getfield 87, 3) := dk_180 0 87 (dk_at dksX5_brings_1 4 rfl rfl)
theorem dX5_brings_30 : decode cX5_brings 30 = .ok (.iload_n 3, 1) := dk_29 (dk_at dksX5_brings_1 7 rfl rfl)
theorem dX5_brings_31 : decode cX5_brings 31 = .ok (.i2b, 1) := dk_145 (dk_at dksX5_brings_1 8 rfl rfl)
theorem dX5_brings_32 : decode cX5_brings 32 = .ok (.bastore, 1) := dk_84 (dk_at dksX5_brings_1 9 rfl rfl)
theorem dX5_brings_33 : decode cX5_brings 33 = .ok (.aload_n 0, 1) := dk_42 (dk_at dksX5_brings_1 10 rfl rfl)
theorem dX5_brings_34 : decode cX5_brings 34 = .ok (.dup, 1) := dk_89 (dk_at dksX5_brings_1 11 rfl rfl)
theorem dX5_brings_35 : decode cX5_brings 35 = .ok (.getfield 87, 3) := dk_180 0 87 (dk_at dksX5_brings_1 12 rfl rfl)
theorem dX5_brings_38 : decode cX5_brings 38 = .ok (.iconst 1, 1) := dk_4 (dk_at dksX5_brings_1 15 rfl rfl)
theorem dX5_brings_39 : decode cX5_brings 39 = .ok (.iadd, 1) := dk_96 (dk_at dksX5_brings_1 16 rfl rfl)
theorem dX5_brings_40 : decode cX5_brings 40 = .ok (.putfield 87, 3) := dk_181 0 87 (dk_at dksX5_brings_1 17 rfl rfl)
theorem dX5_brings_43 : decode cX5_brings 43 = .ok (.iinc 2 (-8), 3) := dk_132 2 248 (dk_at dksX5_brings_1 20 rfl rfl)
theorem dX5_brings_46 : decode cX5_brings 46 = .ok (.goto (-43), 3) := dk_167 255 213 (dk_at dksX5_brings_2 0 rfl rfl)
theorem dX5_brings_49 : decode cX5_brings 49 = .ok (.return_, 1) := dk_177 (dk_at dksX5_brings_2 3 rfl rfl)
abbrev cX5_end : ByteArray := prog_9_method_9_code
def yX5_end : MethodName := ⟨RX5, "end", "(I)Z"⟩
def dkwX5_end_1 : List UInt8 := [4, 172]
abbrev dktX5_end_1 : List UInt8 := dkwX5_end_1 ++ []
def dkwX5_end_0 : List UInt8 := [42, 3, 181, 0, 83, 27, 155, 0, 11, 27, 42, 180, 0, 87, 164, 0, 5, 3, 172, 42, 27, 181, 0, 87]
abbrev dktX5_end_0 : List UInt8 := dkwX5_end_0 ++ dktX5_end_1
theorem dksX5_end_0 : cX5_end.data.toList.drop 0 = dktX5_end_0 := by decide +kernel
theorem dksX5_end_1 : cX5_end.data.toList.drop 24 = dktX5_end_1 := dk_seg dksX5_end_0 24 rfl rfl
theorem dX5_end_0 : decode cX5_end 0 = .ok (.aload_n 0, 1) := dk_42 (dk_at dksX5_end_0 0 rfl rfl)
theorem dX5_end_1 : decode cX5_end 1 = .ok (.iconst 0, 1) := dk_3 (dk_at dksX5_end_0 1 rfl rfl)
theorem dX5_end_2 : decode cX5_end 2 = .ok (.putfield 83, 3) := dk_181 0 83 (dk_at dksX5_end_0 2 rfl rfl)
theorem dX5_end_5 : decode cX5_end 5 = .ok (.iload_n 1, 1) := dk_27 (dk_at dksX5_end_0 5 rfl rfl)
theorem dX5_end_6 : decode cX5_end 6 = .ok (.ifCond .lt 11, 3) := dk_155 0 11 (dk_at dksX5_end_0 6 rfl rfl)
theorem dX5_end_9 : decode cX5_end 9 = .ok (.iload_n 1, 1) := dk_27 (dk_at dksX5_end_0 9 rfl rfl)
theorem dX5_end_10 : decode cX5_end 10 = .ok (.aload_n 0, 1) := dk_42 (dk_at dksX5_end_0 10 rfl rfl)
theorem dX5_end_11 : decode cX5_end 11 = .ok (.getfield 87, 3) := dk_180 0 87 (dk_at dksX5_end_0 11 rfl rfl)
theorem dX5_end_14 : decode cX5_end 14 = .ok (.if_icmp .le 5, 3) := dk_164 0 5 (dk_at dksX5_end_0 14 rfl rfl)
theorem dX5_end_17 : decode cX5_end 17 = .ok (.iconst 0, 1) := dk_3 (dk_at dksX5_end_0 17 rfl rfl)
theorem dX5_end_18 : decode cX5_end 18 = .ok (.ireturn, 1) := dk_172 (dk_at dksX5_end_0 18 rfl rfl)
theorem dX5_end_19 : decode cX5_end 19 = .ok (.aload_n 0, 1) := dk_42 (dk_at dksX5_end_0 19 rfl rfl)
theorem dX5_end_20 : decode cX5_end 20 = .ok (.iload_n 1, 1) := dk_27 (dk_at dksX5_end_0 20 rfl rfl)
theorem dX5_end_21 : decode cX5_end 21 = .ok (.putfield 87, 3) := dk_181 0 87 (dk_at dksX5_end_0 21 rfl rfl)
theorem dX5_end_24 : decode cX5_end 24 = .ok (.iconst 1, 1) := dk_4 (dk_at dksX5_end_1 0 rfl rfl)
theorem dX5_end_25 : decode cX5_end 25 = .ok (.ireturn, 1) := dk_172 (dk_at dksX5_end_1 1 rfl rfl)
abbrev cX5_fault : ByteArray := prog_9_method_19_code
def yX5_fault : MethodName := ⟨RX5, "fault", "(I)I"⟩
def dkwX5_fault_1 : List UInt8 := [2, 181, 0, 105, 27, 154, 0, 10, 42, 182, 0, 144, 167, 0, 7, 42, 182, 0, 147, 42, 180, 0, 105, 172]
abbrev dktX5_fault_1 : List UInt8 := dkwX5_fault_1 ++ []
def dkwX5_fault_0 : List UInt8 := [42, 3, 181, 0, 83, 27, 133, 9, 10, 184, 0, 140, 154, 0, 6, 16, 254, 172, 42, 3, 181, 0, 98, 42]
abbrev dktX5_fault_0 : List UInt8 := dkwX5_fault_0 ++ dktX5_fault_1
theorem dksX5_fault_0 : cX5_fault.data.toList.drop 0 = dktX5_fault_0 := by decide +kernel
theorem dksX5_fault_1 : cX5_fault.data.toList.drop 24 = dktX5_fault_1 := dk_seg dksX5_fault_0 24 rfl rfl
theorem dX5_fault_0 : decode cX5_fault 0 = .ok (.aload_n 0, 1) := dk_42 (dk_at dksX5_fault_0 0 rfl rfl)
theorem dX5_fault_1 : decode cX5_fault 1 = .ok (.iconst 0, 1) := dk_3 (dk_at dksX5_fault_0 1 rfl rfl)
theorem dX5_fault_2 : decode cX5_fault 2 = .ok (.putfield 83, 3) := dk_181 0 83 (dk_at dksX5_fault_0 2 rfl rfl)
theorem dX5_fault_5 : decode cX5_fault 5 = .ok (.iload_n 1, 1) := dk_27 (dk_at dksX5_fault_0 5 rfl rfl)
theorem dX5_fault_6 : decode cX5_fault 6 = .ok (.i2l, 1) := dk_133 (dk_at dksX5_fault_0 6 rfl rfl)
theorem dX5_fault_7 : decode cX5_fault 7 = .ok (.lconst 0, 1) := dk_9 (dk_at dksX5_fault_0 7 rfl rfl)
theorem dX5_fault_8 : decode cX5_fault 8 = .ok (.lconst 1, 1) := dk_10 (dk_at dksX5_fault_0 8 rfl rfl)
theorem dX5_fault_9 : decode cX5_fault 9 = .ok (.invokestatic 140, 3) := dk_184 0 140 (dk_at dksX5_fault_0 9 rfl rfl)
theorem dX5_fault_12 : decode cX5_fault 12 = .ok (.ifCond .ne 6, 3) := dk_154 0 6 (dk_at dksX5_fault_0 12 rfl rfl)
theorem dX5_fault_15 : decode cX5_fault 15 = .ok (.bipush (-2), 2) := dk_16 254 (dk_at dksX5_fault_0 15 rfl rfl)
theorem dX5_fault_17 : decode cX5_fault 17 = .ok (.ireturn, 1) := dk_172 (dk_at dksX5_fault_0 17 rfl rfl)
theorem dX5_fault_18 : decode cX5_fault 18 = .ok (.aload_n 0, 1) := dk_42 (dk_at dksX5_fault_0 18 rfl rfl)
theorem dX5_fault_19 : decode cX5_fault 19 = .ok (.iconst 0, 1) := dk_3 (dk_at dksX5_fault_0 19 rfl rfl)
theorem dX5_fault_20 : decode cX5_fault 20 = .ok (.putfield 98, 3) := dk_181 0 98 (dk_at dksX5_fault_0 20 rfl rfl)
theorem dX5_fault_23 : decode cX5_fault 23 = .ok (.aload_n 0, 1) := dk_42 (dk_at dksX5_fault_0 23 rfl rfl)
theorem dX5_fault_24 : decode cX5_fault 24 = .ok (.iconst (-1), 1) := dk_2 (dk_at dksX5_fault_1 0 rfl rfl)
theorem dX5_fault_25 : decode cX5_fault 25 = .ok (.putfield 105, 3) := dk_181 0 105 (dk_at dksX5_fault_1 1 rfl rfl)
theorem dX5_fault_28 : decode cX5_fault 28 = .ok (.iload_n 1, 1) := dk_27 (dk_at dksX5_fault_1 4 rfl rfl)
theorem dX5_fault_29 : decode cX5_fault 29 = .ok (.ifCond .ne 10, 3) := dk_154 0 10 (dk_at dksX5_fault_1 5 rfl rfl)
theorem dX5_fault_32 : decode cX5_fault 32 = .ok (.aload_n 0, 1) := dk_42 (dk_at dksX5_fault_1 8 rfl rfl)
theorem dX5_fault_33 : decode cX5_fault 33 = .ok (.invokevirtual 144, 3) := dk_182 0 144 (dk_at dksX5_fault_1 9 rfl rfl)
theorem dX5_fault_36 : decode cX5_fault 36 = .ok (.goto 7, 3) := dk_167 0 7 (dk_at dksX5_fault_1 12 rfl rfl)
theorem dX5_fault_39 : decode cX5_fault 39 = .ok (.aload_n 0, 1) := dk_42 (dk_at dksX5_fault_1 15 rfl rfl)
theorem dX5_fault_40 : decode cX5_fault 40 = .ok (.invokevirtual 147, 3) := dk_182 0 147 (dk_at dksX5_fault_1 16 rfl rfl)
theorem dX5_fault_43 : decode cX5_fault 43 = .ok (.aload_n 0, 1) := dk_42 (dk_at dksX5_fault_1 19 rfl rfl)
theorem dX5_fault_44 : decode cX5_fault 44 = .ok (.getfield 105, 3) := dk_180 0 105 (dk_at dksX5_fault_1 20 rfl rfl)
theorem dX5_fault_47 : decode cX5_fault 47 = .ok (.ireturn, 1) := dk_172 (dk_at dksX5_fault_1 23 rfl rfl)
abbrev cX5_isIn : ByteArray := prog_9_method_3_code
def yX5_isIn : MethodName := ⟨RX5, "isIn", "(JJJ)Z"⟩
def dkwX5_isIn_0 : List UInt8 := [30, 32, 148, 155, 0, 14, 30, 22, 4, 148, 157, 0, 7, 4, 167, 0, 4, 3, 172]
abbrev dktX5_isIn_0 : List UInt8 := dkwX5_isIn_0 ++ []
theorem dksX5_isIn_0 : cX5_isIn.data.toList.drop 0 = dktX5_isIn_0 := by decide +kernel
theorem dX5_isIn_0 : decode cX5_isIn 0 = .ok (.lload_n 0, 1) := dk_30 (dk_at dksX5_isIn_0 0 rfl rfl)
theorem dX5_isIn_1 : decode cX5_isIn 1 = .ok (.lload_n 2, 1) := dk_32 (dk_at dksX5_isIn_0 1 rfl rfl)
theorem dX5_isIn_2 : decode cX5_isIn 2 = .ok (.lcmp, 1) := dk_148 (dk_at dksX5_isIn_0 2 rfl rfl)
theorem dX5_isIn_3 : decode cX5_isIn 3 = .ok (.ifCond .lt 14, 3) := dk_155 0 14 (dk_at dksX5_isIn_0 3 rfl rfl)
theorem dX5_isIn_6 : decode cX5_isIn 6 = .ok (.lload_n 0, 1) := dk_30 (dk_at dksX5_isIn_0 6 rfl rfl)
theorem dX5_isIn_7 : decode cX5_isIn 7 = .ok (.lload 4, 2) := dk_22 4 (dk_at dksX5_isIn_0 7 rfl rfl)
theorem dX5_isIn_9 : decode cX5_isIn 9 = .ok (.lcmp, 1) := dk_148 (dk_at dksX5_isIn_0 9 rfl rfl)
theorem dX5_isIn_10 : decode cX5_isIn 10 = .ok (.ifCond .gt 7, 3) := dk_157 0 7 (dk_at dksX5_isIn_0 10 rfl rfl)
theorem dX5_isIn_13 : decode cX5_isIn 13 = .ok (.iconst 1, 1) := dk_4 (dk_at dksX5_isIn_0 13 rfl rfl)
theorem dX5_isIn_14 : decode cX5_isIn 14 = .ok (.goto 4, 3) := dk_167 0 4 (dk_at dksX5_isIn_0 14 rfl rfl)
theorem dX5_isIn_17 : decode cX5_isIn 17 = .ok (.iconst 0, 1) := dk_3 (dk_at dksX5_isIn_0 17 rfl rfl)
theorem dX5_isIn_18 : decode cX5_isIn 18 = .ok (.ireturn, 1) := dk_172 (dk_at dksX5_isIn_0 18 rfl rfl)
abbrev cX5_readTable : ByteArray := prog_9_method_15_code
def yX5_readTable : MethodName := ⟨RX5, "readTable", "()V"⟩
def dkwX5_readTable_3 : List UInt8 := [182, 0, 118, 2, 159, 0, 7, 42, 182, 0, 125, 177]
abbrev dktX5_readTable_3 : List UInt8 := dkwX5_readTable_3 ++ []
def dkwX5_readTable_2 : List UInt8 := [180, 0, 98, 4, 96, 181, 0, 98, 42, 182, 0, 128, 167, 255, 208, 42, 180, 0, 105, 2, 160, 0, 15, 42]
abbrev dktX5_readTable_2 : List UInt8 := dkwX5_readTable_2 ++ dktX5_readTable_3
def dkwX5_readTable_1 : List UInt8 := [16, 47, 160, 0, 37, 42, 180, 0, 17, 16, 36, 46, 16, 6, 160, 0, 8, 42, 182, 0, 125, 177, 42, 89]
abbrev dktX5_readTable_1 : List UInt8 := dkwX5_readTable_1 ++ dktX5_readTable_2
def dkwX5_readTable_0 : List UInt8 := [42, 180, 0, 17, 16, 36, 3, 79, 42, 182, 0, 128, 42, 180, 0, 105, 2, 160, 0, 46, 42, 182, 0, 118]
abbrev dktX5_readTable_0 : List UInt8 := dkwX5_readTable_0 ++ dktX5_readTable_1
theorem dksX5_readTable_0 : cX5_readTable.data.toList.drop 0 = dktX5_readTable_0 := by decide +kernel
theorem dksX5_readTable_1 : cX5_readTable.data.toList.drop 24 = dktX5_readTable_1 := dk_seg dksX5_readTable_0 24 rfl rfl
theorem dksX5_readTable_2 : cX5_readTable.data.toList.drop 48 = dktX5_readTable_2 := dk_seg dksX5_readTable_1 24 rfl rfl
theorem dksX5_readTable_3 : cX5_readTable.data.toList.drop 72 = dktX5_readTable_3 := dk_seg dksX5_readTable_2 24 rfl rfl
theorem dX5_readTable_0 : decode cX5_readTable 0 = .ok (.aload_n 0, 1) := dk_42 (dk_at dksX5_readTable_0 0 rfl rfl)
theorem dX5_readTable_1 : decode cX5_readTable 1 = .ok (.getfield 17, 3) := dk_180 0 17 (dk_at dksX5_readTable_0 1 rfl rfl)
theorem dX5_readTable_4 : decode cX5_readTable 4 = .ok (.bipush 36, 2) := dk_16 36 (dk_at dksX5_readTable_0 4 rfl rfl)
theorem dX5_readTable_6 : decode cX5_readTable 6 = .ok (.iconst 0, 1) := dk_3 (dk_at dksX5_readTable_0 6 rfl rfl)
theorem dX5_readTable_7 : decode cX5_readTable 7 = .ok (.iastore, 1) := dk_79 (dk_at dksX5_readTable_0 7 rfl rfl)
theorem dX5_readTable_8 : decode cX5_readTable 8 = .ok (.aload_n 0, 1) := dk_42 (dk_at dksX5_readTable_0 8 rfl rfl)
theorem dX5_readTable_9 : decode cX5_readTable 9 = .ok (.invokevirtual 128, 3) := dk_182 0 128 (dk_at dksX5_readTable_0 9 rfl rfl)
theorem dX5_readTable_12 : decode cX5_readTable 12 = .ok (.aload_n 0, 1) := dk_42 (dk_at dksX5_readTable_0 12 rfl rfl)
theorem dX5_readTable_13 : decode cX5_readTable 13 = .ok (.getfield 105, 3) := dk_180 0 105 (dk_at dksX5_readTable_0 13 rfl rfl)
theorem dX5_readTable_16 : decode cX5_readTable 16 = .ok (.iconst (-1), 1) := dk_2 (dk_at dksX5_readTable_0 16 rfl rfl)
theorem dX5_readTable_17 : decode cX5_readTable 17 = .ok (.if_icmp .ne 46, 3) := dk_160 0 46 (dk_at dksX5_readTable_0 17 rfl rfl)
theorem dX5_readTable_20 : decode cX5_readTable 20 = .ok (.aload_n 0, 1) := dk_42 (dk_at dksX5_readTable_0 20 rfl rfl)
theorem dX5_readTable_21 : decode cX5_readTable 21 = .ok (.invokevirtual 118, 3) := dk_182 0 118 (dk_at dksX5_readTable_0 21 rfl rfl)
theorem dX5_readTable_24 : decode cX5_readTable 24 = .ok (.bipush 47, 2) := dk_16 47 (dk_at dksX5_readTable_1 0 rfl rfl)
theorem dX5_readTable_26 : decode cX5_readTable 26 = .ok (.if_icmp .ne 37, 3) := dk_160 0 37 (dk_at dksX5_readTable_1 2 rfl rfl)
theorem dX5_readTable_29 : decode cX5_readTable 29 = .ok (.aload_n 0, 1) := dk_42 (dk_at dksX5_readTable_1 5 rfl rfl)
theorem dX5_readTable_30 : decode cX5_readTable 30 = .ok (.getfield 17, 3) := dk_180 0 17 (dk_at dksX5_readTable_1 6 rfl rfl)
theorem dX5_readTable_33 : decode cX5_readTable 33 = .ok (.bipush 36, 2) := dk_16 36 (dk_at dksX5_readTable_1 9 rfl rfl)
theorem dX5_readTable_35 : decode cX5_readTable 35 = .ok (.iaload, 1) := dk_46 (dk_at dksX5_readTable_1 11 rfl rfl)
theorem dX5_readTable_36 : decode cX5_readTable 36 = .ok (.bipush 6, 2) := dk_16 6 (dk_at dksX5_readTable_1 12 rfl rfl)
theorem dX5_readTable_38 : decode cX5_readTable 38 = .ok (.if_icmp .ne 8, 3) := dk_160 0 8 (dk_at dksX5_readTable_1 14 rfl rfl)
theorem dX5_readTable_41 : decode cX5_readTable 41 = .ok (.aload_n 0, 1) := dk_42 (dk_at dksX5_readTable_1 17 rfl rfl)
theorem dX5_readTable_42 : decode cX5_readTable 42 = .ok (.invokevirtual 125, 3) := dk_182 0 125 (dk_at dksX5_readTable_1 18 rfl rfl)
theorem dX5_readTable_45 : decode cX5_readTable 45 = .ok (.return_, 1) := dk_177 (dk_at dksX5_readTable_1 21 rfl rfl)
theorem dX5_readTable_46 : decode cX5_readTable 46 = .ok (.aload_n 0, 1) := dk_42 (dk_at dksX5_readTable_1 22 rfl rfl)
theorem dX5_readTable_47 : decode cX5_readTable 47 = .ok (.dup, 1) := dk_89 (dk_at dksX5_readTable_1 23 rfl rfl)
theorem dX5_readTable_48 : decode cX5_readTable 48 = .ok (.getfield 98, 3) := dk_180 0 98 (dk_at dksX5_readTable_2 0 rfl rfl)
theorem dX5_readTable_51 : decode cX5_readTable 51 = .ok (.iconst 1, 1) := dk_4 (dk_at dksX5_readTable_2 3 rfl rfl)
theorem dX5_readTable_52 : decode cX5_readTable 52 = .ok (.iadd, 1) := dk_96 (dk_at dksX5_readTable_2 4 rfl rfl)
theorem dX5_readTable_53 : decode cX5_readTable 53 = .ok (.putfield 98, 3) := dk_181 0 98 (dk_at dksX5_readTable_2 5 rfl rfl)
theorem dX5_readTable_56 : decode cX5_readTable 56 = .ok (.aload_n 0, 1) := dk_42 (dk_at dksX5_readTable_2 8 rfl rfl)
theorem dX5_readTable_57 : decode cX5_readTable 57 = .ok (.invokevirtual 128, 3) := dk_182 0 128 (dk_at dksX5_readTable_2 9 rfl rfl)
theorem dX5_readTable_60 : decode cX5_readTable 60 = .ok (.goto (-48), 3) := dk_167 255 208 (dk_at dksX5_readTable_2 12 rfl rfl)
theorem dX5_readTable_63 : decode cX5_readTable 63 = .ok (.aload_n 0, 1) := dk_42 (dk_at dksX5_readTable_2 15 rfl rfl)
theorem dX5_readTable_64 : decode cX5_readTable 64 = .ok (.getfield 105, 3) := dk_180 0 105 (dk_at dksX5_readTable_2 16 rfl rfl)
theorem dX5_readTable_67 : decode cX5_readTable 67 = .ok (.iconst (-1), 1) := dk_2 (dk_at dksX5_readTable_2 19 rfl rfl)
theorem dX5_readTable_68 : decode cX5_readTable 68 = .ok (.if_icmp .ne 15, 3) := dk_160 0 15 (dk_at dksX5_readTable_2 20 rfl rfl)
theorem dX5_readTable_71 : decode cX5_readTable 71 = .ok (.aload_n 0, 1) := dk_42 (dk_at dksX5_readTable_2 23 rfl rfl)
theorem dX5_readTable_72 : decode cX5_readTable 72 = .ok (.invokevirtual 118, 3) := dk_182 0 118 (dk_at dksX5_readTable_3 0 rfl rfl)
theorem dX5_readTable_75 : decode cX5_readTable 75 = .ok (.iconst (-1), 1) := dk_2 (dk_at dksX5_readTable_3 3 rfl rfl)
theorem dX5_readTable_76 : decode cX5_readTable 76 = .ok (.if_icmp .eq 7, 3) := dk_159 0 7 (dk_at dksX5_readTable_3 4 rfl rfl)
theorem dX5_readTable_79 : decode cX5_readTable 79 = .ok (.aload_n 0, 1) := dk_42 (dk_at dksX5_readTable_3 7 rfl rfl)
theorem dX5_readTable_80 : decode cX5_readTable 80 = .ok (.invokevirtual 125, 3) := dk_182 0 125 (dk_at dksX5_readTable_3 8 rfl rfl)
theorem dX5_readTable_83 : decode cX5_readTable 83 = .ok (.return_, 1) := dk_177 (dk_at dksX5_readTable_3 11 rfl rfl)
abbrev cX5_readRow : ByteArray := prog_9_method_14_code
def yX5_readRow : MethodName := ⟨RX5, "readRow", "()V"⟩
def dkwX5_readRow_6 : List UInt8 := [180, 0, 17, 16, 36, 92, 46, 4, 96, 79, 177]
abbrev dktX5_readRow_6 : List UInt8 := dkwX5_readRow_6 ++ []
def dkwX5_readRow_5 : List UInt8 := [182, 0, 125, 42, 180, 0, 17, 16, 36, 46, 154, 0, 11, 42, 180, 0, 17, 16, 37, 27, 79, 42]
abbrev dktX5_readRow_5 : List UInt8 := dkwX5_readRow_5 ++ dktX5_readRow_6
def dkwX5_readRow_4 : List UInt8 := [160, 0, 22, 27, 153, 0, 18, 42, 180, 0, 17, 16, 36, 46, 158, 0, 12, 27, 29, 162, 0, 7, 42]
abbrev dktX5_readRow_4 : List UInt8 := dkwX5_readRow_4 ++ dktX5_readRow_5
def dkwX5_readRow_3 : List UInt8 := [180, 0, 98, 4, 96, 181, 0, 98, 18, 116, 42, 182, 0, 118, 184, 0, 121, 61, 167, 255, 203, 28, 2]
abbrev dktX5_readRow_3 : List UInt8 := dkwX5_readRow_3 ++ dktX5_readRow_4
def dkwX5_readRow_2 : List UInt8 := [180, 0, 17, 16, 6, 42, 180, 0, 17, 16, 36, 46, 104, 27, 96, 28, 4, 100, 79, 132, 1, 1, 42, 89]
abbrev dktX5_readRow_2 : List UInt8 := dkwX5_readRow_2 ++ dktX5_readRow_3
def dkwX5_readRow_1 : List UInt8 := [167, 0, 10, 42, 180, 0, 17, 16, 37, 46, 62, 28, 2, 159, 0, 54, 27, 29, 162, 0, 49, 42]
abbrev dktX5_readRow_1 : List UInt8 := dkwX5_readRow_1 ++ dktX5_readRow_2
def dkwX5_readRow_0 : List UInt8 := [3, 60, 18, 116, 42, 182, 0, 118, 184, 0, 121, 61, 42, 180, 0, 17, 16, 36, 46, 154, 0, 8, 16, 6]
abbrev dktX5_readRow_0 : List UInt8 := dkwX5_readRow_0 ++ dktX5_readRow_1
theorem dksX5_readRow_0 : cX5_readRow.data.toList.drop 0 = dktX5_readRow_0 := by decide +kernel
theorem dksX5_readRow_1 : cX5_readRow.data.toList.drop 24 = dktX5_readRow_1 := dk_seg dksX5_readRow_0 24 rfl rfl
theorem dksX5_readRow_2 : cX5_readRow.data.toList.drop 46 = dktX5_readRow_2 := dk_seg dksX5_readRow_1 22 rfl rfl
theorem dksX5_readRow_3 : cX5_readRow.data.toList.drop 70 = dktX5_readRow_3 := dk_seg dksX5_readRow_2 24 rfl rfl
theorem dksX5_readRow_4 : cX5_readRow.data.toList.drop 93 = dktX5_readRow_4 := dk_seg dksX5_readRow_3 23 rfl rfl
theorem dksX5_readRow_5 : cX5_readRow.data.toList.drop 116 = dktX5_readRow_5 := dk_seg dksX5_readRow_4 23 rfl rfl
theorem dksX5_readRow_6 : cX5_readRow.data.toList.drop 138 = dktX5_readRow_6 := dk_seg dksX5_readRow_5 22 rfl rfl
theorem dX5_readRow_0 : decode cX5_readRow 0 = .ok (.iconst 0, 1) := dk_3 (dk_at dksX5_readRow_0 0 rfl rfl)
theorem dX5_readRow_1 : decode cX5_readRow 1 = .ok (.istore_n 1, 1) := dk_60 (dk_at dksX5_readRow_0 1 rfl rfl)
theorem dX5_readRow_2 : decode cX5_readRow 2 = .ok (.ldc 116, 2) := dk_18 116 (dk_at dksX5_readRow_0 2 rfl rfl)
theorem dX5_readRow_4 : decode cX5_readRow 4 = .ok (.aload_n 0, 1) := dk_42 (dk_at dksX5_readRow_0 4 rfl rfl)
theorem dX5_readRow_5 : decode cX5_readRow 5 = .ok (.invokevirtual 118, 3) := dk_182 0 118 (dk_at dksX5_readRow_0 5 rfl rfl)
theorem dX5_readRow_8 : decode cX5_readRow 8 = .ok (.invokestatic 121, 3) := dk_184 0 121 (dk_at dksX5_readRow_0 8 rfl rfl)
theorem dX5_readRow_11 : decode cX5_readRow 11 = .ok (.istore_n 2, 1) := dk_61 (dk_at dksX5_readRow_0 11 rfl rfl)
theorem dX5_readRow_12 : decode cX5_readRow 12 = .ok (.aload_n 0, 1) := dk_42 (dk_at dksX5_readRow_0 12 rfl rfl)
theorem dX5_readRow_13 : decode cX5_readRow 13 = .ok (.getfield 17, 3) := dk_180 0 17 (dk_at dksX5_readRow_0 13 rfl rfl)
theorem dX5_readRow_16 : decode cX5_readRow 16 = .ok (.bipush 36, 2) := dk_16 36 (dk_at dksX5_readRow_0 16 rfl rfl)
theorem dX5_readRow_18 : decode cX5_readRow 18 = .ok (.iaload, 1) := dk_46 (dk_at dksX5_readRow_0 18 rfl rfl)
theorem dX5_readRow_19 : decode cX5_readRow 19 = .ok (.ifCond .ne 8, 3) := dk_154 0 8 (dk_at dksX5_readRow_0 19 rfl rfl)
theorem dX5_readRow_22 : decode cX5_readRow 22 = .ok (.bipush 6, 2) := dk_16 6 (dk_at dksX5_readRow_0 22 rfl rfl)
theorem dX5_readRow_24 : decode cX5_readRow 24 = .ok (.goto 10, 3) := dk_167 0 10 (dk_at dksX5_readRow_1 0 rfl rfl)
theorem dX5_readRow_27 : decode cX5_readRow 27 = .ok (.aload_n 0, 1) := dk_42 (dk_at dksX5_readRow_1 3 rfl rfl)
theorem dX5_readRow_28 : decode cX5_readRow 28 = .ok (.getfield 17, 3) := dk_180 0 17 (dk_at dksX5_readRow_1 4 rfl rfl)
theorem dX5_readRow_31 : decode cX5_readRow 31 = .ok (.bipush 37, 2) := dk_16 37 (dk_at dksX5_readRow_1 7 rfl rfl)
theorem dX5_readRow_33 : decode cX5_readRow 33 = .ok (.iaload, 1) := dk_46 (dk_at dksX5_readRow_1 9 rfl rfl)
theorem dX5_readRow_34 : decode cX5_readRow 34 = .ok (.istore_n 3, 1) := dk_62 (dk_at dksX5_readRow_1 10 rfl rfl)
theorem dX5_readRow_35 : decode cX5_readRow 35 = .ok (.iload_n 2, 1) := dk_28 (dk_at dksX5_readRow_1 11 rfl rfl)
theorem dX5_readRow_36 : decode cX5_readRow 36 = .ok (.iconst (-1), 1) := dk_2 (dk_at dksX5_readRow_1 12 rfl rfl)
theorem dX5_readRow_37 : decode cX5_readRow 37 = .ok (.if_icmp .eq 54, 3) := dk_159 0 54 (dk_at dksX5_readRow_1 13 rfl rfl)
theorem dX5_readRow_40 : decode cX5_readRow 40 = .ok (.iload_n 1, 1) := dk_27 (dk_at dksX5_readRow_1 16 rfl rfl)
theorem dX5_readRow_41 : decode cX5_readRow 41 = .ok (.iload_n 3, 1) := dk_29 (dk_at dksX5_readRow_1 17 rfl rfl)
theorem dX5_readRow_42 : decode cX5_readRow 42 = .ok (.if_icmp .ge 49, 3) := dk_162 0 49 (dk_at dksX5_readRow_1 18 rfl rfl)
theorem dX5_readRow_45 : decode cX5_readRow 45 = .ok (.aload_n 0, 1) := dk_42 (dk_at dksX5_readRow_1 21 rfl rfl)
theorem dX5_readRow_46 : decode cX5_readRow 46 = .ok (.getfield 17, 3) := dk_180 0 17 (dk_at dksX5_readRow_2 0 rfl rfl)
theorem dX5_readRow_49 : decode cX5_readRow 49 = .ok (.bipush 6, 2) := dk_16 6 (dk_at dksX5_readRow_2 3 rfl rfl)
theorem dX5_readRow_51 : decode cX5_readRow 51 = .ok (.aload_n 0, 1) := dk_42 (dk_at dksX5_readRow_2 5 rfl rfl)
theorem dX5_readRow_52 : decode cX5_readRow 52 = .ok (.getfield 17, 3) := dk_180 0 17 (dk_at dksX5_readRow_2 6 rfl rfl)
theorem dX5_readRow_55 : decode cX5_readRow 55 = .ok (.bipush 36, 2) := dk_16 36 (dk_at dksX5_readRow_2 9 rfl rfl)
theorem dX5_readRow_57 : decode cX5_readRow 57 = .ok (.iaload, 1) := dk_46 (dk_at dksX5_readRow_2 11 rfl rfl)
theorem dX5_readRow_58 : decode cX5_readRow 58 = .ok (.imul, 1) := dk_104 (dk_at dksX5_readRow_2 12 rfl rfl)
theorem dX5_readRow_59 : decode cX5_readRow 59 = .ok (.iload_n 1, 1) := dk_27 (dk_at dksX5_readRow_2 13 rfl rfl)
theorem dX5_readRow_60 : decode cX5_readRow 60 = .ok (.iadd, 1) := dk_96 (dk_at dksX5_readRow_2 14 rfl rfl)
theorem dX5_readRow_61 : decode cX5_readRow 61 = .ok (.iload_n 2, 1) := dk_28 (dk_at dksX5_readRow_2 15 rfl rfl)
theorem dX5_readRow_62 : decode cX5_readRow 62 = .ok (.iconst 1, 1) := dk_4 (dk_at dksX5_readRow_2 16 rfl rfl)
theorem dX5_readRow_63 : decode cX5_readRow 63 = .ok (.isub, 1) := dk_100 (dk_at dksX5_readRow_2 17 rfl rfl)
theorem dX5_readRow_64 : decode cX5_readRow 64 = .ok (.iastore, 1) := dk_79 (dk_at dksX5_readRow_2 18 rfl rfl)
theorem dX5_readRow_65 : decode cX5_readRow 65 = .ok (.iinc 1 1, 3) := dk_132 1 1 (dk_at dksX5_readRow_2 19 rfl rfl)
theorem dX5_readRow_68 : decode cX5_readRow 68 = .ok (.aload_n 0, 1) := dk_42 (dk_at dksX5_readRow_2 22 rfl rfl)
theorem dX5_readRow_69 : decode cX5_readRow 69 = .ok (.dup, 1) := dk_89 (dk_at dksX5_readRow_2 23 rfl rfl)
theorem dX5_readRow_70 : decode cX5_readRow 70 = .ok (.getfield 98, 3) := dk_180 0 98 (dk_at dksX5_readRow_3 0 rfl rfl)
theorem dX5_readRow_73 : decode cX5_readRow 73 = .ok (.iconst 1, 1) := dk_4 (dk_at dksX5_readRow_3 3 rfl rfl)
theorem dX5_readRow_74 : decode cX5_readRow 74 = .ok (.iadd, 1) := dk_96 (dk_at dksX5_readRow_3 4 rfl rfl)
theorem dX5_readRow_75 : decode cX5_readRow 75 = .ok (.putfield 98, 3) := dk_181 0 98 (dk_at dksX5_readRow_3 5 rfl rfl)
theorem dX5_readRow_78 : decode cX5_readRow 78 = .ok (.ldc 116, 2) := dk_18 116 (dk_at dksX5_readRow_3 8 rfl rfl)
theorem dX5_readRow_80 : decode cX5_readRow 80 = .ok (.aload_n 0, 1) := dk_42 (dk_at dksX5_readRow_3 10 rfl rfl)
theorem dX5_readRow_81 : decode cX5_readRow 81 = .ok (.invokevirtual 118, 3) := dk_182 0 118 (dk_at dksX5_readRow_3 11 rfl rfl)
theorem dX5_readRow_84 : decode cX5_readRow 84 = .ok (.invokestatic 121, 3) := dk_184 0 121 (dk_at dksX5_readRow_3 14 rfl rfl)
theorem dX5_readRow_87 : decode cX5_readRow 87 = .ok (.istore_n 2, 1) := dk_61 (dk_at dksX5_readRow_3 17 rfl rfl)
theorem dX5_readRow_88 : decode cX5_readRow 88 = .ok (.goto (-53), 3) := dk_167 255 203 (dk_at dksX5_readRow_3 18 rfl rfl)
theorem dX5_readRow_91 : decode cX5_readRow 91 = .ok (.iload_n 2, 1) := dk_28 (dk_at dksX5_readRow_3 21 rfl rfl)
theorem dX5_readRow_92 : decode cX5_readRow 92 = .ok (.iconst (-1), 1) := dk_2 (dk_at dksX5_readRow_3 22 rfl rfl)
theorem dX5_readRow_93 : decode cX5_readRow 93 = .ok (.if_icmp .ne 22, 3) := dk_160 0 22 (dk_at dksX5_readRow_4 0 rfl rfl)
theorem dX5_readRow_96 : decode cX5_readRow 96 = .ok (.iload_n 1, 1) := dk_27 (dk_at dksX5_readRow_4 3 rfl rfl)
theorem dX5_readRow_97 : decode cX5_readRow 97 = .ok (.ifCond .eq 18, 3) := dk_153 0 18 (dk_at dksX5_readRow_4 4 rfl rfl)
theorem dX5_readRow_100 : decode cX5_readRow 100 = .ok (.aload_n 0, 1) := dk_42 (dk_at dksX5_readRow_4 7 rfl rfl)
theorem dX5_readRow_101 : decode cX5_readRow 101 = .ok (.getfield 17, 3) := dk_180 0 17 (dk_at dksX5_readRow_4 8 rfl rfl)
theorem dX5_readRow_104 : decode cX5_readRow 104 = .ok (.bipush 36, 2) := dk_16 36 (dk_at dksX5_readRow_4 11 rfl rfl)
theorem dX5_readRow_106 : decode cX5_readRow 106 = .ok (.iaload, 1) := dk_46 (dk_at dksX5_readRow_4 13 rfl rfl)
theorem dX5_readRow_107 : decode cX5_readRow 107 = .ok (.ifCond .le 12, 3) := dk_158 0 12 (dk_at dksX5_readRow_4 14 rfl rfl)
theorem dX5_readRow_110 : decode cX5_readRow 110 = .ok (.iload_n 1, 1) := dk_27 (dk_at dksX5_readRow_4 17 rfl rfl)
theorem dX5_readRow_111 : decode cX5_readRow 111 = .ok (.iload_n 3, 1) := dk_29 (dk_at dksX5_readRow_4 18 rfl rfl)
theorem dX5_readRow_112 : decode cX5_readRow 112 = .ok (.if_icmp .ge 7, 3) := dk_162 0 7 (dk_at dksX5_readRow_4 19 rfl rfl)
theorem dX5_readRow_115 : decode cX5_readRow 115 = .ok (.aload_n 0, 1) := dk_42 (dk_at dksX5_readRow_4 22 rfl rfl)
theorem dX5_readRow_116 : decode cX5_readRow 116 = .ok (.invokevirtual 125, 3) := dk_182 0 125 (dk_at dksX5_readRow_5 0 rfl rfl)
theorem dX5_readRow_119 : decode cX5_readRow 119 = .ok (.aload_n 0, 1) := dk_42 (dk_at dksX5_readRow_5 3 rfl rfl)
theorem dX5_readRow_120 : decode cX5_readRow 120 = .ok (.getfield 17, 3) := dk_180 0 17 (dk_at dksX5_readRow_5 4 rfl rfl)
theorem dX5_readRow_123 : decode cX5_readRow 123 = .ok (.bipush 36, 2) := dk_16 36 (dk_at dksX5_readRow_5 7 rfl rfl)
theorem dX5_readRow_125 : decode cX5_readRow 125 = .ok (.iaload, 1) := dk_46 (dk_at dksX5_readRow_5 9 rfl rfl)
theorem dX5_readRow_126 : decode cX5_readRow 126 = .ok (.ifCond .ne 11, 3) := dk_154 0 11 (dk_at dksX5_readRow_5 10 rfl rfl)
theorem dX5_readRow_129 : decode cX5_readRow 129 = .ok (.aload_n 0, 1) := dk_42 (dk_at dksX5_readRow_5 13 rfl rfl)
theorem dX5_readRow_130 : decode cX5_readRow 130 = .ok (.getfield 17, 3) := dk_180 0 17 (dk_at dksX5_readRow_5 14 rfl rfl)
theorem dX5_readRow_133 : decode cX5_readRow 133 = .ok (.bipush 37, 2) := dk_16 37 (dk_at dksX5_readRow_5 17 rfl rfl)
theorem dX5_readRow_135 : decode cX5_readRow 135 = .ok (.iload_n 1, 1) := dk_27 (dk_at dksX5_readRow_5 19 rfl rfl)
theorem dX5_readRow_136 : decode cX5_readRow 136 = .ok (.iastore, 1) := dk_79 (dk_at dksX5_readRow_5 20 rfl rfl)
theorem dX5_readRow_137 : decode cX5_readRow 137 = .ok (.aload_n 0, 1) := dk_42 (dk_at dksX5_readRow_5 21 rfl rfl)
theorem dX5_readRow_138 : decode cX5_readRow 138 = .ok (.getfield 17, 3) := dk_180 0 17 (dk_at dksX5_readRow_6 0 rfl rfl)
theorem dX5_readRow_141 : decode cX5_readRow 141 = .ok (.bipush 36, 2) := dk_16 36 (dk_at dksX5_readRow_6 3 rfl rfl)
theorem dX5_readRow_143 : decode cX5_readRow 143 = .ok (.dup2, 1) := dk_92 (dk_at dksX5_readRow_6 5 rfl rfl)
theorem dX5_readRow_144 : decode cX5_readRow 144 = .ok (.iaload, 1) := dk_46 (dk_at dksX5_readRow_6 6 rfl rfl)
theorem dX5_readRow_145 : decode cX5_readRow 145 = .ok (.iconst 1, 1) := dk_4 (dk_at dksX5_readRow_6 7 rfl rfl)
theorem dX5_readRow_146 : decode cX5_readRow 146 = .ok (.iadd, 1) := dk_96 (dk_at dksX5_readRow_6 8 rfl rfl)
theorem dX5_readRow_147 : decode cX5_readRow 147 = .ok (.iastore, 1) := dk_79 (dk_at dksX5_readRow_6 9 rfl rfl)
theorem dX5_readRow_148 : decode cX5_readRow 148 = .ok (.return_, 1) := dk_177 (dk_at dksX5_readRow_6 10 rfl rfl)
abbrev cX5_look : ByteArray := prog_9_method_11_code
def yX5_look : MethodName := ⟨RX5, "look", "()I"⟩
def dkwX5_look_1 : List UInt8 := [182, 0, 101, 172]
abbrev dktX5_look_1 : List UInt8 := dkwX5_look_1 ++ []
def dkwX5_look_0 : List UInt8 := [42, 182, 0, 101, 16, 32, 160, 0, 16, 42, 89, 180, 0, 98, 4, 96, 181, 0, 98, 167, 255, 237, 42]
abbrev dktX5_look_0 : List UInt8 := dkwX5_look_0 ++ dktX5_look_1
theorem dksX5_look_0 : cX5_look.data.toList.drop 0 = dktX5_look_0 := by decide +kernel
theorem dksX5_look_1 : cX5_look.data.toList.drop 23 = dktX5_look_1 := dk_seg dksX5_look_0 23 rfl rfl
theorem dX5_look_0 : decode cX5_look 0 = .ok (.aload_n 0, 1) := dk_42 (dk_at dksX5_look_0 0 rfl rfl)
theorem dX5_look_1 : decode cX5_look 1 = .ok (.invokevirtual 101, 3) := dk_182 0 101 (dk_at dksX5_look_0 1 rfl rfl)
theorem dX5_look_4 : decode cX5_look 4 = .ok (.bipush 32, 2) := dk_16 32 (dk_at dksX5_look_0 4 rfl rfl)
theorem dX5_look_6 : decode cX5_look 6 = .ok (.if_icmp .ne 16, 3) := dk_160 0 16 (dk_at dksX5_look_0 6 rfl rfl)
theorem dX5_look_9 : decode cX5_look 9 = .ok (.aload_n 0, 1) := dk_42 (dk_at dksX5_look_0 9 rfl rfl)
theorem dX5_look_10 : decode cX5_look 10 = .ok (.dup, 1) := dk_89 (dk_at dksX5_look_0 10 rfl rfl)
theorem dX5_look_11 : decode cX5_look 11 = .ok (.getfield 98, 3) := dk_180 0 98 (dk_at dksX5_look_0 11 rfl rfl)
theorem dX5_look_14 : decode cX5_look 14 = .ok (.iconst 1, 1) := dk_4 (dk_at dksX5_look_0 14 rfl rfl)
theorem dX5_look_15 : decode cX5_look 15 = .ok (.iadd, 1) := dk_96 (dk_at dksX5_look_0 15 rfl rfl)
theorem dX5_look_16 : decode cX5_look 16 = .ok (.putfield 98, 3) := dk_181 0 98 (dk_at dksX5_look_0 16 rfl rfl)
theorem dX5_look_19 : decode cX5_look 19 = .ok (.goto (-19), 3) := dk_167 255 237 (dk_at dksX5_look_0 19 rfl rfl)
theorem dX5_look_22 : decode cX5_look 22 = .ok (.aload_n 0, 1) := dk_42 (dk_at dksX5_look_0 22 rfl rfl)
theorem dX5_look_23 : decode cX5_look 23 = .ok (.invokevirtual 101, 3) := dk_182 0 101 (dk_at dksX5_look_1 0 rfl rfl)
theorem dX5_look_26 : decode cX5_look 26 = .ok (.ireturn, 1) := dk_172 (dk_at dksX5_look_1 3 rfl rfl)
abbrev cX5_here : ByteArray := prog_9_method_10_code
def yX5_here : MethodName := ⟨RX5, "here", "()I"⟩
def dkwX5_here_1 : List UInt8 := [167, 0, 4, 2, 172]
abbrev dktX5_here_1 : List UInt8 := dkwX5_here_1 ++ []
def dkwX5_here_0 : List UInt8 := [42, 180, 0, 98, 42, 180, 0, 87, 162, 0, 19, 42, 180, 0, 9, 42, 180, 0, 98, 51, 17, 0, 255, 126]
abbrev dktX5_here_0 : List UInt8 := dkwX5_here_0 ++ dktX5_here_1
theorem dksX5_here_0 : cX5_here.data.toList.drop 0 = dktX5_here_0 := by decide +kernel
theorem dksX5_here_1 : cX5_here.data.toList.drop 24 = dktX5_here_1 := dk_seg dksX5_here_0 24 rfl rfl
theorem dX5_here_0 : decode cX5_here 0 = .ok (.aload_n 0, 1) := dk_42 (dk_at dksX5_here_0 0 rfl rfl)
theorem dX5_here_1 : decode cX5_here 1 = .ok (.getfield 98, 3) := dk_180 0 98 (dk_at dksX5_here_0 1 rfl rfl)
theorem dX5_here_4 : decode cX5_here 4 = .ok (.aload_n 0, 1) := dk_42 (dk_at dksX5_here_0 4 rfl rfl)
theorem dX5_here_5 : decode cX5_here 5 = .ok (.getfield 87, 3) := dk_180 0 87 (dk_at dksX5_here_0 5 rfl rfl)
theorem dX5_here_8 : decode cX5_here 8 = .ok (.if_icmp .ge 19, 3) := dk_162 0 19 (dk_at dksX5_here_0 8 rfl rfl)
theorem dX5_here_11 : decode cX5_here 11 = .ok (.aload_n 0, 1) := dk_42 (dk_at dksX5_here_0 11 rfl rfl)
theorem dX5_here_12 : decode cX5_here 12 = .ok (.getfield 9, 3) := dk_180 0 9 (dk_at dksX5_here_0 12 rfl rfl)
theorem dX5_here_15 : decode cX5_here 15 = .ok (.aload_n 0, 1) := dk_42 (dk_at dksX5_here_0 15 rfl rfl)
theorem dX5_here_16 : decode cX5_here 16 = .ok (.getfield 98, 3) := dk_180 0 98 (dk_at dksX5_here_0 16 rfl rfl)
theorem dX5_here_19 : decode cX5_here 19 = .ok (.baload, 1) := dk_51 (dk_at dksX5_here_0 19 rfl rfl)
theorem dX5_here_20 : decode cX5_here 20 = .ok (.sipush 255, 3) := dk_17 0 255 (dk_at dksX5_here_0 20 rfl rfl)
theorem dX5_here_23 : decode cX5_here 23 = .ok (.iand, 1) := dk_126 (dk_at dksX5_here_0 23 rfl rfl)
theorem dX5_here_24 : decode cX5_here 24 = .ok (.goto 4, 3) := dk_167 0 4 (dk_at dksX5_here_1 0 rfl rfl)
theorem dX5_here_27 : decode cX5_here 27 = .ok (.iconst (-1), 1) := dk_2 (dk_at dksX5_here_1 3 rfl rfl)
theorem dX5_here_28 : decode cX5_here 28 = .ok (.ireturn, 1) := dk_172 (dk_at dksX5_here_1 4 rfl rfl)
abbrev cX5_spotOf : ByteArray := prog_9_method_13_code
def yX5_spotOf : MethodName := ⟨RX5, "spotOf", "(Ljava/lang/String;I)I"⟩
def dkwX5_spotOf_1 : List UInt8 := [167, 255, 234, 2, 172]
abbrev dktX5_spotOf_1 : List UInt8 := dkwX5_spotOf_1 ++ []
def dkwX5_spotOf_0 : List UInt8 := [3, 61, 28, 42, 182, 0, 108, 162, 0, 20, 42, 28, 182, 0, 112, 27, 160, 0, 5, 28, 172, 132, 2, 1]
abbrev dktX5_spotOf_0 : List UInt8 := dkwX5_spotOf_0 ++ dktX5_spotOf_1
theorem dksX5_spotOf_0 : cX5_spotOf.data.toList.drop 0 = dktX5_spotOf_0 := by decide +kernel
theorem dksX5_spotOf_1 : cX5_spotOf.data.toList.drop 24 = dktX5_spotOf_1 := dk_seg dksX5_spotOf_0 24 rfl rfl
theorem dX5_spotOf_0 : decode cX5_spotOf 0 = .ok (.iconst 0, 1) := dk_3 (dk_at dksX5_spotOf_0 0 rfl rfl)
theorem dX5_spotOf_1 : decode cX5_spotOf 1 = .ok (.istore_n 2, 1) := dk_61 (dk_at dksX5_spotOf_0 1 rfl rfl)
theorem dX5_spotOf_2 : decode cX5_spotOf 2 = .ok (.iload_n 2, 1) := dk_28 (dk_at dksX5_spotOf_0 2 rfl rfl)
theorem dX5_spotOf_3 : decode cX5_spotOf 3 = .ok (.aload_n 0, 1) := dk_42 (dk_at dksX5_spotOf_0 3 rfl rfl)
theorem dX5_spotOf_4 : decode cX5_spotOf 4 = .ok (.invokevirtual 108, 3) := dk_182 0 108 (dk_at dksX5_spotOf_0 4 rfl rfl)
theorem dX5_spotOf_7 : decode cX5_spotOf 7 = .ok (.if_icmp .ge 20, 3) := dk_162 0 20 (dk_at dksX5_spotOf_0 7 rfl rfl)
theorem dX5_spotOf_10 : decode cX5_spotOf 10 = .ok (.aload_n 0, 1) := dk_42 (dk_at dksX5_spotOf_0 10 rfl rfl)
theorem dX5_spotOf_11 : decode cX5_spotOf 11 = .ok (.iload_n 2, 1) := dk_28 (dk_at dksX5_spotOf_0 11 rfl rfl)
theorem dX5_spotOf_12 : decode cX5_spotOf 12 = .ok (.invokevirtual 112, 3) := dk_182 0 112 (dk_at dksX5_spotOf_0 12 rfl rfl)
theorem dX5_spotOf_15 : decode cX5_spotOf 15 = .ok (.iload_n 1, 1) := dk_27 (dk_at dksX5_spotOf_0 15 rfl rfl)
theorem dX5_spotOf_16 : decode cX5_spotOf 16 = .ok (.if_icmp .ne 5, 3) := dk_160 0 5 (dk_at dksX5_spotOf_0 16 rfl rfl)
theorem dX5_spotOf_19 : decode cX5_spotOf 19 = .ok (.iload_n 2, 1) := dk_28 (dk_at dksX5_spotOf_0 19 rfl rfl)
theorem dX5_spotOf_20 : decode cX5_spotOf 20 = .ok (.ireturn, 1) := dk_172 (dk_at dksX5_spotOf_0 20 rfl rfl)
theorem dX5_spotOf_21 : decode cX5_spotOf 21 = .ok (.iinc 2 1, 3) := dk_132 2 1 (dk_at dksX5_spotOf_0 21 rfl rfl)
theorem dX5_spotOf_24 : decode cX5_spotOf 24 = .ok (.goto (-22), 3) := dk_167 255 234 (dk_at dksX5_spotOf_1 0 rfl rfl)
theorem dX5_spotOf_27 : decode cX5_spotOf 27 = .ok (.iconst (-1), 1) := dk_2 (dk_at dksX5_spotOf_1 3 rfl rfl)
theorem dX5_spotOf_28 : decode cX5_spotOf 28 = .ok (.ireturn, 1) := dk_172 (dk_at dksX5_spotOf_1 4 rfl rfl)
abbrev cX5_fails : ByteArray := prog_9_method_12_code
def yX5_fails : MethodName := ⟨RX5, "fails", "()V"⟩
def dkwX5_fails_0 : List UInt8 := [42, 180, 0, 105, 2, 160, 0, 11, 42, 42, 180, 0, 98, 181, 0, 105, 177]
abbrev dktX5_fails_0 : List UInt8 := dkwX5_fails_0 ++ []
theorem dksX5_fails_0 : cX5_fails.data.toList.drop 0 = dktX5_fails_0 := by decide +kernel
theorem dX5_fails_0 : decode cX5_fails 0 = .ok (.aload_n 0, 1) := dk_42 (dk_at dksX5_fails_0 0 rfl rfl)
theorem dX5_fails_1 : decode cX5_fails 1 = .ok (.getfield 105, 3) := dk_180 0 105 (dk_at dksX5_fails_0 1 rfl rfl)
theorem dX5_fails_4 : decode cX5_fails 4 = .ok (.iconst (-1), 1) := dk_2 (dk_at dksX5_fails_0 4 rfl rfl)
theorem dX5_fails_5 : decode cX5_fails 5 = .ok (.if_icmp .ne 11, 3) := dk_160 0 11 (dk_at dksX5_fails_0 5 rfl rfl)
theorem dX5_fails_8 : decode cX5_fails 8 = .ok (.aload_n 0, 1) := dk_42 (dk_at dksX5_fails_0 8 rfl rfl)
theorem dX5_fails_9 : decode cX5_fails 9 = .ok (.aload_n 0, 1) := dk_42 (dk_at dksX5_fails_0 9 rfl rfl)
theorem dX5_fails_10 : decode cX5_fails 10 = .ok (.getfield 98, 3) := dk_180 0 98 (dk_at dksX5_fails_0 10 rfl rfl)
theorem dX5_fails_13 : decode cX5_fails 13 = .ok (.putfield 105, 3) := dk_181 0 105 (dk_at dksX5_fails_0 13 rfl rfl)
theorem dX5_fails_16 : decode cX5_fails 16 = .ok (.return_, 1) := dk_177 (dk_at dksX5_fails_0 16 rfl rfl)
abbrev cX5_readPlan : ByteArray := prog_9_method_18_code
def yX5_readPlan : MethodName := ⟨RX5, "readPlan", "()V"⟩
def dkwX5_readPlan_4 : List UInt8 := [182, 0, 125, 177]
abbrev dktX5_readPlan_4 : List UInt8 := dkwX5_readPlan_4 ++ []
def dkwX5_readPlan_3 : List UInt8 := [96, 181, 0, 98, 167, 255, 186, 42, 180, 0, 29, 7, 27, 79, 42, 182, 0, 118, 2, 159, 0, 7, 42]
abbrev dktX5_readPlan_3 : List UInt8 := dkwX5_readPlan_3 ++ dktX5_readPlan_4
def dkwX5_readPlan_2 : List UInt8 := [153, 0, 14, 27, 16, 12, 160, 0, 8, 42, 182, 0, 125, 177, 28, 153, 255, 199, 42, 89, 180, 0, 98, 4]
abbrev dktX5_readPlan_2 : List UInt8 := dkwX5_readPlan_2 ++ dktX5_readPlan_3
def dkwX5_readPlan_1 : List UInt8 := [159, 0, 4, 177, 132, 1, 1, 42, 182, 0, 118, 16, 59, 160, 0, 7, 4, 167, 0, 4, 3, 61, 28]
abbrev dktX5_readPlan_1 : List UInt8 := dkwX5_readPlan_1 ++ dktX5_readPlan_2
def dkwX5_readPlan_0 : List UInt8 := [3, 60, 4, 61, 28, 153, 0, 72, 42, 7, 16, 48, 27, 96, 104, 182, 0, 137, 42, 180, 0, 105, 2]
abbrev dktX5_readPlan_0 : List UInt8 := dkwX5_readPlan_0 ++ dktX5_readPlan_1
theorem dksX5_readPlan_0 : cX5_readPlan.data.toList.drop 0 = dktX5_readPlan_0 := by decide +kernel
theorem dksX5_readPlan_1 : cX5_readPlan.data.toList.drop 23 = dktX5_readPlan_1 := dk_seg dksX5_readPlan_0 23 rfl rfl
theorem dksX5_readPlan_2 : cX5_readPlan.data.toList.drop 46 = dktX5_readPlan_2 := dk_seg dksX5_readPlan_1 23 rfl rfl
theorem dksX5_readPlan_3 : cX5_readPlan.data.toList.drop 70 = dktX5_readPlan_3 := dk_seg dksX5_readPlan_2 24 rfl rfl
theorem dksX5_readPlan_4 : cX5_readPlan.data.toList.drop 93 = dktX5_readPlan_4 := dk_seg dksX5_readPlan_3 23 rfl rfl
theorem dX5_readPlan_0 : decode cX5_readPlan 0 = .ok (.iconst 0, 1) := dk_3 (dk_at dksX5_readPlan_0 0 rfl rfl)
theorem dX5_readPlan_1 : decode cX5_readPlan 1 = .ok (.istore_n 1, 1) := dk_60 (dk_at dksX5_readPlan_0 1 rfl rfl)
theorem dX5_readPlan_2 : decode cX5_readPlan 2 = .ok (.iconst 1, 1) := dk_4 (dk_at dksX5_readPlan_0 2 rfl rfl)
theorem dX5_readPlan_3 : decode cX5_readPlan 3 = .ok (.istore_n 2, 1) := dk_61 (dk_at dksX5_readPlan_0 3 rfl rfl)
theorem dX5_readPlan_4 : decode cX5_readPlan 4 = .ok (.iload_n 2, 1) := dk_28 (dk_at dksX5_readPlan_0 4 rfl rfl)
theorem dX5_readPlan_5 : decode cX5_readPlan 5 = .ok (.ifCond .eq 72, 3) := dk_153 0 72 (dk_at dksX5_readPlan_0 5 rfl rfl)
theorem dX5_readPlan_8 : decode cX5_readPlan 8 = .ok (.aload_n 0, 1) := dk_42 (dk_at dksX5_readPlan_0 8 rfl rfl)
theorem dX5_readPlan_9 : decode cX5_readPlan 9 = .ok (.iconst 4, 1) := dk_7 (dk_at dksX5_readPlan_0 9 rfl rfl)
theorem dX5_readPlan_10 : decode cX5_readPlan 10 = .ok (.bipush 48, 2) := dk_16 48 (dk_at dksX5_readPlan_0 10 rfl rfl)
theorem dX5_readPlan_12 : decode cX5_readPlan 12 = .ok (.iload_n 1, 1) := dk_27 (dk_at dksX5_readPlan_0 12 rfl rfl)
theorem dX5_readPlan_13 : decode cX5_readPlan 13 = .ok (.iadd, 1) := dk_96 (dk_at dksX5_readPlan_0 13 rfl rfl)
theorem dX5_readPlan_14 : decode cX5_readPlan 14 = .ok (.imul, 1) := dk_104 (dk_at dksX5_readPlan_0 14 rfl rfl)
theorem dX5_readPlan_15 : decode cX5_readPlan 15 = .ok (.invokevirtual 137, 3) := dk_182 0 137 (dk_at dksX5_readPlan_0 15 rfl rfl)
theorem dX5_readPlan_18 : decode cX5_readPlan 18 = .ok (.aload_n 0, 1) := dk_42 (dk_at dksX5_readPlan_0 18 rfl rfl)
theorem dX5_readPlan_19 : decode cX5_readPlan 19 = .ok (.getfield 105, 3) := dk_180 0 105 (dk_at dksX5_readPlan_0 19 rfl rfl)
theorem dX5_readPlan_22 : decode cX5_readPlan 22 = .ok (.iconst (-1), 1) := dk_2 (dk_at dksX5_readPlan_0 22 rfl rfl)
theorem dX5_readPlan_23 : decode cX5_readPlan 23 = .ok (.if_icmp .eq 4, 3) := dk_159 0 4 (dk_at dksX5_readPlan_1 0 rfl rfl)
theorem dX5_readPlan_26 : decode cX5_readPlan 26 = .ok (.return_, 1) := dk_177 (dk_at dksX5_readPlan_1 3 rfl rfl)
theorem dX5_readPlan_27 : decode cX5_readPlan 27 = .ok (.iinc 1 1, 3) := dk_132 1 1 (dk_at dksX5_readPlan_1 4 rfl rfl)
theorem dX5_readPlan_30 : decode cX5_readPlan 30 = .ok (.aload_n 0, 1) := dk_42 (dk_at dksX5_readPlan_1 7 rfl rfl)
theorem dX5_readPlan_31 : decode cX5_readPlan 31 = .ok (.invokevirtual 118, 3) := dk_182 0 118 (dk_at dksX5_readPlan_1 8 rfl rfl)
theorem dX5_readPlan_34 : decode cX5_readPlan 34 = .ok (.bipush 59, 2) := dk_16 59 (dk_at dksX5_readPlan_1 11 rfl rfl)
theorem dX5_readPlan_36 : decode cX5_readPlan 36 = .ok (.if_icmp .ne 7, 3) := dk_160 0 7 (dk_at dksX5_readPlan_1 13 rfl rfl)
theorem dX5_readPlan_39 : decode cX5_readPlan 39 = .ok (.iconst 1, 1) := dk_4 (dk_at dksX5_readPlan_1 16 rfl rfl)
theorem dX5_readPlan_40 : decode cX5_readPlan 40 = .ok (.goto 4, 3) := dk_167 0 4 (dk_at dksX5_readPlan_1 17 rfl rfl)
theorem dX5_readPlan_43 : decode cX5_readPlan 43 = .ok (.iconst 0, 1) := dk_3 (dk_at dksX5_readPlan_1 20 rfl rfl)
theorem dX5_readPlan_44 : decode cX5_readPlan 44 = .ok (.istore_n 2, 1) := dk_61 (dk_at dksX5_readPlan_1 21 rfl rfl)
theorem dX5_readPlan_45 : decode cX5_readPlan 45 = .ok (.iload_n 2, 1) := dk_28 (dk_at dksX5_readPlan_1 22 rfl rfl)
theorem dX5_readPlan_46 : decode cX5_readPlan 46 = .ok (.ifCond .eq 14, 3) := dk_153 0 14 (dk_at dksX5_readPlan_2 0 rfl rfl)
theorem dX5_readPlan_49 : decode cX5_readPlan 49 = .ok (.iload_n 1, 1) := dk_27 (dk_at dksX5_readPlan_2 3 rfl rfl)
theorem dX5_readPlan_50 : decode cX5_readPlan 50 = .ok (.bipush 12, 2) := dk_16 12 (dk_at dksX5_readPlan_2 4 rfl rfl)
theorem dX5_readPlan_52 : decode cX5_readPlan 52 = .ok (.if_icmp .ne 8, 3) := dk_160 0 8 (dk_at dksX5_readPlan_2 6 rfl rfl)
theorem dX5_readPlan_55 : decode cX5_readPlan 55 = .ok (.aload_n 0, 1) := dk_42 (dk_at dksX5_readPlan_2 9 rfl rfl)
theorem dX5_readPlan_56 : decode cX5_readPlan 56 = .ok (.invokevirtual 125, 3) := dk_182 0 125 (dk_at dksX5_readPlan_2 10 rfl rfl)
theorem dX5_readPlan_59 : decode cX5_readPlan 59 = .ok (.return_, 1) := dk_177 (dk_at dksX5_readPlan_2 13 rfl rfl)
theorem dX5_readPlan_60 : decode cX5_readPlan 60 = .ok (.iload_n 2, 1) := dk_28 (dk_at dksX5_readPlan_2 14 rfl rfl)
theorem dX5_readPlan_61 : decode cX5_readPlan 61 = .ok (.ifCond .eq (-57), 3) := dk_153 255 199 (dk_at dksX5_readPlan_2 15 rfl rfl)
theorem dX5_readPlan_64 : decode cX5_readPlan 64 = .ok (.aload_n 0, 1) := dk_42 (dk_at dksX5_readPlan_2 18 rfl rfl)
theorem dX5_readPlan_65 : decode cX5_readPlan 65 = .ok (.dup, 1) := dk_89 (dk_at dksX5_readPlan_2 19 rfl rfl)
theorem dX5_readPlan_66 : decode cX5_readPlan 66 = .ok (.getfield 98, 3) := dk_180 0 98 (dk_at dksX5_readPlan_2 20 rfl rfl)
theorem dX5_readPlan_69 : decode cX5_readPlan 69 = .ok (.iconst 1, 1) := dk_4 (dk_at dksX5_readPlan_2 23 rfl rfl)
theorem dX5_readPlan_70 : decode cX5_readPlan 70 = .ok (.iadd, 1) := dk_96 (dk_at dksX5_readPlan_3 0 rfl rfl)
theorem dX5_readPlan_71 : decode cX5_readPlan 71 = .ok (.putfield 98, 3) := dk_181 0 98 (dk_at dksX5_readPlan_3 1 rfl rfl)
theorem dX5_readPlan_74 : decode cX5_readPlan 74 = .ok (.goto (-70), 3) := dk_167 255 186 (dk_at dksX5_readPlan_3 4 rfl rfl)
theorem dX5_readPlan_77 : decode cX5_readPlan 77 = .ok (.aload_n 0, 1) := dk_42 (dk_at dksX5_readPlan_3 7 rfl rfl)
theorem dX5_readPlan_78 : decode cX5_readPlan 78 = .ok (.getfield 29, 3) := dk_180 0 29 (dk_at dksX5_readPlan_3 8 rfl rfl)
theorem dX5_readPlan_81 : decode cX5_readPlan 81 = .ok (.iconst 4, 1) := dk_7 (dk_at dksX5_readPlan_3 11 rfl rfl)
theorem dX5_readPlan_82 : decode cX5_readPlan 82 = .ok (.iload_n 1, 1) := dk_27 (dk_at dksX5_readPlan_3 12 rfl rfl)
theorem dX5_readPlan_83 : decode cX5_readPlan 83 = .ok (.iastore, 1) := dk_79 (dk_at dksX5_readPlan_3 13 rfl rfl)
theorem dX5_readPlan_84 : decode cX5_readPlan 84 = .ok (.aload_n 0, 1) := dk_42 (dk_at dksX5_readPlan_3 14 rfl rfl)
theorem dX5_readPlan_85 : decode cX5_readPlan 85 = .ok (.invokevirtual 118, 3) := dk_182 0 118 (dk_at dksX5_readPlan_3 15 rfl rfl)
theorem dX5_readPlan_88 : decode cX5_readPlan 88 = .ok (.iconst (-1), 1) := dk_2 (dk_at dksX5_readPlan_3 18 rfl rfl)
theorem dX5_readPlan_89 : decode cX5_readPlan 89 = .ok (.if_icmp .eq 7, 3) := dk_159 0 7 (dk_at dksX5_readPlan_3 19 rfl rfl)
theorem dX5_readPlan_92 : decode cX5_readPlan 92 = .ok (.aload_n 0, 1) := dk_42 (dk_at dksX5_readPlan_3 22 rfl rfl)
theorem dX5_readPlan_93 : decode cX5_readPlan 93 = .ok (.invokevirtual 125, 3) := dk_182 0 125 (dk_at dksX5_readPlan_4 0 rfl rfl)
theorem dX5_readPlan_96 : decode cX5_readPlan 96 = .ok (.return_, 1) := dk_177 (dk_at dksX5_readPlan_4 3 rfl rfl)
abbrev cX5_readStep : ByteArray := prog_9_method_17_code
def yX5_readStep : MethodName := ⟨RX5, "readStep", "(I)V"⟩
def dkwX5_readStep_6 : List UInt8 := [42, 89, 180, 0, 98, 4, 96, 181, 0, 98, 42, 180, 0, 26, 27, 6, 96, 29, 4, 100, 79, 177]
abbrev dktX5_readStep_6 : List UInt8 := dkwX5_readStep_6 ++ []
def dkwX5_readStep_5 : List UInt8 := [159, 0, 4, 177, 18, 116, 42, 182, 0, 118, 184, 0, 121, 62, 29, 2, 160, 0, 8, 42, 182, 0, 125, 177]
abbrev dktX5_readStep_5 : List UInt8 := dkwX5_readStep_5 ++ dktX5_readStep_6
def dkwX5_readStep_4 : List UInt8 := [177, 42, 180, 0, 26, 27, 5, 96, 42, 182, 0, 134, 79, 42, 180, 0, 105, 2, 160, 0, 9, 28, 16, 6]
abbrev dktX5_readStep_4 : List UInt8 := dkwX5_readStep_4 ++ dktX5_readStep_5
def dkwX5_readStep_3 : List UInt8 := [180, 0, 26, 27, 4, 96, 42, 182, 0, 134, 79, 42, 180, 0, 105, 2, 160, 0, 8, 28, 5, 162, 0, 4]
abbrev dktX5_readStep_3 : List UInt8 := dkwX5_readStep_3 ++ dktX5_readStep_4
def dkwX5_readStep_2 : List UInt8 := [180, 0, 26, 27, 29, 96, 18, 133, 79, 132, 3, 1, 167, 255, 238, 28, 8, 160, 0, 4, 177, 42]
abbrev dktX5_readStep_2 : List UInt8 := dkwX5_readStep_2 ++ dktX5_readStep_3
def dkwX5_readStep_1 : List UInt8 := [180, 0, 98, 4, 96, 181, 0, 98, 42, 180, 0, 26, 27, 28, 79, 4, 62, 29, 7, 162, 0, 19, 42]
abbrev dktX5_readStep_1 : List UInt8 := dkwX5_readStep_1 ++ dktX5_readStep_2
def dkwX5_readStep_0 : List UInt8 := [18, 131, 42, 182, 0, 118, 184, 0, 121, 61, 28, 2, 160, 0, 8, 42, 182, 0, 125, 177, 42, 89]
abbrev dktX5_readStep_0 : List UInt8 := dkwX5_readStep_0 ++ dktX5_readStep_1
theorem dksX5_readStep_0 : cX5_readStep.data.toList.drop 0 = dktX5_readStep_0 := by decide +kernel
theorem dksX5_readStep_1 : cX5_readStep.data.toList.drop 22 = dktX5_readStep_1 := dk_seg dksX5_readStep_0 22 rfl rfl
theorem dksX5_readStep_2 : cX5_readStep.data.toList.drop 45 = dktX5_readStep_2 := dk_seg dksX5_readStep_1 23 rfl rfl
theorem dksX5_readStep_3 : cX5_readStep.data.toList.drop 67 = dktX5_readStep_3 := dk_seg dksX5_readStep_2 22 rfl rfl
theorem dksX5_readStep_4 : cX5_readStep.data.toList.drop 91 = dktX5_readStep_4 := dk_seg dksX5_readStep_3 24 rfl rfl
theorem dksX5_readStep_5 : cX5_readStep.data.toList.drop 115 = dktX5_readStep_5 := dk_seg dksX5_readStep_4 24 rfl rfl
theorem dksX5_readStep_6 : cX5_readStep.data.toList.drop 139 = dktX5_readStep_6 := dk_seg dksX5_readStep_5 24 rfl rfl
theorem dX5_readStep_0 : decode cX5_readStep 0 = .ok (.ldc 131, 2) := dk_18 131 (dk_at dksX5_readStep_0 0 rfl rfl)
theorem dX5_readStep_2 : decode cX5_readStep 2 = .ok (.aload_n 0, 1) := dk_42 (dk_at dksX5_readStep_0 2 rfl rfl)
theorem dX5_readStep_3 : decode cX5_readStep 3 = .ok (.invokevirtual 118, 3) := dk_182 0 118 (dk_at dksX5_readStep_0 3 rfl rfl)
theorem dX5_readStep_6 : decode cX5_readStep 6 = .ok (.invokestatic 121, 3) := dk_184 0 121 (dk_at dksX5_readStep_0 6 rfl rfl)
theorem dX5_readStep_9 : decode cX5_readStep 9 = .ok (.istore_n 2, 1) := dk_61 (dk_at dksX5_readStep_0 9 rfl rfl)
theorem dX5_readStep_10 : decode cX5_readStep 10 = .ok (.iload_n 2, 1) := dk_28 (dk_at dksX5_readStep_0 10 rfl rfl)
theorem dX5_readStep_11 : decode cX5_readStep 11 = .ok (.iconst (-1), 1) := dk_2 (dk_at dksX5_readStep_0 11 rfl rfl)
theorem dX5_readStep_12 : decode cX5_readStep 12 = .ok (.if_icmp .ne 8, 3) := dk_160 0 8 (dk_at dksX5_readStep_0 12 rfl rfl)
theorem dX5_readStep_15 : decode cX5_readStep 15 = .ok (.aload_n 0, 1) := dk_42 (dk_at dksX5_readStep_0 15 rfl rfl)
theorem dX5_readStep_16 : decode cX5_readStep 16 = .ok (.invokevirtual 125, 3) := dk_182 0 125 (dk_at dksX5_readStep_0 16 rfl rfl)
theorem dX5_readStep_19 : decode cX5_readStep 19 = .ok (.return_, 1) := dk_177 (dk_at dksX5_readStep_0 19 rfl rfl)
theorem dX5_readStep_20 : decode cX5_readStep 20 = .ok (.aload_n 0, 1) := dk_42 (dk_at dksX5_readStep_0 20 rfl rfl)
theorem dX5_readStep_21 : decode cX5_readStep 21 = .ok (.dup, 1) := dk_89 (dk_at dksX5_readStep_0 21 rfl rfl)
theorem dX5_readStep_22 : decode cX5_readStep 22 = .ok (.getfield 98, 3) := dk_180 0 98 (dk_at dksX5_readStep_1 0 rfl rfl)
theorem dX5_readStep_25 : decode cX5_readStep 25 = .ok (.iconst 1, 1) := dk_4 (dk_at dksX5_readStep_1 3 rfl rfl)
theorem dX5_readStep_26 : decode cX5_readStep 26 = .ok (.iadd, 1) := dk_96 (dk_at dksX5_readStep_1 4 rfl rfl)
theorem dX5_readStep_27 : decode cX5_readStep 27 = .ok (.putfield 98, 3) := dk_181 0 98 (dk_at dksX5_readStep_1 5 rfl rfl)
theorem dX5_readStep_30 : decode cX5_readStep 30 = .ok (.aload_n 0, 1) := dk_42 (dk_at dksX5_readStep_1 8 rfl rfl)
theorem dX5_readStep_31 : decode cX5_readStep 31 = .ok (.getfield 26, 3) := dk_180 0 26 (dk_at dksX5_readStep_1 9 rfl rfl)
theorem dX5_readStep_34 : decode cX5_readStep 34 = .ok (.iload_n 1, 1) := dk_27 (dk_at dksX5_readStep_1 12 rfl rfl)
theorem dX5_readStep_35 : decode cX5_readStep 35 = .ok (.iload_n 2, 1) := dk_28 (dk_at dksX5_readStep_1 13 rfl rfl)
theorem dX5_readStep_36 : decode cX5_readStep 36 = .ok (.iastore, 1) := dk_79 (dk_at dksX5_readStep_1 14 rfl rfl)
theorem dX5_readStep_37 : decode cX5_readStep 37 = .ok (.iconst 1, 1) := dk_4 (dk_at dksX5_readStep_1 15 rfl rfl)
theorem dX5_readStep_38 : decode cX5_readStep 38 = .ok (.istore_n 3, 1) := dk_62 (dk_at dksX5_readStep_1 16 rfl rfl)
theorem dX5_readStep_39 : decode cX5_readStep 39 = .ok (.iload_n 3, 1) := dk_29 (dk_at dksX5_readStep_1 17 rfl rfl)
theorem dX5_readStep_40 : decode cX5_readStep 40 = .ok (.iconst 4, 1) := dk_7 (dk_at dksX5_readStep_1 18 rfl rfl)
theorem dX5_readStep_41 : decode cX5_readStep 41 = .ok (.if_icmp .ge 19, 3) := dk_162 0 19 (dk_at dksX5_readStep_1 19 rfl rfl)
theorem dX5_readStep_44 : decode cX5_readStep 44 = .ok (.aload_n 0, 1) := dk_42 (dk_at dksX5_readStep_1 22 rfl rfl)
theorem dX5_readStep_45 : decode cX5_readStep 45 = .ok (.getfield 26, 3) := dk_180 0 26 (dk_at dksX5_readStep_2 0 rfl rfl)
theorem dX5_readStep_48 : decode cX5_readStep 48 = .ok (.iload_n 1, 1) := dk_27 (dk_at dksX5_readStep_2 3 rfl rfl)
theorem dX5_readStep_49 : decode cX5_readStep 49 = .ok (.iload_n 3, 1) := dk_29 (dk_at dksX5_readStep_2 4 rfl rfl)
theorem dX5_readStep_50 : decode cX5_readStep 50 = .ok (.iadd, 1) := dk_96 (dk_at dksX5_readStep_2 5 rfl rfl)
theorem dX5_readStep_51 : decode cX5_readStep 51 = .ok (.ldc 133, 2) := dk_18 133 (dk_at dksX5_readStep_2 6 rfl rfl)
theorem dX5_readStep_53 : decode cX5_readStep 53 = .ok (.iastore, 1) := dk_79 (dk_at dksX5_readStep_2 8 rfl rfl)
theorem dX5_readStep_54 : decode cX5_readStep 54 = .ok (.iinc 3 1, 3) := dk_132 3 1 (dk_at dksX5_readStep_2 9 rfl rfl)
theorem dX5_readStep_57 : decode cX5_readStep 57 = .ok (.goto (-18), 3) := dk_167 255 238 (dk_at dksX5_readStep_2 12 rfl rfl)
theorem dX5_readStep_60 : decode cX5_readStep 60 = .ok (.iload_n 2, 1) := dk_28 (dk_at dksX5_readStep_2 15 rfl rfl)
theorem dX5_readStep_61 : decode cX5_readStep 61 = .ok (.iconst 5, 1) := dk_8 (dk_at dksX5_readStep_2 16 rfl rfl)
theorem dX5_readStep_62 : decode cX5_readStep 62 = .ok (.if_icmp .ne 4, 3) := dk_160 0 4 (dk_at dksX5_readStep_2 17 rfl rfl)
theorem dX5_readStep_65 : decode cX5_readStep 65 = .ok (.return_, 1) := dk_177 (dk_at dksX5_readStep_2 20 rfl rfl)
theorem dX5_readStep_66 : decode cX5_readStep 66 = .ok (.aload_n 0, 1) := dk_42 (dk_at dksX5_readStep_2 21 rfl rfl)
theorem dX5_readStep_67 : decode cX5_readStep 67 = .ok (.getfield 26, 3) := dk_180 0 26 (dk_at dksX5_readStep_3 0 rfl rfl)
theorem dX5_readStep_70 : decode cX5_readStep 70 = .ok (.iload_n 1, 1) := dk_27 (dk_at dksX5_readStep_3 3 rfl rfl)
theorem dX5_readStep_71 : decode cX5_readStep 71 = .ok (.iconst 1, 1) := dk_4 (dk_at dksX5_readStep_3 4 rfl rfl)
theorem dX5_readStep_72 : decode cX5_readStep 72 = .ok (.iadd, 1) := dk_96 (dk_at dksX5_readStep_3 5 rfl rfl)
theorem dX5_readStep_73 : decode cX5_readStep 73 = .ok (.aload_n 0, 1) := dk_42 (dk_at dksX5_readStep_3 6 rfl rfl)
theorem dX5_readStep_74 : decode cX5_readStep 74 = .ok (.invokevirtual 134, 3) := dk_182 0 134 (dk_at dksX5_readStep_3 7 rfl rfl)
theorem dX5_readStep_77 : decode cX5_readStep 77 = .ok (.iastore, 1) := dk_79 (dk_at dksX5_readStep_3 10 rfl rfl)
theorem dX5_readStep_78 : decode cX5_readStep 78 = .ok (.aload_n 0, 1) := dk_42 (dk_at dksX5_readStep_3 11 rfl rfl)
theorem dX5_readStep_79 : decode cX5_readStep 79 = .ok (.getfield 105, 3) := dk_180 0 105 (dk_at dksX5_readStep_3 12 rfl rfl)
theorem dX5_readStep_82 : decode cX5_readStep 82 = .ok (.iconst (-1), 1) := dk_2 (dk_at dksX5_readStep_3 15 rfl rfl)
theorem dX5_readStep_83 : decode cX5_readStep 83 = .ok (.if_icmp .ne 8, 3) := dk_160 0 8 (dk_at dksX5_readStep_3 16 rfl rfl)
theorem dX5_readStep_86 : decode cX5_readStep 86 = .ok (.iload_n 2, 1) := dk_28 (dk_at dksX5_readStep_3 19 rfl rfl)
theorem dX5_readStep_87 : decode cX5_readStep 87 = .ok (.iconst 2, 1) := dk_5 (dk_at dksX5_readStep_3 20 rfl rfl)
theorem dX5_readStep_88 : decode cX5_readStep 88 = .ok (.if_icmp .ge 4, 3) := dk_162 0 4 (dk_at dksX5_readStep_3 21 rfl rfl)
theorem dX5_readStep_91 : decode cX5_readStep 91 = .ok (.return_, 1) := dk_177 (dk_at dksX5_readStep_4 0 rfl rfl)
theorem dX5_readStep_92 : decode cX5_readStep 92 = .ok (.aload_n 0, 1) := dk_42 (dk_at dksX5_readStep_4 1 rfl rfl)
theorem dX5_readStep_93 : decode cX5_readStep 93 = .ok (.getfield 26, 3) := dk_180 0 26 (dk_at dksX5_readStep_4 2 rfl rfl)
theorem dX5_readStep_96 : decode cX5_readStep 96 = .ok (.iload_n 1, 1) := dk_27 (dk_at dksX5_readStep_4 5 rfl rfl)
theorem dX5_readStep_97 : decode cX5_readStep 97 = .ok (.iconst 2, 1) := dk_5 (dk_at dksX5_readStep_4 6 rfl rfl)
theorem dX5_readStep_98 : decode cX5_readStep 98 = .ok (.iadd, 1) := dk_96 (dk_at dksX5_readStep_4 7 rfl rfl)
theorem dX5_readStep_99 : decode cX5_readStep 99 = .ok (.aload_n 0, 1) := dk_42 (dk_at dksX5_readStep_4 8 rfl rfl)
theorem dX5_readStep_100 : decode cX5_readStep 100 = .ok (.invokevirtual 134, 3) := dk_182 0 134 (dk_at dksX5_readStep_4 9 rfl rfl)
theorem dX5_readStep_103 : decode cX5_readStep 103 = .ok (.iastore, 1) := dk_79 (dk_at dksX5_readStep_4 12 rfl rfl)
theorem dX5_readStep_104 : decode cX5_readStep 104 = .ok (.aload_n 0, 1) := dk_42 (dk_at dksX5_readStep_4 13 rfl rfl)
theorem dX5_readStep_105 : decode cX5_readStep 105 = .ok (.getfield 105, 3) := dk_180 0 105 (dk_at dksX5_readStep_4 14 rfl rfl)
theorem dX5_readStep_108 : decode cX5_readStep 108 = .ok (.iconst (-1), 1) := dk_2 (dk_at dksX5_readStep_4 17 rfl rfl)
theorem dX5_readStep_109 : decode cX5_readStep 109 = .ok (.if_icmp .ne 9, 3) := dk_160 0 9 (dk_at dksX5_readStep_4 18 rfl rfl)
theorem dX5_readStep_112 : decode cX5_readStep 112 = .ok (.iload_n 2, 1) := dk_28 (dk_at dksX5_readStep_4 21 rfl rfl)
theorem dX5_readStep_113 : decode cX5_readStep 113 = .ok (.bipush 6, 2) := dk_16 6 (dk_at dksX5_readStep_4 22 rfl rfl)
theorem dX5_readStep_115 : decode cX5_readStep 115 = .ok (.if_icmp .eq 4, 3) := dk_159 0 4 (dk_at dksX5_readStep_5 0 rfl rfl)
theorem dX5_readStep_118 : decode cX5_readStep 118 = .ok (.return_, 1) := dk_177 (dk_at dksX5_readStep_5 3 rfl rfl)
theorem dX5_readStep_119 : decode cX5_readStep 119 = .ok (.ldc 116, 2) := dk_18 116 (dk_at dksX5_readStep_5 4 rfl rfl)
theorem dX5_readStep_121 : decode cX5_readStep 121 = .ok (.aload_n 0, 1) := dk_42 (dk_at dksX5_readStep_5 6 rfl rfl)
theorem dX5_readStep_122 : decode cX5_readStep 122 = .ok (.invokevirtual 118, 3) := dk_182 0 118 (dk_at dksX5_readStep_5 7 rfl rfl)
theorem dX5_readStep_125 : decode cX5_readStep 125 = .ok (.invokestatic 121, 3) := dk_184 0 121 (dk_at dksX5_readStep_5 10 rfl rfl)
theorem dX5_readStep_128 : decode cX5_readStep 128 = .ok (.istore_n 3, 1) := dk_62 (dk_at dksX5_readStep_5 13 rfl rfl)
theorem dX5_readStep_129 : decode cX5_readStep 129 = .ok (.iload_n 3, 1) := dk_29 (dk_at dksX5_readStep_5 14 rfl rfl)
theorem dX5_readStep_130 : decode cX5_readStep 130 = .ok (.iconst (-1), 1) := dk_2 (dk_at dksX5_readStep_5 15 rfl rfl)
theorem dX5_readStep_131 : decode cX5_readStep 131 = .ok (.if_icmp .ne 8, 3) := dk_160 0 8 (dk_at dksX5_readStep_5 16 rfl rfl)
theorem dX5_readStep_134 : decode cX5_readStep 134 = .ok (.aload_n 0, 1) := dk_42 (dk_at dksX5_readStep_5 19 rfl rfl)
theorem dX5_readStep_135 : decode cX5_readStep 135 = .ok (.invokevirtual 125, 3) := dk_182 0 125 (dk_at dksX5_readStep_5 20 rfl rfl)
theorem dX5_readStep_138 : decode cX5_readStep 138 = .ok (.return_, 1) := dk_177 (dk_at dksX5_readStep_5 23 rfl rfl)
theorem dX5_readStep_139 : decode cX5_readStep 139 = .ok (.aload_n 0, 1) := dk_42 (dk_at dksX5_readStep_6 0 rfl rfl)
theorem dX5_readStep_140 : decode cX5_readStep 140 = .ok (.dup, 1) := dk_89 (dk_at dksX5_readStep_6 1 rfl rfl)
theorem dX5_readStep_141 : decode cX5_readStep 141 = .ok (.getfield 98, 3) := dk_180 0 98 (dk_at dksX5_readStep_6 2 rfl rfl)
theorem dX5_readStep_144 : decode cX5_readStep 144 = .ok (.iconst 1, 1) := dk_4 (dk_at dksX5_readStep_6 5 rfl rfl)
theorem dX5_readStep_145 : decode cX5_readStep 145 = .ok (.iadd, 1) := dk_96 (dk_at dksX5_readStep_6 6 rfl rfl)
theorem dX5_readStep_146 : decode cX5_readStep 146 = .ok (.putfield 98, 3) := dk_181 0 98 (dk_at dksX5_readStep_6 7 rfl rfl)
theorem dX5_readStep_149 : decode cX5_readStep 149 = .ok (.aload_n 0, 1) := dk_42 (dk_at dksX5_readStep_6 10 rfl rfl)
theorem dX5_readStep_150 : decode cX5_readStep 150 = .ok (.getfield 26, 3) := dk_180 0 26 (dk_at dksX5_readStep_6 11 rfl rfl)
theorem dX5_readStep_153 : decode cX5_readStep 153 = .ok (.iload_n 1, 1) := dk_27 (dk_at dksX5_readStep_6 14 rfl rfl)
theorem dX5_readStep_154 : decode cX5_readStep 154 = .ok (.iconst 3, 1) := dk_6 (dk_at dksX5_readStep_6 15 rfl rfl)
theorem dX5_readStep_155 : decode cX5_readStep 155 = .ok (.iadd, 1) := dk_96 (dk_at dksX5_readStep_6 16 rfl rfl)
theorem dX5_readStep_156 : decode cX5_readStep 156 = .ok (.iload_n 3, 1) := dk_29 (dk_at dksX5_readStep_6 17 rfl rfl)
theorem dX5_readStep_157 : decode cX5_readStep 157 = .ok (.iconst 1, 1) := dk_4 (dk_at dksX5_readStep_6 18 rfl rfl)
theorem dX5_readStep_158 : decode cX5_readStep 158 = .ok (.isub, 1) := dk_100 (dk_at dksX5_readStep_6 19 rfl rfl)
theorem dX5_readStep_159 : decode cX5_readStep 159 = .ok (.iastore, 1) := dk_79 (dk_at dksX5_readStep_6 20 rfl rfl)
theorem dX5_readStep_160 : decode cX5_readStep 160 = .ok (.return_, 1) := dk_177 (dk_at dksX5_readStep_6 21 rfl rfl)
abbrev cX5_digit : ByteArray := prog_9_method_16_code
def yX5_digit : MethodName := ⟨RX5, "digit", "()I"⟩
def dkwX5_digit_1 : List UInt8 := [89, 180, 0, 98, 4, 96, 181, 0, 98, 27, 16, 48, 100, 172]
abbrev dktX5_digit_1 : List UInt8 := dkwX5_digit_1 ++ []
def dkwX5_digit_0 : List UInt8 := [42, 182, 0, 118, 60, 27, 16, 48, 161, 0, 9, 27, 16, 57, 164, 0, 9, 42, 182, 0, 125, 3, 172, 42]
abbrev dktX5_digit_0 : List UInt8 := dkwX5_digit_0 ++ dktX5_digit_1
theorem dksX5_digit_0 : cX5_digit.data.toList.drop 0 = dktX5_digit_0 := by decide +kernel
theorem dksX5_digit_1 : cX5_digit.data.toList.drop 24 = dktX5_digit_1 := dk_seg dksX5_digit_0 24 rfl rfl
theorem dX5_digit_0 : decode cX5_digit 0 = .ok (.aload_n 0, 1) := dk_42 (dk_at dksX5_digit_0 0 rfl rfl)
theorem dX5_digit_1 : decode cX5_digit 1 = .ok (.invokevirtual 118, 3) := dk_182 0 118 (dk_at dksX5_digit_0 1 rfl rfl)
theorem dX5_digit_4 : decode cX5_digit 4 = .ok (.istore_n 1, 1) := dk_60 (dk_at dksX5_digit_0 4 rfl rfl)
theorem dX5_digit_5 : decode cX5_digit 5 = .ok (.iload_n 1, 1) := dk_27 (dk_at dksX5_digit_0 5 rfl rfl)
theorem dX5_digit_6 : decode cX5_digit 6 = .ok (.bipush 48, 2) := dk_16 48 (dk_at dksX5_digit_0 6 rfl rfl)
theorem dX5_digit_8 : decode cX5_digit 8 = .ok (.if_icmp .lt 9, 3) := dk_161 0 9 (dk_at dksX5_digit_0 8 rfl rfl)
theorem dX5_digit_11 : decode cX5_digit 11 = .ok (.iload_n 1, 1) := dk_27 (dk_at dksX5_digit_0 11 rfl rfl)
theorem dX5_digit_12 : decode cX5_digit 12 = .ok (.bipush 57, 2) := dk_16 57 (dk_at dksX5_digit_0 12 rfl rfl)
theorem dX5_digit_14 : decode cX5_digit 14 = .ok (.if_icmp .le 9, 3) := dk_164 0 9 (dk_at dksX5_digit_0 14 rfl rfl)
theorem dX5_digit_17 : decode cX5_digit 17 = .ok (.aload_n 0, 1) := dk_42 (dk_at dksX5_digit_0 17 rfl rfl)
theorem dX5_digit_18 : decode cX5_digit 18 = .ok (.invokevirtual 125, 3) := dk_182 0 125 (dk_at dksX5_digit_0 18 rfl rfl)
theorem dX5_digit_21 : decode cX5_digit 21 = .ok (.iconst 0, 1) := dk_3 (dk_at dksX5_digit_0 21 rfl rfl)
theorem dX5_digit_22 : decode cX5_digit 22 = .ok (.ireturn, 1) := dk_172 (dk_at dksX5_digit_0 22 rfl rfl)
theorem dX5_digit_23 : decode cX5_digit 23 = .ok (.aload_n 0, 1) := dk_42 (dk_at dksX5_digit_0 23 rfl rfl)
theorem dX5_digit_24 : decode cX5_digit 24 = .ok (.dup, 1) := dk_89 (dk_at dksX5_digit_1 0 rfl rfl)
theorem dX5_digit_25 : decode cX5_digit 25 = .ok (.getfield 98, 3) := dk_180 0 98 (dk_at dksX5_digit_1 1 rfl rfl)
theorem dX5_digit_28 : decode cX5_digit 28 = .ok (.iconst 1, 1) := dk_4 (dk_at dksX5_digit_1 4 rfl rfl)
theorem dX5_digit_29 : decode cX5_digit 29 = .ok (.iadd, 1) := dk_96 (dk_at dksX5_digit_1 5 rfl rfl)
theorem dX5_digit_30 : decode cX5_digit 30 = .ok (.putfield 98, 3) := dk_181 0 98 (dk_at dksX5_digit_1 6 rfl rfl)
theorem dX5_digit_33 : decode cX5_digit 33 = .ok (.iload_n 1, 1) := dk_27 (dk_at dksX5_digit_1 9 rfl rfl)
theorem dX5_digit_34 : decode cX5_digit 34 = .ok (.bipush 48, 2) := dk_16 48 (dk_at dksX5_digit_1 10 rfl rfl)
theorem dX5_digit_36 : decode cX5_digit 36 = .ok (.isub, 1) := dk_100 (dk_at dksX5_digit_1 12 rfl rfl)
theorem dX5_digit_37 : decode cX5_digit 37 = .ok (.ireturn, 1) := dk_172 (dk_at dksX5_digit_1 13 rfl rfl)
abbrev cX5_text : ByteArray := prog_9_method_20_code
def yX5_text : MethodName := ⟨RX5, "text", "(I)I"⟩
def dkwX5_text_6 : List UInt8 := [132, 2, 1, 167, 255, 235, 42, 3, 181, 0, 155, 42, 180, 0, 13, 16, 36, 46, 172]
abbrev dktX5_text_6 : List UInt8 := dkwX5_text_6 ++ []
def dkwX5_text_5 : List UInt8 := [4, 100, 172, 3, 61, 28, 16, 38, 162, 0, 21, 42, 180, 0, 13, 28, 42, 180, 0, 17, 28, 46, 79]
abbrev dktX5_text_5 : List UInt8 := dkwX5_text_5 ++ dktX5_text_6
def dkwX5_text_4 : List UInt8 := [180, 0, 150, 42, 180, 0, 29, 7, 46, 79, 42, 89, 180, 0, 150, 4, 96, 181, 0, 150, 42, 180, 0, 150]
abbrev dktX5_text_4 : List UInt8 := dkwX5_text_4 ++ dktX5_text_5
def dkwX5_text_3 : List UInt8 := [42, 180, 0, 26, 17, 0, 192, 28, 96, 46, 79, 132, 2, 1, 167, 255, 223, 42, 180, 0, 29, 42]
abbrev dktX5_text_3 : List UInt8 := dkwX5_text_3 ++ dktX5_text_4
def dkwX5_text_2 : List UInt8 := [160, 0, 73, 3, 61, 28, 16, 48, 162, 0, 33, 42, 180, 0, 26, 16, 48, 42, 180, 0, 150, 104, 28, 96]
abbrev dktX5_text_2 : List UInt8 := dkwX5_text_2 ++ dktX5_text_3
def dkwX5_text_1 : List UInt8 := [27, 182, 0, 153, 2, 159, 0, 10, 42, 3, 181, 0, 83, 2, 172, 42, 3, 181, 0, 87, 27, 4]
abbrev dktX5_text_1 : List UInt8 := dkwX5_text_1 ++ dktX5_text_2
def dkwX5_text_0 : List UInt8 := [27, 133, 9, 10, 184, 0, 140, 153, 0, 25, 27, 4, 160, 0, 11, 42, 180, 0, 150, 7, 159, 0, 12, 42]
abbrev dktX5_text_0 : List UInt8 := dkwX5_text_0 ++ dktX5_text_1
theorem dksX5_text_0 : cX5_text.data.toList.drop 0 = dktX5_text_0 := by decide +kernel
theorem dksX5_text_1 : cX5_text.data.toList.drop 24 = dktX5_text_1 := dk_seg dksX5_text_0 24 rfl rfl
theorem dksX5_text_2 : cX5_text.data.toList.drop 46 = dktX5_text_2 := dk_seg dksX5_text_1 22 rfl rfl
theorem dksX5_text_3 : cX5_text.data.toList.drop 70 = dktX5_text_3 := dk_seg dksX5_text_2 24 rfl rfl
theorem dksX5_text_4 : cX5_text.data.toList.drop 92 = dktX5_text_4 := dk_seg dksX5_text_3 22 rfl rfl
theorem dksX5_text_5 : cX5_text.data.toList.drop 116 = dktX5_text_5 := dk_seg dksX5_text_4 24 rfl rfl
theorem dksX5_text_6 : cX5_text.data.toList.drop 139 = dktX5_text_6 := dk_seg dksX5_text_5 23 rfl rfl
theorem dX5_text_0 : decode cX5_text 0 = .ok (.iload_n 1, 1) := dk_27 (dk_at dksX5_text_0 0 rfl rfl)
theorem dX5_text_1 : decode cX5_text 1 = .ok (.i2l, 1) := dk_133 (dk_at dksX5_text_0 1 rfl rfl)
theorem dX5_text_2 : decode cX5_text 2 = .ok (.lconst 0, 1) := dk_9 (dk_at dksX5_text_0 2 rfl rfl)
theorem dX5_text_3 : decode cX5_text 3 = .ok (.lconst 1, 1) := dk_10 (dk_at dksX5_text_0 3 rfl rfl)
theorem dX5_text_4 : decode cX5_text 4 = .ok (.invokestatic 140, 3) := dk_184 0 140 (dk_at dksX5_text_0 4 rfl rfl)
theorem dX5_text_7 : decode cX5_text 7 = .ok (.ifCond .eq 25, 3) := dk_153 0 25 (dk_at dksX5_text_0 7 rfl rfl)
theorem dX5_text_10 : decode cX5_text 10 = .ok (.iload_n 1, 1) := dk_27 (dk_at dksX5_text_0 10 rfl rfl)
theorem dX5_text_11 : decode cX5_text 11 = .ok (.iconst 1, 1) := dk_4 (dk_at dksX5_text_0 11 rfl rfl)
theorem dX5_text_12 : decode cX5_text 12 = .ok (.if_icmp .ne 11, 3) := dk_160 0 11 (dk_at dksX5_text_0 12 rfl rfl)
theorem dX5_text_15 : decode cX5_text 15 = .ok (.aload_n 0, 1) := dk_42 (dk_at dksX5_text_0 15 rfl rfl)
theorem dX5_text_16 : decode cX5_text 16 = .ok (.getfield 150, 3) := dk_180 0 150 (dk_at dksX5_text_0 16 rfl rfl)
theorem dX5_text_19 : decode cX5_text 19 = .ok (.iconst 4, 1) := dk_7 (dk_at dksX5_text_0 19 rfl rfl)
theorem dX5_text_20 : decode cX5_text 20 = .ok (.if_icmp .eq 12, 3) := dk_159 0 12 (dk_at dksX5_text_0 20 rfl rfl)
theorem dX5_text_23 : decode cX5_text 23 = .ok (.aload_n 0, 1) := dk_42 (dk_at dksX5_text_0 23 rfl rfl)
theorem dX5_text_24 : decode cX5_text 24 = .ok (.iload_n 1, 1) := dk_27 (dk_at dksX5_text_1 0 rfl rfl)
theorem dX5_text_25 : decode cX5_text 25 = .ok (.invokevirtual 153, 3) := dk_182 0 153 (dk_at dksX5_text_1 1 rfl rfl)
theorem dX5_text_28 : decode cX5_text 28 = .ok (.iconst (-1), 1) := dk_2 (dk_at dksX5_text_1 4 rfl rfl)
theorem dX5_text_29 : decode cX5_text 29 = .ok (.if_icmp .eq 10, 3) := dk_159 0 10 (dk_at dksX5_text_1 5 rfl rfl)
theorem dX5_text_32 : decode cX5_text 32 = .ok (.aload_n 0, 1) := dk_42 (dk_at dksX5_text_1 8 rfl rfl)
theorem dX5_text_33 : decode cX5_text 33 = .ok (.iconst 0, 1) := dk_3 (dk_at dksX5_text_1 9 rfl rfl)
theorem dX5_text_34 : decode cX5_text 34 = .ok (.putfield 83, 3) := dk_181 0 83 (dk_at dksX5_text_1 10 rfl rfl)
theorem dX5_text_37 : decode cX5_text 37 = .ok (.iconst (-1), 1) := dk_2 (dk_at dksX5_text_1 13 rfl rfl)
theorem dX5_text_38 : decode cX5_text 38 = .ok (.ireturn, 1) := dk_172 (dk_at dksX5_text_1 14 rfl rfl)
theorem dX5_text_39 : decode cX5_text 39 = .ok (.aload_n 0, 1) := dk_42 (dk_at dksX5_text_1 15 rfl rfl)
theorem dX5_text_40 : decode cX5_text 40 = .ok (.iconst 0, 1) := dk_3 (dk_at dksX5_text_1 16 rfl rfl)
theorem dX5_text_41 : decode cX5_text 41 = .ok (.putfield 87, 3) := dk_181 0 87 (dk_at dksX5_text_1 17 rfl rfl)
theorem dX5_text_44 : decode cX5_text 44 = .ok (.iload_n 1, 1) := dk_27 (dk_at dksX5_text_1 20 rfl rfl)
theorem dX5_text_45 : decode cX5_text 45 = .ok (.iconst 1, 1) := dk_4 (dk_at dksX5_text_1 21 rfl rfl)
theorem dX5_text_46 : decode cX5_text 46 = .ok (.if_icmp .ne 73, 3) := dk_160 0 73 (dk_at dksX5_text_2 0 rfl rfl)
theorem dX5_text_49 : decode cX5_text 49 = .ok (.iconst 0, 1) := dk_3 (dk_at dksX5_text_2 3 rfl rfl)
theorem dX5_text_50 : decode cX5_text 50 = .ok (.istore_n 2, 1) := dk_61 (dk_at dksX5_text_2 4 rfl rfl)
theorem dX5_text_51 : decode cX5_text 51 = .ok (.iload_n 2, 1) := dk_28 (dk_at dksX5_text_2 5 rfl rfl)
theorem dX5_text_52 : decode cX5_text 52 = .ok (.bipush 48, 2) := dk_16 48 (dk_at dksX5_text_2 6 rfl rfl)
theorem dX5_text_54 : decode cX5_text 54 = .ok (.if_icmp .ge 33, 3) := dk_162 0 33 (dk_at dksX5_text_2 8 rfl rfl)
theorem dX5_text_57 : decode cX5_text 57 = .ok (.aload_n 0, 1) := dk_42 (dk_at dksX5_text_2 11 rfl rfl)
theorem dX5_text_58 : decode cX5_text 58 = .ok (.getfield 26, 3) := dk_180 0 26 (dk_at dksX5_text_2 12 rfl rfl)
theorem dX5_text_61 : decode cX5_text 61 = .ok (.bipush 48, 2) := dk_16 48 (dk_at dksX5_text_2 15 rfl rfl)
theorem dX5_text_63 : decode cX5_text 63 = .ok (.aload_n 0, 1) := dk_42 (dk_at dksX5_text_2 17 rfl rfl)
theorem dX5_text_64 : decode cX5_text 64 = .ok (.getfield 150, 3) := dk_180 0 150 (dk_at dksX5_text_2 18 rfl rfl)
theorem dX5_text_67 : decode cX5_text 67 = .ok (.imul, 1) := dk_104 (dk_at dksX5_text_2 21 rfl rfl)
theorem dX5_text_68 : decode cX5_text 68 = .ok (.iload_n 2, 1) := dk_28 (dk_at dksX5_text_2 22 rfl rfl)
theorem dX5_text_69 : decode cX5_text 69 = .ok (.iadd, 1) := dk_96 (dk_at dksX5_text_2 23 rfl rfl)
theorem dX5_text_70 : decode cX5_text 70 = .ok (.aload_n 0, 1) := dk_42 (dk_at dksX5_text_3 0 rfl rfl)
theorem dX5_text_71 : decode cX5_text 71 = .ok (.getfield 26, 3) := dk_180 0 26 (dk_at dksX5_text_3 1 rfl rfl)
theorem dX5_text_74 : decode cX5_text 74 = .ok (.sipush 192, 3) := dk_17 0 192 (dk_at dksX5_text_3 4 rfl rfl)
theorem dX5_text_77 : decode cX5_text 77 = .ok (.iload_n 2, 1) := dk_28 (dk_at dksX5_text_3 7 rfl rfl)
theorem dX5_text_78 : decode cX5_text 78 = .ok (.iadd, 1) := dk_96 (dk_at dksX5_text_3 8 rfl rfl)
theorem dX5_text_79 : decode cX5_text 79 = .ok (.iaload, 1) := dk_46 (dk_at dksX5_text_3 9 rfl rfl)
theorem dX5_text_80 : decode cX5_text 80 = .ok (.iastore, 1) := dk_79 (dk_at dksX5_text_3 10 rfl rfl)
theorem dX5_text_81 : decode cX5_text 81 = .ok (.iinc 2 1, 3) := dk_132 2 1 (dk_at dksX5_text_3 11 rfl rfl)
theorem dX5_text_84 : decode cX5_text 84 = .ok (.goto (-33), 3) := dk_167 255 223 (dk_at dksX5_text_3 14 rfl rfl)
theorem dX5_text_87 : decode cX5_text 87 = .ok (.aload_n 0, 1) := dk_42 (dk_at dksX5_text_3 17 rfl rfl)
theorem dX5_text_88 : decode cX5_text 88 = .ok (.getfield 29, 3) := dk_180 0 29 (dk_at dksX5_text_3 18 rfl rfl)
theorem dX5_text_91 : decode cX5_text 91 = .ok (.aload_n 0, 1) := dk_42 (dk_at dksX5_text_3 21 rfl rfl)
theorem dX5_text_92 : decode cX5_text 92 = .ok (.getfield 150, 3) := dk_180 0 150 (dk_at dksX5_text_4 0 rfl rfl)
theorem dX5_text_95 : decode cX5_text 95 = .ok (.aload_n 0, 1) := dk_42 (dk_at dksX5_text_4 3 rfl rfl)
theorem dX5_text_96 : decode cX5_text 96 = .ok (.getfield 29, 3) := dk_180 0 29 (dk_at dksX5_text_4 4 rfl rfl)
theorem dX5_text_99 : decode cX5_text 99 = .ok (.iconst 4, 1) := dk_7 (dk_at dksX5_text_4 7 rfl rfl)
theorem dX5_text_100 : decode cX5_text 100 = .ok (.iaload, 1) := dk_46 (dk_at dksX5_text_4 8 rfl rfl)
theorem dX5_text_101 : decode cX5_text 101 = .ok (.iastore, 1) := dk_79 (dk_at dksX5_text_4 9 rfl rfl)
theorem dX5_text_102 : decode cX5_text 102 = .ok (.aload_n 0, 1) := dk_42 (dk_at dksX5_text_4 10 rfl rfl)
theorem dX5_text_103 : decode cX5_text 103 = .ok (.dup, 1) := dk_89 (dk_at dksX5_text_4 11 rfl rfl)
theorem dX5_text_104 : decode cX5_text 104 = .ok (.getfield 150, 3) := dk_180 0 150 (dk_at dksX5_text_4 12 rfl rfl)
theorem dX5_text_107 : decode cX5_text 107 = .ok (.iconst 1, 1) := dk_4 (dk_at dksX5_text_4 15 rfl rfl)
theorem dX5_text_108 : decode cX5_text 108 = .ok (.iadd, 1) := dk_96 (dk_at dksX5_text_4 16 rfl rfl)
theorem dX5_text_109 : decode cX5_text 109 = .ok (.putfield 150, 3) := dk_181 0 150 (dk_at dksX5_text_4 17 rfl rfl)
theorem dX5_text_112 : decode cX5_text 112 = .ok (.aload_n 0, 1) := dk_42 (dk_at dksX5_text_4 20 rfl rfl)
theorem dX5_text_113 : decode cX5_text 113 = .ok (.getfield 150, 3) := dk_180 0 150 (dk_at dksX5_text_4 21 rfl rfl)
theorem dX5_text_116 : decode cX5_text 116 = .ok (.iconst 1, 1) := dk_4 (dk_at dksX5_text_5 0 rfl rfl)
theorem dX5_text_117 : decode cX5_text 117 = .ok (.isub, 1) := dk_100 (dk_at dksX5_text_5 1 rfl rfl)
theorem dX5_text_118 : decode cX5_text 118 = .ok (.ireturn, 1) := dk_172 (dk_at dksX5_text_5 2 rfl rfl)
theorem dX5_text_119 : decode cX5_text 119 = .ok (.iconst 0, 1) := dk_3 (dk_at dksX5_text_5 3 rfl rfl)
theorem dX5_text_120 : decode cX5_text 120 = .ok (.istore_n 2, 1) := dk_61 (dk_at dksX5_text_5 4 rfl rfl)
theorem dX5_text_121 : decode cX5_text 121 = .ok (.iload_n 2, 1) := dk_28 (dk_at dksX5_text_5 5 rfl rfl)
theorem dX5_text_122 : decode cX5_text 122 = .ok (.bipush 38, 2) := dk_16 38 (dk_at dksX5_text_5 6 rfl rfl)
theorem dX5_text_124 : decode cX5_text 124 = .ok (.if_icmp .ge 21, 3) := dk_162 0 21 (dk_at dksX5_text_5 8 rfl rfl)
theorem dX5_text_127 : decode cX5_text 127 = .ok (.aload_n 0, 1) := dk_42 (dk_at dksX5_text_5 11 rfl rfl)
theorem dX5_text_128 : decode cX5_text 128 = .ok (.getfield 13, 3) := dk_180 0 13 (dk_at dksX5_text_5 12 rfl rfl)
theorem dX5_text_131 : decode cX5_text 131 = .ok (.iload_n 2, 1) := dk_28 (dk_at dksX5_text_5 15 rfl rfl)
theorem dX5_text_132 : decode cX5_text 132 = .ok (.aload_n 0, 1) := dk_42 (dk_at dksX5_text_5 16 rfl rfl)
theorem dX5_text_133 : decode cX5_text 133 = .ok (.getfield 17, 3) := dk_180 0 17 (dk_at dksX5_text_5 17 rfl rfl)
theorem dX5_text_136 : decode cX5_text 136 = .ok (.iload_n 2, 1) := dk_28 (dk_at dksX5_text_5 20 rfl rfl)
theorem dX5_text_137 : decode cX5_text 137 = .ok (.iaload, 1) := dk_46 (dk_at dksX5_text_5 21 rfl rfl)
theorem dX5_text_138 : decode cX5_text 138 = .ok (.iastore, 1) := dk_79 (dk_at dksX5_text_5 22 rfl rfl)
theorem dX5_text_139 : decode cX5_text 139 = .ok (.iinc 2 1, 3) := dk_132 2 1 (dk_at dksX5_text_6 0 rfl rfl)
theorem dX5_text_142 : decode cX5_text 142 = .ok (.goto (-21), 3) := dk_167 255 235 (dk_at dksX5_text_6 3 rfl rfl)
theorem dX5_text_145 : decode cX5_text 145 = .ok (.aload_n 0, 1) := dk_42 (dk_at dksX5_text_6 6 rfl rfl)
theorem dX5_text_146 : decode cX5_text 146 = .ok (.iconst 0, 1) := dk_3 (dk_at dksX5_text_6 7 rfl rfl)
theorem dX5_text_147 : decode cX5_text 147 = .ok (.putfield 155, 3) := dk_181 0 155 (dk_at dksX5_text_6 8 rfl rfl)
theorem dX5_text_150 : decode cX5_text 150 = .ok (.aload_n 0, 1) := dk_42 (dk_at dksX5_text_6 11 rfl rfl)
theorem dX5_text_151 : decode cX5_text 151 = .ok (.getfield 13, 3) := dk_180 0 13 (dk_at dksX5_text_6 12 rfl rfl)
theorem dX5_text_154 : decode cX5_text 154 = .ok (.bipush 36, 2) := dk_16 36 (dk_at dksX5_text_6 15 rfl rfl)
theorem dX5_text_156 : decode cX5_text 156 = .ok (.iaload, 1) := dk_46 (dk_at dksX5_text_6 17 rfl rfl)
theorem dX5_text_157 : decode cX5_text 157 = .ok (.ireturn, 1) := dk_172 (dk_at dksX5_text_6 18 rfl rfl)
abbrev cX5_entry : ByteArray := prog_9_method_23_code
def yX5_entry : MethodName := ⟨RX5, "entry", "(II)I"⟩
def dkwX5_entry_1 : List UInt8 := [180, 0, 83, 154, 0, 17, 42, 180, 0, 13, 16, 6, 27, 104, 28, 96, 46, 167, 0, 4, 3, 172]
abbrev dktX5_entry_1 : List UInt8 := dkwX5_entry_1 ++ []
def dkwX5_entry_0 : List UInt8 := [42, 42, 42, 180, 0, 13, 27, 28, 182, 0, 158, 153, 0, 7, 3, 167, 0, 4, 4, 181, 0, 83, 42]
abbrev dktX5_entry_0 : List UInt8 := dkwX5_entry_0 ++ dktX5_entry_1
theorem dksX5_entry_0 : cX5_entry.data.toList.drop 0 = dktX5_entry_0 := by decide +kernel
theorem dksX5_entry_1 : cX5_entry.data.toList.drop 23 = dktX5_entry_1 := dk_seg dksX5_entry_0 23 rfl rfl
theorem dX5_entry_0 : decode cX5_entry 0 = .ok (.aload_n 0, 1) := dk_42 (dk_at dksX5_entry_0 0 rfl rfl)
theorem dX5_entry_1 : decode cX5_entry 1 = .ok (.aload_n 0, 1) := dk_42 (dk_at dksX5_entry_0 1 rfl rfl)
theorem dX5_entry_2 : decode cX5_entry 2 = .ok (.aload_n 0, 1) := dk_42 (dk_at dksX5_entry_0 2 rfl rfl)
theorem dX5_entry_3 : decode cX5_entry 3 = .ok (.getfield 13, 3) := dk_180 0 13 (dk_at dksX5_entry_0 3 rfl rfl)
theorem dX5_entry_6 : decode cX5_entry 6 = .ok (.iload_n 1, 1) := dk_27 (dk_at dksX5_entry_0 6 rfl rfl)
theorem dX5_entry_7 : decode cX5_entry 7 = .ok (.iload_n 2, 1) := dk_28 (dk_at dksX5_entry_0 7 rfl rfl)
theorem dX5_entry_8 : decode cX5_entry 8 = .ok (.invokevirtual 158, 3) := dk_182 0 158 (dk_at dksX5_entry_0 8 rfl rfl)
theorem dX5_entry_11 : decode cX5_entry 11 = .ok (.ifCond .eq 7, 3) := dk_153 0 7 (dk_at dksX5_entry_0 11 rfl rfl)
theorem dX5_entry_14 : decode cX5_entry 14 = .ok (.iconst 0, 1) := dk_3 (dk_at dksX5_entry_0 14 rfl rfl)
theorem dX5_entry_15 : decode cX5_entry 15 = .ok (.goto 4, 3) := dk_167 0 4 (dk_at dksX5_entry_0 15 rfl rfl)
theorem dX5_entry_18 : decode cX5_entry 18 = .ok (.iconst 1, 1) := dk_4 (dk_at dksX5_entry_0 18 rfl rfl)
theorem dX5_entry_19 : decode cX5_entry 19 = .ok (.putfield 83, 3) := dk_181 0 83 (dk_at dksX5_entry_0 19 rfl rfl)
theorem dX5_entry_22 : decode cX5_entry 22 = .ok (.aload_n 0, 1) := dk_42 (dk_at dksX5_entry_0 22 rfl rfl)
theorem dX5_entry_23 : decode cX5_entry 23 = .ok (.getfield 83, 3) := dk_180 0 83 (dk_at dksX5_entry_1 0 rfl rfl)
theorem dX5_entry_26 : decode cX5_entry 26 = .ok (.ifCond .ne 17, 3) := dk_154 0 17 (dk_at dksX5_entry_1 3 rfl rfl)
theorem dX5_entry_29 : decode cX5_entry 29 = .ok (.aload_n 0, 1) := dk_42 (dk_at dksX5_entry_1 6 rfl rfl)
theorem dX5_entry_30 : decode cX5_entry 30 = .ok (.getfield 13, 3) := dk_180 0 13 (dk_at dksX5_entry_1 7 rfl rfl)
theorem dX5_entry_33 : decode cX5_entry 33 = .ok (.bipush 6, 2) := dk_16 6 (dk_at dksX5_entry_1 10 rfl rfl)
theorem dX5_entry_35 : decode cX5_entry 35 = .ok (.iload_n 1, 1) := dk_27 (dk_at dksX5_entry_1 12 rfl rfl)
theorem dX5_entry_36 : decode cX5_entry 36 = .ok (.imul, 1) := dk_104 (dk_at dksX5_entry_1 13 rfl rfl)
theorem dX5_entry_37 : decode cX5_entry 37 = .ok (.iload_n 2, 1) := dk_28 (dk_at dksX5_entry_1 14 rfl rfl)
theorem dX5_entry_38 : decode cX5_entry 38 = .ok (.iadd, 1) := dk_96 (dk_at dksX5_entry_1 15 rfl rfl)
theorem dX5_entry_39 : decode cX5_entry 39 = .ok (.iaload, 1) := dk_46 (dk_at dksX5_entry_1 16 rfl rfl)
theorem dX5_entry_40 : decode cX5_entry 40 = .ok (.goto 4, 3) := dk_167 0 4 (dk_at dksX5_entry_1 17 rfl rfl)
theorem dX5_entry_43 : decode cX5_entry 43 = .ok (.iconst 0, 1) := dk_3 (dk_at dksX5_entry_1 20 rfl rfl)
theorem dX5_entry_44 : decode cX5_entry 44 = .ok (.ireturn, 1) := dk_172 (dk_at dksX5_entry_1 21 rfl rfl)
abbrev cX5_isCell : ByteArray := prog_9_method_22_code
def yX5_isCell : MethodName := ⟨RX5, "isCell", "([III)Z"⟩
def dkwX5_isCell_1 : List UInt8 := [4, 167, 0, 4, 3, 172]
abbrev dktX5_isCell_1 : List UInt8 := dkwX5_isCell_1 ++ []
def dkwX5_isCell_0 : List UInt8 := [28, 155, 0, 27, 28, 43, 16, 36, 46, 162, 0, 19, 29, 155, 0, 15, 29, 43, 16, 37, 46, 162, 0, 7]
abbrev dktX5_isCell_0 : List UInt8 := dkwX5_isCell_0 ++ dktX5_isCell_1
theorem dksX5_isCell_0 : cX5_isCell.data.toList.drop 0 = dktX5_isCell_0 := by decide +kernel
theorem dksX5_isCell_1 : cX5_isCell.data.toList.drop 24 = dktX5_isCell_1 := dk_seg dksX5_isCell_0 24 rfl rfl
theorem dX5_isCell_0 : decode cX5_isCell 0 = .ok (.iload_n 2, 1) := dk_28 (dk_at dksX5_isCell_0 0 rfl rfl)
theorem dX5_isCell_1 : decode cX5_isCell 1 = .ok (.ifCond .lt 27, 3) := dk_155 0 27 (dk_at dksX5_isCell_0 1 rfl rfl)
theorem dX5_isCell_4 : decode cX5_isCell 4 = .ok (.iload_n 2, 1) := dk_28 (dk_at dksX5_isCell_0 4 rfl rfl)
theorem dX5_isCell_5 : decode cX5_isCell 5 = .ok (.aload_n 1, 1) := dk_43 (dk_at dksX5_isCell_0 5 rfl rfl)
theorem dX5_isCell_6 : decode cX5_isCell 6 = .ok (.bipush 36, 2) := dk_16 36 (dk_at dksX5_isCell_0 6 rfl rfl)
theorem dX5_isCell_8 : decode cX5_isCell 8 = .ok (.iaload, 1) := dk_46 (dk_at dksX5_isCell_0 8 rfl rfl)
theorem dX5_isCell_9 : decode cX5_isCell 9 = .ok (.if_icmp .ge 19, 3) := dk_162 0 19 (dk_at dksX5_isCell_0 9 rfl rfl)
theorem dX5_isCell_12 : decode cX5_isCell 12 = .ok (.iload_n 3, 1) := dk_29 (dk_at dksX5_isCell_0 12 rfl rfl)
theorem dX5_isCell_13 : decode cX5_isCell 13 = .ok (.ifCond .lt 15, 3) := dk_155 0 15 (dk_at dksX5_isCell_0 13 rfl rfl)
theorem dX5_isCell_16 : decode cX5_isCell 16 = .ok (.iload_n 3, 1) := dk_29 (dk_at dksX5_isCell_0 16 rfl rfl)
theorem dX5_isCell_17 : decode cX5_isCell 17 = .ok (.aload_n 1, 1) := dk_43 (dk_at dksX5_isCell_0 17 rfl rfl)
theorem dX5_isCell_18 : decode cX5_isCell 18 = .ok (.bipush 37, 2) := dk_16 37 (dk_at dksX5_isCell_0 18 rfl rfl)
theorem dX5_isCell_20 : decode cX5_isCell 20 = .ok (.iaload, 1) := dk_46 (dk_at dksX5_isCell_0 20 rfl rfl)
theorem dX5_isCell_21 : decode cX5_isCell 21 = .ok (.if_icmp .ge 7, 3) := dk_162 0 7 (dk_at dksX5_isCell_0 21 rfl rfl)
theorem dX5_isCell_24 : decode cX5_isCell 24 = .ok (.iconst 1, 1) := dk_4 (dk_at dksX5_isCell_1 0 rfl rfl)
theorem dX5_isCell_25 : decode cX5_isCell 25 = .ok (.goto 4, 3) := dk_167 0 4 (dk_at dksX5_isCell_1 1 rfl rfl)
theorem dX5_isCell_28 : decode cX5_isCell 28 = .ok (.iconst 0, 1) := dk_3 (dk_at dksX5_isCell_1 4 rfl rfl)
theorem dX5_isCell_29 : decode cX5_isCell 29 = .ok (.ireturn, 1) := dk_172 (dk_at dksX5_isCell_1 5 rfl rfl)
abbrev cX5_change : ByteArray := prog_9_method_26_code
def yX5_change : MethodName := ⟨RX5, "change", "(III)I"⟩
def dkwX5_change_4 : List UInt8 := [16, 6, 27, 104, 28, 96, 46, 54, 5, 42, 180, 0, 13, 16, 6, 27, 104, 28, 96, 29, 79, 21, 5, 172]
abbrev dktX5_change_4 : List UInt8 := dkwX5_change_4 ++ []
def dkwX5_change_3 : List UInt8 := [2, 159, 0, 14, 42, 21, 4, 182, 0, 164, 54, 5, 18, 133, 172, 42, 182, 0, 167, 42, 180, 0, 13]
abbrev dktX5_change_3 : List UInt8 := dkwX5_change_3 ++ dktX5_change_4
def dkwX5_change_2 : List UInt8 := [42, 180, 0, 13, 16, 6, 27, 104, 28, 96, 46, 29, 160, 0, 7, 5, 167, 0, 4, 2, 54, 4, 21, 4]
abbrev dktX5_change_2 : List UInt8 := dkwX5_change_2 ++ dktX5_change_3
def dkwX5_change_1 : List UInt8 := [27, 28, 182, 0, 158, 153, 0, 15, 29, 133, 20, 0, 162, 10, 184, 0, 140, 154, 0, 7, 4, 167, 0, 23]
abbrev dktX5_change_1 : List UInt8 := dkwX5_change_1 ++ dktX5_change_2
def dkwX5_change_0 : List UInt8 := [42, 3, 181, 0, 83, 42, 180, 0, 13, 16, 36, 46, 154, 0, 7, 3, 167, 0, 52, 42, 42, 180, 0, 13]
abbrev dktX5_change_0 : List UInt8 := dkwX5_change_0 ++ dktX5_change_1
theorem dksX5_change_0 : cX5_change.data.toList.drop 0 = dktX5_change_0 := by decide +kernel
theorem dksX5_change_1 : cX5_change.data.toList.drop 24 = dktX5_change_1 := dk_seg dksX5_change_0 24 rfl rfl
theorem dksX5_change_2 : cX5_change.data.toList.drop 48 = dktX5_change_2 := dk_seg dksX5_change_1 24 rfl rfl
theorem dksX5_change_3 : cX5_change.data.toList.drop 72 = dktX5_change_3 := dk_seg dksX5_change_2 24 rfl rfl
theorem dksX5_change_4 : cX5_change.data.toList.drop 95 = dktX5_change_4 := dk_seg dksX5_change_3 23 rfl rfl
theorem dX5_change_0 : decode cX5_change 0 = .ok (.aload_n 0, 1) := dk_42 (dk_at dksX5_change_0 0 rfl rfl)
theorem dX5_change_1 : decode cX5_change 1 = .ok (.iconst 0, 1) := dk_3 (dk_at dksX5_change_0 1 rfl rfl)
theorem dX5_change_2 : decode cX5_change 2 = .ok (.putfield 83, 3) := dk_181 0 83 (dk_at dksX5_change_0 2 rfl rfl)
theorem dX5_change_5 : decode cX5_change 5 = .ok (.aload_n 0, 1) := dk_42 (dk_at dksX5_change_0 5 rfl rfl)
theorem dX5_change_6 : decode cX5_change 6 = .ok (.getfield 13, 3) := dk_180 0 13 (dk_at dksX5_change_0 6 rfl rfl)
theorem dX5_change_9 : decode cX5_change 9 = .ok (.bipush 36, 2) := dk_16 36 (dk_at dksX5_change_0 9 rfl rfl)
theorem dX5_change_11 : decode cX5_change 11 = .ok (.iaload, 1) := dk_46 (dk_at dksX5_change_0 11 rfl rfl)
theorem dX5_change_12 : decode cX5_change 12 = .ok (.ifCond .ne 7, 3) := dk_154 0 7 (dk_at dksX5_change_0 12 rfl rfl)
theorem dX5_change_15 : decode cX5_change 15 = .ok (.iconst 0, 1) := dk_3 (dk_at dksX5_change_0 15 rfl rfl)
theorem dX5_change_16 : decode cX5_change 16 = .ok (.goto 52, 3) := dk_167 0 52 (dk_at dksX5_change_0 16 rfl rfl)
theorem dX5_change_19 : decode cX5_change 19 = .ok (.aload_n 0, 1) := dk_42 (dk_at dksX5_change_0 19 rfl rfl)
theorem dX5_change_20 : decode cX5_change 20 = .ok (.aload_n 0, 1) := dk_42 (dk_at dksX5_change_0 20 rfl rfl)
theorem dX5_change_21 : decode cX5_change 21 = .ok (.getfield 13, 3) := dk_180 0 13 (dk_at dksX5_change_0 21 rfl rfl)
theorem dX5_change_24 : decode cX5_change 24 = .ok (.iload_n 1, 1) := dk_27 (dk_at dksX5_change_1 0 rfl rfl)
theorem dX5_change_25 : decode cX5_change 25 = .ok (.iload_n 2, 1) := dk_28 (dk_at dksX5_change_1 1 rfl rfl)
theorem dX5_change_26 : decode cX5_change 26 = .ok (.invokevirtual 158, 3) := dk_182 0 158 (dk_at dksX5_change_1 2 rfl rfl)
theorem dX5_change_29 : decode cX5_change 29 = .ok (.ifCond .eq 15, 3) := dk_153 0 15 (dk_at dksX5_change_1 5 rfl rfl)
theorem dX5_change_32 : decode cX5_change 32 = .ok (.iload_n 3, 1) := dk_29 (dk_at dksX5_change_1 8 rfl rfl)
theorem dX5_change_33 : decode cX5_change 33 = .ok (.i2l, 1) := dk_133 (dk_at dksX5_change_1 9 rfl rfl)
theorem dX5_change_34 : decode cX5_change 34 = .ok (.ldc2_w 162, 3) := dk_20 0 162 (dk_at dksX5_change_1 10 rfl rfl)
theorem dX5_change_37 : decode cX5_change 37 = .ok (.lconst 1, 1) := dk_10 (dk_at dksX5_change_1 13 rfl rfl)
theorem dX5_change_38 : decode cX5_change 38 = .ok (.invokestatic 140, 3) := dk_184 0 140 (dk_at dksX5_change_1 14 rfl rfl)
theorem dX5_change_41 : decode cX5_change 41 = .ok (.ifCond .ne 7, 3) := dk_154 0 7 (dk_at dksX5_change_1 17 rfl rfl)
theorem dX5_change_44 : decode cX5_change 44 = .ok (.iconst 1, 1) := dk_4 (dk_at dksX5_change_1 20 rfl rfl)
theorem dX5_change_45 : decode cX5_change 45 = .ok (.goto 23, 3) := dk_167 0 23 (dk_at dksX5_change_1 21 rfl rfl)
theorem dX5_change_48 : decode cX5_change 48 = .ok (.aload_n 0, 1) := dk_42 (dk_at dksX5_change_2 0 rfl rfl)
theorem dX5_change_49 : decode cX5_change 49 = .ok (.getfield 13, 3) := dk_180 0 13 (dk_at dksX5_change_2 1 rfl rfl)
theorem dX5_change_52 : decode cX5_change 52 = .ok (.bipush 6, 2) := dk_16 6 (dk_at dksX5_change_2 4 rfl rfl)
theorem dX5_change_54 : decode cX5_change 54 = .ok (.iload_n 1, 1) := dk_27 (dk_at dksX5_change_2 6 rfl rfl)
theorem dX5_change_55 : decode cX5_change 55 = .ok (.imul, 1) := dk_104 (dk_at dksX5_change_2 7 rfl rfl)
theorem dX5_change_56 : decode cX5_change 56 = .ok (.iload_n 2, 1) := dk_28 (dk_at dksX5_change_2 8 rfl rfl)
theorem dX5_change_57 : decode cX5_change 57 = .ok (.iadd, 1) := dk_96 (dk_at dksX5_change_2 9 rfl rfl)
theorem dX5_change_58 : decode cX5_change 58 = .ok (.iaload, 1) := dk_46 (dk_at dksX5_change_2 10 rfl rfl)
theorem dX5_change_59 : decode cX5_change 59 = .ok (.iload_n 3, 1) := dk_29 (dk_at dksX5_change_2 11 rfl rfl)
theorem dX5_change_60 : decode cX5_change 60 = .ok (.if_icmp .ne 7, 3) := dk_160 0 7 (dk_at dksX5_change_2 12 rfl rfl)
theorem dX5_change_63 : decode cX5_change 63 = .ok (.iconst 2, 1) := dk_5 (dk_at dksX5_change_2 15 rfl rfl)
theorem dX5_change_64 : decode cX5_change 64 = .ok (.goto 4, 3) := dk_167 0 4 (dk_at dksX5_change_2 16 rfl rfl)
theorem dX5_change_67 : decode cX5_change 67 = .ok (.iconst (-1), 1) := dk_2 (dk_at dksX5_change_2 19 rfl rfl)
theorem dX5_change_68 : decode cX5_change 68 = .ok (.istore 4, 2) := dk_54 4 (dk_at dksX5_change_2 20 rfl rfl)
theorem dX5_change_70 : decode cX5_change 70 = .ok (.iload 4, 2) := dk_21 4 (dk_at dksX5_change_2 22 rfl rfl)
theorem dX5_change_72 : decode cX5_change 72 = .ok (.iconst (-1), 1) := dk_2 (dk_at dksX5_change_3 0 rfl rfl)
theorem dX5_change_73 : decode cX5_change 73 = .ok (.if_icmp .eq 14, 3) := dk_159 0 14 (dk_at dksX5_change_3 1 rfl rfl)
theorem dX5_change_76 : decode cX5_change 76 = .ok (.aload_n 0, 1) := dk_42 (dk_at dksX5_change_3 4 rfl rfl)
theorem dX5_change_77 : decode cX5_change 77 = .ok (.iload 4, 2) := dk_21 4 (dk_at dksX5_change_3 5 rfl rfl)
theorem dX5_change_79 : decode cX5_change 79 = .ok (.invokevirtual 164, 3) := dk_182 0 164 (dk_at dksX5_change_3 7 rfl rfl)
theorem dX5_change_82 : decode cX5_change 82 = .ok (.istore 5, 2) := dk_54 5 (dk_at dksX5_change_3 10 rfl rfl)
theorem dX5_change_84 : decode cX5_change 84 = .ok (.ldc 133, 2) := dk_18 133 (dk_at dksX5_change_3 12 rfl rfl)
theorem dX5_change_86 : decode cX5_change 86 = .ok (.ireturn, 1) := dk_172 (dk_at dksX5_change_3 14 rfl rfl)
theorem dX5_change_87 : decode cX5_change 87 = .ok (.aload_n 0, 1) := dk_42 (dk_at dksX5_change_3 15 rfl rfl)
theorem dX5_change_88 : decode cX5_change 88 = .ok (.invokevirtual 167, 3) := dk_182 0 167 (dk_at dksX5_change_3 16 rfl rfl)
theorem dX5_change_91 : decode cX5_change 91 = .ok (.aload_n 0, 1) := dk_42 (dk_at dksX5_change_3 19 rfl rfl)
theorem dX5_change_92 : decode cX5_change 92 = .ok (.getfield 13, 3) := dk_180 0 13 (dk_at dksX5_change_3 20 rfl rfl)
theorem dX5_change_95 : decode cX5_change 95 = .ok (.bipush 6, 2) := dk_16 6 (dk_at dksX5_change_4 0 rfl rfl)
theorem dX5_change_97 : decode cX5_change 97 = .ok (.iload_n 1, 1) := dk_27 (dk_at dksX5_change_4 2 rfl rfl)
theorem dX5_change_98 : decode cX5_change 98 = .ok (.imul, 1) := dk_104 (dk_at dksX5_change_4 3 rfl rfl)
theorem dX5_change_99 : decode cX5_change 99 = .ok (.iload_n 2, 1) := dk_28 (dk_at dksX5_change_4 4 rfl rfl)
theorem dX5_change_100 : decode cX5_change 100 = .ok (.iadd, 1) := dk_96 (dk_at dksX5_change_4 5 rfl rfl)
theorem dX5_change_101 : decode cX5_change 101 = .ok (.iaload, 1) := dk_46 (dk_at dksX5_change_4 6 rfl rfl)
theorem dX5_change_102 : decode cX5_change 102 = .ok (.istore 5, 2) := dk_54 5 (dk_at dksX5_change_4 7 rfl rfl)
theorem dX5_change_104 : decode cX5_change 104 = .ok (.aload_n 0, 1) := dk_42 (dk_at dksX5_change_4 9 rfl rfl)
theorem dX5_change_105 : decode cX5_change 105 = .ok (.getfield 13, 3) := dk_180 0 13 (dk_at dksX5_change_4 10 rfl rfl)
theorem dX5_change_108 : decode cX5_change 108 = .ok (.bipush 6, 2) := dk_16 6 (dk_at dksX5_change_4 13 rfl rfl)
theorem dX5_change_110 : decode cX5_change 110 = .ok (.iload_n 1, 1) := dk_27 (dk_at dksX5_change_4 15 rfl rfl)
theorem dX5_change_111 : decode cX5_change 111 = .ok (.imul, 1) := dk_104 (dk_at dksX5_change_4 16 rfl rfl)
theorem dX5_change_112 : decode cX5_change 112 = .ok (.iload_n 2, 1) := dk_28 (dk_at dksX5_change_4 17 rfl rfl)
theorem dX5_change_113 : decode cX5_change 113 = .ok (.iadd, 1) := dk_96 (dk_at dksX5_change_4 18 rfl rfl)
theorem dX5_change_114 : decode cX5_change 114 = .ok (.iload_n 3, 1) := dk_29 (dk_at dksX5_change_4 19 rfl rfl)
theorem dX5_change_115 : decode cX5_change 115 = .ok (.iastore, 1) := dk_79 (dk_at dksX5_change_4 20 rfl rfl)
theorem dX5_change_116 : decode cX5_change 116 = .ok (.iload 5, 2) := dk_21 5 (dk_at dksX5_change_4 21 rfl rfl)
theorem dX5_change_118 : decode cX5_change 118 = .ok (.ireturn, 1) := dk_172 (dk_at dksX5_change_4 23 rfl rfl)
abbrev cX5_refused : ByteArray := prog_9_method_25_code
def yX5_refused : MethodName := ⟨RX5, "refused", "(I)I"⟩
def dkwX5_refused_0 : List UInt8 := [42, 180, 0, 32, 27, 92, 46, 4, 96, 79, 2, 172]
abbrev dktX5_refused_0 : List UInt8 := dkwX5_refused_0 ++ []
theorem dksX5_refused_0 : cX5_refused.data.toList.drop 0 = dktX5_refused_0 := by decide +kernel
theorem dX5_refused_0 : decode cX5_refused 0 = .ok (.aload_n 0, 1) := dk_42 (dk_at dksX5_refused_0 0 rfl rfl)
theorem dX5_refused_1 : decode cX5_refused 1 = .ok (.getfield 32, 3) := dk_180 0 32 (dk_at dksX5_refused_0 1 rfl rfl)
theorem dX5_refused_4 : decode cX5_refused 4 = .ok (.iload_n 1, 1) := dk_27 (dk_at dksX5_refused_0 4 rfl rfl)
theorem dX5_refused_5 : decode cX5_refused 5 = .ok (.dup2, 1) := dk_92 (dk_at dksX5_refused_0 5 rfl rfl)
theorem dX5_refused_6 : decode cX5_refused 6 = .ok (.iaload, 1) := dk_46 (dk_at dksX5_refused_0 6 rfl rfl)
theorem dX5_refused_7 : decode cX5_refused 7 = .ok (.iconst 1, 1) := dk_4 (dk_at dksX5_refused_0 7 rfl rfl)
theorem dX5_refused_8 : decode cX5_refused 8 = .ok (.iadd, 1) := dk_96 (dk_at dksX5_refused_0 8 rfl rfl)
theorem dX5_refused_9 : decode cX5_refused 9 = .ok (.iastore, 1) := dk_79 (dk_at dksX5_refused_0 9 rfl rfl)
theorem dX5_refused_10 : decode cX5_refused 10 = .ok (.iconst (-1), 1) := dk_2 (dk_at dksX5_refused_0 10 rfl rfl)
theorem dX5_refused_11 : decode cX5_refused 11 = .ok (.ireturn, 1) := dk_172 (dk_at dksX5_refused_0 11 rfl rfl)
abbrev cX5_remember : ByteArray := prog_9_method_24_code
def yX5_remember : MethodName := ⟨RX5, "remember", "()V"⟩
def dkwX5_remember_3 : List UInt8 := [42, 180, 0, 13, 27, 46, 79, 132, 1, 1, 167, 255, 227, 42, 89, 180, 0, 155, 4, 96, 181, 0, 155, 177]
abbrev dktX5_remember_3 : List UInt8 := dkwX5_remember_3 ++ []
def dkwX5_remember_2 : List UInt8 := [181, 0, 155, 3, 60, 27, 16, 38, 162, 0, 29, 42, 180, 0, 35, 16, 38, 42, 180, 0, 155, 104, 27, 96]
abbrev dktX5_remember_2 : List UInt8 := dkwX5_remember_2 ++ dktX5_remember_3
def dkwX5_remember_1 : List UInt8 := [180, 0, 35, 27, 16, 38, 96, 46, 79, 132, 1, 1, 167, 255, 231, 42, 89, 180, 0, 155, 4, 100]
abbrev dktX5_remember_1 : List UInt8 := dkwX5_remember_1 ++ dktX5_remember_2
def dkwX5_remember_0 : List UInt8 := [42, 180, 0, 155, 16, 40, 160, 0, 43, 3, 60, 27, 17, 5, 202, 162, 0, 24, 42, 180, 0, 35, 27, 42]
abbrev dktX5_remember_0 : List UInt8 := dkwX5_remember_0 ++ dktX5_remember_1
theorem dksX5_remember_0 : cX5_remember.data.toList.drop 0 = dktX5_remember_0 := by decide +kernel
theorem dksX5_remember_1 : cX5_remember.data.toList.drop 24 = dktX5_remember_1 := dk_seg dksX5_remember_0 24 rfl rfl
theorem dksX5_remember_2 : cX5_remember.data.toList.drop 46 = dktX5_remember_2 := dk_seg dksX5_remember_1 22 rfl rfl
theorem dksX5_remember_3 : cX5_remember.data.toList.drop 70 = dktX5_remember_3 := dk_seg dksX5_remember_2 24 rfl rfl
theorem dX5_remember_0 : decode cX5_remember 0 = .ok (.aload_n 0, 1) := dk_42 (dk_at dksX5_remember_0 0 rfl rfl)
theorem dX5_remember_1 : decode cX5_remember 1 = .ok (.getfield 155, 3) := dk_180 0 155 (dk_at dksX5_remember_0 1 rfl rfl)
theorem dX5_remember_4 : decode cX5_remember 4 = .ok (.bipush 40, 2) := dk_16 40 (dk_at dksX5_remember_0 4 rfl rfl)
theorem dX5_remember_6 : decode cX5_remember 6 = .ok (.if_icmp .ne 43, 3) := dk_160 0 43 (dk_at dksX5_remember_0 6 rfl rfl)
theorem dX5_remember_9 : decode cX5_remember 9 = .ok (.iconst 0, 1) := dk_3 (dk_at dksX5_remember_0 9 rfl rfl)
theorem dX5_remember_10 : decode cX5_remember 10 = .ok (.istore_n 1, 1) := dk_60 (dk_at dksX5_remember_0 10 rfl rfl)
theorem dX5_remember_11 : decode cX5_remember 11 = .ok (.iload_n 1, 1) := dk_27 (dk_at dksX5_remember_0 11 rfl rfl)
theorem dX5_remember_12 : decode cX5_remember 12 = .ok (.sipush 1482, 3) := dk_17 5 202 (dk_at dksX5_remember_0 12 rfl rfl)
theorem dX5_remember_15 : decode cX5_remember 15 = .ok (.if_icmp .ge 24, 3) := dk_162 0 24 (dk_at dksX5_remember_0 15 rfl rfl)
theorem dX5_remember_18 : decode cX5_remember 18 = .ok (.aload_n 0, 1) := dk_42 (dk_at dksX5_remember_0 18 rfl rfl)
theorem dX5_remember_19 : decode cX5_remember 19 = .ok (.getfield 35, 3) := dk_180 0 35 (dk_at dksX5_remember_0 19 rfl rfl)
theorem dX5_remember_22 : decode cX5_remember 22 = .ok (.iload_n 1, 1) := dk_27 (dk_at dksX5_remember_0 22 rfl rfl)
theorem dX5_remember_23 : decode cX5_remember 23 = .ok (.aload_n 0, 1) := dk_42 (dk_at dksX5_remember_0 23 rfl rfl)
theorem dX5_remember_24 : decode cX5_remember 24 = .ok (.getfield 35, 3) := dk_180 0 35 (dk_at dksX5_remember_1 0 rfl rfl)
theorem dX5_remember_27 : decode cX5_remember 27 = .ok (.iload_n 1, 1) := dk_27 (dk_at dksX5_remember_1 3 rfl rfl)
theorem dX5_remember_28 : decode cX5_remember 28 = .ok (.bipush 38, 2) := dk_16 38 (dk_at dksX5_remember_1 4 rfl rfl)
theorem dX5_remember_30 : decode cX5_remember 30 = .ok (.iadd, 1) := dk_96 (dk_at dksX5_remember_1 6 rfl rfl)
theorem dX5_remember_31 : decode cX5_remember 31 = .ok (.iaload, 1) := dk_46 (dk_at dksX5_remember_1 7 rfl rfl)
theorem dX5_remember_32 : decode cX5_remember 32 = .ok (.iastore, 1) := dk_79 (dk_at dksX5_remember_1 8 rfl rfl)
theorem dX5_remember_33 : decode cX5_remember 33 = .ok (.iinc 1 1, 3) := dk_132 1 1 (dk_at dksX5_remember_1 9 rfl rfl)
theorem dX5_remember_36 : decode cX5_remember 36 = .ok (.goto (-25), 3) := dk_167 255 231 (dk_at dksX5_remember_1 12 rfl rfl)
theorem dX5_remember_39 : decode cX5_remember 39 = .ok (.aload_n 0, 1) := dk_42 (dk_at dksX5_remember_1 15 rfl rfl)
theorem dX5_remember_40 : decode cX5_remember 40 = .ok (.dup, 1) := dk_89 (dk_at dksX5_remember_1 16 rfl rfl)
theorem dX5_remember_41 : decode cX5_remember 41 = .ok (.getfield 155, 3) := dk_180 0 155 (dk_at dksX5_remember_1 17 rfl rfl)
theorem dX5_remember_44 : decode cX5_remember 44 = .ok (.iconst 1, 1) := dk_4 (dk_at dksX5_remember_1 20 rfl rfl)
theorem dX5_remember_45 : decode cX5_remember 45 = .ok (.isub, 1) := dk_100 (dk_at dksX5_remember_1 21 rfl rfl)
theorem dX5_remember_46 : decode cX5_remember 46 = .ok (.putfield 155, 3) := dk_181 0 155 (dk_at dksX5_remember_2 0 rfl rfl)
theorem dX5_remember_49 : decode cX5_remember 49 = .ok (.iconst 0, 1) := dk_3 (dk_at dksX5_remember_2 3 rfl rfl)
theorem dX5_remember_50 : decode cX5_remember 50 = .ok (.istore_n 1, 1) := dk_60 (dk_at dksX5_remember_2 4 rfl rfl)
theorem dX5_remember_51 : decode cX5_remember 51 = .ok (.iload_n 1, 1) := dk_27 (dk_at dksX5_remember_2 5 rfl rfl)
theorem dX5_remember_52 : decode cX5_remember 52 = .ok (.bipush 38, 2) := dk_16 38 (dk_at dksX5_remember_2 6 rfl rfl)
theorem dX5_remember_54 : decode cX5_remember 54 = .ok (.if_icmp .ge 29, 3) := dk_162 0 29 (dk_at dksX5_remember_2 8 rfl rfl)
theorem dX5_remember_57 : decode cX5_remember 57 = .ok (.aload_n 0, 1) := dk_42 (dk_at dksX5_remember_2 11 rfl rfl)
theorem dX5_remember_58 : decode cX5_remember 58 = .ok (.getfield 35, 3) := dk_180 0 35 (dk_at dksX5_remember_2 12 rfl rfl)
theorem dX5_remember_61 : decode cX5_remember 61 = .ok (.bipush 38, 2) := dk_16 38 (dk_at dksX5_remember_2 15 rfl rfl)
theorem dX5_remember_63 : decode cX5_remember 63 = .ok (.aload_n 0, 1) := dk_42 (dk_at dksX5_remember_2 17 rfl rfl)
theorem dX5_remember_64 : decode cX5_remember 64 = .ok (.getfield 155, 3) := dk_180 0 155 (dk_at dksX5_remember_2 18 rfl rfl)
theorem dX5_remember_67 : decode cX5_remember 67 = .ok (.imul, 1) := dk_104 (dk_at dksX5_remember_2 21 rfl rfl)
theorem dX5_remember_68 : decode cX5_remember 68 = .ok (.iload_n 1, 1) := dk_27 (dk_at dksX5_remember_2 22 rfl rfl)
theorem dX5_remember_69 : decode cX5_remember 69 = .ok (.iadd, 1) := dk_96 (dk_at dksX5_remember_2 23 rfl rfl)
theorem dX5_remember_70 : decode cX5_remember 70 = .ok (.aload_n 0, 1) := dk_42 (dk_at dksX5_remember_3 0 rfl rfl)
theorem dX5_remember_71 : decode cX5_remember 71 = .ok (.getfield 13, 3) := dk_180 0 13 (dk_at dksX5_remember_3 1 rfl rfl)
theorem dX5_remember_74 : decode cX5_remember 74 = .ok (.iload_n 1, 1) := dk_27 (dk_at dksX5_remember_3 4 rfl rfl)
theorem dX5_remember_75 : decode cX5_remember 75 = .ok (.iaload, 1) := dk_46 (dk_at dksX5_remember_3 5 rfl rfl)
theorem dX5_remember_76 : decode cX5_remember 76 = .ok (.iastore, 1) := dk_79 (dk_at dksX5_remember_3 6 rfl rfl)
theorem dX5_remember_77 : decode cX5_remember 77 = .ok (.iinc 1 1, 3) := dk_132 1 1 (dk_at dksX5_remember_3 7 rfl rfl)
theorem dX5_remember_80 : decode cX5_remember 80 = .ok (.goto (-29), 3) := dk_167 255 227 (dk_at dksX5_remember_3 10 rfl rfl)
theorem dX5_remember_83 : decode cX5_remember 83 = .ok (.aload_n 0, 1) := dk_42 (dk_at dksX5_remember_3 13 rfl rfl)
theorem dX5_remember_84 : decode cX5_remember 84 = .ok (.dup, 1) := dk_89 (dk_at dksX5_remember_3 14 rfl rfl)
theorem dX5_remember_85 : decode cX5_remember 85 = .ok (.getfield 155, 3) := dk_180 0 155 (dk_at dksX5_remember_3 15 rfl rfl)
theorem dX5_remember_88 : decode cX5_remember 88 = .ok (.iconst 1, 1) := dk_4 (dk_at dksX5_remember_3 18 rfl rfl)
theorem dX5_remember_89 : decode cX5_remember 89 = .ok (.iadd, 1) := dk_96 (dk_at dksX5_remember_3 19 rfl rfl)
theorem dX5_remember_90 : decode cX5_remember 90 = .ok (.putfield 155, 3) := dk_181 0 155 (dk_at dksX5_remember_3 20 rfl rfl)
theorem dX5_remember_93 : decode cX5_remember 93 = .ok (.return_, 1) := dk_177 (dk_at dksX5_remember_3 23 rfl rfl)
abbrev cX5_deal : ByteArray := prog_9_method_31_code
def yX5_deal : MethodName := ⟨RX5, "deal", "(III)I"⟩
def dkwX5_deal_2 : List UInt8 := [180, 0, 155, 172]
abbrev dktX5_deal_2 : List UInt8 := dkwX5_deal_2 ++ []
def dkwX5_deal_1 : List UInt8 := [42, 21, 4, 182, 0, 164, 172, 42, 182, 0, 167, 42, 42, 180, 0, 13, 27, 28, 29, 182, 0, 185, 42]
abbrev dktX5_deal_1 : List UInt8 := dkwX5_deal_1 ++ dktX5_deal_2
def dkwX5_deal_0 : List UInt8 := [42, 3, 181, 0, 83, 42, 42, 180, 0, 13, 27, 28, 29, 182, 0, 181, 54, 4, 21, 4, 2, 159, 0, 10]
abbrev dktX5_deal_0 : List UInt8 := dkwX5_deal_0 ++ dktX5_deal_1
theorem dksX5_deal_0 : cX5_deal.data.toList.drop 0 = dktX5_deal_0 := by decide +kernel
theorem dksX5_deal_1 : cX5_deal.data.toList.drop 24 = dktX5_deal_1 := dk_seg dksX5_deal_0 24 rfl rfl
theorem dksX5_deal_2 : cX5_deal.data.toList.drop 47 = dktX5_deal_2 := dk_seg dksX5_deal_1 23 rfl rfl
theorem dX5_deal_0 : decode cX5_deal 0 = .ok (.aload_n 0, 1) := dk_42 (dk_at dksX5_deal_0 0 rfl rfl)
theorem dX5_deal_1 : decode cX5_deal 1 = .ok (.iconst 0, 1) := dk_3 (dk_at dksX5_deal_0 1 rfl rfl)
theorem dX5_deal_2 : decode cX5_deal 2 = .ok (.putfield 83, 3) := dk_181 0 83 (dk_at dksX5_deal_0 2 rfl rfl)
theorem dX5_deal_5 : decode cX5_deal 5 = .ok (.aload_n 0, 1) := dk_42 (dk_at dksX5_deal_0 5 rfl rfl)
theorem dX5_deal_6 : decode cX5_deal 6 = .ok (.aload_n 0, 1) := dk_42 (dk_at dksX5_deal_0 6 rfl rfl)
theorem dX5_deal_7 : decode cX5_deal 7 = .ok (.getfield 13, 3) := dk_180 0 13 (dk_at dksX5_deal_0 7 rfl rfl)
theorem dX5_deal_10 : decode cX5_deal 10 = .ok (.iload_n 1, 1) := dk_27 (dk_at dksX5_deal_0 10 rfl rfl)
theorem dX5_deal_11 : decode cX5_deal 11 = .ok (.iload_n 2, 1) := dk_28 (dk_at dksX5_deal_0 11 rfl rfl)
theorem dX5_deal_12 : decode cX5_deal 12 = .ok (.iload_n 3, 1) := dk_29 (dk_at dksX5_deal_0 12 rfl rfl)
theorem dX5_deal_13 : decode cX5_deal 13 = .ok (.invokevirtual 181, 3) := dk_182 0 181 (dk_at dksX5_deal_0 13 rfl rfl)
theorem dX5_deal_16 : decode cX5_deal 16 = .ok (.istore 4, 2) := dk_54 4 (dk_at dksX5_deal_0 16 rfl rfl)
theorem dX5_deal_18 : decode cX5_deal 18 = .ok (.iload 4, 2) := dk_21 4 (dk_at dksX5_deal_0 18 rfl rfl)
theorem dX5_deal_20 : decode cX5_deal 20 = .ok (.iconst (-1), 1) := dk_2 (dk_at dksX5_deal_0 20 rfl rfl)
theorem dX5_deal_21 : decode cX5_deal 21 = .ok (.if_icmp .eq 10, 3) := dk_159 0 10 (dk_at dksX5_deal_0 21 rfl rfl)
theorem dX5_deal_24 : decode cX5_deal 24 = .ok (.aload_n 0, 1) := dk_42 (dk_at dksX5_deal_1 0 rfl rfl)
theorem dX5_deal_25 : decode cX5_deal 25 = .ok (.iload 4, 2) := dk_21 4 (dk_at dksX5_deal_1 1 rfl rfl)
theorem dX5_deal_27 : decode cX5_deal 27 = .ok (.invokevirtual 164, 3) := dk_182 0 164 (dk_at dksX5_deal_1 3 rfl rfl)
theorem dX5_deal_30 : decode cX5_deal 30 = .ok (.ireturn, 1) := dk_172 (dk_at dksX5_deal_1 6 rfl rfl)
theorem dX5_deal_31 : decode cX5_deal 31 = .ok (.aload_n 0, 1) := dk_42 (dk_at dksX5_deal_1 7 rfl rfl)
theorem dX5_deal_32 : decode cX5_deal 32 = .ok (.invokevirtual 167, 3) := dk_182 0 167 (dk_at dksX5_deal_1 8 rfl rfl)
theorem dX5_deal_35 : decode cX5_deal 35 = .ok (.aload_n 0, 1) := dk_42 (dk_at dksX5_deal_1 11 rfl rfl)
theorem dX5_deal_36 : decode cX5_deal 36 = .ok (.aload_n 0, 1) := dk_42 (dk_at dksX5_deal_1 12 rfl rfl)
theorem dX5_deal_37 : decode cX5_deal 37 = .ok (.getfield 13, 3) := dk_180 0 13 (dk_at dksX5_deal_1 13 rfl rfl)
theorem dX5_deal_40 : decode cX5_deal 40 = .ok (.iload_n 1, 1) := dk_27 (dk_at dksX5_deal_1 16 rfl rfl)
theorem dX5_deal_41 : decode cX5_deal 41 = .ok (.iload_n 2, 1) := dk_28 (dk_at dksX5_deal_1 17 rfl rfl)
theorem dX5_deal_42 : decode cX5_deal 42 = .ok (.iload_n 3, 1) := dk_29 (dk_at dksX5_deal_1 18 rfl rfl)
theorem dX5_deal_43 : decode cX5_deal 43 = .ok (.invokevirtual 185, 3) := dk_182 0 185 (dk_at dksX5_deal_1 19 rfl rfl)
theorem dX5_deal_46 : decode cX5_deal 46 = .ok (.aload_n 0, 1) := dk_42 (dk_at dksX5_deal_1 22 rfl rfl)
theorem dX5_deal_47 : decode cX5_deal 47 = .ok (.getfield 155, 3) := dk_180 0 155 (dk_at dksX5_deal_2 0 rfl rfl)
theorem dX5_deal_50 : decode cX5_deal 50 = .ok (.ireturn, 1) := dk_172 (dk_at dksX5_deal_2 3 rfl rfl)
abbrev cX5_stops : ByteArray := prog_9_method_28_code
def yX5_stops : MethodName := ⟨RX5, "stops", "([IIII)I"⟩
def dkwX5_stops_11 : List UInt8 := [153, 0, 7, 2, 167, 0, 4, 6, 172, 2, 172, 4, 172]
abbrev dktX5_stops_11 : List UInt8 := dkwX5_stops_11 ++ []
def dkwX5_stops_10 : List UInt8 := [43, 16, 6, 29, 104, 21, 4, 96, 46, 154, 0, 7, 5, 167, 0, 19, 42, 43, 29, 21, 4, 182, 0, 174]
abbrev dktX5_stops_10 : List UInt8 := dkwX5_stops_10 ++ dktX5_stops_11
def dkwX5_stops_9 : List UInt8 := [160, 0, 7, 5, 167, 0, 4, 2, 172, 42, 43, 29, 21, 4, 182, 0, 158, 154, 0, 7, 4, 167, 0, 35]
abbrev dktX5_stops_9 : List UInt8 := dkwX5_stops_9 ++ dktX5_stops_10
def dkwX5_stops_8 : List UInt8 := [153, 0, 17, 21, 4, 155, 0, 12, 21, 4, 43, 16, 37, 46, 161, 0, 7, 4, 167, 0, 14, 29, 21, 4]
abbrev dktX5_stops_8 : List UInt8 := dkwX5_stops_8 ++ dktX5_stops_9
def dkwX5_stops_7 : List UInt8 := [16, 36, 46, 161, 0, 7, 4, 167, 0, 14, 29, 21, 4, 160, 0, 7, 5, 167, 0, 4, 2, 172, 21, 6]
abbrev dktX5_stops_7 : List UInt8 := dkwX5_stops_7 ++ dktX5_stops_8
def dkwX5_stops_6 : List UInt8 := [4, 160, 0, 7, 6, 167, 0, 4, 2, 172, 21, 5, 153, 0, 17, 21, 4, 155, 0, 12, 21, 4, 43]
abbrev dktX5_stops_6 : List UInt8 := dkwX5_stops_6 ++ dktX5_stops_7
def dkwX5_stops_5 : List UInt8 := [167, 0, 4, 2, 172, 21, 6, 154, 0, 7, 4, 167, 0, 22, 28, 16, 7, 160, 0, 15, 43, 16, 37, 46]
abbrev dktX5_stops_5 : List UInt8 := dkwX5_stops_5 ++ dktX5_stops_6
def dkwX5_stops_4 : List UInt8 := [21, 5, 154, 0, 7, 4, 167, 0, 22, 28, 16, 6, 160, 0, 15, 43, 16, 36, 46, 4, 160, 0, 7, 6]
abbrev dktX5_stops_4 : List UInt8 := dkwX5_stops_4 ++ dktX5_stops_5
def dkwX5_stops_3 : List UInt8 := [170, 0, 0, 0, 0, 0, 0, 226, 0, 0, 0, 0, 0, 0, 0, 7, 0, 0, 0, 48, 0, 0, 0, 77, 0, 0, 0, 106, 0, 0, 0, 141, 0, 0, 0, 176, 0, 0, 0, 224, 0, 0, 0, 48, 0, 0, 0, 77]
abbrev dktX5_stops_3 : List UInt8 := dkwX5_stops_3 ++ dktX5_stops_4
def dkwX5_stops_2 : List UInt8 := [54, 6, 28]
abbrev dktX5_stops_2 : List UInt8 := dkwX5_stops_2 ++ dktX5_stops_3
def dkwX5_stops_1 : List UInt8 := [167, 0, 4, 3, 54, 5, 29, 155, 0, 15, 29, 43, 16, 37, 46, 162, 0, 7, 4, 167, 0, 4, 3]
abbrev dktX5_stops_1 : List UInt8 := dkwX5_stops_1 ++ dktX5_stops_2
def dkwX5_stops_0 : List UInt8 := [43, 16, 36, 46, 154, 0, 5, 3, 172, 29, 155, 0, 15, 29, 43, 16, 36, 46, 162, 0, 7, 4]
abbrev dktX5_stops_0 : List UInt8 := dkwX5_stops_0 ++ dktX5_stops_1
theorem dksX5_stops_0 : cX5_stops.data.toList.drop 0 = dktX5_stops_0 := by decide +kernel
theorem dksX5_stops_1 : cX5_stops.data.toList.drop 22 = dktX5_stops_1 := dk_seg dksX5_stops_0 22 rfl rfl
theorem dksX5_stops_2 : cX5_stops.data.toList.drop 45 = dktX5_stops_2 := dk_seg dksX5_stops_1 23 rfl rfl
theorem dksX5_stops_3 : cX5_stops.data.toList.drop 48 = dktX5_stops_3 := dk_seg dksX5_stops_2 3 rfl rfl
theorem dksX5_stops_4 : cX5_stops.data.toList.drop 96 = dktX5_stops_4 := dk_seg dksX5_stops_3 48 rfl rfl
theorem dksX5_stops_5 : cX5_stops.data.toList.drop 120 = dktX5_stops_5 := dk_seg dksX5_stops_4 24 rfl rfl
theorem dksX5_stops_6 : cX5_stops.data.toList.drop 144 = dktX5_stops_6 := dk_seg dksX5_stops_5 24 rfl rfl
theorem dksX5_stops_7 : cX5_stops.data.toList.drop 167 = dktX5_stops_7 := dk_seg dksX5_stops_6 23 rfl rfl
theorem dksX5_stops_8 : cX5_stops.data.toList.drop 191 = dktX5_stops_8 := dk_seg dksX5_stops_7 24 rfl rfl
theorem dksX5_stops_9 : cX5_stops.data.toList.drop 215 = dktX5_stops_9 := dk_seg dksX5_stops_8 24 rfl rfl
theorem dksX5_stops_10 : cX5_stops.data.toList.drop 239 = dktX5_stops_10 := dk_seg dksX5_stops_9 24 rfl rfl
theorem dksX5_stops_11 : cX5_stops.data.toList.drop 263 = dktX5_stops_11 := dk_seg dksX5_stops_10 24 rfl rfl
theorem dX5_stops_0 : decode cX5_stops 0 = .ok (.aload_n 1, 1) := dk_43 (dk_at dksX5_stops_0 0 rfl rfl)
theorem dX5_stops_1 : decode cX5_stops 1 = .ok (.bipush 36, 2) := dk_16 36 (dk_at dksX5_stops_0 1 rfl rfl)
theorem dX5_stops_3 : decode cX5_stops 3 = .ok (.iaload, 1) := dk_46 (dk_at dksX5_stops_0 3 rfl rfl)
theorem dX5_stops_4 : decode cX5_stops 4 = .ok (.ifCond .ne 5, 3) := dk_154 0 5 (dk_at dksX5_stops_0 4 rfl rfl)
theorem dX5_stops_7 : decode cX5_stops 7 = .ok (.iconst 0, 1) := dk_3 (dk_at dksX5_stops_0 7 rfl rfl)
theorem dX5_stops_8 : decode cX5_stops 8 = .ok (.ireturn, 1) := dk_172 (dk_at dksX5_stops_0 8 rfl rfl)
theorem dX5_stops_9 : decode cX5_stops 9 = .ok (.iload_n 3, 1) := dk_29 (dk_at dksX5_stops_0 9 rfl rfl)
theorem dX5_stops_10 : decode cX5_stops 10 = .ok (.ifCond .lt 15, 3) := dk_155 0 15 (dk_at dksX5_stops_0 10 rfl rfl)
theorem dX5_stops_13 : decode cX5_stops 13 = .ok (.iload_n 3, 1) := dk_29 (dk_at dksX5_stops_0 13 rfl rfl)
theorem dX5_stops_14 : decode cX5_stops 14 = .ok (.aload_n 1, 1) := dk_43 (dk_at dksX5_stops_0 14 rfl rfl)
theorem dX5_stops_15 : decode cX5_stops 15 = .ok (.bipush 36, 2) := dk_16 36 (dk_at dksX5_stops_0 15 rfl rfl)
theorem dX5_stops_17 : decode cX5_stops 17 = .ok (.iaload, 1) := dk_46 (dk_at dksX5_stops_0 17 rfl rfl)
theorem dX5_stops_18 : decode cX5_stops 18 = .ok (.if_icmp .ge 7, 3) := dk_162 0 7 (dk_at dksX5_stops_0 18 rfl rfl)
theorem dX5_stops_21 : decode cX5_stops 21 = .ok (.iconst 1, 1) := dk_4 (dk_at dksX5_stops_0 21 rfl rfl)
theorem dX5_stops_22 : decode cX5_stops 22 = .ok (.goto 4, 3) := dk_167 0 4 (dk_at dksX5_stops_1 0 rfl rfl)
theorem dX5_stops_25 : decode cX5_stops 25 = .ok (.iconst 0, 1) := dk_3 (dk_at dksX5_stops_1 3 rfl rfl)
theorem dX5_stops_26 : decode cX5_stops 26 = .ok (.istore 5, 2) := dk_54 5 (dk_at dksX5_stops_1 4 rfl rfl)
theorem dX5_stops_28 : decode cX5_stops 28 = .ok (.iload_n 3, 1) := dk_29 (dk_at dksX5_stops_1 6 rfl rfl)
theorem dX5_stops_29 : decode cX5_stops 29 = .ok (.ifCond .lt 15, 3) := dk_155 0 15 (dk_at dksX5_stops_1 7 rfl rfl)
theorem dX5_stops_32 : decode cX5_stops 32 = .ok (.iload_n 3, 1) := dk_29 (dk_at dksX5_stops_1 10 rfl rfl)
theorem dX5_stops_33 : decode cX5_stops 33 = .ok (.aload_n 1, 1) := dk_43 (dk_at dksX5_stops_1 11 rfl rfl)
theorem dX5_stops_34 : decode cX5_stops 34 = .ok (.bipush 37, 2) := dk_16 37 (dk_at dksX5_stops_1 12 rfl rfl)
theorem dX5_stops_36 : decode cX5_stops 36 = .ok (.iaload, 1) := dk_46 (dk_at dksX5_stops_1 14 rfl rfl)
theorem dX5_stops_37 : decode cX5_stops 37 = .ok (.if_icmp .ge 7, 3) := dk_162 0 7 (dk_at dksX5_stops_1 15 rfl rfl)
theorem dX5_stops_40 : decode cX5_stops 40 = .ok (.iconst 1, 1) := dk_4 (dk_at dksX5_stops_1 18 rfl rfl)
theorem dX5_stops_41 : decode cX5_stops 41 = .ok (.goto 4, 3) := dk_167 0 4 (dk_at dksX5_stops_1 19 rfl rfl)
theorem dX5_stops_44 : decode cX5_stops 44 = .ok (.iconst 0, 1) := dk_3 (dk_at dksX5_stops_1 22 rfl rfl)
theorem dX5_stops_45 : decode cX5_stops 45 = .ok (.istore 6, 2) := dk_54 6 (dk_at dksX5_stops_2 0 rfl rfl)
theorem dX5_stops_47 : decode cX5_stops 47 = .ok (.iload_n 2, 1) := dk_28 (dk_at dksX5_stops_2 2 rfl rfl)
theorem dX5_stops_48 : decode cX5_stops 48 = .ok (.tableswitch 226 0 7 #[48, 77, 106, 141, 176, 224, 48, 77], 48) := by decide +kernel
theorem dX5_stops_96 : decode cX5_stops 96 = .ok (.iload 5, 2) := dk_21 5 (dk_at dksX5_stops_4 0 rfl rfl)
theorem dX5_stops_98 : decode cX5_stops 98 = .ok (.ifCond .ne 7, 3) := dk_154 0 7 (dk_at dksX5_stops_4 2 rfl rfl)
theorem dX5_stops_101 : decode cX5_stops 101 = .ok (.iconst 1, 1) := dk_4 (dk_at dksX5_stops_4 5 rfl rfl)
theorem dX5_stops_102 : decode cX5_stops 102 = .ok (.goto 22, 3) := dk_167 0 22 (dk_at dksX5_stops_4 6 rfl rfl)
theorem dX5_stops_105 : decode cX5_stops 105 = .ok (.iload_n 2, 1) := dk_28 (dk_at dksX5_stops_4 9 rfl rfl)
theorem dX5_stops_106 : decode cX5_stops 106 = .ok (.bipush 6, 2) := dk_16 6 (dk_at dksX5_stops_4 10 rfl rfl)
theorem dX5_stops_108 : decode cX5_stops 108 = .ok (.if_icmp .ne 15, 3) := dk_160 0 15 (dk_at dksX5_stops_4 12 rfl rfl)
theorem dX5_stops_111 : decode cX5_stops 111 = .ok (.aload_n 1, 1) := dk_43 (dk_at dksX5_stops_4 15 rfl rfl)
theorem dX5_stops_112 : decode cX5_stops 112 = .ok (.bipush 36, 2) := dk_16 36 (dk_at dksX5_stops_4 16 rfl rfl)
theorem dX5_stops_114 : decode cX5_stops 114 = .ok (.iaload, 1) := dk_46 (dk_at dksX5_stops_4 18 rfl rfl)
theorem dX5_stops_115 : decode cX5_stops 115 = .ok (.iconst 1, 1) := dk_4 (dk_at dksX5_stops_4 19 rfl rfl)
theorem dX5_stops_116 : decode cX5_stops 116 = .ok (.if_icmp .ne 7, 3) := dk_160 0 7 (dk_at dksX5_stops_4 20 rfl rfl)
theorem dX5_stops_119 : decode cX5_stops 119 = .ok (.iconst 3, 1) := dk_6 (dk_at dksX5_stops_4 23 rfl rfl)
theorem dX5_stops_120 : decode cX5_stops 120 = .ok (.goto 4, 3) := dk_167 0 4 (dk_at dksX5_stops_5 0 rfl rfl)
theorem dX5_stops_123 : decode cX5_stops 123 = .ok (.iconst (-1), 1) := dk_2 (dk_at dksX5_stops_5 3 rfl rfl)
theorem dX5_stops_124 : decode cX5_stops 124 = .ok (.ireturn, 1) := dk_172 (dk_at dksX5_stops_5 4 rfl rfl)
theorem dX5_stops_125 : decode cX5_stops 125 = .ok (.iload 6, 2) := dk_21 6 (dk_at dksX5_stops_5 5 rfl rfl)
theorem dX5_stops_127 : decode cX5_stops 127 = .ok (.ifCond .ne 7, 3) := dk_154 0 7 (dk_at dksX5_stops_5 7 rfl rfl)
theorem dX5_stops_130 : decode cX5_stops 130 = .ok (.iconst 1, 1) := dk_4 (dk_at dksX5_stops_5 10 rfl rfl)
theorem dX5_stops_131 : decode cX5_stops 131 = .ok (.goto 22, 3) := dk_167 0 22 (dk_at dksX5_stops_5 11 rfl rfl)
theorem dX5_stops_134 : decode cX5_stops 134 = .ok (.iload_n 2, 1) := dk_28 (dk_at dksX5_stops_5 14 rfl rfl)
theorem dX5_stops_135 : decode cX5_stops 135 = .ok (.bipush 7, 2) := dk_16 7 (dk_at dksX5_stops_5 15 rfl rfl)
theorem dX5_stops_137 : decode cX5_stops 137 = .ok (.if_icmp .ne 15, 3) := dk_160 0 15 (dk_at dksX5_stops_5 17 rfl rfl)
theorem dX5_stops_140 : decode cX5_stops 140 = .ok (.aload_n 1, 1) := dk_43 (dk_at dksX5_stops_5 20 rfl rfl)
theorem dX5_stops_141 : decode cX5_stops 141 = .ok (.bipush 37, 2) := dk_16 37 (dk_at dksX5_stops_5 21 rfl rfl)
theorem dX5_stops_143 : decode cX5_stops 143 = .ok (.iaload, 1) := dk_46 (dk_at dksX5_stops_5 23 rfl rfl)
theorem dX5_stops_144 : decode cX5_stops 144 = .ok (.iconst 1, 1) := dk_4 (dk_at dksX5_stops_6 0 rfl rfl)
theorem dX5_stops_145 : decode cX5_stops 145 = .ok (.if_icmp .ne 7, 3) := dk_160 0 7 (dk_at dksX5_stops_6 1 rfl rfl)
theorem dX5_stops_148 : decode cX5_stops 148 = .ok (.iconst 3, 1) := dk_6 (dk_at dksX5_stops_6 4 rfl rfl)
theorem dX5_stops_149 : decode cX5_stops 149 = .ok (.goto 4, 3) := dk_167 0 4 (dk_at dksX5_stops_6 5 rfl rfl)
theorem dX5_stops_152 : decode cX5_stops 152 = .ok (.iconst (-1), 1) := dk_2 (dk_at dksX5_stops_6 8 rfl rfl)
theorem dX5_stops_153 : decode cX5_stops 153 = .ok (.ireturn, 1) := dk_172 (dk_at dksX5_stops_6 9 rfl rfl)
theorem dX5_stops_154 : decode cX5_stops 154 = .ok (.iload 5, 2) := dk_21 5 (dk_at dksX5_stops_6 10 rfl rfl)
theorem dX5_stops_156 : decode cX5_stops 156 = .ok (.ifCond .eq 17, 3) := dk_153 0 17 (dk_at dksX5_stops_6 12 rfl rfl)
theorem dX5_stops_159 : decode cX5_stops 159 = .ok (.iload 4, 2) := dk_21 4 (dk_at dksX5_stops_6 15 rfl rfl)
theorem dX5_stops_161 : decode cX5_stops 161 = .ok (.ifCond .lt 12, 3) := dk_155 0 12 (dk_at dksX5_stops_6 17 rfl rfl)
theorem dX5_stops_164 : decode cX5_stops 164 = .ok (.iload 4, 2) := dk_21 4 (dk_at dksX5_stops_6 20 rfl rfl)
theorem dX5_stops_166 : decode cX5_stops 166 = .ok (.aload_n 1, 1) := dk_43 (dk_at dksX5_stops_6 22 rfl rfl)
theorem dX5_stops_167 : decode cX5_stops 167 = .ok (.bipush 36, 2) := dk_16 36 (dk_at dksX5_stops_7 0 rfl rfl)
theorem dX5_stops_169 : decode cX5_stops 169 = .ok (.iaload, 1) := dk_46 (dk_at dksX5_stops_7 2 rfl rfl)
theorem dX5_stops_170 : decode cX5_stops 170 = .ok (.if_icmp .lt 7, 3) := dk_161 0 7 (dk_at dksX5_stops_7 3 rfl rfl)
theorem dX5_stops_173 : decode cX5_stops 173 = .ok (.iconst 1, 1) := dk_4 (dk_at dksX5_stops_7 6 rfl rfl)
theorem dX5_stops_174 : decode cX5_stops 174 = .ok (.goto 14, 3) := dk_167 0 14 (dk_at dksX5_stops_7 7 rfl rfl)
theorem dX5_stops_177 : decode cX5_stops 177 = .ok (.iload_n 3, 1) := dk_29 (dk_at dksX5_stops_7 10 rfl rfl)
theorem dX5_stops_178 : decode cX5_stops 178 = .ok (.iload 4, 2) := dk_21 4 (dk_at dksX5_stops_7 11 rfl rfl)
theorem dX5_stops_180 : decode cX5_stops 180 = .ok (.if_icmp .ne 7, 3) := dk_160 0 7 (dk_at dksX5_stops_7 13 rfl rfl)
theorem dX5_stops_183 : decode cX5_stops 183 = .ok (.iconst 2, 1) := dk_5 (dk_at dksX5_stops_7 16 rfl rfl)
theorem dX5_stops_184 : decode cX5_stops 184 = .ok (.goto 4, 3) := dk_167 0 4 (dk_at dksX5_stops_7 17 rfl rfl)
theorem dX5_stops_187 : decode cX5_stops 187 = .ok (.iconst (-1), 1) := dk_2 (dk_at dksX5_stops_7 20 rfl rfl)
theorem dX5_stops_188 : decode cX5_stops 188 = .ok (.ireturn, 1) := dk_172 (dk_at dksX5_stops_7 21 rfl rfl)
theorem dX5_stops_189 : decode cX5_stops 189 = .ok (.iload 6, 2) := dk_21 6 (dk_at dksX5_stops_7 22 rfl rfl)
theorem dX5_stops_191 : decode cX5_stops 191 = .ok (.ifCond .eq 17, 3) := dk_153 0 17 (dk_at dksX5_stops_8 0 rfl rfl)
theorem dX5_stops_194 : decode cX5_stops 194 = .ok (.iload 4, 2) := dk_21 4 (dk_at dksX5_stops_8 3 rfl rfl)
theorem dX5_stops_196 : decode cX5_stops 196 = .ok (.ifCond .lt 12, 3) := dk_155 0 12 (dk_at dksX5_stops_8 5 rfl rfl)
theorem dX5_stops_199 : decode cX5_stops 199 = .ok (.iload 4, 2) := dk_21 4 (dk_at dksX5_stops_8 8 rfl rfl)
theorem dX5_stops_201 : decode cX5_stops 201 = .ok (.aload_n 1, 1) := dk_43 (dk_at dksX5_stops_8 10 rfl rfl)
theorem dX5_stops_202 : decode cX5_stops 202 = .ok (.bipush 37, 2) := dk_16 37 (dk_at dksX5_stops_8 11 rfl rfl)
theorem dX5_stops_204 : decode cX5_stops 204 = .ok (.iaload, 1) := dk_46 (dk_at dksX5_stops_8 13 rfl rfl)
theorem dX5_stops_205 : decode cX5_stops 205 = .ok (.if_icmp .lt 7, 3) := dk_161 0 7 (dk_at dksX5_stops_8 14 rfl rfl)
theorem dX5_stops_208 : decode cX5_stops 208 = .ok (.iconst 1, 1) := dk_4 (dk_at dksX5_stops_8 17 rfl rfl)
theorem dX5_stops_209 : decode cX5_stops 209 = .ok (.goto 14, 3) := dk_167 0 14 (dk_at dksX5_stops_8 18 rfl rfl)
theorem dX5_stops_212 : decode cX5_stops 212 = .ok (.iload_n 3, 1) := dk_29 (dk_at dksX5_stops_8 21 rfl rfl)
theorem dX5_stops_213 : decode cX5_stops 213 = .ok (.iload 4, 2) := dk_21 4 (dk_at dksX5_stops_8 22 rfl rfl)
theorem dX5_stops_215 : decode cX5_stops 215 = .ok (.if_icmp .ne 7, 3) := dk_160 0 7 (dk_at dksX5_stops_9 0 rfl rfl)
theorem dX5_stops_218 : decode cX5_stops 218 = .ok (.iconst 2, 1) := dk_5 (dk_at dksX5_stops_9 3 rfl rfl)
theorem dX5_stops_219 : decode cX5_stops 219 = .ok (.goto 4, 3) := dk_167 0 4 (dk_at dksX5_stops_9 4 rfl rfl)
theorem dX5_stops_222 : decode cX5_stops 222 = .ok (.iconst (-1), 1) := dk_2 (dk_at dksX5_stops_9 7 rfl rfl)
theorem dX5_stops_223 : decode cX5_stops 223 = .ok (.ireturn, 1) := dk_172 (dk_at dksX5_stops_9 8 rfl rfl)
theorem dX5_stops_224 : decode cX5_stops 224 = .ok (.aload_n 0, 1) := dk_42 (dk_at dksX5_stops_9 9 rfl rfl)
theorem dX5_stops_225 : decode cX5_stops 225 = .ok (.aload_n 1, 1) := dk_43 (dk_at dksX5_stops_9 10 rfl rfl)
theorem dX5_stops_226 : decode cX5_stops 226 = .ok (.iload_n 3, 1) := dk_29 (dk_at dksX5_stops_9 11 rfl rfl)
theorem dX5_stops_227 : decode cX5_stops 227 = .ok (.iload 4, 2) := dk_21 4 (dk_at dksX5_stops_9 12 rfl rfl)
theorem dX5_stops_229 : decode cX5_stops 229 = .ok (.invokevirtual 158, 3) := dk_182 0 158 (dk_at dksX5_stops_9 14 rfl rfl)
theorem dX5_stops_232 : decode cX5_stops 232 = .ok (.ifCond .ne 7, 3) := dk_154 0 7 (dk_at dksX5_stops_9 17 rfl rfl)
theorem dX5_stops_235 : decode cX5_stops 235 = .ok (.iconst 1, 1) := dk_4 (dk_at dksX5_stops_9 20 rfl rfl)
theorem dX5_stops_236 : decode cX5_stops 236 = .ok (.goto 35, 3) := dk_167 0 35 (dk_at dksX5_stops_9 21 rfl rfl)
theorem dX5_stops_239 : decode cX5_stops 239 = .ok (.aload_n 1, 1) := dk_43 (dk_at dksX5_stops_10 0 rfl rfl)
theorem dX5_stops_240 : decode cX5_stops 240 = .ok (.bipush 6, 2) := dk_16 6 (dk_at dksX5_stops_10 1 rfl rfl)
theorem dX5_stops_242 : decode cX5_stops 242 = .ok (.iload_n 3, 1) := dk_29 (dk_at dksX5_stops_10 3 rfl rfl)
theorem dX5_stops_243 : decode cX5_stops 243 = .ok (.imul, 1) := dk_104 (dk_at dksX5_stops_10 4 rfl rfl)
theorem dX5_stops_244 : decode cX5_stops 244 = .ok (.iload 4, 2) := dk_21 4 (dk_at dksX5_stops_10 5 rfl rfl)
theorem dX5_stops_246 : decode cX5_stops 246 = .ok (.iadd, 1) := dk_96 (dk_at dksX5_stops_10 7 rfl rfl)
theorem dX5_stops_247 : decode cX5_stops 247 = .ok (.iaload, 1) := dk_46 (dk_at dksX5_stops_10 8 rfl rfl)
theorem dX5_stops_248 : decode cX5_stops 248 = .ok (.ifCond .ne 7, 3) := dk_154 0 7 (dk_at dksX5_stops_10 9 rfl rfl)
theorem dX5_stops_251 : decode cX5_stops 251 = .ok (.iconst 2, 1) := dk_5 (dk_at dksX5_stops_10 12 rfl rfl)
theorem dX5_stops_252 : decode cX5_stops 252 = .ok (.goto 19, 3) := dk_167 0 19 (dk_at dksX5_stops_10 13 rfl rfl)
theorem dX5_stops_255 : decode cX5_stops 255 = .ok (.aload_n 0, 1) := dk_42 (dk_at dksX5_stops_10 16 rfl rfl)
theorem dX5_stops_256 : decode cX5_stops 256 = .ok (.aload_n 1, 1) := dk_43 (dk_at dksX5_stops_10 17 rfl rfl)
theorem dX5_stops_257 : decode cX5_stops 257 = .ok (.iload_n 3, 1) := dk_29 (dk_at dksX5_stops_10 18 rfl rfl)
theorem dX5_stops_258 : decode cX5_stops 258 = .ok (.iload 4, 2) := dk_21 4 (dk_at dksX5_stops_10 19 rfl rfl)
theorem dX5_stops_260 : decode cX5_stops 260 = .ok (.invokevirtual 174, 3) := dk_182 0 174 (dk_at dksX5_stops_10 21 rfl rfl)
theorem dX5_stops_263 : decode cX5_stops 263 = .ok (.ifCond .eq 7, 3) := dk_153 0 7 (dk_at dksX5_stops_11 0 rfl rfl)
theorem dX5_stops_266 : decode cX5_stops 266 = .ok (.iconst (-1), 1) := dk_2 (dk_at dksX5_stops_11 3 rfl rfl)
theorem dX5_stops_267 : decode cX5_stops 267 = .ok (.goto 4, 3) := dk_167 0 4 (dk_at dksX5_stops_11 4 rfl rfl)
theorem dX5_stops_270 : decode cX5_stops 270 = .ok (.iconst 3, 1) := dk_6 (dk_at dksX5_stops_11 7 rfl rfl)
theorem dX5_stops_271 : decode cX5_stops 271 = .ok (.ireturn, 1) := dk_172 (dk_at dksX5_stops_11 8 rfl rfl)
theorem dX5_stops_272 : decode cX5_stops 272 = .ok (.iconst (-1), 1) := dk_2 (dk_at dksX5_stops_11 9 rfl rfl)
theorem dX5_stops_273 : decode cX5_stops 273 = .ok (.ireturn, 1) := dk_172 (dk_at dksX5_stops_11 10 rfl rfl)
theorem dX5_stops_274 : decode cX5_stops 274 = .ok (.iconst 1, 1) := dk_4 (dk_at dksX5_stops_11 11 rfl rfl)
theorem dX5_stops_275 : decode cX5_stops 275 = .ok (.ireturn, 1) := dk_172 (dk_at dksX5_stops_11 12 rfl rfl)
abbrev cX5_canTurn : ByteArray := prog_9_method_27_code
def yX5_canTurn : MethodName := ⟨RX5, "canTurn", "([III)Z"⟩
def dkwX5_canTurn_7 : List UInt8 := [167, 255, 115, 4, 172]
abbrev dktX5_canTurn_7 : List UInt8 := dkwX5_canTurn_7 ++ []
def dkwX5_canTurn_6 : List UInt8 := [180, 0, 20, 16, 6, 21, 5, 104, 21, 6, 96, 21, 7, 79, 132, 6, 1, 167, 255, 133, 132, 5, 1]
abbrev dktX5_canTurn_6 : List UInt8 := dkwX5_canTurn_6 ++ dktX5_canTurn_7
def dkwX5_canTurn_5 : List UInt8 := [96, 46, 104, 100, 54, 7, 21, 7, 133, 20, 0, 162, 10, 184, 0, 140, 154, 0, 5, 3, 172, 42]
abbrev dktX5_canTurn_5 : List UInt8 := dkwX5_canTurn_5 ++ dktX5_canTurn_6
def dkwX5_canTurn_4 : List UInt8 := [167, 0, 30, 21, 7, 21, 4, 43, 16, 6, 21, 5, 104, 29, 96, 46, 104, 43, 16, 6, 28, 104, 21, 6]
abbrev dktX5_canTurn_4 : List UInt8 := dkwX5_canTurn_4 ++ dktX5_canTurn_5
def dkwX5_canTurn_3 : List UInt8 := [167, 0, 52, 21, 5, 28, 159, 0, 9, 21, 6, 29, 160, 0, 13, 21, 7, 21, 4, 104, 54, 7]
abbrev dktX5_canTurn_3 : List UInt8 := dkwX5_canTurn_3 ++ dktX5_canTurn_4
def dkwX5_canTurn_2 : List UInt8 := [21, 6, 96, 46, 54, 7, 21, 5, 28, 160, 0, 17, 21, 6, 29, 160, 0, 11, 21, 4, 116, 54, 7]
abbrev dktX5_canTurn_2 : List UInt8 := dkwX5_canTurn_2 ++ dktX5_canTurn_3
def dkwX5_canTurn_1 : List UInt8 := [16, 36, 46, 162, 0, 138, 3, 54, 6, 21, 6, 43, 16, 37, 46, 162, 0, 120, 43, 16, 6, 21, 5, 104]
abbrev dktX5_canTurn_1 : List UInt8 := dkwX5_canTurn_1 ++ dktX5_canTurn_2
def dkwX5_canTurn_0 : List UInt8 := [43, 16, 6, 28, 104, 29, 96, 46, 54, 4, 43, 42, 180, 0, 20, 184, 0, 170, 3, 54, 5, 21, 5, 43]
abbrev dktX5_canTurn_0 : List UInt8 := dkwX5_canTurn_0 ++ dktX5_canTurn_1
theorem dksX5_canTurn_0 : cX5_canTurn.data.toList.drop 0 = dktX5_canTurn_0 := by decide +kernel
theorem dksX5_canTurn_1 : cX5_canTurn.data.toList.drop 24 = dktX5_canTurn_1 := dk_seg dksX5_canTurn_0 24 rfl rfl
theorem dksX5_canTurn_2 : cX5_canTurn.data.toList.drop 48 = dktX5_canTurn_2 := dk_seg dksX5_canTurn_1 24 rfl rfl
theorem dksX5_canTurn_3 : cX5_canTurn.data.toList.drop 71 = dktX5_canTurn_3 := dk_seg dksX5_canTurn_2 23 rfl rfl
theorem dksX5_canTurn_4 : cX5_canTurn.data.toList.drop 93 = dktX5_canTurn_4 := dk_seg dksX5_canTurn_3 22 rfl rfl
theorem dksX5_canTurn_5 : cX5_canTurn.data.toList.drop 117 = dktX5_canTurn_5 := dk_seg dksX5_canTurn_4 24 rfl rfl
theorem dksX5_canTurn_6 : cX5_canTurn.data.toList.drop 139 = dktX5_canTurn_6 := dk_seg dksX5_canTurn_5 22 rfl rfl
theorem dksX5_canTurn_7 : cX5_canTurn.data.toList.drop 162 = dktX5_canTurn_7 := dk_seg dksX5_canTurn_6 23 rfl rfl
theorem dX5_canTurn_0 : decode cX5_canTurn 0 = .ok (.aload_n 1, 1) := dk_43 (dk_at dksX5_canTurn_0 0 rfl rfl)
theorem dX5_canTurn_1 : decode cX5_canTurn 1 = .ok (.bipush 6, 2) := dk_16 6 (dk_at dksX5_canTurn_0 1 rfl rfl)
theorem dX5_canTurn_3 : decode cX5_canTurn 3 = .ok (.iload_n 2, 1) := dk_28 (dk_at dksX5_canTurn_0 3 rfl rfl)
theorem dX5_canTurn_4 : decode cX5_canTurn 4 = .ok (.imul, 1) := dk_104 (dk_at dksX5_canTurn_0 4 rfl rfl)
theorem dX5_canTurn_5 : decode cX5_canTurn 5 = .ok (.iload_n 3, 1) := dk_29 (dk_at dksX5_canTurn_0 5 rfl rfl)
theorem dX5_canTurn_6 : decode cX5_canTurn 6 = .ok (.iadd, 1) := dk_96 (dk_at dksX5_canTurn_0 6 rfl rfl)
theorem dX5_canTurn_7 : decode cX5_canTurn 7 = .ok (.iaload, 1) := dk_46 (dk_at dksX5_canTurn_0 7 rfl rfl)
theorem dX5_canTurn_8 : decode cX5_canTurn 8 = .ok (.istore 4, 2) := dk_54 4 (dk_at dksX5_canTurn_0 8 rfl rfl)
theorem dX5_canTurn_10 : decode cX5_canTurn 10 = .ok (.aload_n 1, 1) := dk_43 (dk_at dksX5_canTurn_0 10 rfl rfl)
theorem dX5_canTurn_11 : decode cX5_canTurn 11 = .ok (.aload_n 0, 1) := dk_42 (dk_at dksX5_canTurn_0 11 rfl rfl)
theorem dX5_canTurn_12 : decode cX5_canTurn 12 = .ok (.getfield 20, 3) := dk_180 0 20 (dk_at dksX5_canTurn_0 12 rfl rfl)
theorem dX5_canTurn_15 : decode cX5_canTurn 15 = .ok (.invokestatic 170, 3) := dk_184 0 170 (dk_at dksX5_canTurn_0 15 rfl rfl)
theorem dX5_canTurn_18 : decode cX5_canTurn 18 = .ok (.iconst 0, 1) := dk_3 (dk_at dksX5_canTurn_0 18 rfl rfl)
theorem dX5_canTurn_19 : decode cX5_canTurn 19 = .ok (.istore 5, 2) := dk_54 5 (dk_at dksX5_canTurn_0 19 rfl rfl)
theorem dX5_canTurn_21 : decode cX5_canTurn 21 = .ok (.iload 5, 2) := dk_21 5 (dk_at dksX5_canTurn_0 21 rfl rfl)
theorem dX5_canTurn_23 : decode cX5_canTurn 23 = .ok (.aload_n 1, 1) := dk_43 (dk_at dksX5_canTurn_0 23 rfl rfl)
theorem dX5_canTurn_24 : decode cX5_canTurn 24 = .ok (.bipush 36, 2) := dk_16 36 (dk_at dksX5_canTurn_1 0 rfl rfl)
theorem dX5_canTurn_26 : decode cX5_canTurn 26 = .ok (.iaload, 1) := dk_46 (dk_at dksX5_canTurn_1 2 rfl rfl)
theorem dX5_canTurn_27 : decode cX5_canTurn 27 = .ok (.if_icmp .ge 138, 3) := dk_162 0 138 (dk_at dksX5_canTurn_1 3 rfl rfl)
theorem dX5_canTurn_30 : decode cX5_canTurn 30 = .ok (.iconst 0, 1) := dk_3 (dk_at dksX5_canTurn_1 6 rfl rfl)
theorem dX5_canTurn_31 : decode cX5_canTurn 31 = .ok (.istore 6, 2) := dk_54 6 (dk_at dksX5_canTurn_1 7 rfl rfl)
theorem dX5_canTurn_33 : decode cX5_canTurn 33 = .ok (.iload 6, 2) := dk_21 6 (dk_at dksX5_canTurn_1 9 rfl rfl)
theorem dX5_canTurn_35 : decode cX5_canTurn 35 = .ok (.aload_n 1, 1) := dk_43 (dk_at dksX5_canTurn_1 11 rfl rfl)
theorem dX5_canTurn_36 : decode cX5_canTurn 36 = .ok (.bipush 37, 2) := dk_16 37 (dk_at dksX5_canTurn_1 12 rfl rfl)
theorem dX5_canTurn_38 : decode cX5_canTurn 38 = .ok (.iaload, 1) := dk_46 (dk_at dksX5_canTurn_1 14 rfl rfl)
theorem dX5_canTurn_39 : decode cX5_canTurn 39 = .ok (.if_icmp .ge 120, 3) := dk_162 0 120 (dk_at dksX5_canTurn_1 15 rfl rfl)
theorem dX5_canTurn_42 : decode cX5_canTurn 42 = .ok (.aload_n 1, 1) := dk_43 (dk_at dksX5_canTurn_1 18 rfl rfl)
theorem dX5_canTurn_43 : decode cX5_canTurn 43 = .ok (.bipush 6, 2) := dk_16 6 (dk_at dksX5_canTurn_1 19 rfl rfl)
theorem dX5_canTurn_45 : decode cX5_canTurn 45 = .ok (.iload 5, 2) := dk_21 5 (dk_at dksX5_canTurn_1 21 rfl rfl)
theorem dX5_canTurn_47 : decode cX5_canTurn 47 = .ok (.imul, 1) := dk_104 (dk_at dksX5_canTurn_1 23 rfl rfl)
theorem dX5_canTurn_48 : decode cX5_canTurn 48 = .ok (.iload 6, 2) := dk_21 6 (dk_at dksX5_canTurn_2 0 rfl rfl)
theorem dX5_canTurn_50 : decode cX5_canTurn 50 = .ok (.iadd, 1) := dk_96 (dk_at dksX5_canTurn_2 2 rfl rfl)
theorem dX5_canTurn_51 : decode cX5_canTurn 51 = .ok (.iaload, 1) := dk_46 (dk_at dksX5_canTurn_2 3 rfl rfl)
theorem dX5_canTurn_52 : decode cX5_canTurn 52 = .ok (.istore 7, 2) := dk_54 7 (dk_at dksX5_canTurn_2 4 rfl rfl)
theorem dX5_canTurn_54 : decode cX5_canTurn 54 = .ok (.iload 5, 2) := dk_21 5 (dk_at dksX5_canTurn_2 6 rfl rfl)
theorem dX5_canTurn_56 : decode cX5_canTurn 56 = .ok (.iload_n 2, 1) := dk_28 (dk_at dksX5_canTurn_2 8 rfl rfl)
theorem dX5_canTurn_57 : decode cX5_canTurn 57 = .ok (.if_icmp .ne 17, 3) := dk_160 0 17 (dk_at dksX5_canTurn_2 9 rfl rfl)
theorem dX5_canTurn_60 : decode cX5_canTurn 60 = .ok (.iload 6, 2) := dk_21 6 (dk_at dksX5_canTurn_2 12 rfl rfl)
theorem dX5_canTurn_62 : decode cX5_canTurn 62 = .ok (.iload_n 3, 1) := dk_29 (dk_at dksX5_canTurn_2 14 rfl rfl)
theorem dX5_canTurn_63 : decode cX5_canTurn 63 = .ok (.if_icmp .ne 11, 3) := dk_160 0 11 (dk_at dksX5_canTurn_2 15 rfl rfl)
theorem dX5_canTurn_66 : decode cX5_canTurn 66 = .ok (.iload 4, 2) := dk_21 4 (dk_at dksX5_canTurn_2 18 rfl rfl)
theorem dX5_canTurn_68 : decode cX5_canTurn 68 = .ok (.ineg, 1) := dk_116 (dk_at dksX5_canTurn_2 20 rfl rfl)
theorem dX5_canTurn_69 : decode cX5_canTurn 69 = .ok (.istore 7, 2) := dk_54 7 (dk_at dksX5_canTurn_2 21 rfl rfl)
theorem dX5_canTurn_71 : decode cX5_canTurn 71 = .ok (.goto 52, 3) := dk_167 0 52 (dk_at dksX5_canTurn_3 0 rfl rfl)
theorem dX5_canTurn_74 : decode cX5_canTurn 74 = .ok (.iload 5, 2) := dk_21 5 (dk_at dksX5_canTurn_3 3 rfl rfl)
theorem dX5_canTurn_76 : decode cX5_canTurn 76 = .ok (.iload_n 2, 1) := dk_28 (dk_at dksX5_canTurn_3 5 rfl rfl)
theorem dX5_canTurn_77 : decode cX5_canTurn 77 = .ok (.if_icmp .eq 9, 3) := dk_159 0 9 (dk_at dksX5_canTurn_3 6 rfl rfl)
theorem dX5_canTurn_80 : decode cX5_canTurn 80 = .ok (.iload 6, 2) := dk_21 6 (dk_at dksX5_canTurn_3 9 rfl rfl)
theorem dX5_canTurn_82 : decode cX5_canTurn 82 = .ok (.iload_n 3, 1) := dk_29 (dk_at dksX5_canTurn_3 11 rfl rfl)
theorem dX5_canTurn_83 : decode cX5_canTurn 83 = .ok (.if_icmp .ne 13, 3) := dk_160 0 13 (dk_at dksX5_canTurn_3 12 rfl rfl)
theorem dX5_canTurn_86 : decode cX5_canTurn 86 = .ok (.iload 7, 2) := dk_21 7 (dk_at dksX5_canTurn_3 15 rfl rfl)
theorem dX5_canTurn_88 : decode cX5_canTurn 88 = .ok (.iload 4, 2) := dk_21 4 (dk_at dksX5_canTurn_3 17 rfl rfl)
theorem dX5_canTurn_90 : decode cX5_canTurn 90 = .ok (.imul, 1) := dk_104 (dk_at dksX5_canTurn_3 19 rfl rfl)
theorem dX5_canTurn_91 : decode cX5_canTurn 91 = .ok (.istore 7, 2) := dk_54 7 (dk_at dksX5_canTurn_3 20 rfl rfl)
theorem dX5_canTurn_93 : decode cX5_canTurn 93 = .ok (.goto 30, 3) := dk_167 0 30 (dk_at dksX5_canTurn_4 0 rfl rfl)
theorem dX5_canTurn_96 : decode cX5_canTurn 96 = .ok (.iload 7, 2) := dk_21 7 (dk_at dksX5_canTurn_4 3 rfl rfl)
theorem dX5_canTurn_98 : decode cX5_canTurn 98 = .ok (.iload 4, 2) := dk_21 4 (dk_at dksX5_canTurn_4 5 rfl rfl)
theorem dX5_canTurn_100 : decode cX5_canTurn 100 = .ok (.aload_n 1, 1) := dk_43 (dk_at dksX5_canTurn_4 7 rfl rfl)
theorem dX5_canTurn_101 : decode cX5_canTurn 101 = .ok (.bipush 6, 2) := dk_16 6 (dk_at dksX5_canTurn_4 8 rfl rfl)
theorem dX5_canTurn_103 : decode cX5_canTurn 103 = .ok (.iload 5, 2) := dk_21 5 (dk_at dksX5_canTurn_4 10 rfl rfl)
theorem dX5_canTurn_105 : decode cX5_canTurn 105 = .ok (.imul, 1) := dk_104 (dk_at dksX5_canTurn_4 12 rfl rfl)
theorem dX5_canTurn_106 : decode cX5_canTurn 106 = .ok (.iload_n 3, 1) := dk_29 (dk_at dksX5_canTurn_4 13 rfl rfl)
theorem dX5_canTurn_107 : decode cX5_canTurn 107 = .ok (.iadd, 1) := dk_96 (dk_at dksX5_canTurn_4 14 rfl rfl)
theorem dX5_canTurn_108 : decode cX5_canTurn 108 = .ok (.iaload, 1) := dk_46 (dk_at dksX5_canTurn_4 15 rfl rfl)
theorem dX5_canTurn_109 : decode cX5_canTurn 109 = .ok (.imul, 1) := dk_104 (dk_at dksX5_canTurn_4 16 rfl rfl)
theorem dX5_canTurn_110 : decode cX5_canTurn 110 = .ok (.aload_n 1, 1) := dk_43 (dk_at dksX5_canTurn_4 17 rfl rfl)
theorem dX5_canTurn_111 : decode cX5_canTurn 111 = .ok (.bipush 6, 2) := dk_16 6 (dk_at dksX5_canTurn_4 18 rfl rfl)
theorem dX5_canTurn_113 : decode cX5_canTurn 113 = .ok (.iload_n 2, 1) := dk_28 (dk_at dksX5_canTurn_4 20 rfl rfl)
theorem dX5_canTurn_114 : decode cX5_canTurn 114 = .ok (.imul, 1) := dk_104 (dk_at dksX5_canTurn_4 21 rfl rfl)
theorem dX5_canTurn_115 : decode cX5_canTurn 115 = .ok (.iload 6, 2) := dk_21 6 (dk_at dksX5_canTurn_4 22 rfl rfl)
theorem dX5_canTurn_117 : decode cX5_canTurn 117 = .ok (.iadd, 1) := dk_96 (dk_at dksX5_canTurn_5 0 rfl rfl)
theorem dX5_canTurn_118 : decode cX5_canTurn 118 = .ok (.iaload, 1) := dk_46 (dk_at dksX5_canTurn_5 1 rfl rfl)
theorem dX5_canTurn_119 : decode cX5_canTurn 119 = .ok (.imul, 1) := dk_104 (dk_at dksX5_canTurn_5 2 rfl rfl)
theorem dX5_canTurn_120 : decode cX5_canTurn 120 = .ok (.isub, 1) := dk_100 (dk_at dksX5_canTurn_5 3 rfl rfl)
theorem dX5_canTurn_121 : decode cX5_canTurn 121 = .ok (.istore 7, 2) := dk_54 7 (dk_at dksX5_canTurn_5 4 rfl rfl)
theorem dX5_canTurn_123 : decode cX5_canTurn 123 = .ok (.iload 7, 2) := dk_21 7 (dk_at dksX5_canTurn_5 6 rfl rfl)
theorem dX5_canTurn_125 : decode cX5_canTurn 125 = .ok (.i2l, 1) := dk_133 (dk_at dksX5_canTurn_5 8 rfl rfl)
theorem dX5_canTurn_126 : decode cX5_canTurn 126 = .ok (.ldc2_w 162, 3) := dk_20 0 162 (dk_at dksX5_canTurn_5 9 rfl rfl)
theorem dX5_canTurn_129 : decode cX5_canTurn 129 = .ok (.lconst 1, 1) := dk_10 (dk_at dksX5_canTurn_5 12 rfl rfl)
theorem dX5_canTurn_130 : decode cX5_canTurn 130 = .ok (.invokestatic 140, 3) := dk_184 0 140 (dk_at dksX5_canTurn_5 13 rfl rfl)
theorem dX5_canTurn_133 : decode cX5_canTurn 133 = .ok (.ifCond .ne 5, 3) := dk_154 0 5 (dk_at dksX5_canTurn_5 16 rfl rfl)
theorem dX5_canTurn_136 : decode cX5_canTurn 136 = .ok (.iconst 0, 1) := dk_3 (dk_at dksX5_canTurn_5 19 rfl rfl)
theorem dX5_canTurn_137 : decode cX5_canTurn 137 = .ok (.ireturn, 1) := dk_172 (dk_at dksX5_canTurn_5 20 rfl rfl)
theorem dX5_canTurn_138 : decode cX5_canTurn 138 = .ok (.aload_n 0, 1) := dk_42 (dk_at dksX5_canTurn_5 21 rfl rfl)
theorem dX5_canTurn_139 : decode cX5_canTurn 139 = .ok (.getfield 20, 3) := dk_180 0 20 (dk_at dksX5_canTurn_6 0 rfl rfl)
theorem dX5_canTurn_142 : decode cX5_canTurn 142 = .ok (.bipush 6, 2) := dk_16 6 (dk_at dksX5_canTurn_6 3 rfl rfl)
theorem dX5_canTurn_144 : decode cX5_canTurn 144 = .ok (.iload 5, 2) := dk_21 5 (dk_at dksX5_canTurn_6 5 rfl rfl)
theorem dX5_canTurn_146 : decode cX5_canTurn 146 = .ok (.imul, 1) := dk_104 (dk_at dksX5_canTurn_6 7 rfl rfl)
theorem dX5_canTurn_147 : decode cX5_canTurn 147 = .ok (.iload 6, 2) := dk_21 6 (dk_at dksX5_canTurn_6 8 rfl rfl)
theorem dX5_canTurn_149 : decode cX5_canTurn 149 = .ok (.iadd, 1) := dk_96 (dk_at dksX5_canTurn_6 10 rfl rfl)
theorem dX5_canTurn_150 : decode cX5_canTurn 150 = .ok (.iload 7, 2) := dk_21 7 (dk_at dksX5_canTurn_6 11 rfl rfl)
theorem dX5_canTurn_152 : decode cX5_canTurn 152 = .ok (.iastore, 1) := dk_79 (dk_at dksX5_canTurn_6 13 rfl rfl)
theorem dX5_canTurn_153 : decode cX5_canTurn 153 = .ok (.iinc 6 1, 3) := dk_132 6 1 (dk_at dksX5_canTurn_6 14 rfl rfl)
theorem dX5_canTurn_156 : decode cX5_canTurn 156 = .ok (.goto (-123), 3) := dk_167 255 133 (dk_at dksX5_canTurn_6 17 rfl rfl)
theorem dX5_canTurn_159 : decode cX5_canTurn 159 = .ok (.iinc 5 1, 3) := dk_132 5 1 (dk_at dksX5_canTurn_6 20 rfl rfl)
theorem dX5_canTurn_162 : decode cX5_canTurn 162 = .ok (.goto (-141), 3) := dk_167 255 115 (dk_at dksX5_canTurn_7 0 rfl rfl)
theorem dX5_canTurn_165 : decode cX5_canTurn 165 = .ok (.iconst 1, 1) := dk_4 (dk_at dksX5_canTurn_7 3 rfl rfl)
theorem dX5_canTurn_166 : decode cX5_canTurn 166 = .ok (.ireturn, 1) := dk_172 (dk_at dksX5_canTurn_7 4 rfl rfl)
abbrev cX5_copy : ByteArray := prog_9_method_21_code
def yX5_copy : MethodName := ⟨RX5, "copy", "([I[I)V"⟩
def dkwX5_copy_0 : List UInt8 := [3, 61, 28, 16, 38, 162, 0, 15, 43, 28, 42, 28, 46, 79, 132, 2, 1, 167, 255, 241, 177]
abbrev dktX5_copy_0 : List UInt8 := dkwX5_copy_0 ++ []
theorem dksX5_copy_0 : cX5_copy.data.toList.drop 0 = dktX5_copy_0 := by decide +kernel
theorem dX5_copy_0 : decode cX5_copy 0 = .ok (.iconst 0, 1) := dk_3 (dk_at dksX5_copy_0 0 rfl rfl)
theorem dX5_copy_1 : decode cX5_copy 1 = .ok (.istore_n 2, 1) := dk_61 (dk_at dksX5_copy_0 1 rfl rfl)
theorem dX5_copy_2 : decode cX5_copy 2 = .ok (.iload_n 2, 1) := dk_28 (dk_at dksX5_copy_0 2 rfl rfl)
theorem dX5_copy_3 : decode cX5_copy 3 = .ok (.bipush 38, 2) := dk_16 38 (dk_at dksX5_copy_0 3 rfl rfl)
theorem dX5_copy_5 : decode cX5_copy 5 = .ok (.if_icmp .ge 15, 3) := dk_162 0 15 (dk_at dksX5_copy_0 5 rfl rfl)
theorem dX5_copy_8 : decode cX5_copy 8 = .ok (.aload_n 1, 1) := dk_43 (dk_at dksX5_copy_0 8 rfl rfl)
theorem dX5_copy_9 : decode cX5_copy 9 = .ok (.iload_n 2, 1) := dk_28 (dk_at dksX5_copy_0 9 rfl rfl)
theorem dX5_copy_10 : decode cX5_copy 10 = .ok (.aload_n 0, 1) := dk_42 (dk_at dksX5_copy_0 10 rfl rfl)
theorem dX5_copy_11 : decode cX5_copy 11 = .ok (.iload_n 2, 1) := dk_28 (dk_at dksX5_copy_0 11 rfl rfl)
theorem dX5_copy_12 : decode cX5_copy 12 = .ok (.iaload, 1) := dk_46 (dk_at dksX5_copy_0 12 rfl rfl)
theorem dX5_copy_13 : decode cX5_copy 13 = .ok (.iastore, 1) := dk_79 (dk_at dksX5_copy_0 13 rfl rfl)
theorem dX5_copy_14 : decode cX5_copy 14 = .ok (.iinc 2 1, 3) := dk_132 2 1 (dk_at dksX5_copy_0 14 rfl rfl)
theorem dX5_copy_17 : decode cX5_copy 17 = .ok (.goto (-15), 3) := dk_167 255 241 (dk_at dksX5_copy_0 17 rfl rfl)
theorem dX5_copy_20 : decode cX5_copy 20 = .ok (.return_, 1) := dk_177 (dk_at dksX5_copy_0 20 rfl rfl)
abbrev cX5_does : ByteArray := prog_9_method_30_code
def yX5_does : MethodName := ⟨RX5, "does", "([IIII)V"⟩
def dkwX5_does_14 : List UInt8 := [16, 37, 92, 46, 4, 100, 79, 177]
abbrev dktX5_does_14 : List UInt8 := dkwX5_does_14 ++ []
def dkwX5_does_13 : List UInt8 := [21, 5, 104, 21, 6, 96, 4, 96, 46, 79, 132, 6, 1, 167, 255, 225, 132, 5, 1, 167, 255, 209, 43]
abbrev dktX5_does_13 : List UInt8 := dkwX5_does_13 ++ dktX5_does_14
def dkwX5_does_12 : List UInt8 := [162, 0, 46, 29, 54, 6, 21, 6, 8, 162, 0, 31, 43, 16, 6, 21, 5, 104, 21, 6, 96, 43, 16, 6]
abbrev dktX5_does_12 : List UInt8 := dkwX5_does_12 ++ dktX5_does_13
def dkwX5_does_11 : List UInt8 := [167, 255, 208, 43, 16, 36, 92, 46, 4, 100, 79, 28, 16, 7, 160, 0, 64, 3, 54, 5, 21, 5, 16, 6]
abbrev dktX5_does_11 : List UInt8 := dkwX5_does_11 ++ dktX5_does_12
def dkwX5_does_10 : List UInt8 := [16, 6, 21, 5, 104, 16, 6, 96, 21, 6, 96, 46, 79, 132, 6, 1, 167, 255, 223, 132, 5, 1]
abbrev dktX5_does_10 : List UInt8 := dkwX5_does_10 ++ dktX5_does_11
def dkwX5_does_9 : List UInt8 := [162, 0, 48, 3, 54, 6, 21, 6, 16, 6, 162, 0, 32, 43, 16, 6, 21, 5, 104, 21, 6, 96, 43]
abbrev dktX5_does_9 : List UInt8 := dkwX5_does_9 ++ dktX5_does_10
def dkwX5_does_8 : List UInt8 := [167, 255, 210, 43, 16, 36, 16, 37, 184, 0, 177, 28, 16, 6, 160, 0, 65, 29, 54, 5, 21, 5, 8]
abbrev dktX5_does_8 : List UInt8 := dkwX5_does_8 ++ dktX5_does_9
def dkwX5_does_7 : List UInt8 := [21, 6, 96, 16, 6, 21, 6, 104, 21, 5, 96, 184, 0, 177, 132, 6, 1, 167, 255, 226, 132, 5, 1]
abbrev dktX5_does_7 : List UInt8 := dkwX5_does_7 ++ dktX5_does_8
def dkwX5_does_6 : List UInt8 := [21, 5, 16, 6, 162, 0, 45, 3, 54, 6, 21, 6, 21, 5, 162, 0, 29, 43, 16, 6, 21, 5, 104]
abbrev dktX5_does_6 : List UInt8 := dkwX5_does_6 ++ dktX5_does_7
def dkwX5_does_5 : List UInt8 := [29, 21, 4, 182, 0, 174, 54, 5, 42, 180, 0, 20, 43, 184, 0, 170, 28, 8, 160, 0, 63, 3, 54, 5]
abbrev dktX5_does_5 : List UInt8 := dkwX5_does_5 ++ dktX5_does_6
def dkwX5_does_4 : List UInt8 := [16, 6, 21, 5, 104, 21, 4, 96, 184, 0, 177, 132, 5, 1, 167, 255, 151, 28, 7, 160, 0, 21, 42, 43]
abbrev dktX5_does_4 : List UInt8 := dkwX5_does_4 ++ dktX5_does_5
def dkwX5_does_3 : List UInt8 := [16, 6, 21, 4, 104, 21, 5, 96, 184, 0, 177, 28, 6, 160, 0, 22, 43, 16, 6, 21, 5, 104, 29, 96]
abbrev dktX5_does_3 : List UInt8 := dkwX5_does_3 ++ dktX5_does_4
def dkwX5_does_2 : List UInt8 := [16, 6, 21, 5, 104, 29, 96, 46, 116, 79, 28, 5, 160, 0, 22, 43, 16, 6, 29, 104, 21, 5, 96]
abbrev dktX5_does_2 : List UInt8 := dkwX5_does_2 ++ dktX5_does_3
def dkwX5_does_1 : List UInt8 := [16, 6, 29, 104, 21, 5, 96, 46, 116, 79, 28, 4, 160, 0, 22, 43, 16, 6, 21, 5, 104, 29, 96, 43]
abbrev dktX5_does_1 : List UInt8 := dkwX5_does_1 ++ dktX5_does_2
def dkwX5_does_0 : List UInt8 := [3, 54, 5, 21, 5, 16, 6, 162, 0, 104, 28, 154, 0, 22, 43, 16, 6, 29, 104, 21, 5, 96, 43]
abbrev dktX5_does_0 : List UInt8 := dkwX5_does_0 ++ dktX5_does_1
theorem dksX5_does_0 : cX5_does.data.toList.drop 0 = dktX5_does_0 := by decide +kernel
theorem dksX5_does_1 : cX5_does.data.toList.drop 23 = dktX5_does_1 := dk_seg dksX5_does_0 23 rfl rfl
theorem dksX5_does_2 : cX5_does.data.toList.drop 47 = dktX5_does_2 := dk_seg dksX5_does_1 24 rfl rfl
theorem dksX5_does_3 : cX5_does.data.toList.drop 70 = dktX5_does_3 := dk_seg dksX5_does_2 23 rfl rfl
theorem dksX5_does_4 : cX5_does.data.toList.drop 94 = dktX5_does_4 := dk_seg dksX5_does_3 24 rfl rfl
theorem dksX5_does_5 : cX5_does.data.toList.drop 118 = dktX5_does_5 := dk_seg dksX5_does_4 24 rfl rfl
theorem dksX5_does_6 : cX5_does.data.toList.drop 142 = dktX5_does_6 := dk_seg dksX5_does_5 24 rfl rfl
theorem dksX5_does_7 : cX5_does.data.toList.drop 165 = dktX5_does_7 := dk_seg dksX5_does_6 23 rfl rfl
theorem dksX5_does_8 : cX5_does.data.toList.drop 188 = dktX5_does_8 := dk_seg dksX5_does_7 23 rfl rfl
theorem dksX5_does_9 : cX5_does.data.toList.drop 211 = dktX5_does_9 := dk_seg dksX5_does_8 23 rfl rfl
theorem dksX5_does_10 : cX5_does.data.toList.drop 234 = dktX5_does_10 := dk_seg dksX5_does_9 23 rfl rfl
theorem dksX5_does_11 : cX5_does.data.toList.drop 256 = dktX5_does_11 := dk_seg dksX5_does_10 22 rfl rfl
theorem dksX5_does_12 : cX5_does.data.toList.drop 280 = dktX5_does_12 := dk_seg dksX5_does_11 24 rfl rfl
theorem dksX5_does_13 : cX5_does.data.toList.drop 304 = dktX5_does_13 := dk_seg dksX5_does_12 24 rfl rfl
theorem dksX5_does_14 : cX5_does.data.toList.drop 327 = dktX5_does_14 := dk_seg dksX5_does_13 23 rfl rfl
theorem dX5_does_0 : decode cX5_does 0 = .ok (.iconst 0, 1) := dk_3 (dk_at dksX5_does_0 0 rfl rfl)
theorem dX5_does_1 : decode cX5_does 1 = .ok (.istore 5, 2) := dk_54 5 (dk_at dksX5_does_0 1 rfl rfl)
theorem dX5_does_3 : decode cX5_does 3 = .ok (.iload 5, 2) := dk_21 5 (dk_at dksX5_does_0 3 rfl rfl)
theorem dX5_does_5 : decode cX5_does 5 = .ok (.bipush 6, 2) := dk_16 6 (dk_at dksX5_does_0 5 rfl rfl)
theorem dX5_does_7 : decode cX5_does 7 = .ok (.if_icmp .ge 104, 3) := dk_162 0 104 (dk_at dksX5_does_0 7 rfl rfl)
theorem dX5_does_10 : decode cX5_does 10 = .ok (.iload_n 2, 1) := dk_28 (dk_at dksX5_does_0 10 rfl rfl)
theorem dX5_does_11 : decode cX5_does 11 = .ok (.ifCond .ne 22, 3) := dk_154 0 22 (dk_at dksX5_does_0 11 rfl rfl)
theorem dX5_does_14 : decode cX5_does 14 = .ok (.aload_n 1, 1) := dk_43 (dk_at dksX5_does_0 14 rfl rfl)
theorem dX5_does_15 : decode cX5_does 15 = .ok (.bipush 6, 2) := dk_16 6 (dk_at dksX5_does_0 15 rfl rfl)
theorem dX5_does_17 : decode cX5_does 17 = .ok (.iload_n 3, 1) := dk_29 (dk_at dksX5_does_0 17 rfl rfl)
theorem dX5_does_18 : decode cX5_does 18 = .ok (.imul, 1) := dk_104 (dk_at dksX5_does_0 18 rfl rfl)
theorem dX5_does_19 : decode cX5_does 19 = .ok (.iload 5, 2) := dk_21 5 (dk_at dksX5_does_0 19 rfl rfl)
theorem dX5_does_21 : decode cX5_does 21 = .ok (.iadd, 1) := dk_96 (dk_at dksX5_does_0 21 rfl rfl)
theorem dX5_does_22 : decode cX5_does 22 = .ok (.aload_n 1, 1) := dk_43 (dk_at dksX5_does_0 22 rfl rfl)
theorem dX5_does_23 : decode cX5_does 23 = .ok (.bipush 6, 2) := dk_16 6 (dk_at dksX5_does_1 0 rfl rfl)
theorem dX5_does_25 : decode cX5_does 25 = .ok (.iload_n 3, 1) := dk_29 (dk_at dksX5_does_1 2 rfl rfl)
theorem dX5_does_26 : decode cX5_does 26 = .ok (.imul, 1) := dk_104 (dk_at dksX5_does_1 3 rfl rfl)
theorem dX5_does_27 : decode cX5_does 27 = .ok (.iload 5, 2) := dk_21 5 (dk_at dksX5_does_1 4 rfl rfl)
theorem dX5_does_29 : decode cX5_does 29 = .ok (.iadd, 1) := dk_96 (dk_at dksX5_does_1 6 rfl rfl)
theorem dX5_does_30 : decode cX5_does 30 = .ok (.iaload, 1) := dk_46 (dk_at dksX5_does_1 7 rfl rfl)
theorem dX5_does_31 : decode cX5_does 31 = .ok (.ineg, 1) := dk_116 (dk_at dksX5_does_1 8 rfl rfl)
theorem dX5_does_32 : decode cX5_does 32 = .ok (.iastore, 1) := dk_79 (dk_at dksX5_does_1 9 rfl rfl)
theorem dX5_does_33 : decode cX5_does 33 = .ok (.iload_n 2, 1) := dk_28 (dk_at dksX5_does_1 10 rfl rfl)
theorem dX5_does_34 : decode cX5_does 34 = .ok (.iconst 1, 1) := dk_4 (dk_at dksX5_does_1 11 rfl rfl)
theorem dX5_does_35 : decode cX5_does 35 = .ok (.if_icmp .ne 22, 3) := dk_160 0 22 (dk_at dksX5_does_1 12 rfl rfl)
theorem dX5_does_38 : decode cX5_does 38 = .ok (.aload_n 1, 1) := dk_43 (dk_at dksX5_does_1 15 rfl rfl)
theorem dX5_does_39 : decode cX5_does 39 = .ok (.bipush 6, 2) := dk_16 6 (dk_at dksX5_does_1 16 rfl rfl)
theorem dX5_does_41 : decode cX5_does 41 = .ok (.iload 5, 2) := dk_21 5 (dk_at dksX5_does_1 18 rfl rfl)
theorem dX5_does_43 : decode cX5_does 43 = .ok (.imul, 1) := dk_104 (dk_at dksX5_does_1 20 rfl rfl)
theorem dX5_does_44 : decode cX5_does 44 = .ok (.iload_n 3, 1) := dk_29 (dk_at dksX5_does_1 21 rfl rfl)
theorem dX5_does_45 : decode cX5_does 45 = .ok (.iadd, 1) := dk_96 (dk_at dksX5_does_1 22 rfl rfl)
theorem dX5_does_46 : decode cX5_does 46 = .ok (.aload_n 1, 1) := dk_43 (dk_at dksX5_does_1 23 rfl rfl)
theorem dX5_does_47 : decode cX5_does 47 = .ok (.bipush 6, 2) := dk_16 6 (dk_at dksX5_does_2 0 rfl rfl)
theorem dX5_does_49 : decode cX5_does 49 = .ok (.iload 5, 2) := dk_21 5 (dk_at dksX5_does_2 2 rfl rfl)
theorem dX5_does_51 : decode cX5_does 51 = .ok (.imul, 1) := dk_104 (dk_at dksX5_does_2 4 rfl rfl)
theorem dX5_does_52 : decode cX5_does 52 = .ok (.iload_n 3, 1) := dk_29 (dk_at dksX5_does_2 5 rfl rfl)
theorem dX5_does_53 : decode cX5_does 53 = .ok (.iadd, 1) := dk_96 (dk_at dksX5_does_2 6 rfl rfl)
theorem dX5_does_54 : decode cX5_does 54 = .ok (.iaload, 1) := dk_46 (dk_at dksX5_does_2 7 rfl rfl)
theorem dX5_does_55 : decode cX5_does 55 = .ok (.ineg, 1) := dk_116 (dk_at dksX5_does_2 8 rfl rfl)
theorem dX5_does_56 : decode cX5_does 56 = .ok (.iastore, 1) := dk_79 (dk_at dksX5_does_2 9 rfl rfl)
theorem dX5_does_57 : decode cX5_does 57 = .ok (.iload_n 2, 1) := dk_28 (dk_at dksX5_does_2 10 rfl rfl)
theorem dX5_does_58 : decode cX5_does 58 = .ok (.iconst 2, 1) := dk_5 (dk_at dksX5_does_2 11 rfl rfl)
theorem dX5_does_59 : decode cX5_does 59 = .ok (.if_icmp .ne 22, 3) := dk_160 0 22 (dk_at dksX5_does_2 12 rfl rfl)
theorem dX5_does_62 : decode cX5_does 62 = .ok (.aload_n 1, 1) := dk_43 (dk_at dksX5_does_2 15 rfl rfl)
theorem dX5_does_63 : decode cX5_does 63 = .ok (.bipush 6, 2) := dk_16 6 (dk_at dksX5_does_2 16 rfl rfl)
theorem dX5_does_65 : decode cX5_does 65 = .ok (.iload_n 3, 1) := dk_29 (dk_at dksX5_does_2 18 rfl rfl)
theorem dX5_does_66 : decode cX5_does 66 = .ok (.imul, 1) := dk_104 (dk_at dksX5_does_2 19 rfl rfl)
theorem dX5_does_67 : decode cX5_does 67 = .ok (.iload 5, 2) := dk_21 5 (dk_at dksX5_does_2 20 rfl rfl)
theorem dX5_does_69 : decode cX5_does 69 = .ok (.iadd, 1) := dk_96 (dk_at dksX5_does_2 22 rfl rfl)
theorem dX5_does_70 : decode cX5_does 70 = .ok (.bipush 6, 2) := dk_16 6 (dk_at dksX5_does_3 0 rfl rfl)
theorem dX5_does_72 : decode cX5_does 72 = .ok (.iload 4, 2) := dk_21 4 (dk_at dksX5_does_3 2 rfl rfl)
theorem dX5_does_74 : decode cX5_does 74 = .ok (.imul, 1) := dk_104 (dk_at dksX5_does_3 4 rfl rfl)
theorem dX5_does_75 : decode cX5_does 75 = .ok (.iload 5, 2) := dk_21 5 (dk_at dksX5_does_3 5 rfl rfl)
theorem dX5_does_77 : decode cX5_does 77 = .ok (.iadd, 1) := dk_96 (dk_at dksX5_does_3 7 rfl rfl)
theorem dX5_does_78 : decode cX5_does 78 = .ok (.invokestatic 177, 3) := dk_184 0 177 (dk_at dksX5_does_3 8 rfl rfl)
theorem dX5_does_81 : decode cX5_does 81 = .ok (.iload_n 2, 1) := dk_28 (dk_at dksX5_does_3 11 rfl rfl)
theorem dX5_does_82 : decode cX5_does 82 = .ok (.iconst 3, 1) := dk_6 (dk_at dksX5_does_3 12 rfl rfl)
theorem dX5_does_83 : decode cX5_does 83 = .ok (.if_icmp .ne 22, 3) := dk_160 0 22 (dk_at dksX5_does_3 13 rfl rfl)
theorem dX5_does_86 : decode cX5_does 86 = .ok (.aload_n 1, 1) := dk_43 (dk_at dksX5_does_3 16 rfl rfl)
theorem dX5_does_87 : decode cX5_does 87 = .ok (.bipush 6, 2) := dk_16 6 (dk_at dksX5_does_3 17 rfl rfl)
theorem dX5_does_89 : decode cX5_does 89 = .ok (.iload 5, 2) := dk_21 5 (dk_at dksX5_does_3 19 rfl rfl)
theorem dX5_does_91 : decode cX5_does 91 = .ok (.imul, 1) := dk_104 (dk_at dksX5_does_3 21 rfl rfl)
theorem dX5_does_92 : decode cX5_does 92 = .ok (.iload_n 3, 1) := dk_29 (dk_at dksX5_does_3 22 rfl rfl)
theorem dX5_does_93 : decode cX5_does 93 = .ok (.iadd, 1) := dk_96 (dk_at dksX5_does_3 23 rfl rfl)
theorem dX5_does_94 : decode cX5_does 94 = .ok (.bipush 6, 2) := dk_16 6 (dk_at dksX5_does_4 0 rfl rfl)
theorem dX5_does_96 : decode cX5_does 96 = .ok (.iload 5, 2) := dk_21 5 (dk_at dksX5_does_4 2 rfl rfl)
theorem dX5_does_98 : decode cX5_does 98 = .ok (.imul, 1) := dk_104 (dk_at dksX5_does_4 4 rfl rfl)
theorem dX5_does_99 : decode cX5_does 99 = .ok (.iload 4, 2) := dk_21 4 (dk_at dksX5_does_4 5 rfl rfl)
theorem dX5_does_101 : decode cX5_does 101 = .ok (.iadd, 1) := dk_96 (dk_at dksX5_does_4 7 rfl rfl)
theorem dX5_does_102 : decode cX5_does 102 = .ok (.invokestatic 177, 3) := dk_184 0 177 (dk_at dksX5_does_4 8 rfl rfl)
theorem dX5_does_105 : decode cX5_does 105 = .ok (.iinc 5 1, 3) := dk_132 5 1 (dk_at dksX5_does_4 11 rfl rfl)
theorem dX5_does_108 : decode cX5_does 108 = .ok (.goto (-105), 3) := dk_167 255 151 (dk_at dksX5_does_4 14 rfl rfl)
theorem dX5_does_111 : decode cX5_does 111 = .ok (.iload_n 2, 1) := dk_28 (dk_at dksX5_does_4 17 rfl rfl)
theorem dX5_does_112 : decode cX5_does 112 = .ok (.iconst 4, 1) := dk_7 (dk_at dksX5_does_4 18 rfl rfl)
theorem dX5_does_113 : decode cX5_does 113 = .ok (.if_icmp .ne 21, 3) := dk_160 0 21 (dk_at dksX5_does_4 19 rfl rfl)
theorem dX5_does_116 : decode cX5_does 116 = .ok (.aload_n 0, 1) := dk_42 (dk_at dksX5_does_4 22 rfl rfl)
theorem dX5_does_117 : decode cX5_does 117 = .ok (.aload_n 1, 1) := dk_43 (dk_at dksX5_does_4 23 rfl rfl)
theorem dX5_does_118 : decode cX5_does 118 = .ok (.iload_n 3, 1) := dk_29 (dk_at dksX5_does_5 0 rfl rfl)
theorem dX5_does_119 : decode cX5_does 119 = .ok (.iload 4, 2) := dk_21 4 (dk_at dksX5_does_5 1 rfl rfl)
theorem dX5_does_121 : decode cX5_does 121 = .ok (.invokevirtual 174, 3) := dk_182 0 174 (dk_at dksX5_does_5 3 rfl rfl)
theorem dX5_does_124 : decode cX5_does 124 = .ok (.istore 5, 2) := dk_54 5 (dk_at dksX5_does_5 6 rfl rfl)
theorem dX5_does_126 : decode cX5_does 126 = .ok (.aload_n 0, 1) := dk_42 (dk_at dksX5_does_5 8 rfl rfl)
theorem dX5_does_127 : decode cX5_does 127 = .ok (.getfield 20, 3) := dk_180 0 20 (dk_at dksX5_does_5 9 rfl rfl)
theorem dX5_does_130 : decode cX5_does 130 = .ok (.aload_n 1, 1) := dk_43 (dk_at dksX5_does_5 12 rfl rfl)
theorem dX5_does_131 : decode cX5_does 131 = .ok (.invokestatic 170, 3) := dk_184 0 170 (dk_at dksX5_does_5 13 rfl rfl)
theorem dX5_does_134 : decode cX5_does 134 = .ok (.iload_n 2, 1) := dk_28 (dk_at dksX5_does_5 16 rfl rfl)
theorem dX5_does_135 : decode cX5_does 135 = .ok (.iconst 5, 1) := dk_8 (dk_at dksX5_does_5 17 rfl rfl)
theorem dX5_does_136 : decode cX5_does 136 = .ok (.if_icmp .ne 63, 3) := dk_160 0 63 (dk_at dksX5_does_5 18 rfl rfl)
theorem dX5_does_139 : decode cX5_does 139 = .ok (.iconst 0, 1) := dk_3 (dk_at dksX5_does_5 21 rfl rfl)
theorem dX5_does_140 : decode cX5_does 140 = .ok (.istore 5, 2) := dk_54 5 (dk_at dksX5_does_5 22 rfl rfl)
theorem dX5_does_142 : decode cX5_does 142 = .ok (.iload 5, 2) := dk_21 5 (dk_at dksX5_does_6 0 rfl rfl)
theorem dX5_does_144 : decode cX5_does 144 = .ok (.bipush 6, 2) := dk_16 6 (dk_at dksX5_does_6 2 rfl rfl)
theorem dX5_does_146 : decode cX5_does 146 = .ok (.if_icmp .ge 45, 3) := dk_162 0 45 (dk_at dksX5_does_6 4 rfl rfl)
theorem dX5_does_149 : decode cX5_does 149 = .ok (.iconst 0, 1) := dk_3 (dk_at dksX5_does_6 7 rfl rfl)
theorem dX5_does_150 : decode cX5_does 150 = .ok (.istore 6, 2) := dk_54 6 (dk_at dksX5_does_6 8 rfl rfl)
theorem dX5_does_152 : decode cX5_does 152 = .ok (.iload 6, 2) := dk_21 6 (dk_at dksX5_does_6 10 rfl rfl)
theorem dX5_does_154 : decode cX5_does 154 = .ok (.iload 5, 2) := dk_21 5 (dk_at dksX5_does_6 12 rfl rfl)
theorem dX5_does_156 : decode cX5_does 156 = .ok (.if_icmp .ge 29, 3) := dk_162 0 29 (dk_at dksX5_does_6 14 rfl rfl)
theorem dX5_does_159 : decode cX5_does 159 = .ok (.aload_n 1, 1) := dk_43 (dk_at dksX5_does_6 17 rfl rfl)
theorem dX5_does_160 : decode cX5_does 160 = .ok (.bipush 6, 2) := dk_16 6 (dk_at dksX5_does_6 18 rfl rfl)
theorem dX5_does_162 : decode cX5_does 162 = .ok (.iload 5, 2) := dk_21 5 (dk_at dksX5_does_6 20 rfl rfl)
theorem dX5_does_164 : decode cX5_does 164 = .ok (.imul, 1) := dk_104 (dk_at dksX5_does_6 22 rfl rfl)
theorem dX5_does_165 : decode cX5_does 165 = .ok (.iload 6, 2) := dk_21 6 (dk_at dksX5_does_7 0 rfl rfl)
theorem dX5_does_167 : decode cX5_does 167 = .ok (.iadd, 1) := dk_96 (dk_at dksX5_does_7 2 rfl rfl)
theorem dX5_does_168 : decode cX5_does 168 = .ok (.bipush 6, 2) := dk_16 6 (dk_at dksX5_does_7 3 rfl rfl)
theorem dX5_does_170 : decode cX5_does 170 = .ok (.iload 6, 2) := dk_21 6 (dk_at dksX5_does_7 5 rfl rfl)
theorem dX5_does_172 : decode cX5_does 172 = .ok (.imul, 1) := dk_104 (dk_at dksX5_does_7 7 rfl rfl)
theorem dX5_does_173 : decode cX5_does 173 = .ok (.iload 5, 2) := dk_21 5 (dk_at dksX5_does_7 8 rfl rfl)
theorem dX5_does_175 : decode cX5_does 175 = .ok (.iadd, 1) := dk_96 (dk_at dksX5_does_7 10 rfl rfl)
theorem dX5_does_176 : decode cX5_does 176 = .ok (.invokestatic 177, 3) := dk_184 0 177 (dk_at dksX5_does_7 11 rfl rfl)
theorem dX5_does_179 : decode cX5_does 179 = .ok (.iinc 6 1, 3) := dk_132 6 1 (dk_at dksX5_does_7 14 rfl rfl)
theorem dX5_does_182 : decode cX5_does 182 = .ok (.goto (-30), 3) := dk_167 255 226 (dk_at dksX5_does_7 17 rfl rfl)
theorem dX5_does_185 : decode cX5_does 185 = .ok (.iinc 5 1, 3) := dk_132 5 1 (dk_at dksX5_does_7 20 rfl rfl)
theorem dX5_does_188 : decode cX5_does 188 = .ok (.goto (-46), 3) := dk_167 255 210 (dk_at dksX5_does_8 0 rfl rfl)
theorem dX5_does_191 : decode cX5_does 191 = .ok (.aload_n 1, 1) := dk_43 (dk_at dksX5_does_8 3 rfl rfl)
theorem dX5_does_192 : decode cX5_does 192 = .ok (.bipush 36, 2) := dk_16 36 (dk_at dksX5_does_8 4 rfl rfl)
theorem dX5_does_194 : decode cX5_does 194 = .ok (.bipush 37, 2) := dk_16 37 (dk_at dksX5_does_8 6 rfl rfl)
theorem dX5_does_196 : decode cX5_does 196 = .ok (.invokestatic 177, 3) := dk_184 0 177 (dk_at dksX5_does_8 8 rfl rfl)
theorem dX5_does_199 : decode cX5_does 199 = .ok (.iload_n 2, 1) := dk_28 (dk_at dksX5_does_8 11 rfl rfl)
theorem dX5_does_200 : decode cX5_does 200 = .ok (.bipush 6, 2) := dk_16 6 (dk_at dksX5_does_8 12 rfl rfl)
theorem dX5_does_202 : decode cX5_does 202 = .ok (.if_icmp .ne 65, 3) := dk_160 0 65 (dk_at dksX5_does_8 14 rfl rfl)
theorem dX5_does_205 : decode cX5_does 205 = .ok (.iload_n 3, 1) := dk_29 (dk_at dksX5_does_8 17 rfl rfl)
theorem dX5_does_206 : decode cX5_does 206 = .ok (.istore 5, 2) := dk_54 5 (dk_at dksX5_does_8 18 rfl rfl)
theorem dX5_does_208 : decode cX5_does 208 = .ok (.iload 5, 2) := dk_21 5 (dk_at dksX5_does_8 20 rfl rfl)
theorem dX5_does_210 : decode cX5_does 210 = .ok (.iconst 5, 1) := dk_8 (dk_at dksX5_does_8 22 rfl rfl)
theorem dX5_does_211 : decode cX5_does 211 = .ok (.if_icmp .ge 48, 3) := dk_162 0 48 (dk_at dksX5_does_9 0 rfl rfl)
theorem dX5_does_214 : decode cX5_does 214 = .ok (.iconst 0, 1) := dk_3 (dk_at dksX5_does_9 3 rfl rfl)
theorem dX5_does_215 : decode cX5_does 215 = .ok (.istore 6, 2) := dk_54 6 (dk_at dksX5_does_9 4 rfl rfl)
theorem dX5_does_217 : decode cX5_does 217 = .ok (.iload 6, 2) := dk_21 6 (dk_at dksX5_does_9 6 rfl rfl)
theorem dX5_does_219 : decode cX5_does 219 = .ok (.bipush 6, 2) := dk_16 6 (dk_at dksX5_does_9 8 rfl rfl)
theorem dX5_does_221 : decode cX5_does 221 = .ok (.if_icmp .ge 32, 3) := dk_162 0 32 (dk_at dksX5_does_9 10 rfl rfl)
theorem dX5_does_224 : decode cX5_does 224 = .ok (.aload_n 1, 1) := dk_43 (dk_at dksX5_does_9 13 rfl rfl)
theorem dX5_does_225 : decode cX5_does 225 = .ok (.bipush 6, 2) := dk_16 6 (dk_at dksX5_does_9 14 rfl rfl)
theorem dX5_does_227 : decode cX5_does 227 = .ok (.iload 5, 2) := dk_21 5 (dk_at dksX5_does_9 16 rfl rfl)
theorem dX5_does_229 : decode cX5_does 229 = .ok (.imul, 1) := dk_104 (dk_at dksX5_does_9 18 rfl rfl)
theorem dX5_does_230 : decode cX5_does 230 = .ok (.iload 6, 2) := dk_21 6 (dk_at dksX5_does_9 19 rfl rfl)
theorem dX5_does_232 : decode cX5_does 232 = .ok (.iadd, 1) := dk_96 (dk_at dksX5_does_9 21 rfl rfl)
theorem dX5_does_233 : decode cX5_does 233 = .ok (.aload_n 1, 1) := dk_43 (dk_at dksX5_does_9 22 rfl rfl)
theorem dX5_does_234 : decode cX5_does 234 = .ok (.bipush 6, 2) := dk_16 6 (dk_at dksX5_does_10 0 rfl rfl)
theorem dX5_does_236 : decode cX5_does 236 = .ok (.iload 5, 2) := dk_21 5 (dk_at dksX5_does_10 2 rfl rfl)
theorem dX5_does_238 : decode cX5_does 238 = .ok (.imul, 1) := dk_104 (dk_at dksX5_does_10 4 rfl rfl)
theorem dX5_does_239 : decode cX5_does 239 = .ok (.bipush 6, 2) := dk_16 6 (dk_at dksX5_does_10 5 rfl rfl)
theorem dX5_does_241 : decode cX5_does 241 = .ok (.iadd, 1) := dk_96 (dk_at dksX5_does_10 7 rfl rfl)
theorem dX5_does_242 : decode cX5_does 242 = .ok (.iload 6, 2) := dk_21 6 (dk_at dksX5_does_10 8 rfl rfl)
theorem dX5_does_244 : decode cX5_does 244 = .ok (.iadd, 1) := dk_96 (dk_at dksX5_does_10 10 rfl rfl)
theorem dX5_does_245 : decode cX5_does 245 = .ok (.iaload, 1) := dk_46 (dk_at dksX5_does_10 11 rfl rfl)
theorem dX5_does_246 : decode cX5_does 246 = .ok (.iastore, 1) := dk_79 (dk_at dksX5_does_10 12 rfl rfl)
theorem dX5_does_247 : decode cX5_does 247 = .ok (.iinc 6 1, 3) := dk_132 6 1 (dk_at dksX5_does_10 13 rfl rfl)
theorem dX5_does_250 : decode cX5_does 250 = .ok (.goto (-33), 3) := dk_167 255 223 (dk_at dksX5_does_10 16 rfl rfl)
theorem dX5_does_253 : decode cX5_does 253 = .ok (.iinc 5 1, 3) := dk_132 5 1 (dk_at dksX5_does_10 19 rfl rfl)
theorem dX5_does_256 : decode cX5_does 256 = .ok (.goto (-48), 3) := dk_167 255 208 (dk_at dksX5_does_11 0 rfl rfl)
theorem dX5_does_259 : decode cX5_does 259 = .ok (.aload_n 1, 1) := dk_43 (dk_at dksX5_does_11 3 rfl rfl)
theorem dX5_does_260 : decode cX5_does 260 = .ok (.bipush 36, 2) := dk_16 36 (dk_at dksX5_does_11 4 rfl rfl)
theorem dX5_does_262 : decode cX5_does 262 = .ok (.dup2, 1) := dk_92 (dk_at dksX5_does_11 6 rfl rfl)
theorem dX5_does_263 : decode cX5_does 263 = .ok (.iaload, 1) := dk_46 (dk_at dksX5_does_11 7 rfl rfl)
theorem dX5_does_264 : decode cX5_does 264 = .ok (.iconst 1, 1) := dk_4 (dk_at dksX5_does_11 8 rfl rfl)
theorem dX5_does_265 : decode cX5_does 265 = .ok (.isub, 1) := dk_100 (dk_at dksX5_does_11 9 rfl rfl)
theorem dX5_does_266 : decode cX5_does 266 = .ok (.iastore, 1) := dk_79 (dk_at dksX5_does_11 10 rfl rfl)
theorem dX5_does_267 : decode cX5_does 267 = .ok (.iload_n 2, 1) := dk_28 (dk_at dksX5_does_11 11 rfl rfl)
theorem dX5_does_268 : decode cX5_does 268 = .ok (.bipush 7, 2) := dk_16 7 (dk_at dksX5_does_11 12 rfl rfl)
theorem dX5_does_270 : decode cX5_does 270 = .ok (.if_icmp .ne 64, 3) := dk_160 0 64 (dk_at dksX5_does_11 14 rfl rfl)
theorem dX5_does_273 : decode cX5_does 273 = .ok (.iconst 0, 1) := dk_3 (dk_at dksX5_does_11 17 rfl rfl)
theorem dX5_does_274 : decode cX5_does 274 = .ok (.istore 5, 2) := dk_54 5 (dk_at dksX5_does_11 18 rfl rfl)
theorem dX5_does_276 : decode cX5_does 276 = .ok (.iload 5, 2) := dk_21 5 (dk_at dksX5_does_11 20 rfl rfl)
theorem dX5_does_278 : decode cX5_does 278 = .ok (.bipush 6, 2) := dk_16 6 (dk_at dksX5_does_11 22 rfl rfl)
theorem dX5_does_280 : decode cX5_does 280 = .ok (.if_icmp .ge 46, 3) := dk_162 0 46 (dk_at dksX5_does_12 0 rfl rfl)
theorem dX5_does_283 : decode cX5_does 283 = .ok (.iload_n 3, 1) := dk_29 (dk_at dksX5_does_12 3 rfl rfl)
theorem dX5_does_284 : decode cX5_does 284 = .ok (.istore 6, 2) := dk_54 6 (dk_at dksX5_does_12 4 rfl rfl)
theorem dX5_does_286 : decode cX5_does 286 = .ok (.iload 6, 2) := dk_21 6 (dk_at dksX5_does_12 6 rfl rfl)
theorem dX5_does_288 : decode cX5_does 288 = .ok (.iconst 5, 1) := dk_8 (dk_at dksX5_does_12 8 rfl rfl)
theorem dX5_does_289 : decode cX5_does 289 = .ok (.if_icmp .ge 31, 3) := dk_162 0 31 (dk_at dksX5_does_12 9 rfl rfl)
theorem dX5_does_292 : decode cX5_does 292 = .ok (.aload_n 1, 1) := dk_43 (dk_at dksX5_does_12 12 rfl rfl)
theorem dX5_does_293 : decode cX5_does 293 = .ok (.bipush 6, 2) := dk_16 6 (dk_at dksX5_does_12 13 rfl rfl)
theorem dX5_does_295 : decode cX5_does 295 = .ok (.iload 5, 2) := dk_21 5 (dk_at dksX5_does_12 15 rfl rfl)
theorem dX5_does_297 : decode cX5_does 297 = .ok (.imul, 1) := dk_104 (dk_at dksX5_does_12 17 rfl rfl)
theorem dX5_does_298 : decode cX5_does 298 = .ok (.iload 6, 2) := dk_21 6 (dk_at dksX5_does_12 18 rfl rfl)
theorem dX5_does_300 : decode cX5_does 300 = .ok (.iadd, 1) := dk_96 (dk_at dksX5_does_12 20 rfl rfl)
theorem dX5_does_301 : decode cX5_does 301 = .ok (.aload_n 1, 1) := dk_43 (dk_at dksX5_does_12 21 rfl rfl)
theorem dX5_does_302 : decode cX5_does 302 = .ok (.bipush 6, 2) := dk_16 6 (dk_at dksX5_does_12 22 rfl rfl)
theorem dX5_does_304 : decode cX5_does 304 = .ok (.iload 5, 2) := dk_21 5 (dk_at dksX5_does_13 0 rfl rfl)
theorem dX5_does_306 : decode cX5_does 306 = .ok (.imul, 1) := dk_104 (dk_at dksX5_does_13 2 rfl rfl)
theorem dX5_does_307 : decode cX5_does 307 = .ok (.iload 6, 2) := dk_21 6 (dk_at dksX5_does_13 3 rfl rfl)
theorem dX5_does_309 : decode cX5_does 309 = .ok (.iadd, 1) := dk_96 (dk_at dksX5_does_13 5 rfl rfl)
theorem dX5_does_310 : decode cX5_does 310 = .ok (.iconst 1, 1) := dk_4 (dk_at dksX5_does_13 6 rfl rfl)
theorem dX5_does_311 : decode cX5_does 311 = .ok (.iadd, 1) := dk_96 (dk_at dksX5_does_13 7 rfl rfl)
theorem dX5_does_312 : decode cX5_does 312 = .ok (.iaload, 1) := dk_46 (dk_at dksX5_does_13 8 rfl rfl)
theorem dX5_does_313 : decode cX5_does 313 = .ok (.iastore, 1) := dk_79 (dk_at dksX5_does_13 9 rfl rfl)
theorem dX5_does_314 : decode cX5_does 314 = .ok (.iinc 6 1, 3) := dk_132 6 1 (dk_at dksX5_does_13 10 rfl rfl)
theorem dX5_does_317 : decode cX5_does 317 = .ok (.goto (-31), 3) := dk_167 255 225 (dk_at dksX5_does_13 13 rfl rfl)
theorem dX5_does_320 : decode cX5_does 320 = .ok (.iinc 5 1, 3) := dk_132 5 1 (dk_at dksX5_does_13 16 rfl rfl)
theorem dX5_does_323 : decode cX5_does 323 = .ok (.goto (-47), 3) := dk_167 255 209 (dk_at dksX5_does_13 19 rfl rfl)
theorem dX5_does_326 : decode cX5_does 326 = .ok (.aload_n 1, 1) := dk_43 (dk_at dksX5_does_13 22 rfl rfl)
theorem dX5_does_327 : decode cX5_does 327 = .ok (.bipush 37, 2) := dk_16 37 (dk_at dksX5_does_14 0 rfl rfl)
theorem dX5_does_329 : decode cX5_does 329 = .ok (.dup2, 1) := dk_92 (dk_at dksX5_does_14 2 rfl rfl)
theorem dX5_does_330 : decode cX5_does 330 = .ok (.iaload, 1) := dk_46 (dk_at dksX5_does_14 3 rfl rfl)
theorem dX5_does_331 : decode cX5_does 331 = .ok (.iconst 1, 1) := dk_4 (dk_at dksX5_does_14 4 rfl rfl)
theorem dX5_does_332 : decode cX5_does 332 = .ok (.isub, 1) := dk_100 (dk_at dksX5_does_14 5 rfl rfl)
theorem dX5_does_333 : decode cX5_does 333 = .ok (.iastore, 1) := dk_79 (dk_at dksX5_does_14 6 rfl rfl)
theorem dX5_does_334 : decode cX5_does 334 = .ok (.return_, 1) := dk_177 (dk_at dksX5_does_14 7 rfl rfl)
abbrev cX5_swaps : ByteArray := prog_9_method_29_code
def yX5_swaps : MethodName := ⟨RX5, "swaps", "([III)V"⟩
def dkwX5_swaps_0 : List UInt8 := [42, 27, 46, 62, 42, 27, 42, 28, 46, 79, 42, 28, 29, 79, 177]
abbrev dktX5_swaps_0 : List UInt8 := dkwX5_swaps_0 ++ []
theorem dksX5_swaps_0 : cX5_swaps.data.toList.drop 0 = dktX5_swaps_0 := by decide +kernel
theorem dX5_swaps_0 : decode cX5_swaps 0 = .ok (.aload_n 0, 1) := dk_42 (dk_at dksX5_swaps_0 0 rfl rfl)
theorem dX5_swaps_1 : decode cX5_swaps 1 = .ok (.iload_n 1, 1) := dk_27 (dk_at dksX5_swaps_0 1 rfl rfl)
theorem dX5_swaps_2 : decode cX5_swaps 2 = .ok (.iaload, 1) := dk_46 (dk_at dksX5_swaps_0 2 rfl rfl)
theorem dX5_swaps_3 : decode cX5_swaps 3 = .ok (.istore_n 3, 1) := dk_62 (dk_at dksX5_swaps_0 3 rfl rfl)
theorem dX5_swaps_4 : decode cX5_swaps 4 = .ok (.aload_n 0, 1) := dk_42 (dk_at dksX5_swaps_0 4 rfl rfl)
theorem dX5_swaps_5 : decode cX5_swaps 5 = .ok (.iload_n 1, 1) := dk_27 (dk_at dksX5_swaps_0 5 rfl rfl)
theorem dX5_swaps_6 : decode cX5_swaps 6 = .ok (.aload_n 0, 1) := dk_42 (dk_at dksX5_swaps_0 6 rfl rfl)
theorem dX5_swaps_7 : decode cX5_swaps 7 = .ok (.iload_n 2, 1) := dk_28 (dk_at dksX5_swaps_0 7 rfl rfl)
theorem dX5_swaps_8 : decode cX5_swaps 8 = .ok (.iaload, 1) := dk_46 (dk_at dksX5_swaps_0 8 rfl rfl)
theorem dX5_swaps_9 : decode cX5_swaps 9 = .ok (.iastore, 1) := dk_79 (dk_at dksX5_swaps_0 9 rfl rfl)
theorem dX5_swaps_10 : decode cX5_swaps 10 = .ok (.aload_n 0, 1) := dk_42 (dk_at dksX5_swaps_0 10 rfl rfl)
theorem dX5_swaps_11 : decode cX5_swaps 11 = .ok (.iload_n 2, 1) := dk_28 (dk_at dksX5_swaps_0 11 rfl rfl)
theorem dX5_swaps_12 : decode cX5_swaps 12 = .ok (.iload_n 3, 1) := dk_29 (dk_at dksX5_swaps_0 12 rfl rfl)
theorem dX5_swaps_13 : decode cX5_swaps 13 = .ok (.iastore, 1) := dk_79 (dk_at dksX5_swaps_0 13 rfl rfl)
theorem dX5_swaps_14 : decode cX5_swaps 14 = .ok (.return_, 1) := dk_177 (dk_at dksX5_swaps_0 14 rfl rfl)
abbrev cX5_keep : ByteArray := prog_9_method_32_code
def yX5_keep : MethodName := ⟨RX5, "keep", "()I"⟩
def dkwX5_keep_3 : List UInt8 := [180, 0, 189, 4, 100, 172]
abbrev dktX5_keep_3 : List UInt8 := dkwX5_keep_3 ++ []
def dkwX5_keep_2 : List UInt8 := [180, 0, 13, 27, 46, 79, 132, 1, 1, 167, 255, 227, 42, 89, 180, 0, 189, 4, 96, 181, 0, 189, 42]
abbrev dktX5_keep_2 : List UInt8 := dkwX5_keep_2 ++ dktX5_keep_3
def dkwX5_keep_1 : List UInt8 := [172, 3, 60, 27, 16, 38, 162, 0, 29, 42, 180, 0, 23, 16, 38, 42, 180, 0, 189, 104, 27, 96, 42]
abbrev dktX5_keep_1 : List UInt8 := dkwX5_keep_1 ++ dktX5_keep_2
def dkwX5_keep_0 : List UInt8 := [42, 3, 181, 0, 83, 42, 180, 0, 13, 16, 36, 46, 153, 0, 11, 42, 180, 0, 189, 7, 160, 0, 5, 2]
abbrev dktX5_keep_0 : List UInt8 := dkwX5_keep_0 ++ dktX5_keep_1
theorem dksX5_keep_0 : cX5_keep.data.toList.drop 0 = dktX5_keep_0 := by decide +kernel
theorem dksX5_keep_1 : cX5_keep.data.toList.drop 24 = dktX5_keep_1 := dk_seg dksX5_keep_0 24 rfl rfl
theorem dksX5_keep_2 : cX5_keep.data.toList.drop 47 = dktX5_keep_2 := dk_seg dksX5_keep_1 23 rfl rfl
theorem dksX5_keep_3 : cX5_keep.data.toList.drop 70 = dktX5_keep_3 := dk_seg dksX5_keep_2 23 rfl rfl
theorem dX5_keep_0 : decode cX5_keep 0 = .ok (.aload_n 0, 1) := dk_42 (dk_at dksX5_keep_0 0 rfl rfl)
theorem dX5_keep_1 : decode cX5_keep 1 = .ok (.iconst 0, 1) := dk_3 (dk_at dksX5_keep_0 1 rfl rfl)
theorem dX5_keep_2 : decode cX5_keep 2 = .ok (.putfield 83, 3) := dk_181 0 83 (dk_at dksX5_keep_0 2 rfl rfl)
theorem dX5_keep_5 : decode cX5_keep 5 = .ok (.aload_n 0, 1) := dk_42 (dk_at dksX5_keep_0 5 rfl rfl)
theorem dX5_keep_6 : decode cX5_keep 6 = .ok (.getfield 13, 3) := dk_180 0 13 (dk_at dksX5_keep_0 6 rfl rfl)
theorem dX5_keep_9 : decode cX5_keep 9 = .ok (.bipush 36, 2) := dk_16 36 (dk_at dksX5_keep_0 9 rfl rfl)
theorem dX5_keep_11 : decode cX5_keep 11 = .ok (.iaload, 1) := dk_46 (dk_at dksX5_keep_0 11 rfl rfl)
theorem dX5_keep_12 : decode cX5_keep 12 = .ok (.ifCond .eq 11, 3) := dk_153 0 11 (dk_at dksX5_keep_0 12 rfl rfl)
theorem dX5_keep_15 : decode cX5_keep 15 = .ok (.aload_n 0, 1) := dk_42 (dk_at dksX5_keep_0 15 rfl rfl)
theorem dX5_keep_16 : decode cX5_keep 16 = .ok (.getfield 189, 3) := dk_180 0 189 (dk_at dksX5_keep_0 16 rfl rfl)
theorem dX5_keep_19 : decode cX5_keep 19 = .ok (.iconst 4, 1) := dk_7 (dk_at dksX5_keep_0 19 rfl rfl)
theorem dX5_keep_20 : decode cX5_keep 20 = .ok (.if_icmp .ne 5, 3) := dk_160 0 5 (dk_at dksX5_keep_0 20 rfl rfl)
theorem dX5_keep_23 : decode cX5_keep 23 = .ok (.iconst (-1), 1) := dk_2 (dk_at dksX5_keep_0 23 rfl rfl)
theorem dX5_keep_24 : decode cX5_keep 24 = .ok (.ireturn, 1) := dk_172 (dk_at dksX5_keep_1 0 rfl rfl)
theorem dX5_keep_25 : decode cX5_keep 25 = .ok (.iconst 0, 1) := dk_3 (dk_at dksX5_keep_1 1 rfl rfl)
theorem dX5_keep_26 : decode cX5_keep 26 = .ok (.istore_n 1, 1) := dk_60 (dk_at dksX5_keep_1 2 rfl rfl)
theorem dX5_keep_27 : decode cX5_keep 27 = .ok (.iload_n 1, 1) := dk_27 (dk_at dksX5_keep_1 3 rfl rfl)
theorem dX5_keep_28 : decode cX5_keep 28 = .ok (.bipush 38, 2) := dk_16 38 (dk_at dksX5_keep_1 4 rfl rfl)
theorem dX5_keep_30 : decode cX5_keep 30 = .ok (.if_icmp .ge 29, 3) := dk_162 0 29 (dk_at dksX5_keep_1 6 rfl rfl)
theorem dX5_keep_33 : decode cX5_keep 33 = .ok (.aload_n 0, 1) := dk_42 (dk_at dksX5_keep_1 9 rfl rfl)
theorem dX5_keep_34 : decode cX5_keep 34 = .ok (.getfield 23, 3) := dk_180 0 23 (dk_at dksX5_keep_1 10 rfl rfl)
theorem dX5_keep_37 : decode cX5_keep 37 = .ok (.bipush 38, 2) := dk_16 38 (dk_at dksX5_keep_1 13 rfl rfl)
theorem dX5_keep_39 : decode cX5_keep 39 = .ok (.aload_n 0, 1) := dk_42 (dk_at dksX5_keep_1 15 rfl rfl)
theorem dX5_keep_40 : decode cX5_keep 40 = .ok (.getfield 189, 3) := dk_180 0 189 (dk_at dksX5_keep_1 16 rfl rfl)
theorem dX5_keep_43 : decode cX5_keep 43 = .ok (.imul, 1) := dk_104 (dk_at dksX5_keep_1 19 rfl rfl)
theorem dX5_keep_44 : decode cX5_keep 44 = .ok (.iload_n 1, 1) := dk_27 (dk_at dksX5_keep_1 20 rfl rfl)
theorem dX5_keep_45 : decode cX5_keep 45 = .ok (.iadd, 1) := dk_96 (dk_at dksX5_keep_1 21 rfl rfl)
theorem dX5_keep_46 : decode cX5_keep 46 = .ok (.aload_n 0, 1) := dk_42 (dk_at dksX5_keep_1 22 rfl rfl)
theorem dX5_keep_47 : decode cX5_keep 47 = .ok (.getfield 13, 3) := dk_180 0 13 (dk_at dksX5_keep_2 0 rfl rfl)
theorem dX5_keep_50 : decode cX5_keep 50 = .ok (.iload_n 1, 1) := dk_27 (dk_at dksX5_keep_2 3 rfl rfl)
theorem dX5_keep_51 : decode cX5_keep 51 = .ok (.iaload, 1) := dk_46 (dk_at dksX5_keep_2 4 rfl rfl)
theorem dX5_keep_52 : decode cX5_keep 52 = .ok (.iastore, 1) := dk_79 (dk_at dksX5_keep_2 5 rfl rfl)
theorem dX5_keep_53 : decode cX5_keep 53 = .ok (.iinc 1 1, 3) := dk_132 1 1 (dk_at dksX5_keep_2 6 rfl rfl)
theorem dX5_keep_56 : decode cX5_keep 56 = .ok (.goto (-29), 3) := dk_167 255 227 (dk_at dksX5_keep_2 9 rfl rfl)
theorem dX5_keep_59 : decode cX5_keep 59 = .ok (.aload_n 0, 1) := dk_42 (dk_at dksX5_keep_2 12 rfl rfl)
theorem dX5_keep_60 : decode cX5_keep 60 = .ok (.dup, 1) := dk_89 (dk_at dksX5_keep_2 13 rfl rfl)
theorem dX5_keep_61 : decode cX5_keep 61 = .ok (.getfield 189, 3) := dk_180 0 189 (dk_at dksX5_keep_2 14 rfl rfl)
theorem dX5_keep_64 : decode cX5_keep 64 = .ok (.iconst 1, 1) := dk_4 (dk_at dksX5_keep_2 17 rfl rfl)
theorem dX5_keep_65 : decode cX5_keep 65 = .ok (.iadd, 1) := dk_96 (dk_at dksX5_keep_2 18 rfl rfl)
theorem dX5_keep_66 : decode cX5_keep 66 = .ok (.putfield 189, 3) := dk_181 0 189 (dk_at dksX5_keep_2 19 rfl rfl)
theorem dX5_keep_69 : decode cX5_keep 69 = .ok (.aload_n 0, 1) := dk_42 (dk_at dksX5_keep_2 22 rfl rfl)
theorem dX5_keep_70 : decode cX5_keep 70 = .ok (.getfield 189, 3) := dk_180 0 189 (dk_at dksX5_keep_3 0 rfl rfl)
theorem dX5_keep_73 : decode cX5_keep 73 = .ok (.iconst 1, 1) := dk_4 (dk_at dksX5_keep_3 3 rfl rfl)
theorem dX5_keep_74 : decode cX5_keep 74 = .ok (.isub, 1) := dk_100 (dk_at dksX5_keep_3 4 rfl rfl)
theorem dX5_keep_75 : decode cX5_keep 75 = .ok (.ireturn, 1) := dk_172 (dk_at dksX5_keep_3 5 rfl rfl)
abbrev cX5_kept : ByteArray := prog_9_method_35_code
def yX5_kept : MethodName := ⟨RX5, "kept", "(III)I"⟩
def dkwX5_kept_2 : List UInt8 := [96, 46, 162, 0, 13, 42, 27, 28, 29, 182, 0, 196, 167, 0, 5, 18, 133, 172]
abbrev dktX5_kept_2 : List UInt8 := dkwX5_kept_2 ++ []
def dkwX5_kept_1 : List UInt8 := [27, 104, 16, 36, 96, 46, 162, 0, 33, 29, 155, 0, 29, 29, 42, 180, 0, 23, 16, 38, 27, 104, 16, 37]
abbrev dktX5_kept_1 : List UInt8 := dkwX5_kept_1 ++ dktX5_kept_2
def dkwX5_kept_0 : List UInt8 := [42, 3, 181, 0, 83, 42, 27, 182, 0, 192, 153, 0, 53, 28, 155, 0, 49, 28, 42, 180, 0, 23, 16, 38]
abbrev dktX5_kept_0 : List UInt8 := dkwX5_kept_0 ++ dktX5_kept_1
theorem dksX5_kept_0 : cX5_kept.data.toList.drop 0 = dktX5_kept_0 := by decide +kernel
theorem dksX5_kept_1 : cX5_kept.data.toList.drop 24 = dktX5_kept_1 := dk_seg dksX5_kept_0 24 rfl rfl
theorem dksX5_kept_2 : cX5_kept.data.toList.drop 48 = dktX5_kept_2 := dk_seg dksX5_kept_1 24 rfl rfl
theorem dX5_kept_0 : decode cX5_kept 0 = .ok (.aload_n 0, 1) := dk_42 (dk_at dksX5_kept_0 0 rfl rfl)
theorem dX5_kept_1 : decode cX5_kept 1 = .ok (.iconst 0, 1) := dk_3 (dk_at dksX5_kept_0 1 rfl rfl)
theorem dX5_kept_2 : decode cX5_kept 2 = .ok (.putfield 83, 3) := dk_181 0 83 (dk_at dksX5_kept_0 2 rfl rfl)
theorem dX5_kept_5 : decode cX5_kept 5 = .ok (.aload_n 0, 1) := dk_42 (dk_at dksX5_kept_0 5 rfl rfl)
theorem dX5_kept_6 : decode cX5_kept 6 = .ok (.iload_n 1, 1) := dk_27 (dk_at dksX5_kept_0 6 rfl rfl)
theorem dX5_kept_7 : decode cX5_kept 7 = .ok (.invokevirtual 192, 3) := dk_182 0 192 (dk_at dksX5_kept_0 7 rfl rfl)
theorem dX5_kept_10 : decode cX5_kept 10 = .ok (.ifCond .eq 53, 3) := dk_153 0 53 (dk_at dksX5_kept_0 10 rfl rfl)
theorem dX5_kept_13 : decode cX5_kept 13 = .ok (.iload_n 2, 1) := dk_28 (dk_at dksX5_kept_0 13 rfl rfl)
theorem dX5_kept_14 : decode cX5_kept 14 = .ok (.ifCond .lt 49, 3) := dk_155 0 49 (dk_at dksX5_kept_0 14 rfl rfl)
theorem dX5_kept_17 : decode cX5_kept 17 = .ok (.iload_n 2, 1) := dk_28 (dk_at dksX5_kept_0 17 rfl rfl)
theorem dX5_kept_18 : decode cX5_kept 18 = .ok (.aload_n 0, 1) := dk_42 (dk_at dksX5_kept_0 18 rfl rfl)
theorem dX5_kept_19 : decode cX5_kept 19 = .ok (.getfield 23, 3) := dk_180 0 23 (dk_at dksX5_kept_0 19 rfl rfl)
theorem dX5_kept_22 : decode cX5_kept 22 = .ok (.bipush 38, 2) := dk_16 38 (dk_at dksX5_kept_0 22 rfl rfl)
theorem dX5_kept_24 : decode cX5_kept 24 = .ok (.iload_n 1, 1) := dk_27 (dk_at dksX5_kept_1 0 rfl rfl)
theorem dX5_kept_25 : decode cX5_kept 25 = .ok (.imul, 1) := dk_104 (dk_at dksX5_kept_1 1 rfl rfl)
theorem dX5_kept_26 : decode cX5_kept 26 = .ok (.bipush 36, 2) := dk_16 36 (dk_at dksX5_kept_1 2 rfl rfl)
theorem dX5_kept_28 : decode cX5_kept 28 = .ok (.iadd, 1) := dk_96 (dk_at dksX5_kept_1 4 rfl rfl)
theorem dX5_kept_29 : decode cX5_kept 29 = .ok (.iaload, 1) := dk_46 (dk_at dksX5_kept_1 5 rfl rfl)
theorem dX5_kept_30 : decode cX5_kept 30 = .ok (.if_icmp .ge 33, 3) := dk_162 0 33 (dk_at dksX5_kept_1 6 rfl rfl)
theorem dX5_kept_33 : decode cX5_kept 33 = .ok (.iload_n 3, 1) := dk_29 (dk_at dksX5_kept_1 9 rfl rfl)
theorem dX5_kept_34 : decode cX5_kept 34 = .ok (.ifCond .lt 29, 3) := dk_155 0 29 (dk_at dksX5_kept_1 10 rfl rfl)
theorem dX5_kept_37 : decode cX5_kept 37 = .ok (.iload_n 3, 1) := dk_29 (dk_at dksX5_kept_1 13 rfl rfl)
theorem dX5_kept_38 : decode cX5_kept 38 = .ok (.aload_n 0, 1) := dk_42 (dk_at dksX5_kept_1 14 rfl rfl)
theorem dX5_kept_39 : decode cX5_kept 39 = .ok (.getfield 23, 3) := dk_180 0 23 (dk_at dksX5_kept_1 15 rfl rfl)
theorem dX5_kept_42 : decode cX5_kept 42 = .ok (.bipush 38, 2) := dk_16 38 (dk_at dksX5_kept_1 18 rfl rfl)
theorem dX5_kept_44 : decode cX5_kept 44 = .ok (.iload_n 1, 1) := dk_27 (dk_at dksX5_kept_1 20 rfl rfl)
theorem dX5_kept_45 : decode cX5_kept 45 = .ok (.imul, 1) := dk_104 (dk_at dksX5_kept_1 21 rfl rfl)
theorem dX5_kept_46 : decode cX5_kept 46 = .ok (.bipush 37, 2) := dk_16 37 (dk_at dksX5_kept_1 22 rfl rfl)
theorem dX5_kept_48 : decode cX5_kept 48 = .ok (.iadd, 1) := dk_96 (dk_at dksX5_kept_2 0 rfl rfl)
theorem dX5_kept_49 : decode cX5_kept 49 = .ok (.iaload, 1) := dk_46 (dk_at dksX5_kept_2 1 rfl rfl)
theorem dX5_kept_50 : decode cX5_kept 50 = .ok (.if_icmp .ge 13, 3) := dk_162 0 13 (dk_at dksX5_kept_2 2 rfl rfl)
theorem dX5_kept_53 : decode cX5_kept 53 = .ok (.aload_n 0, 1) := dk_42 (dk_at dksX5_kept_2 5 rfl rfl)
theorem dX5_kept_54 : decode cX5_kept 54 = .ok (.iload_n 1, 1) := dk_27 (dk_at dksX5_kept_2 6 rfl rfl)
theorem dX5_kept_55 : decode cX5_kept 55 = .ok (.iload_n 2, 1) := dk_28 (dk_at dksX5_kept_2 7 rfl rfl)
theorem dX5_kept_56 : decode cX5_kept 56 = .ok (.iload_n 3, 1) := dk_29 (dk_at dksX5_kept_2 8 rfl rfl)
theorem dX5_kept_57 : decode cX5_kept 57 = .ok (.invokevirtual 196, 3) := dk_182 0 196 (dk_at dksX5_kept_2 9 rfl rfl)
theorem dX5_kept_60 : decode cX5_kept 60 = .ok (.goto 5, 3) := dk_167 0 5 (dk_at dksX5_kept_2 12 rfl rfl)
theorem dX5_kept_63 : decode cX5_kept 63 = .ok (.ldc 133, 2) := dk_18 133 (dk_at dksX5_kept_2 15 rfl rfl)
theorem dX5_kept_65 : decode cX5_kept 65 = .ok (.ireturn, 1) := dk_172 (dk_at dksX5_kept_2 17 rfl rfl)
abbrev cX5_isKept : ByteArray := prog_9_method_33_code
def yX5_isKept : MethodName := ⟨RX5, "isKept", "(I)Z"⟩
def dkwX5_isKept_0 : List UInt8 := [27, 155, 0, 15, 27, 42, 180, 0, 189, 162, 0, 7, 4, 167, 0, 4, 3, 172]
abbrev dktX5_isKept_0 : List UInt8 := dkwX5_isKept_0 ++ []
theorem dksX5_isKept_0 : cX5_isKept.data.toList.drop 0 = dktX5_isKept_0 := by decide +kernel
theorem dX5_isKept_0 : decode cX5_isKept 0 = .ok (.iload_n 1, 1) := dk_27 (dk_at dksX5_isKept_0 0 rfl rfl)
theorem dX5_isKept_1 : decode cX5_isKept 1 = .ok (.ifCond .lt 15, 3) := dk_155 0 15 (dk_at dksX5_isKept_0 1 rfl rfl)
theorem dX5_isKept_4 : decode cX5_isKept 4 = .ok (.iload_n 1, 1) := dk_27 (dk_at dksX5_isKept_0 4 rfl rfl)
theorem dX5_isKept_5 : decode cX5_isKept 5 = .ok (.aload_n 0, 1) := dk_42 (dk_at dksX5_isKept_0 5 rfl rfl)
theorem dX5_isKept_6 : decode cX5_isKept 6 = .ok (.getfield 189, 3) := dk_180 0 189 (dk_at dksX5_isKept_0 6 rfl rfl)
theorem dX5_isKept_9 : decode cX5_isKept 9 = .ok (.if_icmp .ge 7, 3) := dk_162 0 7 (dk_at dksX5_isKept_0 9 rfl rfl)
theorem dX5_isKept_12 : decode cX5_isKept 12 = .ok (.iconst 1, 1) := dk_4 (dk_at dksX5_isKept_0 12 rfl rfl)
theorem dX5_isKept_13 : decode cX5_isKept 13 = .ok (.goto 4, 3) := dk_167 0 4 (dk_at dksX5_isKept_0 13 rfl rfl)
theorem dX5_isKept_16 : decode cX5_isKept 16 = .ok (.iconst 0, 1) := dk_3 (dk_at dksX5_isKept_0 16 rfl rfl)
theorem dX5_isKept_17 : decode cX5_isKept 17 = .ok (.ireturn, 1) := dk_172 (dk_at dksX5_isKept_0 17 rfl rfl)
abbrev cX5_keptAt : ByteArray := prog_9_method_34_code
def yX5_keptAt : MethodName := ⟨RX5, "keptAt", "(III)I"⟩
def dkwX5_keptAt_0 : List UInt8 := [42, 180, 0, 23, 16, 38, 27, 104, 16, 6, 28, 104, 96, 29, 96, 46, 172]
abbrev dktX5_keptAt_0 : List UInt8 := dkwX5_keptAt_0 ++ []
theorem dksX5_keptAt_0 : cX5_keptAt.data.toList.drop 0 = dktX5_keptAt_0 := by decide +kernel
theorem dX5_keptAt_0 : decode cX5_keptAt 0 = .ok (.aload_n 0, 1) := dk_42 (dk_at dksX5_keptAt_0 0 rfl rfl)
theorem dX5_keptAt_1 : decode cX5_keptAt 1 = .ok (.getfield 23, 3) := dk_180 0 23 (dk_at dksX5_keptAt_0 1 rfl rfl)
theorem dX5_keptAt_4 : decode cX5_keptAt 4 = .ok (.bipush 38, 2) := dk_16 38 (dk_at dksX5_keptAt_0 4 rfl rfl)
theorem dX5_keptAt_6 : decode cX5_keptAt 6 = .ok (.iload_n 1, 1) := dk_27 (dk_at dksX5_keptAt_0 6 rfl rfl)
theorem dX5_keptAt_7 : decode cX5_keptAt 7 = .ok (.imul, 1) := dk_104 (dk_at dksX5_keptAt_0 7 rfl rfl)
theorem dX5_keptAt_8 : decode cX5_keptAt 8 = .ok (.bipush 6, 2) := dk_16 6 (dk_at dksX5_keptAt_0 8 rfl rfl)
theorem dX5_keptAt_10 : decode cX5_keptAt 10 = .ok (.iload_n 2, 1) := dk_28 (dk_at dksX5_keptAt_0 10 rfl rfl)
theorem dX5_keptAt_11 : decode cX5_keptAt 11 = .ok (.imul, 1) := dk_104 (dk_at dksX5_keptAt_0 11 rfl rfl)
theorem dX5_keptAt_12 : decode cX5_keptAt 12 = .ok (.iadd, 1) := dk_96 (dk_at dksX5_keptAt_0 12 rfl rfl)
theorem dX5_keptAt_13 : decode cX5_keptAt 13 = .ok (.iload_n 3, 1) := dk_29 (dk_at dksX5_keptAt_0 13 rfl rfl)
theorem dX5_keptAt_14 : decode cX5_keptAt 14 = .ok (.iadd, 1) := dk_96 (dk_at dksX5_keptAt_0 14 rfl rfl)
theorem dX5_keptAt_15 : decode cX5_keptAt 15 = .ok (.iaload, 1) := dk_46 (dk_at dksX5_keptAt_0 15 rfl rfl)
theorem dX5_keptAt_16 : decode cX5_keptAt 16 = .ok (.ireturn, 1) := dk_172 (dk_at dksX5_keptAt_0 16 rfl rfl)
abbrev cX5_join : ByteArray := prog_9_method_36_code
def yX5_join : MethodName := ⟨RX5, "join", "(III)I"⟩
def dkwX5_join_16 : List UInt8 := [21, 5, 21, 7, 96, 29, 100, 79, 42, 180, 0, 13, 16, 36, 46, 172]
abbrev dktX5_join_16 : List UInt8 := dkwX5_join_16 ++ []
def dkwX5_join_15 : List UInt8 := [167, 255, 194, 42, 180, 0, 13, 16, 36, 21, 4, 21, 6, 96, 29, 100, 79, 42, 180, 0, 13, 16, 37]
abbrev dktX5_join_15 : List UInt8 := dkwX5_join_15 ++ dktX5_join_16
def dkwX5_join_14 : List UInt8 := [100, 21, 10, 96, 42, 28, 21, 8, 21, 10, 182, 0, 196, 79, 132, 10, 1, 167, 255, 222, 132, 8, 1]
abbrev dktX5_join_14 : List UInt8 := dkwX5_join_14 ++ dktX5_join_15
def dkwX5_join_13 : List UInt8 := [100, 104, 54, 9, 3, 54, 10, 21, 10, 21, 7, 162, 0, 33, 42, 180, 0, 13, 21, 9, 21, 5, 96, 29]
abbrev dktX5_join_13 : List UInt8 := dkwX5_join_13 ++ dktX5_join_14
def dkwX5_join_12 : List UInt8 := [132, 8, 1, 167, 255, 147, 29, 54, 8, 21, 8, 21, 6, 162, 0, 61, 16, 6, 21, 4, 21, 8, 96, 29]
abbrev dktX5_join_12 : List UInt8 := dkwX5_join_12 ++ dktX5_join_13
def dkwX5_join_11 : List UInt8 := [21, 5, 4, 100, 182, 0, 196, 42, 28, 3, 21, 9, 182, 0, 196, 104, 79, 132, 9, 1, 167, 255, 203]
abbrev dktX5_join_11 : List UInt8 := dkwX5_join_11 ++ dktX5_join_12
def dkwX5_join_10 : List UInt8 := [160, 0, 47, 42, 180, 0, 13, 16, 6, 21, 8, 104, 21, 5, 96, 4, 100, 21, 9, 96, 42, 27, 21, 8]
abbrev dktX5_join_10 : List UInt8 := dkwX5_join_10 ++ dktX5_join_11
def dkwX5_join_9 : List UInt8 := [21, 9, 182, 0, 196, 79, 132, 9, 1, 167, 255, 222, 3, 54, 9, 21, 9, 21, 7, 162, 0, 52, 29, 4]
abbrev dktX5_join_9 : List UInt8 := dkwX5_join_9 ++ dktX5_join_10
def dkwX5_join_8 : List UInt8 := [21, 5, 29, 100, 162, 0, 31, 42, 180, 0, 13, 16, 6, 21, 8, 104, 21, 9, 96, 42, 27, 21, 8]
abbrev dktX5_join_8 : List UInt8 := dkwX5_join_8 ++ dktX5_join_9
def dkwX5_join_7 : List UInt8 := [3, 79, 132, 8, 1, 167, 255, 238, 3, 54, 8, 21, 8, 21, 4, 162, 0, 108, 3, 54, 9, 21, 9]
abbrev dktX5_join_7 : List UInt8 := dkwX5_join_7 ++ dktX5_join_8
def dkwX5_join_6 : List UInt8 := [182, 0, 164, 172, 42, 182, 0, 167, 3, 54, 8, 21, 8, 16, 36, 162, 0, 17, 42, 180, 0, 13, 21, 8]
abbrev dktX5_join_6 : List UInt8 := dkwX5_join_6 ++ dktX5_join_7
def dkwX5_join_5 : List UInt8 := [21, 6, 96, 29, 100, 16, 6, 163, 0, 15, 21, 5, 21, 7, 96, 29, 100, 16, 6, 164, 0, 9, 42, 6]
abbrev dktX5_join_5 : List UInt8 := dkwX5_join_5 ++ dktX5_join_6
def dkwX5_join_4 : List UInt8 := [96, 46, 54, 7, 29, 4, 160, 0, 15, 21, 5, 5, 161, 0, 33, 21, 6, 5, 161, 0, 27, 21, 4]
abbrev dktX5_join_4 : List UInt8 := dkwX5_join_4 ++ dktX5_join_5
def dkwX5_join_3 : List UInt8 := [42, 180, 0, 23, 16, 38, 28, 104, 16, 36, 96, 46, 54, 6, 42, 180, 0, 23, 16, 38, 28, 104, 16, 37]
abbrev dktX5_join_3 : List UInt8 := dkwX5_join_3 ++ dktX5_join_4
def dkwX5_join_2 : List UInt8 := [16, 38, 27, 104, 16, 36, 96, 46, 54, 4, 42, 180, 0, 23, 16, 38, 27, 104, 16, 37, 96, 46, 54, 5]
abbrev dktX5_join_2 : List UInt8 := dkwX5_join_2 ++ dktX5_join_3
def dkwX5_join_1 : List UInt8 := [182, 0, 164, 172, 29, 133, 9, 10, 184, 0, 140, 154, 0, 9, 42, 4, 182, 0, 164, 172, 42, 180, 0, 23]
abbrev dktX5_join_1 : List UInt8 := dkwX5_join_1 ++ dktX5_join_2
def dkwX5_join_0 : List UInt8 := [42, 3, 181, 0, 83, 42, 27, 182, 0, 192, 153, 0, 11, 42, 28, 182, 0, 192, 154, 0, 9, 42, 3]
abbrev dktX5_join_0 : List UInt8 := dkwX5_join_0 ++ dktX5_join_1
theorem dksX5_join_0 : cX5_join.data.toList.drop 0 = dktX5_join_0 := by decide +kernel
theorem dksX5_join_1 : cX5_join.data.toList.drop 23 = dktX5_join_1 := dk_seg dksX5_join_0 23 rfl rfl
theorem dksX5_join_2 : cX5_join.data.toList.drop 47 = dktX5_join_2 := dk_seg dksX5_join_1 24 rfl rfl
theorem dksX5_join_3 : cX5_join.data.toList.drop 71 = dktX5_join_3 := dk_seg dksX5_join_2 24 rfl rfl
theorem dksX5_join_4 : cX5_join.data.toList.drop 95 = dktX5_join_4 := dk_seg dksX5_join_3 24 rfl rfl
theorem dksX5_join_5 : cX5_join.data.toList.drop 118 = dktX5_join_5 := dk_seg dksX5_join_4 23 rfl rfl
theorem dksX5_join_6 : cX5_join.data.toList.drop 142 = dktX5_join_6 := dk_seg dksX5_join_5 24 rfl rfl
theorem dksX5_join_7 : cX5_join.data.toList.drop 166 = dktX5_join_7 := dk_seg dksX5_join_6 24 rfl rfl
theorem dksX5_join_8 : cX5_join.data.toList.drop 189 = dktX5_join_8 := dk_seg dksX5_join_7 23 rfl rfl
theorem dksX5_join_9 : cX5_join.data.toList.drop 212 = dktX5_join_9 := dk_seg dksX5_join_8 23 rfl rfl
theorem dksX5_join_10 : cX5_join.data.toList.drop 236 = dktX5_join_10 := dk_seg dksX5_join_9 24 rfl rfl
theorem dksX5_join_11 : cX5_join.data.toList.drop 260 = dktX5_join_11 := dk_seg dksX5_join_10 24 rfl rfl
theorem dksX5_join_12 : cX5_join.data.toList.drop 283 = dktX5_join_12 := dk_seg dksX5_join_11 23 rfl rfl
theorem dksX5_join_13 : cX5_join.data.toList.drop 307 = dktX5_join_13 := dk_seg dksX5_join_12 24 rfl rfl
theorem dksX5_join_14 : cX5_join.data.toList.drop 331 = dktX5_join_14 := dk_seg dksX5_join_13 24 rfl rfl
theorem dksX5_join_15 : cX5_join.data.toList.drop 354 = dktX5_join_15 := dk_seg dksX5_join_14 23 rfl rfl
theorem dksX5_join_16 : cX5_join.data.toList.drop 377 = dktX5_join_16 := dk_seg dksX5_join_15 23 rfl rfl
theorem dX5_join_0 : decode cX5_join 0 = .ok (.aload_n 0, 1) := dk_42 (dk_at dksX5_join_0 0 rfl rfl)
theorem dX5_join_1 : decode cX5_join 1 = .ok (.iconst 0, 1) := dk_3 (dk_at dksX5_join_0 1 rfl rfl)
theorem dX5_join_2 : decode cX5_join 2 = .ok (.putfield 83, 3) := dk_181 0 83 (dk_at dksX5_join_0 2 rfl rfl)
theorem dX5_join_5 : decode cX5_join 5 = .ok (.aload_n 0, 1) := dk_42 (dk_at dksX5_join_0 5 rfl rfl)
theorem dX5_join_6 : decode cX5_join 6 = .ok (.iload_n 1, 1) := dk_27 (dk_at dksX5_join_0 6 rfl rfl)
theorem dX5_join_7 : decode cX5_join 7 = .ok (.invokevirtual 192, 3) := dk_182 0 192 (dk_at dksX5_join_0 7 rfl rfl)
theorem dX5_join_10 : decode cX5_join 10 = .ok (.ifCond .eq 11, 3) := dk_153 0 11 (dk_at dksX5_join_0 10 rfl rfl)
theorem dX5_join_13 : decode cX5_join 13 = .ok (.aload_n 0, 1) := dk_42 (dk_at dksX5_join_0 13 rfl rfl)
theorem dX5_join_14 : decode cX5_join 14 = .ok (.iload_n 2, 1) := dk_28 (dk_at dksX5_join_0 14 rfl rfl)
theorem dX5_join_15 : decode cX5_join 15 = .ok (.invokevirtual 192, 3) := dk_182 0 192 (dk_at dksX5_join_0 15 rfl rfl)
theorem dX5_join_18 : decode cX5_join 18 = .ok (.ifCond .ne 9, 3) := dk_154 0 9 (dk_at dksX5_join_0 18 rfl rfl)
theorem dX5_join_21 : decode cX5_join 21 = .ok (.aload_n 0, 1) := dk_42 (dk_at dksX5_join_0 21 rfl rfl)
theorem dX5_join_22 : decode cX5_join 22 = .ok (.iconst 0, 1) := dk_3 (dk_at dksX5_join_0 22 rfl rfl)
theorem dX5_join_23 : decode cX5_join 23 = .ok (.invokevirtual 164, 3) := dk_182 0 164 (dk_at dksX5_join_1 0 rfl rfl)
theorem dX5_join_26 : decode cX5_join 26 = .ok (.ireturn, 1) := dk_172 (dk_at dksX5_join_1 3 rfl rfl)
theorem dX5_join_27 : decode cX5_join 27 = .ok (.iload_n 3, 1) := dk_29 (dk_at dksX5_join_1 4 rfl rfl)
theorem dX5_join_28 : decode cX5_join 28 = .ok (.i2l, 1) := dk_133 (dk_at dksX5_join_1 5 rfl rfl)
theorem dX5_join_29 : decode cX5_join 29 = .ok (.lconst 0, 1) := dk_9 (dk_at dksX5_join_1 6 rfl rfl)
theorem dX5_join_30 : decode cX5_join 30 = .ok (.lconst 1, 1) := dk_10 (dk_at dksX5_join_1 7 rfl rfl)
theorem dX5_join_31 : decode cX5_join 31 = .ok (.invokestatic 140, 3) := dk_184 0 140 (dk_at dksX5_join_1 8 rfl rfl)
theorem dX5_join_34 : decode cX5_join 34 = .ok (.ifCond .ne 9, 3) := dk_154 0 9 (dk_at dksX5_join_1 11 rfl rfl)
theorem dX5_join_37 : decode cX5_join 37 = .ok (.aload_n 0, 1) := dk_42 (dk_at dksX5_join_1 14 rfl rfl)
theorem dX5_join_38 : decode cX5_join 38 = .ok (.iconst 1, 1) := dk_4 (dk_at dksX5_join_1 15 rfl rfl)
theorem dX5_join_39 : decode cX5_join 39 = .ok (.invokevirtual 164, 3) := dk_182 0 164 (dk_at dksX5_join_1 16 rfl rfl)
theorem dX5_join_42 : decode cX5_join 42 = .ok (.ireturn, 1) := dk_172 (dk_at dksX5_join_1 19 rfl rfl)
theorem dX5_join_43 : decode cX5_join 43 = .ok (.aload_n 0, 1) := dk_42 (dk_at dksX5_join_1 20 rfl rfl)
theorem dX5_join_44 : decode cX5_join 44 = .ok (.getfield 23, 3) := dk_180 0 23 (dk_at dksX5_join_1 21 rfl rfl)
theorem dX5_join_47 : decode cX5_join 47 = .ok (.bipush 38, 2) := dk_16 38 (dk_at dksX5_join_2 0 rfl rfl)
theorem dX5_join_49 : decode cX5_join 49 = .ok (.iload_n 1, 1) := dk_27 (dk_at dksX5_join_2 2 rfl rfl)
theorem dX5_join_50 : decode cX5_join 50 = .ok (.imul, 1) := dk_104 (dk_at dksX5_join_2 3 rfl rfl)
theorem dX5_join_51 : decode cX5_join 51 = .ok (.bipush 36, 2) := dk_16 36 (dk_at dksX5_join_2 4 rfl rfl)
theorem dX5_join_53 : decode cX5_join 53 = .ok (.iadd, 1) := dk_96 (dk_at dksX5_join_2 6 rfl rfl)
theorem dX5_join_54 : decode cX5_join 54 = .ok (.iaload, 1) := dk_46 (dk_at dksX5_join_2 7 rfl rfl)
theorem dX5_join_55 : decode cX5_join 55 = .ok (.istore 4, 2) := dk_54 4 (dk_at dksX5_join_2 8 rfl rfl)
theorem dX5_join_57 : decode cX5_join 57 = .ok (.aload_n 0, 1) := dk_42 (dk_at dksX5_join_2 10 rfl rfl)
theorem dX5_join_58 : decode cX5_join 58 = .ok (.getfield 23, 3) := dk_180 0 23 (dk_at dksX5_join_2 11 rfl rfl)
theorem dX5_join_61 : decode cX5_join 61 = .ok (.bipush 38, 2) := dk_16 38 (dk_at dksX5_join_2 14 rfl rfl)
theorem dX5_join_63 : decode cX5_join 63 = .ok (.iload_n 1, 1) := dk_27 (dk_at dksX5_join_2 16 rfl rfl)
theorem dX5_join_64 : decode cX5_join 64 = .ok (.imul, 1) := dk_104 (dk_at dksX5_join_2 17 rfl rfl)
theorem dX5_join_65 : decode cX5_join 65 = .ok (.bipush 37, 2) := dk_16 37 (dk_at dksX5_join_2 18 rfl rfl)
theorem dX5_join_67 : decode cX5_join 67 = .ok (.iadd, 1) := dk_96 (dk_at dksX5_join_2 20 rfl rfl)
theorem dX5_join_68 : decode cX5_join 68 = .ok (.iaload, 1) := dk_46 (dk_at dksX5_join_2 21 rfl rfl)
theorem dX5_join_69 : decode cX5_join 69 = .ok (.istore 5, 2) := dk_54 5 (dk_at dksX5_join_2 22 rfl rfl)
theorem dX5_join_71 : decode cX5_join 71 = .ok (.aload_n 0, 1) := dk_42 (dk_at dksX5_join_3 0 rfl rfl)
theorem dX5_join_72 : decode cX5_join 72 = .ok (.getfield 23, 3) := dk_180 0 23 (dk_at dksX5_join_3 1 rfl rfl)
theorem dX5_join_75 : decode cX5_join 75 = .ok (.bipush 38, 2) := dk_16 38 (dk_at dksX5_join_3 4 rfl rfl)
theorem dX5_join_77 : decode cX5_join 77 = .ok (.iload_n 2, 1) := dk_28 (dk_at dksX5_join_3 6 rfl rfl)
theorem dX5_join_78 : decode cX5_join 78 = .ok (.imul, 1) := dk_104 (dk_at dksX5_join_3 7 rfl rfl)
theorem dX5_join_79 : decode cX5_join 79 = .ok (.bipush 36, 2) := dk_16 36 (dk_at dksX5_join_3 8 rfl rfl)
theorem dX5_join_81 : decode cX5_join 81 = .ok (.iadd, 1) := dk_96 (dk_at dksX5_join_3 10 rfl rfl)
theorem dX5_join_82 : decode cX5_join 82 = .ok (.iaload, 1) := dk_46 (dk_at dksX5_join_3 11 rfl rfl)
theorem dX5_join_83 : decode cX5_join 83 = .ok (.istore 6, 2) := dk_54 6 (dk_at dksX5_join_3 12 rfl rfl)
theorem dX5_join_85 : decode cX5_join 85 = .ok (.aload_n 0, 1) := dk_42 (dk_at dksX5_join_3 14 rfl rfl)
theorem dX5_join_86 : decode cX5_join 86 = .ok (.getfield 23, 3) := dk_180 0 23 (dk_at dksX5_join_3 15 rfl rfl)
theorem dX5_join_89 : decode cX5_join 89 = .ok (.bipush 38, 2) := dk_16 38 (dk_at dksX5_join_3 18 rfl rfl)
theorem dX5_join_91 : decode cX5_join 91 = .ok (.iload_n 2, 1) := dk_28 (dk_at dksX5_join_3 20 rfl rfl)
theorem dX5_join_92 : decode cX5_join 92 = .ok (.imul, 1) := dk_104 (dk_at dksX5_join_3 21 rfl rfl)
theorem dX5_join_93 : decode cX5_join 93 = .ok (.bipush 37, 2) := dk_16 37 (dk_at dksX5_join_3 22 rfl rfl)
theorem dX5_join_95 : decode cX5_join 95 = .ok (.iadd, 1) := dk_96 (dk_at dksX5_join_4 0 rfl rfl)
theorem dX5_join_96 : decode cX5_join 96 = .ok (.iaload, 1) := dk_46 (dk_at dksX5_join_4 1 rfl rfl)
theorem dX5_join_97 : decode cX5_join 97 = .ok (.istore 7, 2) := dk_54 7 (dk_at dksX5_join_4 2 rfl rfl)
theorem dX5_join_99 : decode cX5_join 99 = .ok (.iload_n 3, 1) := dk_29 (dk_at dksX5_join_4 4 rfl rfl)
theorem dX5_join_100 : decode cX5_join 100 = .ok (.iconst 1, 1) := dk_4 (dk_at dksX5_join_4 5 rfl rfl)
theorem dX5_join_101 : decode cX5_join 101 = .ok (.if_icmp .ne 15, 3) := dk_160 0 15 (dk_at dksX5_join_4 6 rfl rfl)
theorem dX5_join_104 : decode cX5_join 104 = .ok (.iload 5, 2) := dk_21 5 (dk_at dksX5_join_4 9 rfl rfl)
theorem dX5_join_106 : decode cX5_join 106 = .ok (.iconst 2, 1) := dk_5 (dk_at dksX5_join_4 11 rfl rfl)
theorem dX5_join_107 : decode cX5_join 107 = .ok (.if_icmp .lt 33, 3) := dk_161 0 33 (dk_at dksX5_join_4 12 rfl rfl)
theorem dX5_join_110 : decode cX5_join 110 = .ok (.iload 6, 2) := dk_21 6 (dk_at dksX5_join_4 15 rfl rfl)
theorem dX5_join_112 : decode cX5_join 112 = .ok (.iconst 2, 1) := dk_5 (dk_at dksX5_join_4 17 rfl rfl)
theorem dX5_join_113 : decode cX5_join 113 = .ok (.if_icmp .lt 27, 3) := dk_161 0 27 (dk_at dksX5_join_4 18 rfl rfl)
theorem dX5_join_116 : decode cX5_join 116 = .ok (.iload 4, 2) := dk_21 4 (dk_at dksX5_join_4 21 rfl rfl)
theorem dX5_join_118 : decode cX5_join 118 = .ok (.iload 6, 2) := dk_21 6 (dk_at dksX5_join_5 0 rfl rfl)
theorem dX5_join_120 : decode cX5_join 120 = .ok (.iadd, 1) := dk_96 (dk_at dksX5_join_5 2 rfl rfl)
theorem dX5_join_121 : decode cX5_join 121 = .ok (.iload_n 3, 1) := dk_29 (dk_at dksX5_join_5 3 rfl rfl)
theorem dX5_join_122 : decode cX5_join 122 = .ok (.isub, 1) := dk_100 (dk_at dksX5_join_5 4 rfl rfl)
theorem dX5_join_123 : decode cX5_join 123 = .ok (.bipush 6, 2) := dk_16 6 (dk_at dksX5_join_5 5 rfl rfl)
theorem dX5_join_125 : decode cX5_join 125 = .ok (.if_icmp .gt 15, 3) := dk_163 0 15 (dk_at dksX5_join_5 7 rfl rfl)
theorem dX5_join_128 : decode cX5_join 128 = .ok (.iload 5, 2) := dk_21 5 (dk_at dksX5_join_5 10 rfl rfl)
theorem dX5_join_130 : decode cX5_join 130 = .ok (.iload 7, 2) := dk_21 7 (dk_at dksX5_join_5 12 rfl rfl)
theorem dX5_join_132 : decode cX5_join 132 = .ok (.iadd, 1) := dk_96 (dk_at dksX5_join_5 14 rfl rfl)
theorem dX5_join_133 : decode cX5_join 133 = .ok (.iload_n 3, 1) := dk_29 (dk_at dksX5_join_5 15 rfl rfl)
theorem dX5_join_134 : decode cX5_join 134 = .ok (.isub, 1) := dk_100 (dk_at dksX5_join_5 16 rfl rfl)
theorem dX5_join_135 : decode cX5_join 135 = .ok (.bipush 6, 2) := dk_16 6 (dk_at dksX5_join_5 17 rfl rfl)
theorem dX5_join_137 : decode cX5_join 137 = .ok (.if_icmp .le 9, 3) := dk_164 0 9 (dk_at dksX5_join_5 19 rfl rfl)
theorem dX5_join_140 : decode cX5_join 140 = .ok (.aload_n 0, 1) := dk_42 (dk_at dksX5_join_5 22 rfl rfl)
theorem dX5_join_141 : decode cX5_join 141 = .ok (.iconst 3, 1) := dk_6 (dk_at dksX5_join_5 23 rfl rfl)
theorem dX5_join_142 : decode cX5_join 142 = .ok (.invokevirtual 164, 3) := dk_182 0 164 (dk_at dksX5_join_6 0 rfl rfl)
theorem dX5_join_145 : decode cX5_join 145 = .ok (.ireturn, 1) := dk_172 (dk_at dksX5_join_6 3 rfl rfl)
theorem dX5_join_146 : decode cX5_join 146 = .ok (.aload_n 0, 1) := dk_42 (dk_at dksX5_join_6 4 rfl rfl)
theorem dX5_join_147 : decode cX5_join 147 = .ok (.invokevirtual 167, 3) := dk_182 0 167 (dk_at dksX5_join_6 5 rfl rfl)
theorem dX5_join_150 : decode cX5_join 150 = .ok (.iconst 0, 1) := dk_3 (dk_at dksX5_join_6 8 rfl rfl)
theorem dX5_join_151 : decode cX5_join 151 = .ok (.istore 8, 2) := dk_54 8 (dk_at dksX5_join_6 9 rfl rfl)
theorem dX5_join_153 : decode cX5_join 153 = .ok (.iload 8, 2) := dk_21 8 (dk_at dksX5_join_6 11 rfl rfl)
theorem dX5_join_155 : decode cX5_join 155 = .ok (.bipush 36, 2) := dk_16 36 (dk_at dksX5_join_6 13 rfl rfl)
theorem dX5_join_157 : decode cX5_join 157 = .ok (.if_icmp .ge 17, 3) := dk_162 0 17 (dk_at dksX5_join_6 15 rfl rfl)
theorem dX5_join_160 : decode cX5_join 160 = .ok (.aload_n 0, 1) := dk_42 (dk_at dksX5_join_6 18 rfl rfl)
theorem dX5_join_161 : decode cX5_join 161 = .ok (.getfield 13, 3) := dk_180 0 13 (dk_at dksX5_join_6 19 rfl rfl)
theorem dX5_join_164 : decode cX5_join 164 = .ok (.iload 8, 2) := dk_21 8 (dk_at dksX5_join_6 22 rfl rfl)
theorem dX5_join_166 : decode cX5_join 166 = .ok (.iconst 0, 1) := dk_3 (dk_at dksX5_join_7 0 rfl rfl)
theorem dX5_join_167 : decode cX5_join 167 = .ok (.iastore, 1) := dk_79 (dk_at dksX5_join_7 1 rfl rfl)
theorem dX5_join_168 : decode cX5_join 168 = .ok (.iinc 8 1, 3) := dk_132 8 1 (dk_at dksX5_join_7 2 rfl rfl)
theorem dX5_join_171 : decode cX5_join 171 = .ok (.goto (-18), 3) := dk_167 255 238 (dk_at dksX5_join_7 5 rfl rfl)
theorem dX5_join_174 : decode cX5_join 174 = .ok (.iconst 0, 1) := dk_3 (dk_at dksX5_join_7 8 rfl rfl)
theorem dX5_join_175 : decode cX5_join 175 = .ok (.istore 8, 2) := dk_54 8 (dk_at dksX5_join_7 9 rfl rfl)
theorem dX5_join_177 : decode cX5_join 177 = .ok (.iload 8, 2) := dk_21 8 (dk_at dksX5_join_7 11 rfl rfl)
theorem dX5_join_179 : decode cX5_join 179 = .ok (.iload 4, 2) := dk_21 4 (dk_at dksX5_join_7 13 rfl rfl)
theorem dX5_join_181 : decode cX5_join 181 = .ok (.if_icmp .ge 108, 3) := dk_162 0 108 (dk_at dksX5_join_7 15 rfl rfl)
theorem dX5_join_184 : decode cX5_join 184 = .ok (.iconst 0, 1) := dk_3 (dk_at dksX5_join_7 18 rfl rfl)
theorem dX5_join_185 : decode cX5_join 185 = .ok (.istore 9, 2) := dk_54 9 (dk_at dksX5_join_7 19 rfl rfl)
theorem dX5_join_187 : decode cX5_join 187 = .ok (.iload 9, 2) := dk_21 9 (dk_at dksX5_join_7 21 rfl rfl)
theorem dX5_join_189 : decode cX5_join 189 = .ok (.iload 5, 2) := dk_21 5 (dk_at dksX5_join_8 0 rfl rfl)
theorem dX5_join_191 : decode cX5_join 191 = .ok (.iload_n 3, 1) := dk_29 (dk_at dksX5_join_8 2 rfl rfl)
theorem dX5_join_192 : decode cX5_join 192 = .ok (.isub, 1) := dk_100 (dk_at dksX5_join_8 3 rfl rfl)
theorem dX5_join_193 : decode cX5_join 193 = .ok (.if_icmp .ge 31, 3) := dk_162 0 31 (dk_at dksX5_join_8 4 rfl rfl)
theorem dX5_join_196 : decode cX5_join 196 = .ok (.aload_n 0, 1) := dk_42 (dk_at dksX5_join_8 7 rfl rfl)
theorem dX5_join_197 : decode cX5_join 197 = .ok (.getfield 13, 3) := dk_180 0 13 (dk_at dksX5_join_8 8 rfl rfl)
theorem dX5_join_200 : decode cX5_join 200 = .ok (.bipush 6, 2) := dk_16 6 (dk_at dksX5_join_8 11 rfl rfl)
theorem dX5_join_202 : decode cX5_join 202 = .ok (.iload 8, 2) := dk_21 8 (dk_at dksX5_join_8 13 rfl rfl)
theorem dX5_join_204 : decode cX5_join 204 = .ok (.imul, 1) := dk_104 (dk_at dksX5_join_8 15 rfl rfl)
theorem dX5_join_205 : decode cX5_join 205 = .ok (.iload 9, 2) := dk_21 9 (dk_at dksX5_join_8 16 rfl rfl)
theorem dX5_join_207 : decode cX5_join 207 = .ok (.iadd, 1) := dk_96 (dk_at dksX5_join_8 18 rfl rfl)
theorem dX5_join_208 : decode cX5_join 208 = .ok (.aload_n 0, 1) := dk_42 (dk_at dksX5_join_8 19 rfl rfl)
theorem dX5_join_209 : decode cX5_join 209 = .ok (.iload_n 1, 1) := dk_27 (dk_at dksX5_join_8 20 rfl rfl)
theorem dX5_join_210 : decode cX5_join 210 = .ok (.iload 8, 2) := dk_21 8 (dk_at dksX5_join_8 21 rfl rfl)
theorem dX5_join_212 : decode cX5_join 212 = .ok (.iload 9, 2) := dk_21 9 (dk_at dksX5_join_9 0 rfl rfl)
theorem dX5_join_214 : decode cX5_join 214 = .ok (.invokevirtual 196, 3) := dk_182 0 196 (dk_at dksX5_join_9 2 rfl rfl)
theorem dX5_join_217 : decode cX5_join 217 = .ok (.iastore, 1) := dk_79 (dk_at dksX5_join_9 5 rfl rfl)
theorem dX5_join_218 : decode cX5_join 218 = .ok (.iinc 9 1, 3) := dk_132 9 1 (dk_at dksX5_join_9 6 rfl rfl)
theorem dX5_join_221 : decode cX5_join 221 = .ok (.goto (-34), 3) := dk_167 255 222 (dk_at dksX5_join_9 9 rfl rfl)
theorem dX5_join_224 : decode cX5_join 224 = .ok (.iconst 0, 1) := dk_3 (dk_at dksX5_join_9 12 rfl rfl)
theorem dX5_join_225 : decode cX5_join 225 = .ok (.istore 9, 2) := dk_54 9 (dk_at dksX5_join_9 13 rfl rfl)
theorem dX5_join_227 : decode cX5_join 227 = .ok (.iload 9, 2) := dk_21 9 (dk_at dksX5_join_9 15 rfl rfl)
theorem dX5_join_229 : decode cX5_join 229 = .ok (.iload 7, 2) := dk_21 7 (dk_at dksX5_join_9 17 rfl rfl)
theorem dX5_join_231 : decode cX5_join 231 = .ok (.if_icmp .ge 52, 3) := dk_162 0 52 (dk_at dksX5_join_9 19 rfl rfl)
theorem dX5_join_234 : decode cX5_join 234 = .ok (.iload_n 3, 1) := dk_29 (dk_at dksX5_join_9 22 rfl rfl)
theorem dX5_join_235 : decode cX5_join 235 = .ok (.iconst 1, 1) := dk_4 (dk_at dksX5_join_9 23 rfl rfl)
theorem dX5_join_236 : decode cX5_join 236 = .ok (.if_icmp .ne 47, 3) := dk_160 0 47 (dk_at dksX5_join_10 0 rfl rfl)
theorem dX5_join_239 : decode cX5_join 239 = .ok (.aload_n 0, 1) := dk_42 (dk_at dksX5_join_10 3 rfl rfl)
theorem dX5_join_240 : decode cX5_join 240 = .ok (.getfield 13, 3) := dk_180 0 13 (dk_at dksX5_join_10 4 rfl rfl)
theorem dX5_join_243 : decode cX5_join 243 = .ok (.bipush 6, 2) := dk_16 6 (dk_at dksX5_join_10 7 rfl rfl)
theorem dX5_join_245 : decode cX5_join 245 = .ok (.iload 8, 2) := dk_21 8 (dk_at dksX5_join_10 9 rfl rfl)
theorem dX5_join_247 : decode cX5_join 247 = .ok (.imul, 1) := dk_104 (dk_at dksX5_join_10 11 rfl rfl)
theorem dX5_join_248 : decode cX5_join 248 = .ok (.iload 5, 2) := dk_21 5 (dk_at dksX5_join_10 12 rfl rfl)
theorem dX5_join_250 : decode cX5_join 250 = .ok (.iadd, 1) := dk_96 (dk_at dksX5_join_10 14 rfl rfl)
theorem dX5_join_251 : decode cX5_join 251 = .ok (.iconst 1, 1) := dk_4 (dk_at dksX5_join_10 15 rfl rfl)
theorem dX5_join_252 : decode cX5_join 252 = .ok (.isub, 1) := dk_100 (dk_at dksX5_join_10 16 rfl rfl)
theorem dX5_join_253 : decode cX5_join 253 = .ok (.iload 9, 2) := dk_21 9 (dk_at dksX5_join_10 17 rfl rfl)
theorem dX5_join_255 : decode cX5_join 255 = .ok (.iadd, 1) := dk_96 (dk_at dksX5_join_10 19 rfl rfl)
theorem dX5_join_256 : decode cX5_join 256 = .ok (.aload_n 0, 1) := dk_42 (dk_at dksX5_join_10 20 rfl rfl)
theorem dX5_join_257 : decode cX5_join 257 = .ok (.iload_n 1, 1) := dk_27 (dk_at dksX5_join_10 21 rfl rfl)
theorem dX5_join_258 : decode cX5_join 258 = .ok (.iload 8, 2) := dk_21 8 (dk_at dksX5_join_10 22 rfl rfl)
theorem dX5_join_260 : decode cX5_join 260 = .ok (.iload 5, 2) := dk_21 5 (dk_at dksX5_join_11 0 rfl rfl)
theorem dX5_join_262 : decode cX5_join 262 = .ok (.iconst 1, 1) := dk_4 (dk_at dksX5_join_11 2 rfl rfl)
theorem dX5_join_263 : decode cX5_join 263 = .ok (.isub, 1) := dk_100 (dk_at dksX5_join_11 3 rfl rfl)
theorem dX5_join_264 : decode cX5_join 264 = .ok (.invokevirtual 196, 3) := dk_182 0 196 (dk_at dksX5_join_11 4 rfl rfl)
theorem dX5_join_267 : decode cX5_join 267 = .ok (.aload_n 0, 1) := dk_42 (dk_at dksX5_join_11 7 rfl rfl)
theorem dX5_join_268 : decode cX5_join 268 = .ok (.iload_n 2, 1) := dk_28 (dk_at dksX5_join_11 8 rfl rfl)
theorem dX5_join_269 : decode cX5_join 269 = .ok (.iconst 0, 1) := dk_3 (dk_at dksX5_join_11 9 rfl rfl)
theorem dX5_join_270 : decode cX5_join 270 = .ok (.iload 9, 2) := dk_21 9 (dk_at dksX5_join_11 10 rfl rfl)
theorem dX5_join_272 : decode cX5_join 272 = .ok (.invokevirtual 196, 3) := dk_182 0 196 (dk_at dksX5_join_11 12 rfl rfl)
theorem dX5_join_275 : decode cX5_join 275 = .ok (.imul, 1) := dk_104 (dk_at dksX5_join_11 15 rfl rfl)
theorem dX5_join_276 : decode cX5_join 276 = .ok (.iastore, 1) := dk_79 (dk_at dksX5_join_11 16 rfl rfl)
theorem dX5_join_277 : decode cX5_join 277 = .ok (.iinc 9 1, 3) := dk_132 9 1 (dk_at dksX5_join_11 17 rfl rfl)
theorem dX5_join_280 : decode cX5_join 280 = .ok (.goto (-53), 3) := dk_167 255 203 (dk_at dksX5_join_11 20 rfl rfl)
theorem dX5_join_283 : decode cX5_join 283 = .ok (.iinc 8 1, 3) := dk_132 8 1 (dk_at dksX5_join_12 0 rfl rfl)
theorem dX5_join_286 : decode cX5_join 286 = .ok (.goto (-109), 3) := dk_167 255 147 (dk_at dksX5_join_12 3 rfl rfl)
theorem dX5_join_289 : decode cX5_join 289 = .ok (.iload_n 3, 1) := dk_29 (dk_at dksX5_join_12 6 rfl rfl)
theorem dX5_join_290 : decode cX5_join 290 = .ok (.istore 8, 2) := dk_54 8 (dk_at dksX5_join_12 7 rfl rfl)
theorem dX5_join_292 : decode cX5_join 292 = .ok (.iload 8, 2) := dk_21 8 (dk_at dksX5_join_12 9 rfl rfl)
theorem dX5_join_294 : decode cX5_join 294 = .ok (.iload 6, 2) := dk_21 6 (dk_at dksX5_join_12 11 rfl rfl)
theorem dX5_join_296 : decode cX5_join 296 = .ok (.if_icmp .ge 61, 3) := dk_162 0 61 (dk_at dksX5_join_12 13 rfl rfl)
theorem dX5_join_299 : decode cX5_join 299 = .ok (.bipush 6, 2) := dk_16 6 (dk_at dksX5_join_12 16 rfl rfl)
theorem dX5_join_301 : decode cX5_join 301 = .ok (.iload 4, 2) := dk_21 4 (dk_at dksX5_join_12 18 rfl rfl)
theorem dX5_join_303 : decode cX5_join 303 = .ok (.iload 8, 2) := dk_21 8 (dk_at dksX5_join_12 20 rfl rfl)
theorem dX5_join_305 : decode cX5_join 305 = .ok (.iadd, 1) := dk_96 (dk_at dksX5_join_12 22 rfl rfl)
theorem dX5_join_306 : decode cX5_join 306 = .ok (.iload_n 3, 1) := dk_29 (dk_at dksX5_join_12 23 rfl rfl)
theorem dX5_join_307 : decode cX5_join 307 = .ok (.isub, 1) := dk_100 (dk_at dksX5_join_13 0 rfl rfl)
theorem dX5_join_308 : decode cX5_join 308 = .ok (.imul, 1) := dk_104 (dk_at dksX5_join_13 1 rfl rfl)
theorem dX5_join_309 : decode cX5_join 309 = .ok (.istore 9, 2) := dk_54 9 (dk_at dksX5_join_13 2 rfl rfl)
theorem dX5_join_311 : decode cX5_join 311 = .ok (.iconst 0, 1) := dk_3 (dk_at dksX5_join_13 4 rfl rfl)
theorem dX5_join_312 : decode cX5_join 312 = .ok (.istore 10, 2) := dk_54 10 (dk_at dksX5_join_13 5 rfl rfl)
theorem dX5_join_314 : decode cX5_join 314 = .ok (.iload 10, 2) := dk_21 10 (dk_at dksX5_join_13 7 rfl rfl)
theorem dX5_join_316 : decode cX5_join 316 = .ok (.iload 7, 2) := dk_21 7 (dk_at dksX5_join_13 9 rfl rfl)
theorem dX5_join_318 : decode cX5_join 318 = .ok (.if_icmp .ge 33, 3) := dk_162 0 33 (dk_at dksX5_join_13 11 rfl rfl)
theorem dX5_join_321 : decode cX5_join 321 = .ok (.aload_n 0, 1) := dk_42 (dk_at dksX5_join_13 14 rfl rfl)
theorem dX5_join_322 : decode cX5_join 322 = .ok (.getfield 13, 3) := dk_180 0 13 (dk_at dksX5_join_13 15 rfl rfl)
theorem dX5_join_325 : decode cX5_join 325 = .ok (.iload 9, 2) := dk_21 9 (dk_at dksX5_join_13 18 rfl rfl)
theorem dX5_join_327 : decode cX5_join 327 = .ok (.iload 5, 2) := dk_21 5 (dk_at dksX5_join_13 20 rfl rfl)
theorem dX5_join_329 : decode cX5_join 329 = .ok (.iadd, 1) := dk_96 (dk_at dksX5_join_13 22 rfl rfl)
theorem dX5_join_330 : decode cX5_join 330 = .ok (.iload_n 3, 1) := dk_29 (dk_at dksX5_join_13 23 rfl rfl)
theorem dX5_join_331 : decode cX5_join 331 = .ok (.isub, 1) := dk_100 (dk_at dksX5_join_14 0 rfl rfl)
theorem dX5_join_332 : decode cX5_join 332 = .ok (.iload 10, 2) := dk_21 10 (dk_at dksX5_join_14 1 rfl rfl)
theorem dX5_join_334 : decode cX5_join 334 = .ok (.iadd, 1) := dk_96 (dk_at dksX5_join_14 3 rfl rfl)
theorem dX5_join_335 : decode cX5_join 335 = .ok (.aload_n 0, 1) := dk_42 (dk_at dksX5_join_14 4 rfl rfl)
theorem dX5_join_336 : decode cX5_join 336 = .ok (.iload_n 2, 1) := dk_28 (dk_at dksX5_join_14 5 rfl rfl)
theorem dX5_join_337 : decode cX5_join 337 = .ok (.iload 8, 2) := dk_21 8 (dk_at dksX5_join_14 6 rfl rfl)
theorem dX5_join_339 : decode cX5_join 339 = .ok (.iload 10, 2) := dk_21 10 (dk_at dksX5_join_14 8 rfl rfl)
theorem dX5_join_341 : decode cX5_join 341 = .ok (.invokevirtual 196, 3) := dk_182 0 196 (dk_at dksX5_join_14 10 rfl rfl)
theorem dX5_join_344 : decode cX5_join 344 = .ok (.iastore, 1) := dk_79 (dk_at dksX5_join_14 13 rfl rfl)
theorem dX5_join_345 : decode cX5_join 345 = .ok (.iinc 10 1, 3) := dk_132 10 1 (dk_at dksX5_join_14 14 rfl rfl)
theorem dX5_join_348 : decode cX5_join 348 = .ok (.goto (-34), 3) := dk_167 255 222 (dk_at dksX5_join_14 17 rfl rfl)
theorem dX5_join_351 : decode cX5_join 351 = .ok (.iinc 8 1, 3) := dk_132 8 1 (dk_at dksX5_join_14 20 rfl rfl)
theorem dX5_join_354 : decode cX5_join 354 = .ok (.goto (-62), 3) := dk_167 255 194 (dk_at dksX5_join_15 0 rfl rfl)
theorem dX5_join_357 : decode cX5_join 357 = .ok (.aload_n 0, 1) := dk_42 (dk_at dksX5_join_15 3 rfl rfl)
theorem dX5_join_358 : decode cX5_join 358 = .ok (.getfield 13, 3) := dk_180 0 13 (dk_at dksX5_join_15 4 rfl rfl)
theorem dX5_join_361 : decode cX5_join 361 = .ok (.bipush 36, 2) := dk_16 36 (dk_at dksX5_join_15 7 rfl rfl)
theorem dX5_join_363 : decode cX5_join 363 = .ok (.iload 4, 2) := dk_21 4 (dk_at dksX5_join_15 9 rfl rfl)
theorem dX5_join_365 : decode cX5_join 365 = .ok (.iload 6, 2) := dk_21 6 (dk_at dksX5_join_15 11 rfl rfl)
theorem dX5_join_367 : decode cX5_join 367 = .ok (.iadd, 1) := dk_96 (dk_at dksX5_join_15 13 rfl rfl)
theorem dX5_join_368 : decode cX5_join 368 = .ok (.iload_n 3, 1) := dk_29 (dk_at dksX5_join_15 14 rfl rfl)
theorem dX5_join_369 : decode cX5_join 369 = .ok (.isub, 1) := dk_100 (dk_at dksX5_join_15 15 rfl rfl)
theorem dX5_join_370 : decode cX5_join 370 = .ok (.iastore, 1) := dk_79 (dk_at dksX5_join_15 16 rfl rfl)
theorem dX5_join_371 : decode cX5_join 371 = .ok (.aload_n 0, 1) := dk_42 (dk_at dksX5_join_15 17 rfl rfl)
theorem dX5_join_372 : decode cX5_join 372 = .ok (.getfield 13, 3) := dk_180 0 13 (dk_at dksX5_join_15 18 rfl rfl)
theorem dX5_join_375 : decode cX5_join 375 = .ok (.bipush 37, 2) := dk_16 37 (dk_at dksX5_join_15 21 rfl rfl)
theorem dX5_join_377 : decode cX5_join 377 = .ok (.iload 5, 2) := dk_21 5 (dk_at dksX5_join_16 0 rfl rfl)
theorem dX5_join_379 : decode cX5_join 379 = .ok (.iload 7, 2) := dk_21 7 (dk_at dksX5_join_16 2 rfl rfl)
theorem dX5_join_381 : decode cX5_join 381 = .ok (.iadd, 1) := dk_96 (dk_at dksX5_join_16 4 rfl rfl)
theorem dX5_join_382 : decode cX5_join 382 = .ok (.iload_n 3, 1) := dk_29 (dk_at dksX5_join_16 5 rfl rfl)
theorem dX5_join_383 : decode cX5_join 383 = .ok (.isub, 1) := dk_100 (dk_at dksX5_join_16 6 rfl rfl)
theorem dX5_join_384 : decode cX5_join 384 = .ok (.iastore, 1) := dk_79 (dk_at dksX5_join_16 7 rfl rfl)
theorem dX5_join_385 : decode cX5_join 385 = .ok (.aload_n 0, 1) := dk_42 (dk_at dksX5_join_16 8 rfl rfl)
theorem dX5_join_386 : decode cX5_join 386 = .ok (.getfield 13, 3) := dk_180 0 13 (dk_at dksX5_join_16 9 rfl rfl)
theorem dX5_join_389 : decode cX5_join 389 = .ok (.bipush 36, 2) := dk_16 36 (dk_at dksX5_join_16 12 rfl rfl)
theorem dX5_join_391 : decode cX5_join 391 = .ok (.iaload, 1) := dk_46 (dk_at dksX5_join_16 14 rfl rfl)
theorem dX5_join_392 : decode cX5_join 392 = .ok (.ireturn, 1) := dk_172 (dk_at dksX5_join_16 15 rfl rfl)
abbrev cX5_undo : ByteArray := prog_9_method_37_code
def yX5_undo : MethodName := ⟨RX5, "undo", "()I"⟩
def dkwX5_undo_2 : List UInt8 := [27, 96, 46, 79, 132, 1, 1, 167, 255, 227, 42, 180, 0, 155, 172]
abbrev dktX5_undo_2 : List UInt8 := dkwX5_undo_2 ++ []
def dkwX5_undo_1 : List UInt8 := [3, 60, 27, 16, 38, 162, 0, 29, 42, 180, 0, 13, 27, 42, 180, 0, 35, 16, 38, 42, 180, 0, 155, 104]
abbrev dktX5_undo_1 : List UInt8 := dkwX5_undo_1 ++ dktX5_undo_2
def dkwX5_undo_0 : List UInt8 := [42, 3, 181, 0, 83, 42, 180, 0, 155, 154, 0, 5, 2, 172, 42, 89, 180, 0, 155, 4, 100, 181, 0, 155]
abbrev dktX5_undo_0 : List UInt8 := dkwX5_undo_0 ++ dktX5_undo_1
theorem dksX5_undo_0 : cX5_undo.data.toList.drop 0 = dktX5_undo_0 := by decide +kernel
theorem dksX5_undo_1 : cX5_undo.data.toList.drop 24 = dktX5_undo_1 := dk_seg dksX5_undo_0 24 rfl rfl
theorem dksX5_undo_2 : cX5_undo.data.toList.drop 48 = dktX5_undo_2 := dk_seg dksX5_undo_1 24 rfl rfl
theorem dX5_undo_0 : decode cX5_undo 0 = .ok (.aload_n 0, 1) := dk_42 (dk_at dksX5_undo_0 0 rfl rfl)
theorem dX5_undo_1 : decode cX5_undo 1 = .ok (.iconst 0, 1) := dk_3 (dk_at dksX5_undo_0 1 rfl rfl)
theorem dX5_undo_2 : decode cX5_undo 2 = .ok (.putfield 83, 3) := dk_181 0 83 (dk_at dksX5_undo_0 2 rfl rfl)
theorem dX5_undo_5 : decode cX5_undo 5 = .ok (.aload_n 0, 1) := dk_42 (dk_at dksX5_undo_0 5 rfl rfl)
theorem dX5_undo_6 : decode cX5_undo 6 = .ok (.getfield 155, 3) := dk_180 0 155 (dk_at dksX5_undo_0 6 rfl rfl)
theorem dX5_undo_9 : decode cX5_undo 9 = .ok (.ifCond .ne 5, 3) := dk_154 0 5 (dk_at dksX5_undo_0 9 rfl rfl)
theorem dX5_undo_12 : decode cX5_undo 12 = .ok (.iconst (-1), 1) := dk_2 (dk_at dksX5_undo_0 12 rfl rfl)
theorem dX5_undo_13 : decode cX5_undo 13 = .ok (.ireturn, 1) := dk_172 (dk_at dksX5_undo_0 13 rfl rfl)
theorem dX5_undo_14 : decode cX5_undo 14 = .ok (.aload_n 0, 1) := dk_42 (dk_at dksX5_undo_0 14 rfl rfl)
theorem dX5_undo_15 : decode cX5_undo 15 = .ok (.dup, 1) := dk_89 (dk_at dksX5_undo_0 15 rfl rfl)
theorem dX5_undo_16 : decode cX5_undo 16 = .ok (.getfield 155, 3) := dk_180 0 155 (dk_at dksX5_undo_0 16 rfl rfl)
theorem dX5_undo_19 : decode cX5_undo 19 = .ok (.iconst 1, 1) := dk_4 (dk_at dksX5_undo_0 19 rfl rfl)
theorem dX5_undo_20 : decode cX5_undo 20 = .ok (.isub, 1) := dk_100 (dk_at dksX5_undo_0 20 rfl rfl)
theorem dX5_undo_21 : decode cX5_undo 21 = .ok (.putfield 155, 3) := dk_181 0 155 (dk_at dksX5_undo_0 21 rfl rfl)
theorem dX5_undo_24 : decode cX5_undo 24 = .ok (.iconst 0, 1) := dk_3 (dk_at dksX5_undo_1 0 rfl rfl)
theorem dX5_undo_25 : decode cX5_undo 25 = .ok (.istore_n 1, 1) := dk_60 (dk_at dksX5_undo_1 1 rfl rfl)
theorem dX5_undo_26 : decode cX5_undo 26 = .ok (.iload_n 1, 1) := dk_27 (dk_at dksX5_undo_1 2 rfl rfl)
theorem dX5_undo_27 : decode cX5_undo 27 = .ok (.bipush 38, 2) := dk_16 38 (dk_at dksX5_undo_1 3 rfl rfl)
theorem dX5_undo_29 : decode cX5_undo 29 = .ok (.if_icmp .ge 29, 3) := dk_162 0 29 (dk_at dksX5_undo_1 5 rfl rfl)
theorem dX5_undo_32 : decode cX5_undo 32 = .ok (.aload_n 0, 1) := dk_42 (dk_at dksX5_undo_1 8 rfl rfl)
theorem dX5_undo_33 : decode cX5_undo 33 = .ok (.getfield 13, 3) := dk_180 0 13 (dk_at dksX5_undo_1 9 rfl rfl)
theorem dX5_undo_36 : decode cX5_undo 36 = .ok (.iload_n 1, 1) := dk_27 (dk_at dksX5_undo_1 12 rfl rfl)
theorem dX5_undo_37 : decode cX5_undo 37 = .ok (.aload_n 0, 1) := dk_42 (dk_at dksX5_undo_1 13 rfl rfl)
theorem dX5_undo_38 : decode cX5_undo 38 = .ok (.getfield 35, 3) := dk_180 0 35 (dk_at dksX5_undo_1 14 rfl rfl)
theorem dX5_undo_41 : decode cX5_undo 41 = .ok (.bipush 38, 2) := dk_16 38 (dk_at dksX5_undo_1 17 rfl rfl)
theorem dX5_undo_43 : decode cX5_undo 43 = .ok (.aload_n 0, 1) := dk_42 (dk_at dksX5_undo_1 19 rfl rfl)
theorem dX5_undo_44 : decode cX5_undo 44 = .ok (.getfield 155, 3) := dk_180 0 155 (dk_at dksX5_undo_1 20 rfl rfl)
theorem dX5_undo_47 : decode cX5_undo 47 = .ok (.imul, 1) := dk_104 (dk_at dksX5_undo_1 23 rfl rfl)
theorem dX5_undo_48 : decode cX5_undo 48 = .ok (.iload_n 1, 1) := dk_27 (dk_at dksX5_undo_2 0 rfl rfl)
theorem dX5_undo_49 : decode cX5_undo 49 = .ok (.iadd, 1) := dk_96 (dk_at dksX5_undo_2 1 rfl rfl)
theorem dX5_undo_50 : decode cX5_undo 50 = .ok (.iaload, 1) := dk_46 (dk_at dksX5_undo_2 2 rfl rfl)
theorem dX5_undo_51 : decode cX5_undo 51 = .ok (.iastore, 1) := dk_79 (dk_at dksX5_undo_2 3 rfl rfl)
theorem dX5_undo_52 : decode cX5_undo 52 = .ok (.iinc 1 1, 3) := dk_132 1 1 (dk_at dksX5_undo_2 4 rfl rfl)
theorem dX5_undo_55 : decode cX5_undo 55 = .ok (.goto (-29), 3) := dk_167 255 227 (dk_at dksX5_undo_2 7 rfl rfl)
theorem dX5_undo_58 : decode cX5_undo 58 = .ok (.aload_n 0, 1) := dk_42 (dk_at dksX5_undo_2 10 rfl rfl)
theorem dX5_undo_59 : decode cX5_undo 59 = .ok (.getfield 155, 3) := dk_180 0 155 (dk_at dksX5_undo_2 11 rfl rfl)
theorem dX5_undo_62 : decode cX5_undo 62 = .ok (.ireturn, 1) := dk_172 (dk_at dksX5_undo_2 14 rfl rfl)
abbrev cX5_det : ByteArray := prog_9_method_41_code
def yX5_det : MethodName := ⟨RX5, "det", "(II)I"⟩
def dkwX5_det_2 : List UInt8 := [104, 28, 96, 46, 172]
abbrev dktX5_det_2 : List UInt8 := dkwX5_det_2 ++ []
def dkwX5_det_1 : List UInt8 := [182, 0, 211, 154, 0, 6, 18, 133, 172, 42, 42, 180, 0, 13, 182, 0, 207, 42, 180, 0, 38, 16, 64, 27]
abbrev dktX5_det_1 : List UInt8 := dkwX5_det_1 ++ dktX5_det_2
def dkwX5_det_0 : List UInt8 := [42, 3, 181, 0, 83, 42, 180, 0, 13, 16, 36, 46, 153, 0, 16, 42, 42, 180, 0, 13, 27, 28]
abbrev dktX5_det_0 : List UInt8 := dkwX5_det_0 ++ dktX5_det_1
theorem dksX5_det_0 : cX5_det.data.toList.drop 0 = dktX5_det_0 := by decide +kernel
theorem dksX5_det_1 : cX5_det.data.toList.drop 22 = dktX5_det_1 := dk_seg dksX5_det_0 22 rfl rfl
theorem dksX5_det_2 : cX5_det.data.toList.drop 46 = dktX5_det_2 := dk_seg dksX5_det_1 24 rfl rfl
theorem dX5_det_0 : decode cX5_det 0 = .ok (.aload_n 0, 1) := dk_42 (dk_at dksX5_det_0 0 rfl rfl)
theorem dX5_det_1 : decode cX5_det 1 = .ok (.iconst 0, 1) := dk_3 (dk_at dksX5_det_0 1 rfl rfl)
theorem dX5_det_2 : decode cX5_det 2 = .ok (.putfield 83, 3) := dk_181 0 83 (dk_at dksX5_det_0 2 rfl rfl)
theorem dX5_det_5 : decode cX5_det 5 = .ok (.aload_n 0, 1) := dk_42 (dk_at dksX5_det_0 5 rfl rfl)
theorem dX5_det_6 : decode cX5_det 6 = .ok (.getfield 13, 3) := dk_180 0 13 (dk_at dksX5_det_0 6 rfl rfl)
theorem dX5_det_9 : decode cX5_det 9 = .ok (.bipush 36, 2) := dk_16 36 (dk_at dksX5_det_0 9 rfl rfl)
theorem dX5_det_11 : decode cX5_det 11 = .ok (.iaload, 1) := dk_46 (dk_at dksX5_det_0 11 rfl rfl)
theorem dX5_det_12 : decode cX5_det 12 = .ok (.ifCond .eq 16, 3) := dk_153 0 16 (dk_at dksX5_det_0 12 rfl rfl)
theorem dX5_det_15 : decode cX5_det 15 = .ok (.aload_n 0, 1) := dk_42 (dk_at dksX5_det_0 15 rfl rfl)
theorem dX5_det_16 : decode cX5_det 16 = .ok (.aload_n 0, 1) := dk_42 (dk_at dksX5_det_0 16 rfl rfl)
theorem dX5_det_17 : decode cX5_det 17 = .ok (.getfield 13, 3) := dk_180 0 13 (dk_at dksX5_det_0 17 rfl rfl)
theorem dX5_det_20 : decode cX5_det 20 = .ok (.iload_n 1, 1) := dk_27 (dk_at dksX5_det_0 20 rfl rfl)
theorem dX5_det_21 : decode cX5_det 21 = .ok (.iload_n 2, 1) := dk_28 (dk_at dksX5_det_0 21 rfl rfl)
theorem dX5_det_22 : decode cX5_det 22 = .ok (.invokevirtual 211, 3) := dk_182 0 211 (dk_at dksX5_det_1 0 rfl rfl)
theorem dX5_det_25 : decode cX5_det 25 = .ok (.ifCond .ne 6, 3) := dk_154 0 6 (dk_at dksX5_det_1 3 rfl rfl)
theorem dX5_det_28 : decode cX5_det 28 = .ok (.ldc 133, 2) := dk_18 133 (dk_at dksX5_det_1 6 rfl rfl)
theorem dX5_det_30 : decode cX5_det 30 = .ok (.ireturn, 1) := dk_172 (dk_at dksX5_det_1 8 rfl rfl)
theorem dX5_det_31 : decode cX5_det 31 = .ok (.aload_n 0, 1) := dk_42 (dk_at dksX5_det_1 9 rfl rfl)
theorem dX5_det_32 : decode cX5_det 32 = .ok (.aload_n 0, 1) := dk_42 (dk_at dksX5_det_1 10 rfl rfl)
theorem dX5_det_33 : decode cX5_det 33 = .ok (.getfield 13, 3) := dk_180 0 13 (dk_at dksX5_det_1 11 rfl rfl)
theorem dX5_det_36 : decode cX5_det 36 = .ok (.invokevirtual 207, 3) := dk_182 0 207 (dk_at dksX5_det_1 14 rfl rfl)
theorem dX5_det_39 : decode cX5_det 39 = .ok (.aload_n 0, 1) := dk_42 (dk_at dksX5_det_1 17 rfl rfl)
theorem dX5_det_40 : decode cX5_det 40 = .ok (.getfield 38, 3) := dk_180 0 38 (dk_at dksX5_det_1 18 rfl rfl)
theorem dX5_det_43 : decode cX5_det 43 = .ok (.bipush 64, 2) := dk_16 64 (dk_at dksX5_det_1 21 rfl rfl)
theorem dX5_det_45 : decode cX5_det 45 = .ok (.iload_n 1, 1) := dk_27 (dk_at dksX5_det_1 23 rfl rfl)
theorem dX5_det_46 : decode cX5_det 46 = .ok (.imul, 1) := dk_104 (dk_at dksX5_det_2 0 rfl rfl)
theorem dX5_det_47 : decode cX5_det 47 = .ok (.iload_n 2, 1) := dk_28 (dk_at dksX5_det_2 1 rfl rfl)
theorem dX5_det_48 : decode cX5_det 48 = .ok (.iadd, 1) := dk_96 (dk_at dksX5_det_2 2 rfl rfl)
theorem dX5_det_49 : decode cX5_det 49 = .ok (.iaload, 1) := dk_46 (dk_at dksX5_det_2 3 rfl rfl)
theorem dX5_det_50 : decode cX5_det 50 = .ok (.ireturn, 1) := dk_172 (dk_at dksX5_det_2 4 rfl rfl)
abbrev cX5_isSquare : ByteArray := prog_9_method_39_code
def yX5_isSquare : MethodName := ⟨RX5, "isSquare", "([III)Z"⟩
def dkwX5_isSquare_1 : List UInt8 := [120, 162, 0, 18, 28, 184, 0, 204, 29, 184, 0, 204, 160, 0, 7, 4, 167, 0, 4, 3, 172]
abbrev dktX5_isSquare_1 : List UInt8 := dkwX5_isSquare_1 ++ []
def dkwX5_isSquare_0 : List UInt8 := [28, 158, 0, 42, 29, 158, 0, 38, 28, 4, 43, 16, 36, 46, 120, 162, 0, 28, 29, 4, 43, 16, 37, 46]
abbrev dktX5_isSquare_0 : List UInt8 := dkwX5_isSquare_0 ++ dktX5_isSquare_1
theorem dksX5_isSquare_0 : cX5_isSquare.data.toList.drop 0 = dktX5_isSquare_0 := by decide +kernel
theorem dksX5_isSquare_1 : cX5_isSquare.data.toList.drop 24 = dktX5_isSquare_1 := dk_seg dksX5_isSquare_0 24 rfl rfl
theorem dX5_isSquare_0 : decode cX5_isSquare 0 = .ok (.iload_n 2, 1) := dk_28 (dk_at dksX5_isSquare_0 0 rfl rfl)
theorem dX5_isSquare_1 : decode cX5_isSquare 1 = .ok (.ifCond .le 42, 3) := dk_158 0 42 (dk_at dksX5_isSquare_0 1 rfl rfl)
theorem dX5_isSquare_4 : decode cX5_isSquare 4 = .ok (.iload_n 3, 1) := dk_29 (dk_at dksX5_isSquare_0 4 rfl rfl)
theorem dX5_isSquare_5 : decode cX5_isSquare 5 = .ok (.ifCond .le 38, 3) := dk_158 0 38 (dk_at dksX5_isSquare_0 5 rfl rfl)
theorem dX5_isSquare_8 : decode cX5_isSquare 8 = .ok (.iload_n 2, 1) := dk_28 (dk_at dksX5_isSquare_0 8 rfl rfl)
theorem dX5_isSquare_9 : decode cX5_isSquare 9 = .ok (.iconst 1, 1) := dk_4 (dk_at dksX5_isSquare_0 9 rfl rfl)
theorem dX5_isSquare_10 : decode cX5_isSquare 10 = .ok (.aload_n 1, 1) := dk_43 (dk_at dksX5_isSquare_0 10 rfl rfl)
theorem dX5_isSquare_11 : decode cX5_isSquare 11 = .ok (.bipush 36, 2) := dk_16 36 (dk_at dksX5_isSquare_0 11 rfl rfl)
theorem dX5_isSquare_13 : decode cX5_isSquare 13 = .ok (.iaload, 1) := dk_46 (dk_at dksX5_isSquare_0 13 rfl rfl)
theorem dX5_isSquare_14 : decode cX5_isSquare 14 = .ok (.ishl, 1) := dk_120 (dk_at dksX5_isSquare_0 14 rfl rfl)
theorem dX5_isSquare_15 : decode cX5_isSquare 15 = .ok (.if_icmp .ge 28, 3) := dk_162 0 28 (dk_at dksX5_isSquare_0 15 rfl rfl)
theorem dX5_isSquare_18 : decode cX5_isSquare 18 = .ok (.iload_n 3, 1) := dk_29 (dk_at dksX5_isSquare_0 18 rfl rfl)
theorem dX5_isSquare_19 : decode cX5_isSquare 19 = .ok (.iconst 1, 1) := dk_4 (dk_at dksX5_isSquare_0 19 rfl rfl)
theorem dX5_isSquare_20 : decode cX5_isSquare 20 = .ok (.aload_n 1, 1) := dk_43 (dk_at dksX5_isSquare_0 20 rfl rfl)
theorem dX5_isSquare_21 : decode cX5_isSquare 21 = .ok (.bipush 37, 2) := dk_16 37 (dk_at dksX5_isSquare_0 21 rfl rfl)
theorem dX5_isSquare_23 : decode cX5_isSquare 23 = .ok (.iaload, 1) := dk_46 (dk_at dksX5_isSquare_0 23 rfl rfl)
theorem dX5_isSquare_24 : decode cX5_isSquare 24 = .ok (.ishl, 1) := dk_120 (dk_at dksX5_isSquare_1 0 rfl rfl)
theorem dX5_isSquare_25 : decode cX5_isSquare 25 = .ok (.if_icmp .ge 18, 3) := dk_162 0 18 (dk_at dksX5_isSquare_1 1 rfl rfl)
theorem dX5_isSquare_28 : decode cX5_isSquare 28 = .ok (.iload_n 2, 1) := dk_28 (dk_at dksX5_isSquare_1 4 rfl rfl)
theorem dX5_isSquare_29 : decode cX5_isSquare 29 = .ok (.invokestatic 204, 3) := dk_184 0 204 (dk_at dksX5_isSquare_1 5 rfl rfl)
theorem dX5_isSquare_32 : decode cX5_isSquare 32 = .ok (.iload_n 3, 1) := dk_29 (dk_at dksX5_isSquare_1 8 rfl rfl)
theorem dX5_isSquare_33 : decode cX5_isSquare 33 = .ok (.invokestatic 204, 3) := dk_184 0 204 (dk_at dksX5_isSquare_1 9 rfl rfl)
theorem dX5_isSquare_36 : decode cX5_isSquare 36 = .ok (.if_icmp .ne 7, 3) := dk_160 0 7 (dk_at dksX5_isSquare_1 12 rfl rfl)
theorem dX5_isSquare_39 : decode cX5_isSquare 39 = .ok (.iconst 1, 1) := dk_4 (dk_at dksX5_isSquare_1 15 rfl rfl)
theorem dX5_isSquare_40 : decode cX5_isSquare 40 = .ok (.goto 4, 3) := dk_167 0 4 (dk_at dksX5_isSquare_1 16 rfl rfl)
theorem dX5_isSquare_43 : decode cX5_isSquare 43 = .ok (.iconst 0, 1) := dk_3 (dk_at dksX5_isSquare_1 19 rfl rfl)
theorem dX5_isSquare_44 : decode cX5_isSquare 44 = .ok (.ireturn, 1) := dk_172 (dk_at dksX5_isSquare_1 20 rfl rfl)
abbrev cX5_sizeOf : ByteArray := prog_9_method_5_code
def yX5_sizeOf : MethodName := ⟨RX5, "sizeOf", "(I)I"⟩
def dkwX5_sizeOf_1 : List UInt8 := [27, 172]
abbrev dktX5_sizeOf_1 : List UInt8 := dkwX5_sizeOf_1 ++ []
def dkwX5_sizeOf_0 : List UInt8 := [3, 60, 3, 61, 28, 16, 6, 162, 0, 17, 27, 26, 28, 122, 4, 126, 96, 60, 132, 2, 1, 167, 255, 239]
abbrev dktX5_sizeOf_0 : List UInt8 := dkwX5_sizeOf_0 ++ dktX5_sizeOf_1
theorem dksX5_sizeOf_0 : cX5_sizeOf.data.toList.drop 0 = dktX5_sizeOf_0 := by decide +kernel
theorem dksX5_sizeOf_1 : cX5_sizeOf.data.toList.drop 24 = dktX5_sizeOf_1 := dk_seg dksX5_sizeOf_0 24 rfl rfl
theorem dX5_sizeOf_0 : decode cX5_sizeOf 0 = .ok (.iconst 0, 1) := dk_3 (dk_at dksX5_sizeOf_0 0 rfl rfl)
theorem dX5_sizeOf_1 : decode cX5_sizeOf 1 = .ok (.istore_n 1, 1) := dk_60 (dk_at dksX5_sizeOf_0 1 rfl rfl)
theorem dX5_sizeOf_2 : decode cX5_sizeOf 2 = .ok (.iconst 0, 1) := dk_3 (dk_at dksX5_sizeOf_0 2 rfl rfl)
theorem dX5_sizeOf_3 : decode cX5_sizeOf 3 = .ok (.istore_n 2, 1) := dk_61 (dk_at dksX5_sizeOf_0 3 rfl rfl)
theorem dX5_sizeOf_4 : decode cX5_sizeOf 4 = .ok (.iload_n 2, 1) := dk_28 (dk_at dksX5_sizeOf_0 4 rfl rfl)
theorem dX5_sizeOf_5 : decode cX5_sizeOf 5 = .ok (.bipush 6, 2) := dk_16 6 (dk_at dksX5_sizeOf_0 5 rfl rfl)
theorem dX5_sizeOf_7 : decode cX5_sizeOf 7 = .ok (.if_icmp .ge 17, 3) := dk_162 0 17 (dk_at dksX5_sizeOf_0 7 rfl rfl)
theorem dX5_sizeOf_10 : decode cX5_sizeOf 10 = .ok (.iload_n 1, 1) := dk_27 (dk_at dksX5_sizeOf_0 10 rfl rfl)
theorem dX5_sizeOf_11 : decode cX5_sizeOf 11 = .ok (.iload_n 0, 1) := dk_26 (dk_at dksX5_sizeOf_0 11 rfl rfl)
theorem dX5_sizeOf_12 : decode cX5_sizeOf 12 = .ok (.iload_n 2, 1) := dk_28 (dk_at dksX5_sizeOf_0 12 rfl rfl)
theorem dX5_sizeOf_13 : decode cX5_sizeOf 13 = .ok (.ishr, 1) := dk_122 (dk_at dksX5_sizeOf_0 13 rfl rfl)
theorem dX5_sizeOf_14 : decode cX5_sizeOf 14 = .ok (.iconst 1, 1) := dk_4 (dk_at dksX5_sizeOf_0 14 rfl rfl)
theorem dX5_sizeOf_15 : decode cX5_sizeOf 15 = .ok (.iand, 1) := dk_126 (dk_at dksX5_sizeOf_0 15 rfl rfl)
theorem dX5_sizeOf_16 : decode cX5_sizeOf 16 = .ok (.iadd, 1) := dk_96 (dk_at dksX5_sizeOf_0 16 rfl rfl)
theorem dX5_sizeOf_17 : decode cX5_sizeOf 17 = .ok (.istore_n 1, 1) := dk_60 (dk_at dksX5_sizeOf_0 17 rfl rfl)
theorem dX5_sizeOf_18 : decode cX5_sizeOf 18 = .ok (.iinc 2 1, 3) := dk_132 2 1 (dk_at dksX5_sizeOf_0 18 rfl rfl)
theorem dX5_sizeOf_21 : decode cX5_sizeOf 21 = .ok (.goto (-17), 3) := dk_167 255 239 (dk_at dksX5_sizeOf_0 21 rfl rfl)
theorem dX5_sizeOf_24 : decode cX5_sizeOf 24 = .ok (.iload_n 1, 1) := dk_27 (dk_at dksX5_sizeOf_1 0 rfl rfl)
theorem dX5_sizeOf_25 : decode cX5_sizeOf 25 = .ok (.ireturn, 1) := dk_172 (dk_at dksX5_sizeOf_1 1 rfl rfl)
abbrev cX5_laysDets : ByteArray := prog_9_method_38_code
def yX5_laysDets : MethodName := ⟨RX5, "laysDets", "([I)V"⟩
def dkwX5_laysDets_8 : List UInt8 := [21, 5, 96, 21, 6, 79, 132, 5, 1, 167, 255, 101, 132, 2, 1, 167, 255, 56, 177]
abbrev dktX5_laysDets_8 : List UInt8 := dkwX5_laysDets_8 ++ []
def dkwX5_laysDets_7 : List UInt8 := [21, 9, 116, 96, 54, 6, 132, 7, 1, 132, 8, 1, 167, 255, 162, 42, 180, 0, 38, 16, 64, 28, 104]
abbrev dktX5_laysDets_7 : List UInt8 := dkwX5_laysDets_7 ++ dktX5_laysDets_8
def dkwX5_laysDets_6 : List UInt8 := [96, 46, 104, 54, 9, 21, 6, 21, 4, 4, 100, 21, 7, 96, 5, 112, 154, 0, 8, 21, 9, 167, 0, 6]
abbrev dktX5_laysDets_6 : List UInt8 := dkwX5_laysDets_6 ++ dktX5_laysDets_7
def dkwX5_laysDets_5 : List UInt8 := [46, 42, 180, 0, 38, 16, 64, 28, 4, 29, 120, 2, 130, 126, 104, 21, 5, 4, 21, 8, 120, 2, 130, 126]
abbrev dktX5_laysDets_5 : List UInt8 := dkwX5_laysDets_5 ++ dktX5_laysDets_6
def dkwX5_laysDets_4 : List UInt8 := [153, 0, 87, 21, 5, 21, 8, 184, 0, 200, 154, 0, 6, 167, 0, 68, 43, 16, 6, 29, 104, 21, 8, 96]
abbrev dktX5_laysDets_4 : List UInt8 := dkwX5_laysDets_4 ++ dktX5_laysDets_5
def dkwX5_laysDets_3 : List UInt8 := [167, 0, 4, 3, 54, 6, 3, 54, 7, 3, 54, 8, 21, 8, 43, 16, 37, 46, 162, 0, 91, 28]
abbrev dktX5_laysDets_3 : List UInt8 := dkwX5_laysDets_3 ++ dktX5_laysDets_4
def dkwX5_laysDets_2 : List UInt8 := [46, 120, 162, 0, 150, 21, 5, 184, 0, 204, 21, 4, 159, 0, 6, 167, 0, 131, 28, 154, 0, 7, 4]
abbrev dktX5_laysDets_2 : List UInt8 := dkwX5_laysDets_2 ++ dktX5_laysDets_3
def dkwX5_laysDets_1 : List UInt8 := [154, 0, 9, 132, 3, 255, 167, 255, 241, 28, 184, 0, 204, 54, 4, 3, 54, 5, 21, 5, 4, 43, 16, 37]
abbrev dktX5_laysDets_1 : List UInt8 := dkwX5_laysDets_1 ++ dktX5_laysDets_2
def dkwX5_laysDets_0 : List UInt8 := [3, 61, 28, 4, 43, 16, 36, 46, 120, 162, 0, 196, 8, 62, 29, 155, 0, 17, 28, 29, 184, 0, 200]
abbrev dktX5_laysDets_0 : List UInt8 := dkwX5_laysDets_0 ++ dktX5_laysDets_1
theorem dksX5_laysDets_0 : cX5_laysDets.data.toList.drop 0 = dktX5_laysDets_0 := by decide +kernel
theorem dksX5_laysDets_1 : cX5_laysDets.data.toList.drop 23 = dktX5_laysDets_1 := dk_seg dksX5_laysDets_0 23 rfl rfl
theorem dksX5_laysDets_2 : cX5_laysDets.data.toList.drop 47 = dktX5_laysDets_2 := dk_seg dksX5_laysDets_1 24 rfl rfl
theorem dksX5_laysDets_3 : cX5_laysDets.data.toList.drop 70 = dktX5_laysDets_3 := dk_seg dksX5_laysDets_2 23 rfl rfl
theorem dksX5_laysDets_4 : cX5_laysDets.data.toList.drop 92 = dktX5_laysDets_4 := dk_seg dksX5_laysDets_3 22 rfl rfl
theorem dksX5_laysDets_5 : cX5_laysDets.data.toList.drop 116 = dktX5_laysDets_5 := dk_seg dksX5_laysDets_4 24 rfl rfl
theorem dksX5_laysDets_6 : cX5_laysDets.data.toList.drop 140 = dktX5_laysDets_6 := dk_seg dksX5_laysDets_5 24 rfl rfl
theorem dksX5_laysDets_7 : cX5_laysDets.data.toList.drop 164 = dktX5_laysDets_7 := dk_seg dksX5_laysDets_6 24 rfl rfl
theorem dksX5_laysDets_8 : cX5_laysDets.data.toList.drop 187 = dktX5_laysDets_8 := dk_seg dksX5_laysDets_7 23 rfl rfl
theorem dX5_laysDets_0 : decode cX5_laysDets 0 = .ok (.iconst 0, 1) := dk_3 (dk_at dksX5_laysDets_0 0 rfl rfl)
theorem dX5_laysDets_1 : decode cX5_laysDets 1 = .ok (.istore_n 2, 1) := dk_61 (dk_at dksX5_laysDets_0 1 rfl rfl)
theorem dX5_laysDets_2 : decode cX5_laysDets 2 = .ok (.iload_n 2, 1) := dk_28 (dk_at dksX5_laysDets_0 2 rfl rfl)
theorem dX5_laysDets_3 : decode cX5_laysDets 3 = .ok (.iconst 1, 1) := dk_4 (dk_at dksX5_laysDets_0 3 rfl rfl)
theorem dX5_laysDets_4 : decode cX5_laysDets 4 = .ok (.aload_n 1, 1) := dk_43 (dk_at dksX5_laysDets_0 4 rfl rfl)
theorem dX5_laysDets_5 : decode cX5_laysDets 5 = .ok (.bipush 36, 2) := dk_16 36 (dk_at dksX5_laysDets_0 5 rfl rfl)
theorem dX5_laysDets_7 : decode cX5_laysDets 7 = .ok (.iaload, 1) := dk_46 (dk_at dksX5_laysDets_0 7 rfl rfl)
theorem dX5_laysDets_8 : decode cX5_laysDets 8 = .ok (.ishl, 1) := dk_120 (dk_at dksX5_laysDets_0 8 rfl rfl)
theorem dX5_laysDets_9 : decode cX5_laysDets 9 = .ok (.if_icmp .ge 196, 3) := dk_162 0 196 (dk_at dksX5_laysDets_0 9 rfl rfl)
theorem dX5_laysDets_12 : decode cX5_laysDets 12 = .ok (.iconst 5, 1) := dk_8 (dk_at dksX5_laysDets_0 12 rfl rfl)
theorem dX5_laysDets_13 : decode cX5_laysDets 13 = .ok (.istore_n 3, 1) := dk_62 (dk_at dksX5_laysDets_0 13 rfl rfl)
theorem dX5_laysDets_14 : decode cX5_laysDets 14 = .ok (.iload_n 3, 1) := dk_29 (dk_at dksX5_laysDets_0 14 rfl rfl)
theorem dX5_laysDets_15 : decode cX5_laysDets 15 = .ok (.ifCond .lt 17, 3) := dk_155 0 17 (dk_at dksX5_laysDets_0 15 rfl rfl)
theorem dX5_laysDets_18 : decode cX5_laysDets 18 = .ok (.iload_n 2, 1) := dk_28 (dk_at dksX5_laysDets_0 18 rfl rfl)
theorem dX5_laysDets_19 : decode cX5_laysDets 19 = .ok (.iload_n 3, 1) := dk_29 (dk_at dksX5_laysDets_0 19 rfl rfl)
theorem dX5_laysDets_20 : decode cX5_laysDets 20 = .ok (.invokestatic 200, 3) := dk_184 0 200 (dk_at dksX5_laysDets_0 20 rfl rfl)
theorem dX5_laysDets_23 : decode cX5_laysDets 23 = .ok (.ifCond .ne 9, 3) := dk_154 0 9 (dk_at dksX5_laysDets_1 0 rfl rfl)
theorem dX5_laysDets_26 : decode cX5_laysDets 26 = .ok (.iinc 3 (-1), 3) := dk_132 3 255 (dk_at dksX5_laysDets_1 3 rfl rfl)
theorem dX5_laysDets_29 : decode cX5_laysDets 29 = .ok (.goto (-15), 3) := dk_167 255 241 (dk_at dksX5_laysDets_1 6 rfl rfl)
theorem dX5_laysDets_32 : decode cX5_laysDets 32 = .ok (.iload_n 2, 1) := dk_28 (dk_at dksX5_laysDets_1 9 rfl rfl)
theorem dX5_laysDets_33 : decode cX5_laysDets 33 = .ok (.invokestatic 204, 3) := dk_184 0 204 (dk_at dksX5_laysDets_1 10 rfl rfl)
theorem dX5_laysDets_36 : decode cX5_laysDets 36 = .ok (.istore 4, 2) := dk_54 4 (dk_at dksX5_laysDets_1 13 rfl rfl)
theorem dX5_laysDets_38 : decode cX5_laysDets 38 = .ok (.iconst 0, 1) := dk_3 (dk_at dksX5_laysDets_1 15 rfl rfl)
theorem dX5_laysDets_39 : decode cX5_laysDets 39 = .ok (.istore 5, 2) := dk_54 5 (dk_at dksX5_laysDets_1 16 rfl rfl)
theorem dX5_laysDets_41 : decode cX5_laysDets 41 = .ok (.iload 5, 2) := dk_21 5 (dk_at dksX5_laysDets_1 18 rfl rfl)
theorem dX5_laysDets_43 : decode cX5_laysDets 43 = .ok (.iconst 1, 1) := dk_4 (dk_at dksX5_laysDets_1 20 rfl rfl)
theorem dX5_laysDets_44 : decode cX5_laysDets 44 = .ok (.aload_n 1, 1) := dk_43 (dk_at dksX5_laysDets_1 21 rfl rfl)
theorem dX5_laysDets_45 : decode cX5_laysDets 45 = .ok (.bipush 37, 2) := dk_16 37 (dk_at dksX5_laysDets_1 22 rfl rfl)
theorem dX5_laysDets_47 : decode cX5_laysDets 47 = .ok (.iaload, 1) := dk_46 (dk_at dksX5_laysDets_2 0 rfl rfl)
theorem dX5_laysDets_48 : decode cX5_laysDets 48 = .ok (.ishl, 1) := dk_120 (dk_at dksX5_laysDets_2 1 rfl rfl)
theorem dX5_laysDets_49 : decode cX5_laysDets 49 = .ok (.if_icmp .ge 150, 3) := dk_162 0 150 (dk_at dksX5_laysDets_2 2 rfl rfl)
theorem dX5_laysDets_52 : decode cX5_laysDets 52 = .ok (.iload 5, 2) := dk_21 5 (dk_at dksX5_laysDets_2 5 rfl rfl)
theorem dX5_laysDets_54 : decode cX5_laysDets 54 = .ok (.invokestatic 204, 3) := dk_184 0 204 (dk_at dksX5_laysDets_2 7 rfl rfl)
theorem dX5_laysDets_57 : decode cX5_laysDets 57 = .ok (.iload 4, 2) := dk_21 4 (dk_at dksX5_laysDets_2 10 rfl rfl)
theorem dX5_laysDets_59 : decode cX5_laysDets 59 = .ok (.if_icmp .eq 6, 3) := dk_159 0 6 (dk_at dksX5_laysDets_2 12 rfl rfl)
theorem dX5_laysDets_62 : decode cX5_laysDets 62 = .ok (.goto 131, 3) := dk_167 0 131 (dk_at dksX5_laysDets_2 15 rfl rfl)
theorem dX5_laysDets_65 : decode cX5_laysDets 65 = .ok (.iload_n 2, 1) := dk_28 (dk_at dksX5_laysDets_2 18 rfl rfl)
theorem dX5_laysDets_66 : decode cX5_laysDets 66 = .ok (.ifCond .ne 7, 3) := dk_154 0 7 (dk_at dksX5_laysDets_2 19 rfl rfl)
theorem dX5_laysDets_69 : decode cX5_laysDets 69 = .ok (.iconst 1, 1) := dk_4 (dk_at dksX5_laysDets_2 22 rfl rfl)
theorem dX5_laysDets_70 : decode cX5_laysDets 70 = .ok (.goto 4, 3) := dk_167 0 4 (dk_at dksX5_laysDets_3 0 rfl rfl)
theorem dX5_laysDets_73 : decode cX5_laysDets 73 = .ok (.iconst 0, 1) := dk_3 (dk_at dksX5_laysDets_3 3 rfl rfl)
theorem dX5_laysDets_74 : decode cX5_laysDets 74 = .ok (.istore 6, 2) := dk_54 6 (dk_at dksX5_laysDets_3 4 rfl rfl)
theorem dX5_laysDets_76 : decode cX5_laysDets 76 = .ok (.iconst 0, 1) := dk_3 (dk_at dksX5_laysDets_3 6 rfl rfl)
theorem dX5_laysDets_77 : decode cX5_laysDets 77 = .ok (.istore 7, 2) := dk_54 7 (dk_at dksX5_laysDets_3 7 rfl rfl)
theorem dX5_laysDets_79 : decode cX5_laysDets 79 = .ok (.iconst 0, 1) := dk_3 (dk_at dksX5_laysDets_3 9 rfl rfl)
theorem dX5_laysDets_80 : decode cX5_laysDets 80 = .ok (.istore 8, 2) := dk_54 8 (dk_at dksX5_laysDets_3 10 rfl rfl)
theorem dX5_laysDets_82 : decode cX5_laysDets 82 = .ok (.iload 8, 2) := dk_21 8 (dk_at dksX5_laysDets_3 12 rfl rfl)
theorem dX5_laysDets_84 : decode cX5_laysDets 84 = .ok (.aload_n 1, 1) := dk_43 (dk_at dksX5_laysDets_3 14 rfl rfl)
theorem dX5_laysDets_85 : decode cX5_laysDets 85 = .ok (.bipush 37, 2) := dk_16 37 (dk_at dksX5_laysDets_3 15 rfl rfl)
theorem dX5_laysDets_87 : decode cX5_laysDets 87 = .ok (.iaload, 1) := dk_46 (dk_at dksX5_laysDets_3 17 rfl rfl)
theorem dX5_laysDets_88 : decode cX5_laysDets 88 = .ok (.if_icmp .ge 91, 3) := dk_162 0 91 (dk_at dksX5_laysDets_3 18 rfl rfl)
theorem dX5_laysDets_91 : decode cX5_laysDets 91 = .ok (.iload_n 2, 1) := dk_28 (dk_at dksX5_laysDets_3 21 rfl rfl)
theorem dX5_laysDets_92 : decode cX5_laysDets 92 = .ok (.ifCond .eq 87, 3) := dk_153 0 87 (dk_at dksX5_laysDets_4 0 rfl rfl)
theorem dX5_laysDets_95 : decode cX5_laysDets 95 = .ok (.iload 5, 2) := dk_21 5 (dk_at dksX5_laysDets_4 3 rfl rfl)
theorem dX5_laysDets_97 : decode cX5_laysDets 97 = .ok (.iload 8, 2) := dk_21 8 (dk_at dksX5_laysDets_4 5 rfl rfl)
theorem dX5_laysDets_99 : decode cX5_laysDets 99 = .ok (.invokestatic 200, 3) := dk_184 0 200 (dk_at dksX5_laysDets_4 7 rfl rfl)
theorem dX5_laysDets_102 : decode cX5_laysDets 102 = .ok (.ifCond .ne 6, 3) := dk_154 0 6 (dk_at dksX5_laysDets_4 10 rfl rfl)
theorem dX5_laysDets_105 : decode cX5_laysDets 105 = .ok (.goto 68, 3) := dk_167 0 68 (dk_at dksX5_laysDets_4 13 rfl rfl)
theorem dX5_laysDets_108 : decode cX5_laysDets 108 = .ok (.aload_n 1, 1) := dk_43 (dk_at dksX5_laysDets_4 16 rfl rfl)
theorem dX5_laysDets_109 : decode cX5_laysDets 109 = .ok (.bipush 6, 2) := dk_16 6 (dk_at dksX5_laysDets_4 17 rfl rfl)
theorem dX5_laysDets_111 : decode cX5_laysDets 111 = .ok (.iload_n 3, 1) := dk_29 (dk_at dksX5_laysDets_4 19 rfl rfl)
theorem dX5_laysDets_112 : decode cX5_laysDets 112 = .ok (.imul, 1) := dk_104 (dk_at dksX5_laysDets_4 20 rfl rfl)
theorem dX5_laysDets_113 : decode cX5_laysDets 113 = .ok (.iload 8, 2) := dk_21 8 (dk_at dksX5_laysDets_4 21 rfl rfl)
theorem dX5_laysDets_115 : decode cX5_laysDets 115 = .ok (.iadd, 1) := dk_96 (dk_at dksX5_laysDets_4 23 rfl rfl)
theorem dX5_laysDets_116 : decode cX5_laysDets 116 = .ok (.iaload, 1) := dk_46 (dk_at dksX5_laysDets_5 0 rfl rfl)
theorem dX5_laysDets_117 : decode cX5_laysDets 117 = .ok (.aload_n 0, 1) := dk_42 (dk_at dksX5_laysDets_5 1 rfl rfl)
theorem dX5_laysDets_118 : decode cX5_laysDets 118 = .ok (.getfield 38, 3) := dk_180 0 38 (dk_at dksX5_laysDets_5 2 rfl rfl)
theorem dX5_laysDets_121 : decode cX5_laysDets 121 = .ok (.bipush 64, 2) := dk_16 64 (dk_at dksX5_laysDets_5 5 rfl rfl)
theorem dX5_laysDets_123 : decode cX5_laysDets 123 = .ok (.iload_n 2, 1) := dk_28 (dk_at dksX5_laysDets_5 7 rfl rfl)
theorem dX5_laysDets_124 : decode cX5_laysDets 124 = .ok (.iconst 1, 1) := dk_4 (dk_at dksX5_laysDets_5 8 rfl rfl)
theorem dX5_laysDets_125 : decode cX5_laysDets 125 = .ok (.iload_n 3, 1) := dk_29 (dk_at dksX5_laysDets_5 9 rfl rfl)
theorem dX5_laysDets_126 : decode cX5_laysDets 126 = .ok (.ishl, 1) := dk_120 (dk_at dksX5_laysDets_5 10 rfl rfl)
theorem dX5_laysDets_127 : decode cX5_laysDets 127 = .ok (.iconst (-1), 1) := dk_2 (dk_at dksX5_laysDets_5 11 rfl rfl)
theorem dX5_laysDets_128 : decode cX5_laysDets 128 = .ok (.ixor, 1) := dk_130 (dk_at dksX5_laysDets_5 12 rfl rfl)
theorem dX5_laysDets_129 : decode cX5_laysDets 129 = .ok (.iand, 1) := dk_126 (dk_at dksX5_laysDets_5 13 rfl rfl)
theorem dX5_laysDets_130 : decode cX5_laysDets 130 = .ok (.imul, 1) := dk_104 (dk_at dksX5_laysDets_5 14 rfl rfl)
theorem dX5_laysDets_131 : decode cX5_laysDets 131 = .ok (.iload 5, 2) := dk_21 5 (dk_at dksX5_laysDets_5 15 rfl rfl)
theorem dX5_laysDets_133 : decode cX5_laysDets 133 = .ok (.iconst 1, 1) := dk_4 (dk_at dksX5_laysDets_5 17 rfl rfl)
theorem dX5_laysDets_134 : decode cX5_laysDets 134 = .ok (.iload 8, 2) := dk_21 8 (dk_at dksX5_laysDets_5 18 rfl rfl)
theorem dX5_laysDets_136 : decode cX5_laysDets 136 = .ok (.ishl, 1) := dk_120 (dk_at dksX5_laysDets_5 20 rfl rfl)
theorem dX5_laysDets_137 : decode cX5_laysDets 137 = .ok (.iconst (-1), 1) := dk_2 (dk_at dksX5_laysDets_5 21 rfl rfl)
theorem dX5_laysDets_138 : decode cX5_laysDets 138 = .ok (.ixor, 1) := dk_130 (dk_at dksX5_laysDets_5 22 rfl rfl)
theorem dX5_laysDets_139 : decode cX5_laysDets 139 = .ok (.iand, 1) := dk_126 (dk_at dksX5_laysDets_5 23 rfl rfl)
theorem dX5_laysDets_140 : decode cX5_laysDets 140 = .ok (.iadd, 1) := dk_96 (dk_at dksX5_laysDets_6 0 rfl rfl)
theorem dX5_laysDets_141 : decode cX5_laysDets 141 = .ok (.iaload, 1) := dk_46 (dk_at dksX5_laysDets_6 1 rfl rfl)
theorem dX5_laysDets_142 : decode cX5_laysDets 142 = .ok (.imul, 1) := dk_104 (dk_at dksX5_laysDets_6 2 rfl rfl)
theorem dX5_laysDets_143 : decode cX5_laysDets 143 = .ok (.istore 9, 2) := dk_54 9 (dk_at dksX5_laysDets_6 3 rfl rfl)
theorem dX5_laysDets_145 : decode cX5_laysDets 145 = .ok (.iload 6, 2) := dk_21 6 (dk_at dksX5_laysDets_6 5 rfl rfl)
theorem dX5_laysDets_147 : decode cX5_laysDets 147 = .ok (.iload 4, 2) := dk_21 4 (dk_at dksX5_laysDets_6 7 rfl rfl)
theorem dX5_laysDets_149 : decode cX5_laysDets 149 = .ok (.iconst 1, 1) := dk_4 (dk_at dksX5_laysDets_6 9 rfl rfl)
theorem dX5_laysDets_150 : decode cX5_laysDets 150 = .ok (.isub, 1) := dk_100 (dk_at dksX5_laysDets_6 10 rfl rfl)
theorem dX5_laysDets_151 : decode cX5_laysDets 151 = .ok (.iload 7, 2) := dk_21 7 (dk_at dksX5_laysDets_6 11 rfl rfl)
theorem dX5_laysDets_153 : decode cX5_laysDets 153 = .ok (.iadd, 1) := dk_96 (dk_at dksX5_laysDets_6 13 rfl rfl)
theorem dX5_laysDets_154 : decode cX5_laysDets 154 = .ok (.iconst 2, 1) := dk_5 (dk_at dksX5_laysDets_6 14 rfl rfl)
theorem dX5_laysDets_155 : decode cX5_laysDets 155 = .ok (.irem, 1) := dk_112 (dk_at dksX5_laysDets_6 15 rfl rfl)
theorem dX5_laysDets_156 : decode cX5_laysDets 156 = .ok (.ifCond .ne 8, 3) := dk_154 0 8 (dk_at dksX5_laysDets_6 16 rfl rfl)
theorem dX5_laysDets_159 : decode cX5_laysDets 159 = .ok (.iload 9, 2) := dk_21 9 (dk_at dksX5_laysDets_6 19 rfl rfl)
theorem dX5_laysDets_161 : decode cX5_laysDets 161 = .ok (.goto 6, 3) := dk_167 0 6 (dk_at dksX5_laysDets_6 21 rfl rfl)
theorem dX5_laysDets_164 : decode cX5_laysDets 164 = .ok (.iload 9, 2) := dk_21 9 (dk_at dksX5_laysDets_7 0 rfl rfl)
theorem dX5_laysDets_166 : decode cX5_laysDets 166 = .ok (.ineg, 1) := dk_116 (dk_at dksX5_laysDets_7 2 rfl rfl)
theorem dX5_laysDets_167 : decode cX5_laysDets 167 = .ok (.iadd, 1) := dk_96 (dk_at dksX5_laysDets_7 3 rfl rfl)
theorem dX5_laysDets_168 : decode cX5_laysDets 168 = .ok (.istore 6, 2) := dk_54 6 (dk_at dksX5_laysDets_7 4 rfl rfl)
theorem dX5_laysDets_170 : decode cX5_laysDets 170 = .ok (.iinc 7 1, 3) := dk_132 7 1 (dk_at dksX5_laysDets_7 6 rfl rfl)
theorem dX5_laysDets_173 : decode cX5_laysDets 173 = .ok (.iinc 8 1, 3) := dk_132 8 1 (dk_at dksX5_laysDets_7 9 rfl rfl)
theorem dX5_laysDets_176 : decode cX5_laysDets 176 = .ok (.goto (-94), 3) := dk_167 255 162 (dk_at dksX5_laysDets_7 12 rfl rfl)
theorem dX5_laysDets_179 : decode cX5_laysDets 179 = .ok (.aload_n 0, 1) := dk_42 (dk_at dksX5_laysDets_7 15 rfl rfl)
theorem dX5_laysDets_180 : decode cX5_laysDets 180 = .ok (.getfield 38, 3) := dk_180 0 38 (dk_at dksX5_laysDets_7 16 rfl rfl)
theorem dX5_laysDets_183 : decode cX5_laysDets 183 = .ok (.bipush 64, 2) := dk_16 64 (dk_at dksX5_laysDets_7 19 rfl rfl)
theorem dX5_laysDets_185 : decode cX5_laysDets 185 = .ok (.iload_n 2, 1) := dk_28 (dk_at dksX5_laysDets_7 21 rfl rfl)
theorem dX5_laysDets_186 : decode cX5_laysDets 186 = .ok (.imul, 1) := dk_104 (dk_at dksX5_laysDets_7 22 rfl rfl)
theorem dX5_laysDets_187 : decode cX5_laysDets 187 = .ok (.iload 5, 2) := dk_21 5 (dk_at dksX5_laysDets_8 0 rfl rfl)
theorem dX5_laysDets_189 : decode cX5_laysDets 189 = .ok (.iadd, 1) := dk_96 (dk_at dksX5_laysDets_8 2 rfl rfl)
theorem dX5_laysDets_190 : decode cX5_laysDets 190 = .ok (.iload 6, 2) := dk_21 6 (dk_at dksX5_laysDets_8 3 rfl rfl)
theorem dX5_laysDets_192 : decode cX5_laysDets 192 = .ok (.iastore, 1) := dk_79 (dk_at dksX5_laysDets_8 5 rfl rfl)
theorem dX5_laysDets_193 : decode cX5_laysDets 193 = .ok (.iinc 5 1, 3) := dk_132 5 1 (dk_at dksX5_laysDets_8 6 rfl rfl)
theorem dX5_laysDets_196 : decode cX5_laysDets 196 = .ok (.goto (-155), 3) := dk_167 255 101 (dk_at dksX5_laysDets_8 9 rfl rfl)
theorem dX5_laysDets_199 : decode cX5_laysDets 199 = .ok (.iinc 2 1, 3) := dk_132 2 1 (dk_at dksX5_laysDets_8 12 rfl rfl)
theorem dX5_laysDets_202 : decode cX5_laysDets 202 = .ok (.goto (-200), 3) := dk_167 255 56 (dk_at dksX5_laysDets_8 15 rfl rfl)
theorem dX5_laysDets_205 : decode cX5_laysDets 205 = .ok (.return_, 1) := dk_177 (dk_at dksX5_laysDets_8 18 rfl rfl)
abbrev cX5_has : ByteArray := prog_9_method_4_code
def yX5_has : MethodName := ⟨RX5, "has", "(II)Z"⟩
def dkwX5_has_0 : List UInt8 := [26, 27, 122, 4, 126, 4, 160, 0, 7, 4, 167, 0, 4, 3, 172]
abbrev dktX5_has_0 : List UInt8 := dkwX5_has_0 ++ []
theorem dksX5_has_0 : cX5_has.data.toList.drop 0 = dktX5_has_0 := by decide +kernel
theorem dX5_has_0 : decode cX5_has 0 = .ok (.iload_n 0, 1) := dk_26 (dk_at dksX5_has_0 0 rfl rfl)
theorem dX5_has_1 : decode cX5_has 1 = .ok (.iload_n 1, 1) := dk_27 (dk_at dksX5_has_0 1 rfl rfl)
theorem dX5_has_2 : decode cX5_has 2 = .ok (.ishr, 1) := dk_122 (dk_at dksX5_has_0 2 rfl rfl)
theorem dX5_has_3 : decode cX5_has 3 = .ok (.iconst 1, 1) := dk_4 (dk_at dksX5_has_0 3 rfl rfl)
theorem dX5_has_4 : decode cX5_has 4 = .ok (.iand, 1) := dk_126 (dk_at dksX5_has_0 4 rfl rfl)
theorem dX5_has_5 : decode cX5_has 5 = .ok (.iconst 1, 1) := dk_4 (dk_at dksX5_has_0 5 rfl rfl)
theorem dX5_has_6 : decode cX5_has 6 = .ok (.if_icmp .ne 7, 3) := dk_160 0 7 (dk_at dksX5_has_0 6 rfl rfl)
theorem dX5_has_9 : decode cX5_has 9 = .ok (.iconst 1, 1) := dk_4 (dk_at dksX5_has_0 9 rfl rfl)
theorem dX5_has_10 : decode cX5_has 10 = .ok (.goto 4, 3) := dk_167 0 4 (dk_at dksX5_has_0 10 rfl rfl)
theorem dX5_has_13 : decode cX5_has 13 = .ok (.iconst 0, 1) := dk_3 (dk_at dksX5_has_0 13 rfl rfl)
theorem dX5_has_14 : decode cX5_has 14 = .ok (.ireturn, 1) := dk_172 (dk_at dksX5_has_0 14 rfl rfl)
abbrev cX5_squares : ByteArray := prog_9_method_42_code
def yX5_squares : MethodName := ⟨RX5, "squares", "(II)I"⟩
def dkwX5_squares_6 : List UInt8 := [3, 96, 62, 132, 5, 1, 167, 255, 182, 132, 4, 1, 167, 255, 159, 29, 172]
abbrev dktX5_squares_6 : List UInt8 := dkwX5_squares_6 ++ []
def dkwX5_squares_5 : List UInt8 := [21, 5, 96, 46, 184, 0, 218, 54, 6, 29, 5, 21, 6, 184, 0, 223, 28, 160, 0, 7, 4, 167, 0, 4]
abbrev dktX5_squares_5 : List UInt8 := dkwX5_squares_5 ++ dktX5_squares_6
def dkwX5_squares_4 : List UInt8 := [160, 0, 57, 21, 5, 184, 0, 204, 27, 159, 0, 6, 167, 0, 39, 42, 180, 0, 38, 16, 64, 21, 4, 104]
abbrev dktX5_squares_4 : List UInt8 := dkwX5_squares_4 ++ dktX5_squares_5
def dkwX5_squares_3 : List UInt8 := [54, 5, 21, 5, 4, 42, 180, 0, 13, 16, 37, 46, 120, 162, 0, 66, 21, 4, 184, 0, 204, 27]
abbrev dktX5_squares_3 : List UInt8 := dkwX5_squares_3 ++ dktX5_squares_4
def dkwX5_squares_2 : List UInt8 := [182, 0, 207, 3, 62, 4, 54, 4, 21, 4, 4, 42, 180, 0, 13, 16, 36, 46, 120, 162, 0, 89, 4]
abbrev dktX5_squares_2 : List UInt8 := dkwX5_squares_2 ++ dktX5_squares_3
def dkwX5_squares_1 : List UInt8 := [153, 0, 15, 28, 133, 9, 20, 0, 216, 184, 0, 140, 154, 0, 5, 2, 172, 42, 42, 180, 0, 13]
abbrev dktX5_squares_1 : List UInt8 := dkwX5_squares_1 ++ dktX5_squares_2
def dkwX5_squares_0 : List UInt8 := [42, 3, 181, 0, 83, 42, 180, 0, 13, 16, 36, 46, 153, 0, 27, 27, 133, 10, 20, 0, 214, 184, 0, 140]
abbrev dktX5_squares_0 : List UInt8 := dkwX5_squares_0 ++ dktX5_squares_1
theorem dksX5_squares_0 : cX5_squares.data.toList.drop 0 = dktX5_squares_0 := by decide +kernel
theorem dksX5_squares_1 : cX5_squares.data.toList.drop 24 = dktX5_squares_1 := dk_seg dksX5_squares_0 24 rfl rfl
theorem dksX5_squares_2 : cX5_squares.data.toList.drop 46 = dktX5_squares_2 := dk_seg dksX5_squares_1 22 rfl rfl
theorem dksX5_squares_3 : cX5_squares.data.toList.drop 69 = dktX5_squares_3 := dk_seg dksX5_squares_2 23 rfl rfl
theorem dksX5_squares_4 : cX5_squares.data.toList.drop 91 = dktX5_squares_4 := dk_seg dksX5_squares_3 22 rfl rfl
theorem dksX5_squares_5 : cX5_squares.data.toList.drop 115 = dktX5_squares_5 := dk_seg dksX5_squares_4 24 rfl rfl
theorem dksX5_squares_6 : cX5_squares.data.toList.drop 139 = dktX5_squares_6 := dk_seg dksX5_squares_5 24 rfl rfl
theorem dX5_squares_0 : decode cX5_squares 0 = .ok (.aload_n 0, 1) := dk_42 (dk_at dksX5_squares_0 0 rfl rfl)
theorem dX5_squares_1 : decode cX5_squares 1 = .ok (.iconst 0, 1) := dk_3 (dk_at dksX5_squares_0 1 rfl rfl)
theorem dX5_squares_2 : decode cX5_squares 2 = .ok (.putfield 83, 3) := dk_181 0 83 (dk_at dksX5_squares_0 2 rfl rfl)
theorem dX5_squares_5 : decode cX5_squares 5 = .ok (.aload_n 0, 1) := dk_42 (dk_at dksX5_squares_0 5 rfl rfl)
theorem dX5_squares_6 : decode cX5_squares 6 = .ok (.getfield 13, 3) := dk_180 0 13 (dk_at dksX5_squares_0 6 rfl rfl)
theorem dX5_squares_9 : decode cX5_squares 9 = .ok (.bipush 36, 2) := dk_16 36 (dk_at dksX5_squares_0 9 rfl rfl)
theorem dX5_squares_11 : decode cX5_squares 11 = .ok (.iaload, 1) := dk_46 (dk_at dksX5_squares_0 11 rfl rfl)
theorem dX5_squares_12 : decode cX5_squares 12 = .ok (.ifCond .eq 27, 3) := dk_153 0 27 (dk_at dksX5_squares_0 12 rfl rfl)
theorem dX5_squares_15 : decode cX5_squares 15 = .ok (.iload_n 1, 1) := dk_27 (dk_at dksX5_squares_0 15 rfl rfl)
theorem dX5_squares_16 : decode cX5_squares 16 = .ok (.i2l, 1) := dk_133 (dk_at dksX5_squares_0 16 rfl rfl)
theorem dX5_squares_17 : decode cX5_squares 17 = .ok (.lconst 1, 1) := dk_10 (dk_at dksX5_squares_0 17 rfl rfl)
theorem dX5_squares_18 : decode cX5_squares 18 = .ok (.ldc2_w 214, 3) := dk_20 0 214 (dk_at dksX5_squares_0 18 rfl rfl)
theorem dX5_squares_21 : decode cX5_squares 21 = .ok (.invokestatic 140, 3) := dk_184 0 140 (dk_at dksX5_squares_0 21 rfl rfl)
theorem dX5_squares_24 : decode cX5_squares 24 = .ok (.ifCond .eq 15, 3) := dk_153 0 15 (dk_at dksX5_squares_1 0 rfl rfl)
theorem dX5_squares_27 : decode cX5_squares 27 = .ok (.iload_n 2, 1) := dk_28 (dk_at dksX5_squares_1 3 rfl rfl)
theorem dX5_squares_28 : decode cX5_squares 28 = .ok (.i2l, 1) := dk_133 (dk_at dksX5_squares_1 4 rfl rfl)
theorem dX5_squares_29 : decode cX5_squares 29 = .ok (.lconst 0, 1) := dk_9 (dk_at dksX5_squares_1 5 rfl rfl)
theorem dX5_squares_30 : decode cX5_squares 30 = .ok (.ldc2_w 216, 3) := dk_20 0 216 (dk_at dksX5_squares_1 6 rfl rfl)
theorem dX5_squares_33 : decode cX5_squares 33 = .ok (.invokestatic 140, 3) := dk_184 0 140 (dk_at dksX5_squares_1 9 rfl rfl)
theorem dX5_squares_36 : decode cX5_squares 36 = .ok (.ifCond .ne 5, 3) := dk_154 0 5 (dk_at dksX5_squares_1 12 rfl rfl)
theorem dX5_squares_39 : decode cX5_squares 39 = .ok (.iconst (-1), 1) := dk_2 (dk_at dksX5_squares_1 15 rfl rfl)
theorem dX5_squares_40 : decode cX5_squares 40 = .ok (.ireturn, 1) := dk_172 (dk_at dksX5_squares_1 16 rfl rfl)
theorem dX5_squares_41 : decode cX5_squares 41 = .ok (.aload_n 0, 1) := dk_42 (dk_at dksX5_squares_1 17 rfl rfl)
theorem dX5_squares_42 : decode cX5_squares 42 = .ok (.aload_n 0, 1) := dk_42 (dk_at dksX5_squares_1 18 rfl rfl)
theorem dX5_squares_43 : decode cX5_squares 43 = .ok (.getfield 13, 3) := dk_180 0 13 (dk_at dksX5_squares_1 19 rfl rfl)
theorem dX5_squares_46 : decode cX5_squares 46 = .ok (.invokevirtual 207, 3) := dk_182 0 207 (dk_at dksX5_squares_2 0 rfl rfl)
theorem dX5_squares_49 : decode cX5_squares 49 = .ok (.iconst 0, 1) := dk_3 (dk_at dksX5_squares_2 3 rfl rfl)
theorem dX5_squares_50 : decode cX5_squares 50 = .ok (.istore_n 3, 1) := dk_62 (dk_at dksX5_squares_2 4 rfl rfl)
theorem dX5_squares_51 : decode cX5_squares 51 = .ok (.iconst 1, 1) := dk_4 (dk_at dksX5_squares_2 5 rfl rfl)
theorem dX5_squares_52 : decode cX5_squares 52 = .ok (.istore 4, 2) := dk_54 4 (dk_at dksX5_squares_2 6 rfl rfl)
theorem dX5_squares_54 : decode cX5_squares 54 = .ok (.iload 4, 2) := dk_21 4 (dk_at dksX5_squares_2 8 rfl rfl)
theorem dX5_squares_56 : decode cX5_squares 56 = .ok (.iconst 1, 1) := dk_4 (dk_at dksX5_squares_2 10 rfl rfl)
theorem dX5_squares_57 : decode cX5_squares 57 = .ok (.aload_n 0, 1) := dk_42 (dk_at dksX5_squares_2 11 rfl rfl)
theorem dX5_squares_58 : decode cX5_squares 58 = .ok (.getfield 13, 3) := dk_180 0 13 (dk_at dksX5_squares_2 12 rfl rfl)
theorem dX5_squares_61 : decode cX5_squares 61 = .ok (.bipush 36, 2) := dk_16 36 (dk_at dksX5_squares_2 15 rfl rfl)
theorem dX5_squares_63 : decode cX5_squares 63 = .ok (.iaload, 1) := dk_46 (dk_at dksX5_squares_2 17 rfl rfl)
theorem dX5_squares_64 : decode cX5_squares 64 = .ok (.ishl, 1) := dk_120 (dk_at dksX5_squares_2 18 rfl rfl)
theorem dX5_squares_65 : decode cX5_squares 65 = .ok (.if_icmp .ge 89, 3) := dk_162 0 89 (dk_at dksX5_squares_2 19 rfl rfl)
theorem dX5_squares_68 : decode cX5_squares 68 = .ok (.iconst 1, 1) := dk_4 (dk_at dksX5_squares_2 22 rfl rfl)
theorem dX5_squares_69 : decode cX5_squares 69 = .ok (.istore 5, 2) := dk_54 5 (dk_at dksX5_squares_3 0 rfl rfl)
theorem dX5_squares_71 : decode cX5_squares 71 = .ok (.iload 5, 2) := dk_21 5 (dk_at dksX5_squares_3 2 rfl rfl)
theorem dX5_squares_73 : decode cX5_squares 73 = .ok (.iconst 1, 1) := dk_4 (dk_at dksX5_squares_3 4 rfl rfl)
theorem dX5_squares_74 : decode cX5_squares 74 = .ok (.aload_n 0, 1) := dk_42 (dk_at dksX5_squares_3 5 rfl rfl)
theorem dX5_squares_75 : decode cX5_squares 75 = .ok (.getfield 13, 3) := dk_180 0 13 (dk_at dksX5_squares_3 6 rfl rfl)
theorem dX5_squares_78 : decode cX5_squares 78 = .ok (.bipush 37, 2) := dk_16 37 (dk_at dksX5_squares_3 9 rfl rfl)
theorem dX5_squares_80 : decode cX5_squares 80 = .ok (.iaload, 1) := dk_46 (dk_at dksX5_squares_3 11 rfl rfl)
theorem dX5_squares_81 : decode cX5_squares 81 = .ok (.ishl, 1) := dk_120 (dk_at dksX5_squares_3 12 rfl rfl)
theorem dX5_squares_82 : decode cX5_squares 82 = .ok (.if_icmp .ge 66, 3) := dk_162 0 66 (dk_at dksX5_squares_3 13 rfl rfl)
theorem dX5_squares_85 : decode cX5_squares 85 = .ok (.iload 4, 2) := dk_21 4 (dk_at dksX5_squares_3 16 rfl rfl)
theorem dX5_squares_87 : decode cX5_squares 87 = .ok (.invokestatic 204, 3) := dk_184 0 204 (dk_at dksX5_squares_3 18 rfl rfl)
theorem dX5_squares_90 : decode cX5_squares 90 = .ok (.iload_n 1, 1) := dk_27 (dk_at dksX5_squares_3 21 rfl rfl)
theorem dX5_squares_91 : decode cX5_squares 91 = .ok (.if_icmp .ne 57, 3) := dk_160 0 57 (dk_at dksX5_squares_4 0 rfl rfl)
theorem dX5_squares_94 : decode cX5_squares 94 = .ok (.iload 5, 2) := dk_21 5 (dk_at dksX5_squares_4 3 rfl rfl)
theorem dX5_squares_96 : decode cX5_squares 96 = .ok (.invokestatic 204, 3) := dk_184 0 204 (dk_at dksX5_squares_4 5 rfl rfl)
theorem dX5_squares_99 : decode cX5_squares 99 = .ok (.iload_n 1, 1) := dk_27 (dk_at dksX5_squares_4 8 rfl rfl)
theorem dX5_squares_100 : decode cX5_squares 100 = .ok (.if_icmp .eq 6, 3) := dk_159 0 6 (dk_at dksX5_squares_4 9 rfl rfl)
theorem dX5_squares_103 : decode cX5_squares 103 = .ok (.goto 39, 3) := dk_167 0 39 (dk_at dksX5_squares_4 12 rfl rfl)
theorem dX5_squares_106 : decode cX5_squares 106 = .ok (.aload_n 0, 1) := dk_42 (dk_at dksX5_squares_4 15 rfl rfl)
theorem dX5_squares_107 : decode cX5_squares 107 = .ok (.getfield 38, 3) := dk_180 0 38 (dk_at dksX5_squares_4 16 rfl rfl)
theorem dX5_squares_110 : decode cX5_squares 110 = .ok (.bipush 64, 2) := dk_16 64 (dk_at dksX5_squares_4 19 rfl rfl)
theorem dX5_squares_112 : decode cX5_squares 112 = .ok (.iload 4, 2) := dk_21 4 (dk_at dksX5_squares_4 21 rfl rfl)
theorem dX5_squares_114 : decode cX5_squares 114 = .ok (.imul, 1) := dk_104 (dk_at dksX5_squares_4 23 rfl rfl)
theorem dX5_squares_115 : decode cX5_squares 115 = .ok (.iload 5, 2) := dk_21 5 (dk_at dksX5_squares_5 0 rfl rfl)
theorem dX5_squares_117 : decode cX5_squares 117 = .ok (.iadd, 1) := dk_96 (dk_at dksX5_squares_5 2 rfl rfl)
theorem dX5_squares_118 : decode cX5_squares 118 = .ok (.iaload, 1) := dk_46 (dk_at dksX5_squares_5 3 rfl rfl)
theorem dX5_squares_119 : decode cX5_squares 119 = .ok (.invokestatic 218, 3) := dk_184 0 218 (dk_at dksX5_squares_5 4 rfl rfl)
theorem dX5_squares_122 : decode cX5_squares 122 = .ok (.istore 6, 2) := dk_54 6 (dk_at dksX5_squares_5 7 rfl rfl)
theorem dX5_squares_124 : decode cX5_squares 124 = .ok (.iload_n 3, 1) := dk_29 (dk_at dksX5_squares_5 9 rfl rfl)
theorem dX5_squares_125 : decode cX5_squares 125 = .ok (.iconst 2, 1) := dk_5 (dk_at dksX5_squares_5 10 rfl rfl)
theorem dX5_squares_126 : decode cX5_squares 126 = .ok (.iload 6, 2) := dk_21 6 (dk_at dksX5_squares_5 11 rfl rfl)
theorem dX5_squares_128 : decode cX5_squares 128 = .ok (.invokestatic 223, 3) := dk_184 0 223 (dk_at dksX5_squares_5 13 rfl rfl)
theorem dX5_squares_131 : decode cX5_squares 131 = .ok (.iload_n 2, 1) := dk_28 (dk_at dksX5_squares_5 16 rfl rfl)
theorem dX5_squares_132 : decode cX5_squares 132 = .ok (.if_icmp .ne 7, 3) := dk_160 0 7 (dk_at dksX5_squares_5 17 rfl rfl)
theorem dX5_squares_135 : decode cX5_squares 135 = .ok (.iconst 1, 1) := dk_4 (dk_at dksX5_squares_5 20 rfl rfl)
theorem dX5_squares_136 : decode cX5_squares 136 = .ok (.goto 4, 3) := dk_167 0 4 (dk_at dksX5_squares_5 21 rfl rfl)
theorem dX5_squares_139 : decode cX5_squares 139 = .ok (.iconst 0, 1) := dk_3 (dk_at dksX5_squares_6 0 rfl rfl)
theorem dX5_squares_140 : decode cX5_squares 140 = .ok (.iadd, 1) := dk_96 (dk_at dksX5_squares_6 1 rfl rfl)
theorem dX5_squares_141 : decode cX5_squares 141 = .ok (.istore_n 3, 1) := dk_62 (dk_at dksX5_squares_6 2 rfl rfl)
theorem dX5_squares_142 : decode cX5_squares 142 = .ok (.iinc 5 1, 3) := dk_132 5 1 (dk_at dksX5_squares_6 3 rfl rfl)
theorem dX5_squares_145 : decode cX5_squares 145 = .ok (.goto (-74), 3) := dk_167 255 182 (dk_at dksX5_squares_6 6 rfl rfl)
theorem dX5_squares_148 : decode cX5_squares 148 = .ok (.iinc 4 1, 3) := dk_132 4 1 (dk_at dksX5_squares_6 9 rfl rfl)
theorem dX5_squares_151 : decode cX5_squares 151 = .ok (.goto (-97), 3) := dk_167 255 159 (dk_at dksX5_squares_6 12 rfl rfl)
theorem dX5_squares_154 : decode cX5_squares 154 = .ok (.iload_n 3, 1) := dk_29 (dk_at dksX5_squares_6 15 rfl rfl)
theorem dX5_squares_155 : decode cX5_squares 155 = .ok (.ireturn, 1) := dk_172 (dk_at dksX5_squares_6 16 rfl rfl)
abbrev cX5_total : ByteArray := prog_9_method_43_code
def yX5_total : MethodName := ⟨RX5, "total", "()I"⟩
def dkwX5_total_1 : List UInt8 := [182, 0, 227, 153, 0, 7, 4, 167, 0, 4, 3, 172]
abbrev dktX5_total_1 : List UInt8 := dkwX5_total_1 ++ []
def dkwX5_total_0 : List UInt8 := [42, 3, 181, 0, 83, 42, 180, 0, 13, 16, 36, 46, 154, 0, 7, 2, 167, 0, 19, 42, 42, 180, 0, 13]
abbrev dktX5_total_0 : List UInt8 := dkwX5_total_0 ++ dktX5_total_1
theorem dksX5_total_0 : cX5_total.data.toList.drop 0 = dktX5_total_0 := by decide +kernel
theorem dksX5_total_1 : cX5_total.data.toList.drop 24 = dktX5_total_1 := dk_seg dksX5_total_0 24 rfl rfl
theorem dX5_total_0 : decode cX5_total 0 = .ok (.aload_n 0, 1) := dk_42 (dk_at dksX5_total_0 0 rfl rfl)
theorem dX5_total_1 : decode cX5_total 1 = .ok (.iconst 0, 1) := dk_3 (dk_at dksX5_total_0 1 rfl rfl)
theorem dX5_total_2 : decode cX5_total 2 = .ok (.putfield 83, 3) := dk_181 0 83 (dk_at dksX5_total_0 2 rfl rfl)
theorem dX5_total_5 : decode cX5_total 5 = .ok (.aload_n 0, 1) := dk_42 (dk_at dksX5_total_0 5 rfl rfl)
theorem dX5_total_6 : decode cX5_total 6 = .ok (.getfield 13, 3) := dk_180 0 13 (dk_at dksX5_total_0 6 rfl rfl)
theorem dX5_total_9 : decode cX5_total 9 = .ok (.bipush 36, 2) := dk_16 36 (dk_at dksX5_total_0 9 rfl rfl)
theorem dX5_total_11 : decode cX5_total 11 = .ok (.iaload, 1) := dk_46 (dk_at dksX5_total_0 11 rfl rfl)
theorem dX5_total_12 : decode cX5_total 12 = .ok (.ifCond .ne 7, 3) := dk_154 0 7 (dk_at dksX5_total_0 12 rfl rfl)
theorem dX5_total_15 : decode cX5_total 15 = .ok (.iconst (-1), 1) := dk_2 (dk_at dksX5_total_0 15 rfl rfl)
theorem dX5_total_16 : decode cX5_total 16 = .ok (.goto 19, 3) := dk_167 0 19 (dk_at dksX5_total_0 16 rfl rfl)
theorem dX5_total_19 : decode cX5_total 19 = .ok (.aload_n 0, 1) := dk_42 (dk_at dksX5_total_0 19 rfl rfl)
theorem dX5_total_20 : decode cX5_total 20 = .ok (.aload_n 0, 1) := dk_42 (dk_at dksX5_total_0 20 rfl rfl)
theorem dX5_total_21 : decode cX5_total 21 = .ok (.getfield 13, 3) := dk_180 0 13 (dk_at dksX5_total_0 21 rfl rfl)
theorem dX5_total_24 : decode cX5_total 24 = .ok (.invokevirtual 227, 3) := dk_182 0 227 (dk_at dksX5_total_1 0 rfl rfl)
theorem dX5_total_27 : decode cX5_total 27 = .ok (.ifCond .eq 7, 3) := dk_153 0 7 (dk_at dksX5_total_1 3 rfl rfl)
theorem dX5_total_30 : decode cX5_total 30 = .ok (.iconst 1, 1) := dk_4 (dk_at dksX5_total_1 6 rfl rfl)
theorem dX5_total_31 : decode cX5_total 31 = .ok (.goto 4, 3) := dk_167 0 4 (dk_at dksX5_total_1 7 rfl rfl)
theorem dX5_total_34 : decode cX5_total 34 = .ok (.iconst 0, 1) := dk_3 (dk_at dksX5_total_1 10 rfl rfl)
theorem dX5_total_35 : decode cX5_total 35 = .ok (.ireturn, 1) := dk_172 (dk_at dksX5_total_1 11 rfl rfl)
abbrev cX5_isTotal : ByteArray := prog_9_method_40_code
def yX5_isTotal : MethodName := ⟨RX5, "isTotal", "([I)Z"⟩
def dkwX5_isTotal_3 : List UInt8 := [167, 255, 205, 132, 2, 1, 167, 255, 187, 4, 172]
abbrev dktX5_isTotal_3 : List UInt8 := dkwX5_isTotal_3 ++ []
def dkwX5_isTotal_2 : List UInt8 := [16, 64, 28, 104, 29, 96, 46, 133, 20, 0, 162, 10, 184, 0, 140, 154, 0, 5, 3, 172, 132, 3, 1]
abbrev dktX5_isTotal_2 : List UInt8 := dkwX5_isTotal_2 ++ dktX5_isTotal_3
def dkwX5_isTotal_1 : List UInt8 := [46, 120, 162, 0, 47, 28, 184, 0, 204, 29, 184, 0, 204, 159, 0, 6, 167, 0, 27, 42, 180, 0, 38]
abbrev dktX5_isTotal_1 : List UInt8 := dkwX5_isTotal_1 ++ dktX5_isTotal_2
def dkwX5_isTotal_0 : List UInt8 := [42, 43, 182, 0, 207, 4, 61, 28, 4, 43, 16, 36, 46, 120, 162, 0, 65, 4, 62, 29, 4, 43, 16, 37]
abbrev dktX5_isTotal_0 : List UInt8 := dkwX5_isTotal_0 ++ dktX5_isTotal_1
theorem dksX5_isTotal_0 : cX5_isTotal.data.toList.drop 0 = dktX5_isTotal_0 := by decide +kernel
theorem dksX5_isTotal_1 : cX5_isTotal.data.toList.drop 24 = dktX5_isTotal_1 := dk_seg dksX5_isTotal_0 24 rfl rfl
theorem dksX5_isTotal_2 : cX5_isTotal.data.toList.drop 47 = dktX5_isTotal_2 := dk_seg dksX5_isTotal_1 23 rfl rfl
theorem dksX5_isTotal_3 : cX5_isTotal.data.toList.drop 70 = dktX5_isTotal_3 := dk_seg dksX5_isTotal_2 23 rfl rfl
theorem dX5_isTotal_0 : decode cX5_isTotal 0 = .ok (.aload_n 0, 1) := dk_42 (dk_at dksX5_isTotal_0 0 rfl rfl)
theorem dX5_isTotal_1 : decode cX5_isTotal 1 = .ok (.aload_n 1, 1) := dk_43 (dk_at dksX5_isTotal_0 1 rfl rfl)
theorem dX5_isTotal_2 : decode cX5_isTotal 2 = .ok (.invokevirtual 207, 3) := dk_182 0 207 (dk_at dksX5_isTotal_0 2 rfl rfl)
theorem dX5_isTotal_5 : decode cX5_isTotal 5 = .ok (.iconst 1, 1) := dk_4 (dk_at dksX5_isTotal_0 5 rfl rfl)
theorem dX5_isTotal_6 : decode cX5_isTotal 6 = .ok (.istore_n 2, 1) := dk_61 (dk_at dksX5_isTotal_0 6 rfl rfl)
theorem dX5_isTotal_7 : decode cX5_isTotal 7 = .ok (.iload_n 2, 1) := dk_28 (dk_at dksX5_isTotal_0 7 rfl rfl)
theorem dX5_isTotal_8 : decode cX5_isTotal 8 = .ok (.iconst 1, 1) := dk_4 (dk_at dksX5_isTotal_0 8 rfl rfl)
theorem dX5_isTotal_9 : decode cX5_isTotal 9 = .ok (.aload_n 1, 1) := dk_43 (dk_at dksX5_isTotal_0 9 rfl rfl)
theorem dX5_isTotal_10 : decode cX5_isTotal 10 = .ok (.bipush 36, 2) := dk_16 36 (dk_at dksX5_isTotal_0 10 rfl rfl)
theorem dX5_isTotal_12 : decode cX5_isTotal 12 = .ok (.iaload, 1) := dk_46 (dk_at dksX5_isTotal_0 12 rfl rfl)
theorem dX5_isTotal_13 : decode cX5_isTotal 13 = .ok (.ishl, 1) := dk_120 (dk_at dksX5_isTotal_0 13 rfl rfl)
theorem dX5_isTotal_14 : decode cX5_isTotal 14 = .ok (.if_icmp .ge 65, 3) := dk_162 0 65 (dk_at dksX5_isTotal_0 14 rfl rfl)
theorem dX5_isTotal_17 : decode cX5_isTotal 17 = .ok (.iconst 1, 1) := dk_4 (dk_at dksX5_isTotal_0 17 rfl rfl)
theorem dX5_isTotal_18 : decode cX5_isTotal 18 = .ok (.istore_n 3, 1) := dk_62 (dk_at dksX5_isTotal_0 18 rfl rfl)
theorem dX5_isTotal_19 : decode cX5_isTotal 19 = .ok (.iload_n 3, 1) := dk_29 (dk_at dksX5_isTotal_0 19 rfl rfl)
theorem dX5_isTotal_20 : decode cX5_isTotal 20 = .ok (.iconst 1, 1) := dk_4 (dk_at dksX5_isTotal_0 20 rfl rfl)
theorem dX5_isTotal_21 : decode cX5_isTotal 21 = .ok (.aload_n 1, 1) := dk_43 (dk_at dksX5_isTotal_0 21 rfl rfl)
theorem dX5_isTotal_22 : decode cX5_isTotal 22 = .ok (.bipush 37, 2) := dk_16 37 (dk_at dksX5_isTotal_0 22 rfl rfl)
theorem dX5_isTotal_24 : decode cX5_isTotal 24 = .ok (.iaload, 1) := dk_46 (dk_at dksX5_isTotal_1 0 rfl rfl)
theorem dX5_isTotal_25 : decode cX5_isTotal 25 = .ok (.ishl, 1) := dk_120 (dk_at dksX5_isTotal_1 1 rfl rfl)
theorem dX5_isTotal_26 : decode cX5_isTotal 26 = .ok (.if_icmp .ge 47, 3) := dk_162 0 47 (dk_at dksX5_isTotal_1 2 rfl rfl)
theorem dX5_isTotal_29 : decode cX5_isTotal 29 = .ok (.iload_n 2, 1) := dk_28 (dk_at dksX5_isTotal_1 5 rfl rfl)
theorem dX5_isTotal_30 : decode cX5_isTotal 30 = .ok (.invokestatic 204, 3) := dk_184 0 204 (dk_at dksX5_isTotal_1 6 rfl rfl)
theorem dX5_isTotal_33 : decode cX5_isTotal 33 = .ok (.iload_n 3, 1) := dk_29 (dk_at dksX5_isTotal_1 9 rfl rfl)
theorem dX5_isTotal_34 : decode cX5_isTotal 34 = .ok (.invokestatic 204, 3) := dk_184 0 204 (dk_at dksX5_isTotal_1 10 rfl rfl)
theorem dX5_isTotal_37 : decode cX5_isTotal 37 = .ok (.if_icmp .eq 6, 3) := dk_159 0 6 (dk_at dksX5_isTotal_1 13 rfl rfl)
theorem dX5_isTotal_40 : decode cX5_isTotal 40 = .ok (.goto 27, 3) := dk_167 0 27 (dk_at dksX5_isTotal_1 16 rfl rfl)
theorem dX5_isTotal_43 : decode cX5_isTotal 43 = .ok (.aload_n 0, 1) := dk_42 (dk_at dksX5_isTotal_1 19 rfl rfl)
theorem dX5_isTotal_44 : decode cX5_isTotal 44 = .ok (.getfield 38, 3) := dk_180 0 38 (dk_at dksX5_isTotal_1 20 rfl rfl)
theorem dX5_isTotal_47 : decode cX5_isTotal 47 = .ok (.bipush 64, 2) := dk_16 64 (dk_at dksX5_isTotal_2 0 rfl rfl)
theorem dX5_isTotal_49 : decode cX5_isTotal 49 = .ok (.iload_n 2, 1) := dk_28 (dk_at dksX5_isTotal_2 2 rfl rfl)
theorem dX5_isTotal_50 : decode cX5_isTotal 50 = .ok (.imul, 1) := dk_104 (dk_at dksX5_isTotal_2 3 rfl rfl)
theorem dX5_isTotal_51 : decode cX5_isTotal 51 = .ok (.iload_n 3, 1) := dk_29 (dk_at dksX5_isTotal_2 4 rfl rfl)
theorem dX5_isTotal_52 : decode cX5_isTotal 52 = .ok (.iadd, 1) := dk_96 (dk_at dksX5_isTotal_2 5 rfl rfl)
theorem dX5_isTotal_53 : decode cX5_isTotal 53 = .ok (.iaload, 1) := dk_46 (dk_at dksX5_isTotal_2 6 rfl rfl)
theorem dX5_isTotal_54 : decode cX5_isTotal 54 = .ok (.i2l, 1) := dk_133 (dk_at dksX5_isTotal_2 7 rfl rfl)
theorem dX5_isTotal_55 : decode cX5_isTotal 55 = .ok (.ldc2_w 162, 3) := dk_20 0 162 (dk_at dksX5_isTotal_2 8 rfl rfl)
theorem dX5_isTotal_58 : decode cX5_isTotal 58 = .ok (.lconst 1, 1) := dk_10 (dk_at dksX5_isTotal_2 11 rfl rfl)
theorem dX5_isTotal_59 : decode cX5_isTotal 59 = .ok (.invokestatic 140, 3) := dk_184 0 140 (dk_at dksX5_isTotal_2 12 rfl rfl)
theorem dX5_isTotal_62 : decode cX5_isTotal 62 = .ok (.ifCond .ne 5, 3) := dk_154 0 5 (dk_at dksX5_isTotal_2 15 rfl rfl)
theorem dX5_isTotal_65 : decode cX5_isTotal 65 = .ok (.iconst 0, 1) := dk_3 (dk_at dksX5_isTotal_2 18 rfl rfl)
theorem dX5_isTotal_66 : decode cX5_isTotal 66 = .ok (.ireturn, 1) := dk_172 (dk_at dksX5_isTotal_2 19 rfl rfl)
theorem dX5_isTotal_67 : decode cX5_isTotal 67 = .ok (.iinc 3 1, 3) := dk_132 3 1 (dk_at dksX5_isTotal_2 20 rfl rfl)
theorem dX5_isTotal_70 : decode cX5_isTotal 70 = .ok (.goto (-51), 3) := dk_167 255 205 (dk_at dksX5_isTotal_3 0 rfl rfl)
theorem dX5_isTotal_73 : decode cX5_isTotal 73 = .ok (.iinc 2 1, 3) := dk_132 2 1 (dk_at dksX5_isTotal_3 3 rfl rfl)
theorem dX5_isTotal_76 : decode cX5_isTotal 76 = .ok (.goto (-69), 3) := dk_167 255 187 (dk_at dksX5_isTotal_3 6 rfl rfl)
theorem dX5_isTotal_79 : decode cX5_isTotal 79 = .ok (.iconst 1, 1) := dk_4 (dk_at dksX5_isTotal_3 9 rfl rfl)
theorem dX5_isTotal_80 : decode cX5_isTotal 80 = .ok (.ireturn, 1) := dk_172 (dk_at dksX5_isTotal_3 10 rfl rfl)
abbrev cX5_witness : ByteArray := prog_9_method_44_code
def yX5_witness : MethodName := ⟨RX5, "witness", "(I)I"⟩
def dkwX5_witness_7 : List UInt8 := [132, 4, 1, 167, 255, 156, 132, 3, 1, 167, 255, 134, 132, 2, 1, 167, 255, 120, 18, 133, 172]
abbrev dktX5_witness_7 : List UInt8 := dkwX5_witness_7 ++ []
def dkwX5_witness_6 : List UInt8 := [5, 160, 0, 8, 21, 4, 167, 0, 15, 42, 180, 0, 38, 16, 64, 29, 104, 21, 4, 96, 46, 172]
abbrev dktX5_witness_6 : List UInt8 := dkwX5_witness_6 ++ dktX5_witness_7
def dkwX5_witness_5 : List UInt8 := [153, 0, 6, 167, 0, 43, 27, 154, 0, 7, 28, 167, 0, 34, 27, 4, 160, 0, 7, 29, 167, 0, 25, 27]
abbrev dktX5_witness_5 : List UInt8 := dkwX5_witness_5 ++ dktX5_witness_6
def dkwX5_witness_4 : List UInt8 := [28, 160, 0, 69, 42, 180, 0, 38, 16, 64, 29, 104, 21, 4, 96, 46, 133, 20, 0, 162, 10, 184, 0, 140]
abbrev dktX5_witness_4 : List UInt8 := dkwX5_witness_4 ++ dktX5_witness_5
def dkwX5_witness_3 : List UInt8 := [42, 180, 0, 13, 16, 37, 46, 120, 162, 0, 92, 29, 184, 0, 204, 28, 160, 0, 84, 21, 4, 184, 0, 204]
abbrev dktX5_witness_3 : List UInt8 := dkwX5_witness_3 ++ dktX5_witness_4
def dkwX5_witness_2 : List UInt8 := [163, 0, 136, 4, 62, 29, 4, 42, 180, 0, 13, 16, 36, 46, 120, 162, 0, 115, 4, 54, 4, 21, 4, 4]
abbrev dktX5_witness_2 : List UInt8 := dkwX5_witness_2 ++ dktX5_witness_3
def dkwX5_witness_1 : List UInt8 := [153, 0, 14, 42, 42, 180, 0, 13, 182, 0, 227, 153, 0, 6, 18, 133, 172, 4, 61, 28, 16, 6]
abbrev dktX5_witness_1 : List UInt8 := dkwX5_witness_1 ++ dktX5_witness_2
def dkwX5_witness_0 : List UInt8 := [42, 3, 181, 0, 83, 42, 180, 0, 13, 16, 36, 46, 153, 0, 26, 27, 133, 9, 20, 0, 231, 184, 0, 140]
abbrev dktX5_witness_0 : List UInt8 := dkwX5_witness_0 ++ dktX5_witness_1
theorem dksX5_witness_0 : cX5_witness.data.toList.drop 0 = dktX5_witness_0 := by decide +kernel
theorem dksX5_witness_1 : cX5_witness.data.toList.drop 24 = dktX5_witness_1 := dk_seg dksX5_witness_0 24 rfl rfl
theorem dksX5_witness_2 : cX5_witness.data.toList.drop 46 = dktX5_witness_2 := dk_seg dksX5_witness_1 22 rfl rfl
theorem dksX5_witness_3 : cX5_witness.data.toList.drop 70 = dktX5_witness_3 := dk_seg dksX5_witness_2 24 rfl rfl
theorem dksX5_witness_4 : cX5_witness.data.toList.drop 94 = dktX5_witness_4 := dk_seg dksX5_witness_3 24 rfl rfl
theorem dksX5_witness_5 : cX5_witness.data.toList.drop 118 = dktX5_witness_5 := dk_seg dksX5_witness_4 24 rfl rfl
theorem dksX5_witness_6 : cX5_witness.data.toList.drop 142 = dktX5_witness_6 := dk_seg dksX5_witness_5 24 rfl rfl
theorem dksX5_witness_7 : cX5_witness.data.toList.drop 164 = dktX5_witness_7 := dk_seg dksX5_witness_6 22 rfl rfl
theorem dX5_witness_0 : decode cX5_witness 0 = .ok (.aload_n 0, 1) := dk_42 (dk_at dksX5_witness_0 0 rfl rfl)
theorem dX5_witness_1 : decode cX5_witness 1 = .ok (.iconst 0, 1) := dk_3 (dk_at dksX5_witness_0 1 rfl rfl)
theorem dX5_witness_2 : decode cX5_witness 2 = .ok (.putfield 83, 3) := dk_181 0 83 (dk_at dksX5_witness_0 2 rfl rfl)
theorem dX5_witness_5 : decode cX5_witness 5 = .ok (.aload_n 0, 1) := dk_42 (dk_at dksX5_witness_0 5 rfl rfl)
theorem dX5_witness_6 : decode cX5_witness 6 = .ok (.getfield 13, 3) := dk_180 0 13 (dk_at dksX5_witness_0 6 rfl rfl)
theorem dX5_witness_9 : decode cX5_witness 9 = .ok (.bipush 36, 2) := dk_16 36 (dk_at dksX5_witness_0 9 rfl rfl)
theorem dX5_witness_11 : decode cX5_witness 11 = .ok (.iaload, 1) := dk_46 (dk_at dksX5_witness_0 11 rfl rfl)
theorem dX5_witness_12 : decode cX5_witness 12 = .ok (.ifCond .eq 26, 3) := dk_153 0 26 (dk_at dksX5_witness_0 12 rfl rfl)
theorem dX5_witness_15 : decode cX5_witness 15 = .ok (.iload_n 1, 1) := dk_27 (dk_at dksX5_witness_0 15 rfl rfl)
theorem dX5_witness_16 : decode cX5_witness 16 = .ok (.i2l, 1) := dk_133 (dk_at dksX5_witness_0 16 rfl rfl)
theorem dX5_witness_17 : decode cX5_witness 17 = .ok (.lconst 0, 1) := dk_9 (dk_at dksX5_witness_0 17 rfl rfl)
theorem dX5_witness_18 : decode cX5_witness 18 = .ok (.ldc2_w 231, 3) := dk_20 0 231 (dk_at dksX5_witness_0 18 rfl rfl)
theorem dX5_witness_21 : decode cX5_witness 21 = .ok (.invokestatic 140, 3) := dk_184 0 140 (dk_at dksX5_witness_0 21 rfl rfl)
theorem dX5_witness_24 : decode cX5_witness 24 = .ok (.ifCond .eq 14, 3) := dk_153 0 14 (dk_at dksX5_witness_1 0 rfl rfl)
theorem dX5_witness_27 : decode cX5_witness 27 = .ok (.aload_n 0, 1) := dk_42 (dk_at dksX5_witness_1 3 rfl rfl)
theorem dX5_witness_28 : decode cX5_witness 28 = .ok (.aload_n 0, 1) := dk_42 (dk_at dksX5_witness_1 4 rfl rfl)
theorem dX5_witness_29 : decode cX5_witness 29 = .ok (.getfield 13, 3) := dk_180 0 13 (dk_at dksX5_witness_1 5 rfl rfl)
theorem dX5_witness_32 : decode cX5_witness 32 = .ok (.invokevirtual 227, 3) := dk_182 0 227 (dk_at dksX5_witness_1 8 rfl rfl)
theorem dX5_witness_35 : decode cX5_witness 35 = .ok (.ifCond .eq 6, 3) := dk_153 0 6 (dk_at dksX5_witness_1 11 rfl rfl)
theorem dX5_witness_38 : decode cX5_witness 38 = .ok (.ldc 133, 2) := dk_18 133 (dk_at dksX5_witness_1 14 rfl rfl)
theorem dX5_witness_40 : decode cX5_witness 40 = .ok (.ireturn, 1) := dk_172 (dk_at dksX5_witness_1 16 rfl rfl)
theorem dX5_witness_41 : decode cX5_witness 41 = .ok (.iconst 1, 1) := dk_4 (dk_at dksX5_witness_1 17 rfl rfl)
theorem dX5_witness_42 : decode cX5_witness 42 = .ok (.istore_n 2, 1) := dk_61 (dk_at dksX5_witness_1 18 rfl rfl)
theorem dX5_witness_43 : decode cX5_witness 43 = .ok (.iload_n 2, 1) := dk_28 (dk_at dksX5_witness_1 19 rfl rfl)
theorem dX5_witness_44 : decode cX5_witness 44 = .ok (.bipush 6, 2) := dk_16 6 (dk_at dksX5_witness_1 20 rfl rfl)
theorem dX5_witness_46 : decode cX5_witness 46 = .ok (.if_icmp .gt 136, 3) := dk_163 0 136 (dk_at dksX5_witness_2 0 rfl rfl)
theorem dX5_witness_49 : decode cX5_witness 49 = .ok (.iconst 1, 1) := dk_4 (dk_at dksX5_witness_2 3 rfl rfl)
theorem dX5_witness_50 : decode cX5_witness 50 = .ok (.istore_n 3, 1) := dk_62 (dk_at dksX5_witness_2 4 rfl rfl)
theorem dX5_witness_51 : decode cX5_witness 51 = .ok (.iload_n 3, 1) := dk_29 (dk_at dksX5_witness_2 5 rfl rfl)
theorem dX5_witness_52 : decode cX5_witness 52 = .ok (.iconst 1, 1) := dk_4 (dk_at dksX5_witness_2 6 rfl rfl)
theorem dX5_witness_53 : decode cX5_witness 53 = .ok (.aload_n 0, 1) := dk_42 (dk_at dksX5_witness_2 7 rfl rfl)
theorem dX5_witness_54 : decode cX5_witness 54 = .ok (.getfield 13, 3) := dk_180 0 13 (dk_at dksX5_witness_2 8 rfl rfl)
theorem dX5_witness_57 : decode cX5_witness 57 = .ok (.bipush 36, 2) := dk_16 36 (dk_at dksX5_witness_2 11 rfl rfl)
theorem dX5_witness_59 : decode cX5_witness 59 = .ok (.iaload, 1) := dk_46 (dk_at dksX5_witness_2 13 rfl rfl)
theorem dX5_witness_60 : decode cX5_witness 60 = .ok (.ishl, 1) := dk_120 (dk_at dksX5_witness_2 14 rfl rfl)
theorem dX5_witness_61 : decode cX5_witness 61 = .ok (.if_icmp .ge 115, 3) := dk_162 0 115 (dk_at dksX5_witness_2 15 rfl rfl)
theorem dX5_witness_64 : decode cX5_witness 64 = .ok (.iconst 1, 1) := dk_4 (dk_at dksX5_witness_2 18 rfl rfl)
theorem dX5_witness_65 : decode cX5_witness 65 = .ok (.istore 4, 2) := dk_54 4 (dk_at dksX5_witness_2 19 rfl rfl)
theorem dX5_witness_67 : decode cX5_witness 67 = .ok (.iload 4, 2) := dk_21 4 (dk_at dksX5_witness_2 21 rfl rfl)
theorem dX5_witness_69 : decode cX5_witness 69 = .ok (.iconst 1, 1) := dk_4 (dk_at dksX5_witness_2 23 rfl rfl)
theorem dX5_witness_70 : decode cX5_witness 70 = .ok (.aload_n 0, 1) := dk_42 (dk_at dksX5_witness_3 0 rfl rfl)
theorem dX5_witness_71 : decode cX5_witness 71 = .ok (.getfield 13, 3) := dk_180 0 13 (dk_at dksX5_witness_3 1 rfl rfl)
theorem dX5_witness_74 : decode cX5_witness 74 = .ok (.bipush 37, 2) := dk_16 37 (dk_at dksX5_witness_3 4 rfl rfl)
theorem dX5_witness_76 : decode cX5_witness 76 = .ok (.iaload, 1) := dk_46 (dk_at dksX5_witness_3 6 rfl rfl)
theorem dX5_witness_77 : decode cX5_witness 77 = .ok (.ishl, 1) := dk_120 (dk_at dksX5_witness_3 7 rfl rfl)
theorem dX5_witness_78 : decode cX5_witness 78 = .ok (.if_icmp .ge 92, 3) := dk_162 0 92 (dk_at dksX5_witness_3 8 rfl rfl)
theorem dX5_witness_81 : decode cX5_witness 81 = .ok (.iload_n 3, 1) := dk_29 (dk_at dksX5_witness_3 11 rfl rfl)
theorem dX5_witness_82 : decode cX5_witness 82 = .ok (.invokestatic 204, 3) := dk_184 0 204 (dk_at dksX5_witness_3 12 rfl rfl)
theorem dX5_witness_85 : decode cX5_witness 85 = .ok (.iload_n 2, 1) := dk_28 (dk_at dksX5_witness_3 15 rfl rfl)
theorem dX5_witness_86 : decode cX5_witness 86 = .ok (.if_icmp .ne 84, 3) := dk_160 0 84 (dk_at dksX5_witness_3 16 rfl rfl)
theorem dX5_witness_89 : decode cX5_witness 89 = .ok (.iload 4, 2) := dk_21 4 (dk_at dksX5_witness_3 19 rfl rfl)
theorem dX5_witness_91 : decode cX5_witness 91 = .ok (.invokestatic 204, 3) := dk_184 0 204 (dk_at dksX5_witness_3 21 rfl rfl)
theorem dX5_witness_94 : decode cX5_witness 94 = .ok (.iload_n 2, 1) := dk_28 (dk_at dksX5_witness_4 0 rfl rfl)
theorem dX5_witness_95 : decode cX5_witness 95 = .ok (.if_icmp .ne 69, 3) := dk_160 0 69 (dk_at dksX5_witness_4 1 rfl rfl)
theorem dX5_witness_98 : decode cX5_witness 98 = .ok (.aload_n 0, 1) := dk_42 (dk_at dksX5_witness_4 4 rfl rfl)
theorem dX5_witness_99 : decode cX5_witness 99 = .ok (.getfield 38, 3) := dk_180 0 38 (dk_at dksX5_witness_4 5 rfl rfl)
theorem dX5_witness_102 : decode cX5_witness 102 = .ok (.bipush 64, 2) := dk_16 64 (dk_at dksX5_witness_4 8 rfl rfl)
theorem dX5_witness_104 : decode cX5_witness 104 = .ok (.iload_n 3, 1) := dk_29 (dk_at dksX5_witness_4 10 rfl rfl)
theorem dX5_witness_105 : decode cX5_witness 105 = .ok (.imul, 1) := dk_104 (dk_at dksX5_witness_4 11 rfl rfl)
theorem dX5_witness_106 : decode cX5_witness 106 = .ok (.iload 4, 2) := dk_21 4 (dk_at dksX5_witness_4 12 rfl rfl)
theorem dX5_witness_108 : decode cX5_witness 108 = .ok (.iadd, 1) := dk_96 (dk_at dksX5_witness_4 14 rfl rfl)
theorem dX5_witness_109 : decode cX5_witness 109 = .ok (.iaload, 1) := dk_46 (dk_at dksX5_witness_4 15 rfl rfl)
theorem dX5_witness_110 : decode cX5_witness 110 = .ok (.i2l, 1) := dk_133 (dk_at dksX5_witness_4 16 rfl rfl)
theorem dX5_witness_111 : decode cX5_witness 111 = .ok (.ldc2_w 162, 3) := dk_20 0 162 (dk_at dksX5_witness_4 17 rfl rfl)
theorem dX5_witness_114 : decode cX5_witness 114 = .ok (.lconst 1, 1) := dk_10 (dk_at dksX5_witness_4 20 rfl rfl)
theorem dX5_witness_115 : decode cX5_witness 115 = .ok (.invokestatic 140, 3) := dk_184 0 140 (dk_at dksX5_witness_4 21 rfl rfl)
theorem dX5_witness_118 : decode cX5_witness 118 = .ok (.ifCond .eq 6, 3) := dk_153 0 6 (dk_at dksX5_witness_5 0 rfl rfl)
theorem dX5_witness_121 : decode cX5_witness 121 = .ok (.goto 43, 3) := dk_167 0 43 (dk_at dksX5_witness_5 3 rfl rfl)
theorem dX5_witness_124 : decode cX5_witness 124 = .ok (.iload_n 1, 1) := dk_27 (dk_at dksX5_witness_5 6 rfl rfl)
theorem dX5_witness_125 : decode cX5_witness 125 = .ok (.ifCond .ne 7, 3) := dk_154 0 7 (dk_at dksX5_witness_5 7 rfl rfl)
theorem dX5_witness_128 : decode cX5_witness 128 = .ok (.iload_n 2, 1) := dk_28 (dk_at dksX5_witness_5 10 rfl rfl)
theorem dX5_witness_129 : decode cX5_witness 129 = .ok (.goto 34, 3) := dk_167 0 34 (dk_at dksX5_witness_5 11 rfl rfl)
theorem dX5_witness_132 : decode cX5_witness 132 = .ok (.iload_n 1, 1) := dk_27 (dk_at dksX5_witness_5 14 rfl rfl)
theorem dX5_witness_133 : decode cX5_witness 133 = .ok (.iconst 1, 1) := dk_4 (dk_at dksX5_witness_5 15 rfl rfl)
theorem dX5_witness_134 : decode cX5_witness 134 = .ok (.if_icmp .ne 7, 3) := dk_160 0 7 (dk_at dksX5_witness_5 16 rfl rfl)
theorem dX5_witness_137 : decode cX5_witness 137 = .ok (.iload_n 3, 1) := dk_29 (dk_at dksX5_witness_5 19 rfl rfl)
theorem dX5_witness_138 : decode cX5_witness 138 = .ok (.goto 25, 3) := dk_167 0 25 (dk_at dksX5_witness_5 20 rfl rfl)
theorem dX5_witness_141 : decode cX5_witness 141 = .ok (.iload_n 1, 1) := dk_27 (dk_at dksX5_witness_5 23 rfl rfl)
theorem dX5_witness_142 : decode cX5_witness 142 = .ok (.iconst 2, 1) := dk_5 (dk_at dksX5_witness_6 0 rfl rfl)
theorem dX5_witness_143 : decode cX5_witness 143 = .ok (.if_icmp .ne 8, 3) := dk_160 0 8 (dk_at dksX5_witness_6 1 rfl rfl)
theorem dX5_witness_146 : decode cX5_witness 146 = .ok (.iload 4, 2) := dk_21 4 (dk_at dksX5_witness_6 4 rfl rfl)
theorem dX5_witness_148 : decode cX5_witness 148 = .ok (.goto 15, 3) := dk_167 0 15 (dk_at dksX5_witness_6 6 rfl rfl)
theorem dX5_witness_151 : decode cX5_witness 151 = .ok (.aload_n 0, 1) := dk_42 (dk_at dksX5_witness_6 9 rfl rfl)
theorem dX5_witness_152 : decode cX5_witness 152 = .ok (.getfield 38, 3) := dk_180 0 38 (dk_at dksX5_witness_6 10 rfl rfl)
theorem dX5_witness_155 : decode cX5_witness 155 = .ok (.bipush 64, 2) := dk_16 64 (dk_at dksX5_witness_6 13 rfl rfl)
theorem dX5_witness_157 : decode cX5_witness 157 = .ok (.iload_n 3, 1) := dk_29 (dk_at dksX5_witness_6 15 rfl rfl)
theorem dX5_witness_158 : decode cX5_witness 158 = .ok (.imul, 1) := dk_104 (dk_at dksX5_witness_6 16 rfl rfl)
theorem dX5_witness_159 : decode cX5_witness 159 = .ok (.iload 4, 2) := dk_21 4 (dk_at dksX5_witness_6 17 rfl rfl)
theorem dX5_witness_161 : decode cX5_witness 161 = .ok (.iadd, 1) := dk_96 (dk_at dksX5_witness_6 19 rfl rfl)
theorem dX5_witness_162 : decode cX5_witness 162 = .ok (.iaload, 1) := dk_46 (dk_at dksX5_witness_6 20 rfl rfl)
theorem dX5_witness_163 : decode cX5_witness 163 = .ok (.ireturn, 1) := dk_172 (dk_at dksX5_witness_6 21 rfl rfl)
theorem dX5_witness_164 : decode cX5_witness 164 = .ok (.iinc 4 1, 3) := dk_132 4 1 (dk_at dksX5_witness_7 0 rfl rfl)
theorem dX5_witness_167 : decode cX5_witness 167 = .ok (.goto (-100), 3) := dk_167 255 156 (dk_at dksX5_witness_7 3 rfl rfl)
theorem dX5_witness_170 : decode cX5_witness 170 = .ok (.iinc 3 1, 3) := dk_132 3 1 (dk_at dksX5_witness_7 6 rfl rfl)
theorem dX5_witness_173 : decode cX5_witness 173 = .ok (.goto (-122), 3) := dk_167 255 134 (dk_at dksX5_witness_7 9 rfl rfl)
theorem dX5_witness_176 : decode cX5_witness 176 = .ok (.iinc 2 1, 3) := dk_132 2 1 (dk_at dksX5_witness_7 12 rfl rfl)
theorem dX5_witness_179 : decode cX5_witness 179 = .ok (.goto (-136), 3) := dk_167 255 120 (dk_at dksX5_witness_7 15 rfl rfl)
theorem dX5_witness_182 : decode cX5_witness 182 = .ok (.ldc 133, 2) := dk_18 133 (dk_at dksX5_witness_7 18 rfl rfl)
theorem dX5_witness_184 : decode cX5_witness 184 = .ok (.ireturn, 1) := dk_172 (dk_at dksX5_witness_7 20 rfl rfl)
abbrev cX5_halves : ByteArray := prog_9_method_47_code
def yX5_halves : MethodName := ⟨RX5, "halves", "(I)I"⟩
def dkwX5_halves_1 : List UInt8 := [180, 0, 13, 16, 36, 46, 120, 162, 0, 11, 42, 27, 182, 0, 236, 167, 0, 4, 2, 172]
abbrev dktX5_halves_1 : List UInt8 := dkwX5_halves_1 ++ []
def dkwX5_halves_0 : List UInt8 := [42, 3, 181, 0, 83, 42, 180, 0, 13, 16, 36, 46, 158, 0, 28, 27, 155, 0, 24, 27, 4, 42]
abbrev dktX5_halves_0 : List UInt8 := dkwX5_halves_0 ++ dktX5_halves_1
theorem dksX5_halves_0 : cX5_halves.data.toList.drop 0 = dktX5_halves_0 := by decide +kernel
theorem dksX5_halves_1 : cX5_halves.data.toList.drop 22 = dktX5_halves_1 := dk_seg dksX5_halves_0 22 rfl rfl
theorem dX5_halves_0 : decode cX5_halves 0 = .ok (.aload_n 0, 1) := dk_42 (dk_at dksX5_halves_0 0 rfl rfl)
theorem dX5_halves_1 : decode cX5_halves 1 = .ok (.iconst 0, 1) := dk_3 (dk_at dksX5_halves_0 1 rfl rfl)
theorem dX5_halves_2 : decode cX5_halves 2 = .ok (.putfield 83, 3) := dk_181 0 83 (dk_at dksX5_halves_0 2 rfl rfl)
theorem dX5_halves_5 : decode cX5_halves 5 = .ok (.aload_n 0, 1) := dk_42 (dk_at dksX5_halves_0 5 rfl rfl)
theorem dX5_halves_6 : decode cX5_halves 6 = .ok (.getfield 13, 3) := dk_180 0 13 (dk_at dksX5_halves_0 6 rfl rfl)
theorem dX5_halves_9 : decode cX5_halves 9 = .ok (.bipush 36, 2) := dk_16 36 (dk_at dksX5_halves_0 9 rfl rfl)
theorem dX5_halves_11 : decode cX5_halves 11 = .ok (.iaload, 1) := dk_46 (dk_at dksX5_halves_0 11 rfl rfl)
theorem dX5_halves_12 : decode cX5_halves 12 = .ok (.ifCond .le 28, 3) := dk_158 0 28 (dk_at dksX5_halves_0 12 rfl rfl)
theorem dX5_halves_15 : decode cX5_halves 15 = .ok (.iload_n 1, 1) := dk_27 (dk_at dksX5_halves_0 15 rfl rfl)
theorem dX5_halves_16 : decode cX5_halves 16 = .ok (.ifCond .lt 24, 3) := dk_155 0 24 (dk_at dksX5_halves_0 16 rfl rfl)
theorem dX5_halves_19 : decode cX5_halves 19 = .ok (.iload_n 1, 1) := dk_27 (dk_at dksX5_halves_0 19 rfl rfl)
theorem dX5_halves_20 : decode cX5_halves 20 = .ok (.iconst 1, 1) := dk_4 (dk_at dksX5_halves_0 20 rfl rfl)
theorem dX5_halves_21 : decode cX5_halves 21 = .ok (.aload_n 0, 1) := dk_42 (dk_at dksX5_halves_0 21 rfl rfl)
theorem dX5_halves_22 : decode cX5_halves 22 = .ok (.getfield 13, 3) := dk_180 0 13 (dk_at dksX5_halves_1 0 rfl rfl)
theorem dX5_halves_25 : decode cX5_halves 25 = .ok (.bipush 36, 2) := dk_16 36 (dk_at dksX5_halves_1 3 rfl rfl)
theorem dX5_halves_27 : decode cX5_halves 27 = .ok (.iaload, 1) := dk_46 (dk_at dksX5_halves_1 5 rfl rfl)
theorem dX5_halves_28 : decode cX5_halves 28 = .ok (.ishl, 1) := dk_120 (dk_at dksX5_halves_1 6 rfl rfl)
theorem dX5_halves_29 : decode cX5_halves 29 = .ok (.if_icmp .ge 11, 3) := dk_162 0 11 (dk_at dksX5_halves_1 7 rfl rfl)
theorem dX5_halves_32 : decode cX5_halves 32 = .ok (.aload_n 0, 1) := dk_42 (dk_at dksX5_halves_1 10 rfl rfl)
theorem dX5_halves_33 : decode cX5_halves 33 = .ok (.iload_n 1, 1) := dk_27 (dk_at dksX5_halves_1 11 rfl rfl)
theorem dX5_halves_34 : decode cX5_halves 34 = .ok (.invokevirtual 236, 3) := dk_182 0 236 (dk_at dksX5_halves_1 12 rfl rfl)
theorem dX5_halves_37 : decode cX5_halves 37 = .ok (.goto 4, 3) := dk_167 0 4 (dk_at dksX5_halves_1 15 rfl rfl)
theorem dX5_halves_40 : decode cX5_halves 40 = .ok (.iconst (-1), 1) := dk_2 (dk_at dksX5_halves_1 18 rfl rfl)
theorem dX5_halves_41 : decode cX5_halves 41 = .ok (.ireturn, 1) := dk_172 (dk_at dksX5_halves_1 19 rfl rfl)
abbrev cX5_halfOf : ByteArray := prog_9_method_46_code
def yX5_halfOf : MethodName := ⟨RX5, "halfOf", "(I)I"⟩
def dkwX5_halfOf_1 : List UInt8 := [28, 172, 132, 2, 1, 167, 255, 229, 2, 172]
abbrev dktX5_halfOf_1 : List UInt8 := dkwX5_halfOf_1 ++ []
def dkwX5_halfOf_0 : List UInt8 := [3, 61, 28, 27, 163, 0, 28, 28, 27, 2, 130, 126, 154, 0, 14, 42, 27, 28, 182, 0, 233, 153, 0, 5]
abbrev dktX5_halfOf_0 : List UInt8 := dkwX5_halfOf_0 ++ dktX5_halfOf_1
theorem dksX5_halfOf_0 : cX5_halfOf.data.toList.drop 0 = dktX5_halfOf_0 := by decide +kernel
theorem dksX5_halfOf_1 : cX5_halfOf.data.toList.drop 24 = dktX5_halfOf_1 := dk_seg dksX5_halfOf_0 24 rfl rfl
theorem dX5_halfOf_0 : decode cX5_halfOf 0 = .ok (.iconst 0, 1) := dk_3 (dk_at dksX5_halfOf_0 0 rfl rfl)
theorem dX5_halfOf_1 : decode cX5_halfOf 1 = .ok (.istore_n 2, 1) := dk_61 (dk_at dksX5_halfOf_0 1 rfl rfl)
theorem dX5_halfOf_2 : decode cX5_halfOf 2 = .ok (.iload_n 2, 1) := dk_28 (dk_at dksX5_halfOf_0 2 rfl rfl)
theorem dX5_halfOf_3 : decode cX5_halfOf 3 = .ok (.iload_n 1, 1) := dk_27 (dk_at dksX5_halfOf_0 3 rfl rfl)
theorem dX5_halfOf_4 : decode cX5_halfOf 4 = .ok (.if_icmp .gt 28, 3) := dk_163 0 28 (dk_at dksX5_halfOf_0 4 rfl rfl)
theorem dX5_halfOf_7 : decode cX5_halfOf 7 = .ok (.iload_n 2, 1) := dk_28 (dk_at dksX5_halfOf_0 7 rfl rfl)
theorem dX5_halfOf_8 : decode cX5_halfOf 8 = .ok (.iload_n 1, 1) := dk_27 (dk_at dksX5_halfOf_0 8 rfl rfl)
theorem dX5_halfOf_9 : decode cX5_halfOf 9 = .ok (.iconst (-1), 1) := dk_2 (dk_at dksX5_halfOf_0 9 rfl rfl)
theorem dX5_halfOf_10 : decode cX5_halfOf 10 = .ok (.ixor, 1) := dk_130 (dk_at dksX5_halfOf_0 10 rfl rfl)
theorem dX5_halfOf_11 : decode cX5_halfOf 11 = .ok (.iand, 1) := dk_126 (dk_at dksX5_halfOf_0 11 rfl rfl)
theorem dX5_halfOf_12 : decode cX5_halfOf 12 = .ok (.ifCond .ne 14, 3) := dk_154 0 14 (dk_at dksX5_halfOf_0 12 rfl rfl)
theorem dX5_halfOf_15 : decode cX5_halfOf 15 = .ok (.aload_n 0, 1) := dk_42 (dk_at dksX5_halfOf_0 15 rfl rfl)
theorem dX5_halfOf_16 : decode cX5_halfOf 16 = .ok (.iload_n 1, 1) := dk_27 (dk_at dksX5_halfOf_0 16 rfl rfl)
theorem dX5_halfOf_17 : decode cX5_halfOf 17 = .ok (.iload_n 2, 1) := dk_28 (dk_at dksX5_halfOf_0 17 rfl rfl)
theorem dX5_halfOf_18 : decode cX5_halfOf 18 = .ok (.invokevirtual 233, 3) := dk_182 0 233 (dk_at dksX5_halfOf_0 18 rfl rfl)
theorem dX5_halfOf_21 : decode cX5_halfOf 21 = .ok (.ifCond .eq 5, 3) := dk_153 0 5 (dk_at dksX5_halfOf_0 21 rfl rfl)
theorem dX5_halfOf_24 : decode cX5_halfOf 24 = .ok (.iload_n 2, 1) := dk_28 (dk_at dksX5_halfOf_1 0 rfl rfl)
theorem dX5_halfOf_25 : decode cX5_halfOf 25 = .ok (.ireturn, 1) := dk_172 (dk_at dksX5_halfOf_1 1 rfl rfl)
theorem dX5_halfOf_26 : decode cX5_halfOf 26 = .ok (.iinc 2 1, 3) := dk_132 2 1 (dk_at dksX5_halfOf_1 2 rfl rfl)
theorem dX5_halfOf_29 : decode cX5_halfOf 29 = .ok (.goto (-27), 3) := dk_167 255 229 (dk_at dksX5_halfOf_1 5 rfl rfl)
theorem dX5_halfOf_32 : decode cX5_halfOf 32 = .ok (.iconst (-1), 1) := dk_2 (dk_at dksX5_halfOf_1 8 rfl rfl)
theorem dX5_halfOf_33 : decode cX5_halfOf 33 = .ok (.ireturn, 1) := dk_172 (dk_at dksX5_halfOf_1 9 rfl rfl)
abbrev cX5_isHalf : ByteArray := prog_9_method_45_code
def yX5_isHalf : MethodName := ⟨RX5, "isHalf", "(II)Z"⟩
def dkwX5_isHalf_4 : List UInt8 := [20, 0, 162, 10, 184, 0, 140, 154, 0, 5, 3, 172, 132, 3, 1, 167, 255, 152, 4, 172]
abbrev dktX5_isHalf_4 : List UInt8 := dkwX5_isHalf_4 ++ []
def dkwX5_isHalf_3 : List UInt8 := [180, 0, 13, 16, 6, 21, 5, 104, 29, 96, 46, 116, 96, 54, 4, 132, 5, 1, 167, 255, 190, 21, 4, 133]
abbrev dktX5_isHalf_3 : List UInt8 := dkwX5_isHalf_3 ++ dktX5_isHalf_4
def dkwX5_isHalf_2 : List UInt8 := [184, 0, 200, 153, 0, 18, 42, 180, 0, 13, 16, 6, 21, 5, 104, 29, 96, 46, 167, 0, 16, 42]
abbrev dktX5_isHalf_2 : List UInt8 := dkwX5_isHalf_2 ++ dktX5_isHalf_3
def dkwX5_isHalf_1 : List UInt8 := [180, 0, 13, 16, 36, 46, 162, 0, 60, 27, 21, 5, 184, 0, 200, 153, 0, 45, 21, 4, 28, 21, 5]
abbrev dktX5_isHalf_1 : List UInt8 := dkwX5_isHalf_1 ++ dktX5_isHalf_2
def dkwX5_isHalf_0 : List UInt8 := [3, 62, 29, 42, 180, 0, 13, 16, 37, 46, 162, 0, 99, 3, 54, 4, 3, 54, 5, 21, 5, 42]
abbrev dktX5_isHalf_0 : List UInt8 := dkwX5_isHalf_0 ++ dktX5_isHalf_1
theorem dksX5_isHalf_0 : cX5_isHalf.data.toList.drop 0 = dktX5_isHalf_0 := by decide +kernel
theorem dksX5_isHalf_1 : cX5_isHalf.data.toList.drop 22 = dktX5_isHalf_1 := dk_seg dksX5_isHalf_0 22 rfl rfl
theorem dksX5_isHalf_2 : cX5_isHalf.data.toList.drop 45 = dktX5_isHalf_2 := dk_seg dksX5_isHalf_1 23 rfl rfl
theorem dksX5_isHalf_3 : cX5_isHalf.data.toList.drop 67 = dktX5_isHalf_3 := dk_seg dksX5_isHalf_2 22 rfl rfl
theorem dksX5_isHalf_4 : cX5_isHalf.data.toList.drop 91 = dktX5_isHalf_4 := dk_seg dksX5_isHalf_3 24 rfl rfl
theorem dX5_isHalf_0 : decode cX5_isHalf 0 = .ok (.iconst 0, 1) := dk_3 (dk_at dksX5_isHalf_0 0 rfl rfl)
theorem dX5_isHalf_1 : decode cX5_isHalf 1 = .ok (.istore_n 3, 1) := dk_62 (dk_at dksX5_isHalf_0 1 rfl rfl)
theorem dX5_isHalf_2 : decode cX5_isHalf 2 = .ok (.iload_n 3, 1) := dk_29 (dk_at dksX5_isHalf_0 2 rfl rfl)
theorem dX5_isHalf_3 : decode cX5_isHalf 3 = .ok (.aload_n 0, 1) := dk_42 (dk_at dksX5_isHalf_0 3 rfl rfl)
theorem dX5_isHalf_4 : decode cX5_isHalf 4 = .ok (.getfield 13, 3) := dk_180 0 13 (dk_at dksX5_isHalf_0 4 rfl rfl)
theorem dX5_isHalf_7 : decode cX5_isHalf 7 = .ok (.bipush 37, 2) := dk_16 37 (dk_at dksX5_isHalf_0 7 rfl rfl)
theorem dX5_isHalf_9 : decode cX5_isHalf 9 = .ok (.iaload, 1) := dk_46 (dk_at dksX5_isHalf_0 9 rfl rfl)
theorem dX5_isHalf_10 : decode cX5_isHalf 10 = .ok (.if_icmp .ge 99, 3) := dk_162 0 99 (dk_at dksX5_isHalf_0 10 rfl rfl)
theorem dX5_isHalf_13 : decode cX5_isHalf 13 = .ok (.iconst 0, 1) := dk_3 (dk_at dksX5_isHalf_0 13 rfl rfl)
theorem dX5_isHalf_14 : decode cX5_isHalf 14 = .ok (.istore 4, 2) := dk_54 4 (dk_at dksX5_isHalf_0 14 rfl rfl)
theorem dX5_isHalf_16 : decode cX5_isHalf 16 = .ok (.iconst 0, 1) := dk_3 (dk_at dksX5_isHalf_0 16 rfl rfl)
theorem dX5_isHalf_17 : decode cX5_isHalf 17 = .ok (.istore 5, 2) := dk_54 5 (dk_at dksX5_isHalf_0 17 rfl rfl)
theorem dX5_isHalf_19 : decode cX5_isHalf 19 = .ok (.iload 5, 2) := dk_21 5 (dk_at dksX5_isHalf_0 19 rfl rfl)
theorem dX5_isHalf_21 : decode cX5_isHalf 21 = .ok (.aload_n 0, 1) := dk_42 (dk_at dksX5_isHalf_0 21 rfl rfl)
theorem dX5_isHalf_22 : decode cX5_isHalf 22 = .ok (.getfield 13, 3) := dk_180 0 13 (dk_at dksX5_isHalf_1 0 rfl rfl)
theorem dX5_isHalf_25 : decode cX5_isHalf 25 = .ok (.bipush 36, 2) := dk_16 36 (dk_at dksX5_isHalf_1 3 rfl rfl)
theorem dX5_isHalf_27 : decode cX5_isHalf 27 = .ok (.iaload, 1) := dk_46 (dk_at dksX5_isHalf_1 5 rfl rfl)
theorem dX5_isHalf_28 : decode cX5_isHalf 28 = .ok (.if_icmp .ge 60, 3) := dk_162 0 60 (dk_at dksX5_isHalf_1 6 rfl rfl)
theorem dX5_isHalf_31 : decode cX5_isHalf 31 = .ok (.iload_n 1, 1) := dk_27 (dk_at dksX5_isHalf_1 9 rfl rfl)
theorem dX5_isHalf_32 : decode cX5_isHalf 32 = .ok (.iload 5, 2) := dk_21 5 (dk_at dksX5_isHalf_1 10 rfl rfl)
theorem dX5_isHalf_34 : decode cX5_isHalf 34 = .ok (.invokestatic 200, 3) := dk_184 0 200 (dk_at dksX5_isHalf_1 12 rfl rfl)
theorem dX5_isHalf_37 : decode cX5_isHalf 37 = .ok (.ifCond .eq 45, 3) := dk_153 0 45 (dk_at dksX5_isHalf_1 15 rfl rfl)
theorem dX5_isHalf_40 : decode cX5_isHalf 40 = .ok (.iload 4, 2) := dk_21 4 (dk_at dksX5_isHalf_1 18 rfl rfl)
theorem dX5_isHalf_42 : decode cX5_isHalf 42 = .ok (.iload_n 2, 1) := dk_28 (dk_at dksX5_isHalf_1 20 rfl rfl)
theorem dX5_isHalf_43 : decode cX5_isHalf 43 = .ok (.iload 5, 2) := dk_21 5 (dk_at dksX5_isHalf_1 21 rfl rfl)
theorem dX5_isHalf_45 : decode cX5_isHalf 45 = .ok (.invokestatic 200, 3) := dk_184 0 200 (dk_at dksX5_isHalf_2 0 rfl rfl)
theorem dX5_isHalf_48 : decode cX5_isHalf 48 = .ok (.ifCond .eq 18, 3) := dk_153 0 18 (dk_at dksX5_isHalf_2 3 rfl rfl)
theorem dX5_isHalf_51 : decode cX5_isHalf 51 = .ok (.aload_n 0, 1) := dk_42 (dk_at dksX5_isHalf_2 6 rfl rfl)
theorem dX5_isHalf_52 : decode cX5_isHalf 52 = .ok (.getfield 13, 3) := dk_180 0 13 (dk_at dksX5_isHalf_2 7 rfl rfl)
theorem dX5_isHalf_55 : decode cX5_isHalf 55 = .ok (.bipush 6, 2) := dk_16 6 (dk_at dksX5_isHalf_2 10 rfl rfl)
theorem dX5_isHalf_57 : decode cX5_isHalf 57 = .ok (.iload 5, 2) := dk_21 5 (dk_at dksX5_isHalf_2 12 rfl rfl)
theorem dX5_isHalf_59 : decode cX5_isHalf 59 = .ok (.imul, 1) := dk_104 (dk_at dksX5_isHalf_2 14 rfl rfl)
theorem dX5_isHalf_60 : decode cX5_isHalf 60 = .ok (.iload_n 3, 1) := dk_29 (dk_at dksX5_isHalf_2 15 rfl rfl)
theorem dX5_isHalf_61 : decode cX5_isHalf 61 = .ok (.iadd, 1) := dk_96 (dk_at dksX5_isHalf_2 16 rfl rfl)
theorem dX5_isHalf_62 : decode cX5_isHalf 62 = .ok (.iaload, 1) := dk_46 (dk_at dksX5_isHalf_2 17 rfl rfl)
theorem dX5_isHalf_63 : decode cX5_isHalf 63 = .ok (.goto 16, 3) := dk_167 0 16 (dk_at dksX5_isHalf_2 18 rfl rfl)
theorem dX5_isHalf_66 : decode cX5_isHalf 66 = .ok (.aload_n 0, 1) := dk_42 (dk_at dksX5_isHalf_2 21 rfl rfl)
theorem dX5_isHalf_67 : decode cX5_isHalf 67 = .ok (.getfield 13, 3) := dk_180 0 13 (dk_at dksX5_isHalf_3 0 rfl rfl)
theorem dX5_isHalf_70 : decode cX5_isHalf 70 = .ok (.bipush 6, 2) := dk_16 6 (dk_at dksX5_isHalf_3 3 rfl rfl)
theorem dX5_isHalf_72 : decode cX5_isHalf 72 = .ok (.iload 5, 2) := dk_21 5 (dk_at dksX5_isHalf_3 5 rfl rfl)
theorem dX5_isHalf_74 : decode cX5_isHalf 74 = .ok (.imul, 1) := dk_104 (dk_at dksX5_isHalf_3 7 rfl rfl)
theorem dX5_isHalf_75 : decode cX5_isHalf 75 = .ok (.iload_n 3, 1) := dk_29 (dk_at dksX5_isHalf_3 8 rfl rfl)
theorem dX5_isHalf_76 : decode cX5_isHalf 76 = .ok (.iadd, 1) := dk_96 (dk_at dksX5_isHalf_3 9 rfl rfl)
theorem dX5_isHalf_77 : decode cX5_isHalf 77 = .ok (.iaload, 1) := dk_46 (dk_at dksX5_isHalf_3 10 rfl rfl)
theorem dX5_isHalf_78 : decode cX5_isHalf 78 = .ok (.ineg, 1) := dk_116 (dk_at dksX5_isHalf_3 11 rfl rfl)
theorem dX5_isHalf_79 : decode cX5_isHalf 79 = .ok (.iadd, 1) := dk_96 (dk_at dksX5_isHalf_3 12 rfl rfl)
theorem dX5_isHalf_80 : decode cX5_isHalf 80 = .ok (.istore 4, 2) := dk_54 4 (dk_at dksX5_isHalf_3 13 rfl rfl)
theorem dX5_isHalf_82 : decode cX5_isHalf 82 = .ok (.iinc 5 1, 3) := dk_132 5 1 (dk_at dksX5_isHalf_3 15 rfl rfl)
theorem dX5_isHalf_85 : decode cX5_isHalf 85 = .ok (.goto (-66), 3) := dk_167 255 190 (dk_at dksX5_isHalf_3 18 rfl rfl)
theorem dX5_isHalf_88 : decode cX5_isHalf 88 = .ok (.iload 4, 2) := dk_21 4 (dk_at dksX5_isHalf_3 21 rfl rfl)
theorem dX5_isHalf_90 : decode cX5_isHalf 90 = .ok (.i2l, 1) := dk_133 (dk_at dksX5_isHalf_3 23 rfl rfl)
theorem dX5_isHalf_91 : decode cX5_isHalf 91 = .ok (.ldc2_w 162, 3) := dk_20 0 162 (dk_at dksX5_isHalf_4 0 rfl rfl)
theorem dX5_isHalf_94 : decode cX5_isHalf 94 = .ok (.lconst 1, 1) := dk_10 (dk_at dksX5_isHalf_4 3 rfl rfl)
theorem dX5_isHalf_95 : decode cX5_isHalf 95 = .ok (.invokestatic 140, 3) := dk_184 0 140 (dk_at dksX5_isHalf_4 4 rfl rfl)
theorem dX5_isHalf_98 : decode cX5_isHalf 98 = .ok (.ifCond .ne 5, 3) := dk_154 0 5 (dk_at dksX5_isHalf_4 7 rfl rfl)
theorem dX5_isHalf_101 : decode cX5_isHalf 101 = .ok (.iconst 0, 1) := dk_3 (dk_at dksX5_isHalf_4 10 rfl rfl)
theorem dX5_isHalf_102 : decode cX5_isHalf 102 = .ok (.ireturn, 1) := dk_172 (dk_at dksX5_isHalf_4 11 rfl rfl)
theorem dX5_isHalf_103 : decode cX5_isHalf 103 = .ok (.iinc 3 1, 3) := dk_132 3 1 (dk_at dksX5_isHalf_4 12 rfl rfl)
theorem dX5_isHalf_106 : decode cX5_isHalf 106 = .ok (.goto (-104), 3) := dk_167 255 152 (dk_at dksX5_isHalf_4 15 rfl rfl)
theorem dX5_isHalf_109 : decode cX5_isHalf 109 = .ok (.iconst 1, 1) := dk_4 (dk_at dksX5_isHalf_4 18 rfl rfl)
theorem dX5_isHalf_110 : decode cX5_isHalf 110 = .ok (.ireturn, 1) := dk_172 (dk_at dksX5_isHalf_4 19 rfl rfl)
abbrev cX5_unhalved : ByteArray := prog_9_method_48_code
def yX5_unhalved : MethodName := ⟨RX5, "unhalved", "()I"⟩
def dkwX5_unhalved_2 : List UInt8 := [167, 255, 229, 2, 172]
abbrev dktX5_unhalved_2 : List UInt8 := dkwX5_unhalved_2 ++ []
def dkwX5_unhalved_1 : List UInt8 := [180, 0, 13, 16, 36, 46, 120, 162, 0, 20, 42, 27, 182, 0, 236, 2, 160, 0, 5, 27, 172, 132, 1, 1]
abbrev dktX5_unhalved_1 : List UInt8 := dkwX5_unhalved_1 ++ dktX5_unhalved_2
def dkwX5_unhalved_0 : List UInt8 := [42, 3, 181, 0, 83, 42, 180, 0, 13, 16, 36, 46, 154, 0, 5, 2, 172, 4, 60, 27, 4, 42]
abbrev dktX5_unhalved_0 : List UInt8 := dkwX5_unhalved_0 ++ dktX5_unhalved_1
theorem dksX5_unhalved_0 : cX5_unhalved.data.toList.drop 0 = dktX5_unhalved_0 := by decide +kernel
theorem dksX5_unhalved_1 : cX5_unhalved.data.toList.drop 22 = dktX5_unhalved_1 := dk_seg dksX5_unhalved_0 22 rfl rfl
theorem dksX5_unhalved_2 : cX5_unhalved.data.toList.drop 46 = dktX5_unhalved_2 := dk_seg dksX5_unhalved_1 24 rfl rfl
theorem dX5_unhalved_0 : decode cX5_unhalved 0 = .ok (.aload_n 0, 1) := dk_42 (dk_at dksX5_unhalved_0 0 rfl rfl)
theorem dX5_unhalved_1 : decode cX5_unhalved 1 = .ok (.iconst 0, 1) := dk_3 (dk_at dksX5_unhalved_0 1 rfl rfl)
theorem dX5_unhalved_2 : decode cX5_unhalved 2 = .ok (.putfield 83, 3) := dk_181 0 83 (dk_at dksX5_unhalved_0 2 rfl rfl)
theorem dX5_unhalved_5 : decode cX5_unhalved 5 = .ok (.aload_n 0, 1) := dk_42 (dk_at dksX5_unhalved_0 5 rfl rfl)
theorem dX5_unhalved_6 : decode cX5_unhalved 6 = .ok (.getfield 13, 3) := dk_180 0 13 (dk_at dksX5_unhalved_0 6 rfl rfl)
theorem dX5_unhalved_9 : decode cX5_unhalved 9 = .ok (.bipush 36, 2) := dk_16 36 (dk_at dksX5_unhalved_0 9 rfl rfl)
theorem dX5_unhalved_11 : decode cX5_unhalved 11 = .ok (.iaload, 1) := dk_46 (dk_at dksX5_unhalved_0 11 rfl rfl)
theorem dX5_unhalved_12 : decode cX5_unhalved 12 = .ok (.ifCond .ne 5, 3) := dk_154 0 5 (dk_at dksX5_unhalved_0 12 rfl rfl)
theorem dX5_unhalved_15 : decode cX5_unhalved 15 = .ok (.iconst (-1), 1) := dk_2 (dk_at dksX5_unhalved_0 15 rfl rfl)
theorem dX5_unhalved_16 : decode cX5_unhalved 16 = .ok (.ireturn, 1) := dk_172 (dk_at dksX5_unhalved_0 16 rfl rfl)
theorem dX5_unhalved_17 : decode cX5_unhalved 17 = .ok (.iconst 1, 1) := dk_4 (dk_at dksX5_unhalved_0 17 rfl rfl)
theorem dX5_unhalved_18 : decode cX5_unhalved 18 = .ok (.istore_n 1, 1) := dk_60 (dk_at dksX5_unhalved_0 18 rfl rfl)
theorem dX5_unhalved_19 : decode cX5_unhalved 19 = .ok (.iload_n 1, 1) := dk_27 (dk_at dksX5_unhalved_0 19 rfl rfl)
theorem dX5_unhalved_20 : decode cX5_unhalved 20 = .ok (.iconst 1, 1) := dk_4 (dk_at dksX5_unhalved_0 20 rfl rfl)
theorem dX5_unhalved_21 : decode cX5_unhalved 21 = .ok (.aload_n 0, 1) := dk_42 (dk_at dksX5_unhalved_0 21 rfl rfl)
theorem dX5_unhalved_22 : decode cX5_unhalved 22 = .ok (.getfield 13, 3) := dk_180 0 13 (dk_at dksX5_unhalved_1 0 rfl rfl)
theorem dX5_unhalved_25 : decode cX5_unhalved 25 = .ok (.bipush 36, 2) := dk_16 36 (dk_at dksX5_unhalved_1 3 rfl rfl)
theorem dX5_unhalved_27 : decode cX5_unhalved 27 = .ok (.iaload, 1) := dk_46 (dk_at dksX5_unhalved_1 5 rfl rfl)
theorem dX5_unhalved_28 : decode cX5_unhalved 28 = .ok (.ishl, 1) := dk_120 (dk_at dksX5_unhalved_1 6 rfl rfl)
theorem dX5_unhalved_29 : decode cX5_unhalved 29 = .ok (.if_icmp .ge 20, 3) := dk_162 0 20 (dk_at dksX5_unhalved_1 7 rfl rfl)
theorem dX5_unhalved_32 : decode cX5_unhalved 32 = .ok (.aload_n 0, 1) := dk_42 (dk_at dksX5_unhalved_1 10 rfl rfl)
theorem dX5_unhalved_33 : decode cX5_unhalved 33 = .ok (.iload_n 1, 1) := dk_27 (dk_at dksX5_unhalved_1 11 rfl rfl)
theorem dX5_unhalved_34 : decode cX5_unhalved 34 = .ok (.invokevirtual 236, 3) := dk_182 0 236 (dk_at dksX5_unhalved_1 12 rfl rfl)
theorem dX5_unhalved_37 : decode cX5_unhalved 37 = .ok (.iconst (-1), 1) := dk_2 (dk_at dksX5_unhalved_1 15 rfl rfl)
theorem dX5_unhalved_38 : decode cX5_unhalved 38 = .ok (.if_icmp .ne 5, 3) := dk_160 0 5 (dk_at dksX5_unhalved_1 16 rfl rfl)
theorem dX5_unhalved_41 : decode cX5_unhalved 41 = .ok (.iload_n 1, 1) := dk_27 (dk_at dksX5_unhalved_1 19 rfl rfl)
theorem dX5_unhalved_42 : decode cX5_unhalved 42 = .ok (.ireturn, 1) := dk_172 (dk_at dksX5_unhalved_1 20 rfl rfl)
theorem dX5_unhalved_43 : decode cX5_unhalved 43 = .ok (.iinc 1 1, 3) := dk_132 1 1 (dk_at dksX5_unhalved_1 21 rfl rfl)
theorem dX5_unhalved_46 : decode cX5_unhalved 46 = .ok (.goto (-27), 3) := dk_167 255 229 (dk_at dksX5_unhalved_2 0 rfl rfl)
theorem dX5_unhalved_49 : decode cX5_unhalved 49 = .ok (.iconst (-1), 1) := dk_2 (dk_at dksX5_unhalved_2 3 rfl rfl)
theorem dX5_unhalved_50 : decode cX5_unhalved 50 = .ok (.ireturn, 1) := dk_172 (dk_at dksX5_unhalved_2 4 rfl rfl)
abbrev cX5_network : ByteArray := prog_9_method_58_code
def yX5_network : MethodName := ⟨RX5, "network", "(I)I"⟩
def dkwX5_network_1 : List UInt8 := [154, 0, 7, 2, 167, 0, 16, 42, 27, 182, 1, 12, 153, 0, 7, 4, 167, 0, 4, 3, 172]
abbrev dktX5_network_1 : List UInt8 := dkwX5_network_1 ++ []
def dkwX5_network_0 : List UInt8 := [42, 3, 181, 0, 83, 42, 180, 0, 13, 16, 36, 46, 153, 0, 13, 27, 133, 9, 10, 184, 0, 140]
abbrev dktX5_network_0 : List UInt8 := dkwX5_network_0 ++ dktX5_network_1
theorem dksX5_network_0 : cX5_network.data.toList.drop 0 = dktX5_network_0 := by decide +kernel
theorem dksX5_network_1 : cX5_network.data.toList.drop 22 = dktX5_network_1 := dk_seg dksX5_network_0 22 rfl rfl
theorem dX5_network_0 : decode cX5_network 0 = .ok (.aload_n 0, 1) := dk_42 (dk_at dksX5_network_0 0 rfl rfl)
theorem dX5_network_1 : decode cX5_network 1 = .ok (.iconst 0, 1) := dk_3 (dk_at dksX5_network_0 1 rfl rfl)
theorem dX5_network_2 : decode cX5_network 2 = .ok (.putfield 83, 3) := dk_181 0 83 (dk_at dksX5_network_0 2 rfl rfl)
theorem dX5_network_5 : decode cX5_network 5 = .ok (.aload_n 0, 1) := dk_42 (dk_at dksX5_network_0 5 rfl rfl)
theorem dX5_network_6 : decode cX5_network 6 = .ok (.getfield 13, 3) := dk_180 0 13 (dk_at dksX5_network_0 6 rfl rfl)
theorem dX5_network_9 : decode cX5_network 9 = .ok (.bipush 36, 2) := dk_16 36 (dk_at dksX5_network_0 9 rfl rfl)
theorem dX5_network_11 : decode cX5_network 11 = .ok (.iaload, 1) := dk_46 (dk_at dksX5_network_0 11 rfl rfl)
theorem dX5_network_12 : decode cX5_network 12 = .ok (.ifCond .eq 13, 3) := dk_153 0 13 (dk_at dksX5_network_0 12 rfl rfl)
theorem dX5_network_15 : decode cX5_network 15 = .ok (.iload_n 1, 1) := dk_27 (dk_at dksX5_network_0 15 rfl rfl)
theorem dX5_network_16 : decode cX5_network 16 = .ok (.i2l, 1) := dk_133 (dk_at dksX5_network_0 16 rfl rfl)
theorem dX5_network_17 : decode cX5_network 17 = .ok (.lconst 0, 1) := dk_9 (dk_at dksX5_network_0 17 rfl rfl)
theorem dX5_network_18 : decode cX5_network 18 = .ok (.lconst 1, 1) := dk_10 (dk_at dksX5_network_0 18 rfl rfl)
theorem dX5_network_19 : decode cX5_network 19 = .ok (.invokestatic 140, 3) := dk_184 0 140 (dk_at dksX5_network_0 19 rfl rfl)
theorem dX5_network_22 : decode cX5_network 22 = .ok (.ifCond .ne 7, 3) := dk_154 0 7 (dk_at dksX5_network_1 0 rfl rfl)
theorem dX5_network_25 : decode cX5_network 25 = .ok (.iconst (-1), 1) := dk_2 (dk_at dksX5_network_1 3 rfl rfl)
theorem dX5_network_26 : decode cX5_network 26 = .ok (.goto 16, 3) := dk_167 0 16 (dk_at dksX5_network_1 4 rfl rfl)
theorem dX5_network_29 : decode cX5_network 29 = .ok (.aload_n 0, 1) := dk_42 (dk_at dksX5_network_1 7 rfl rfl)
theorem dX5_network_30 : decode cX5_network 30 = .ok (.iload_n 1, 1) := dk_27 (dk_at dksX5_network_1 8 rfl rfl)
theorem dX5_network_31 : decode cX5_network 31 = .ok (.invokevirtual 268, 3) := dk_182 1 12 (dk_at dksX5_network_1 9 rfl rfl)
theorem dX5_network_34 : decode cX5_network 34 = .ok (.ifCond .eq 7, 3) := dk_153 0 7 (dk_at dksX5_network_1 12 rfl rfl)
theorem dX5_network_37 : decode cX5_network 37 = .ok (.iconst 1, 1) := dk_4 (dk_at dksX5_network_1 15 rfl rfl)
theorem dX5_network_38 : decode cX5_network 38 = .ok (.goto 4, 3) := dk_167 0 4 (dk_at dksX5_network_1 16 rfl rfl)
theorem dX5_network_41 : decode cX5_network 41 = .ok (.iconst 0, 1) := dk_3 (dk_at dksX5_network_1 19 rfl rfl)
theorem dX5_network_42 : decode cX5_network 42 = .ok (.ireturn, 1) := dk_172 (dk_at dksX5_network_1 20 rfl rfl)
abbrev cX5_hasTree : ByteArray := prog_9_method_57_code
def yX5_hasTree : MethodName := ⟨RX5, "hasTree", "(I)Z"⟩
def dkwX5_hasTree_1 : List UInt8 := [3, 182, 1, 6, 172]
abbrev dktX5_hasTree_1 : List UInt8 := dkwX5_hasTree_1 ++ []
def dkwX5_hasTree_0 : List UInt8 := [42, 27, 182, 1, 9, 42, 42, 180, 0, 47, 182, 0, 227, 154, 0, 5, 3, 172, 42, 42, 180, 0, 47, 27]
abbrev dktX5_hasTree_0 : List UInt8 := dkwX5_hasTree_0 ++ dktX5_hasTree_1
theorem dksX5_hasTree_0 : cX5_hasTree.data.toList.drop 0 = dktX5_hasTree_0 := by decide +kernel
theorem dksX5_hasTree_1 : cX5_hasTree.data.toList.drop 24 = dktX5_hasTree_1 := dk_seg dksX5_hasTree_0 24 rfl rfl
theorem dX5_hasTree_0 : decode cX5_hasTree 0 = .ok (.aload_n 0, 1) := dk_42 (dk_at dksX5_hasTree_0 0 rfl rfl)
theorem dX5_hasTree_1 : decode cX5_hasTree 1 = .ok (.iload_n 1, 1) := dk_27 (dk_at dksX5_hasTree_0 1 rfl rfl)
theorem dX5_hasTree_2 : decode cX5_hasTree 2 = .ok (.invokevirtual 265, 3) := dk_182 1 9 (dk_at dksX5_hasTree_0 2 rfl rfl)
theorem dX5_hasTree_5 : decode cX5_hasTree 5 = .ok (.aload_n 0, 1) := dk_42 (dk_at dksX5_hasTree_0 5 rfl rfl)
theorem dX5_hasTree_6 : decode cX5_hasTree 6 = .ok (.aload_n 0, 1) := dk_42 (dk_at dksX5_hasTree_0 6 rfl rfl)
theorem dX5_hasTree_7 : decode cX5_hasTree 7 = .ok (.getfield 47, 3) := dk_180 0 47 (dk_at dksX5_hasTree_0 7 rfl rfl)
theorem dX5_hasTree_10 : decode cX5_hasTree 10 = .ok (.invokevirtual 227, 3) := dk_182 0 227 (dk_at dksX5_hasTree_0 10 rfl rfl)
theorem dX5_hasTree_13 : decode cX5_hasTree 13 = .ok (.ifCond .ne 5, 3) := dk_154 0 5 (dk_at dksX5_hasTree_0 13 rfl rfl)
theorem dX5_hasTree_16 : decode cX5_hasTree 16 = .ok (.iconst 0, 1) := dk_3 (dk_at dksX5_hasTree_0 16 rfl rfl)
theorem dX5_hasTree_17 : decode cX5_hasTree 17 = .ok (.ireturn, 1) := dk_172 (dk_at dksX5_hasTree_0 17 rfl rfl)
theorem dX5_hasTree_18 : decode cX5_hasTree 18 = .ok (.aload_n 0, 1) := dk_42 (dk_at dksX5_hasTree_0 18 rfl rfl)
theorem dX5_hasTree_19 : decode cX5_hasTree 19 = .ok (.aload_n 0, 1) := dk_42 (dk_at dksX5_hasTree_0 19 rfl rfl)
theorem dX5_hasTree_20 : decode cX5_hasTree 20 = .ok (.getfield 47, 3) := dk_180 0 47 (dk_at dksX5_hasTree_0 20 rfl rfl)
theorem dX5_hasTree_23 : decode cX5_hasTree 23 = .ok (.iload_n 1, 1) := dk_27 (dk_at dksX5_hasTree_0 23 rfl rfl)
theorem dX5_hasTree_24 : decode cX5_hasTree 24 = .ok (.iconst 0, 1) := dk_3 (dk_at dksX5_hasTree_1 0 rfl rfl)
theorem dX5_hasTree_25 : decode cX5_hasTree 25 = .ok (.invokevirtual 262, 3) := dk_182 1 6 (dk_at dksX5_hasTree_1 1 rfl rfl)
theorem dX5_hasTree_28 : decode cX5_hasTree 28 = .ok (.ireturn, 1) := dk_172 (dk_at dksX5_hasTree_1 4 rfl rfl)
abbrev cX5_laysSide : ByteArray := prog_9_method_56_code
def yX5_laysSide : MethodName := ⟨RX5, "laysSide", "(I)V"⟩
def dkwX5_laysSide_1 : List UInt8 := [182, 0, 185, 177]
abbrev dktX5_laysSide_1 : List UInt8 := dkwX5_laysSide_1 ++ []
def dkwX5_laysSide_0 : List UInt8 := [42, 180, 0, 13, 42, 180, 0, 47, 184, 0, 170, 27, 4, 160, 0, 14, 42, 42, 180, 0, 47, 8, 3, 3]
abbrev dktX5_laysSide_0 : List UInt8 := dkwX5_laysSide_0 ++ dktX5_laysSide_1
theorem dksX5_laysSide_0 : cX5_laysSide.data.toList.drop 0 = dktX5_laysSide_0 := by decide +kernel
theorem dksX5_laysSide_1 : cX5_laysSide.data.toList.drop 24 = dktX5_laysSide_1 := dk_seg dksX5_laysSide_0 24 rfl rfl
theorem dX5_laysSide_0 : decode cX5_laysSide 0 = .ok (.aload_n 0, 1) := dk_42 (dk_at dksX5_laysSide_0 0 rfl rfl)
theorem dX5_laysSide_1 : decode cX5_laysSide 1 = .ok (.getfield 13, 3) := dk_180 0 13 (dk_at dksX5_laysSide_0 1 rfl rfl)
theorem dX5_laysSide_4 : decode cX5_laysSide 4 = .ok (.aload_n 0, 1) := dk_42 (dk_at dksX5_laysSide_0 4 rfl rfl)
theorem dX5_laysSide_5 : decode cX5_laysSide 5 = .ok (.getfield 47, 3) := dk_180 0 47 (dk_at dksX5_laysSide_0 5 rfl rfl)
theorem dX5_laysSide_8 : decode cX5_laysSide 8 = .ok (.invokestatic 170, 3) := dk_184 0 170 (dk_at dksX5_laysSide_0 8 rfl rfl)
theorem dX5_laysSide_11 : decode cX5_laysSide 11 = .ok (.iload_n 1, 1) := dk_27 (dk_at dksX5_laysSide_0 11 rfl rfl)
theorem dX5_laysSide_12 : decode cX5_laysSide 12 = .ok (.iconst 1, 1) := dk_4 (dk_at dksX5_laysSide_0 12 rfl rfl)
theorem dX5_laysSide_13 : decode cX5_laysSide 13 = .ok (.if_icmp .ne 14, 3) := dk_160 0 14 (dk_at dksX5_laysSide_0 13 rfl rfl)
theorem dX5_laysSide_16 : decode cX5_laysSide 16 = .ok (.aload_n 0, 1) := dk_42 (dk_at dksX5_laysSide_0 16 rfl rfl)
theorem dX5_laysSide_17 : decode cX5_laysSide 17 = .ok (.aload_n 0, 1) := dk_42 (dk_at dksX5_laysSide_0 17 rfl rfl)
theorem dX5_laysSide_18 : decode cX5_laysSide 18 = .ok (.getfield 47, 3) := dk_180 0 47 (dk_at dksX5_laysSide_0 18 rfl rfl)
theorem dX5_laysSide_21 : decode cX5_laysSide 21 = .ok (.iconst 5, 1) := dk_8 (dk_at dksX5_laysSide_0 21 rfl rfl)
theorem dX5_laysSide_22 : decode cX5_laysSide 22 = .ok (.iconst 0, 1) := dk_3 (dk_at dksX5_laysSide_0 22 rfl rfl)
theorem dX5_laysSide_23 : decode cX5_laysSide 23 = .ok (.iconst 0, 1) := dk_3 (dk_at dksX5_laysSide_0 23 rfl rfl)
theorem dX5_laysSide_24 : decode cX5_laysSide 24 = .ok (.invokevirtual 185, 3) := dk_182 0 185 (dk_at dksX5_laysSide_1 0 rfl rfl)
theorem dX5_laysSide_27 : decode cX5_laysSide 27 = .ok (.return_, 1) := dk_177 (dk_at dksX5_laysSide_1 3 rfl rfl)
abbrev cX5_grows : ByteArray := prog_9_method_55_code
def yX5_grows : MethodName := ⟨RX5, "grows", "([III)Z"⟩
def dkwX5_grows_7 : List UInt8 := [182, 0, 255, 132, 7, 1, 167, 255, 124, 132, 5, 1, 167, 255, 99, 3, 172]
abbrev dktX5_grows_7 : List UInt8 := dkwX5_grows_7 ++ []
def dkwX5_grows_6 : List UInt8 := [182, 1, 6, 153, 0, 5, 4, 172, 132, 8, 1, 167, 255, 175, 42, 28, 21, 7, 21, 4, 21, 5]
abbrev dktX5_grows_6 : List UInt8 := dkwX5_grows_6 ++ dktX5_grows_7
def dkwX5_grows_5 : List UInt8 := [167, 0, 5, 21, 5, 79, 42, 43, 28, 29, 4, 96, 182, 1, 3, 153, 0, 17, 42, 43, 28, 29, 4, 96]
abbrev dktX5_grows_5 : List UInt8 := dkwX5_grows_5 ++ dktX5_grows_6
def dkwX5_grows_4 : List UInt8 := [167, 0, 5, 21, 4, 79, 42, 180, 0, 44, 16, 6, 28, 104, 29, 96, 21, 8, 154, 0, 8, 21, 4]
abbrev dktX5_grows_4 : List UInt8 := dkwX5_grows_4 ++ dktX5_grows_5
def dkwX5_grows_3 : List UInt8 := [21, 8, 5, 162, 0, 81, 42, 180, 0, 41, 16, 6, 28, 104, 29, 96, 21, 8, 154, 0, 8, 21, 5]
abbrev dktX5_grows_3 : List UInt8 := dkwX5_grows_3 ++ dktX5_grows_4
def dkwX5_grows_2 : List UInt8 := [2, 130, 126, 153, 0, 6, 167, 0, 112, 42, 28, 21, 7, 21, 5, 21, 4, 182, 0, 255, 3, 54, 8]
abbrev dktX5_grows_2 : List UInt8 := dkwX5_grows_2 ++ dktX5_grows_3
def dkwX5_grows_1 : List UInt8 := [42, 28, 21, 5, 29, 182, 0, 252, 54, 6, 3, 54, 7, 21, 7, 21, 6, 163, 0, 131, 21, 7, 21, 6]
abbrev dktX5_grows_1 : List UInt8 := dkwX5_grows_1 ++ dktX5_grows_2
def dkwX5_grows_0 : List UInt8 := [29, 43, 16, 36, 46, 160, 0, 5, 4, 172, 29, 4, 96, 54, 4, 3, 54, 5, 21, 5, 29, 163, 0, 157]
abbrev dktX5_grows_0 : List UInt8 := dkwX5_grows_0 ++ dktX5_grows_1
theorem dksX5_grows_0 : cX5_grows.data.toList.drop 0 = dktX5_grows_0 := by decide +kernel
theorem dksX5_grows_1 : cX5_grows.data.toList.drop 24 = dktX5_grows_1 := dk_seg dksX5_grows_0 24 rfl rfl
theorem dksX5_grows_2 : cX5_grows.data.toList.drop 48 = dktX5_grows_2 := dk_seg dksX5_grows_1 24 rfl rfl
theorem dksX5_grows_3 : cX5_grows.data.toList.drop 71 = dktX5_grows_3 := dk_seg dksX5_grows_2 23 rfl rfl
theorem dksX5_grows_4 : cX5_grows.data.toList.drop 94 = dktX5_grows_4 := dk_seg dksX5_grows_3 23 rfl rfl
theorem dksX5_grows_5 : cX5_grows.data.toList.drop 117 = dktX5_grows_5 := dk_seg dksX5_grows_4 23 rfl rfl
theorem dksX5_grows_6 : cX5_grows.data.toList.drop 141 = dktX5_grows_6 := dk_seg dksX5_grows_5 24 rfl rfl
theorem dksX5_grows_7 : cX5_grows.data.toList.drop 163 = dktX5_grows_7 := dk_seg dksX5_grows_6 22 rfl rfl
theorem dX5_grows_0 : decode cX5_grows 0 = .ok (.iload_n 3, 1) := dk_29 (dk_at dksX5_grows_0 0 rfl rfl)
theorem dX5_grows_1 : decode cX5_grows 1 = .ok (.aload_n 1, 1) := dk_43 (dk_at dksX5_grows_0 1 rfl rfl)
theorem dX5_grows_2 : decode cX5_grows 2 = .ok (.bipush 36, 2) := dk_16 36 (dk_at dksX5_grows_0 2 rfl rfl)
theorem dX5_grows_4 : decode cX5_grows 4 = .ok (.iaload, 1) := dk_46 (dk_at dksX5_grows_0 4 rfl rfl)
theorem dX5_grows_5 : decode cX5_grows 5 = .ok (.if_icmp .ne 5, 3) := dk_160 0 5 (dk_at dksX5_grows_0 5 rfl rfl)
theorem dX5_grows_8 : decode cX5_grows 8 = .ok (.iconst 1, 1) := dk_4 (dk_at dksX5_grows_0 8 rfl rfl)
theorem dX5_grows_9 : decode cX5_grows 9 = .ok (.ireturn, 1) := dk_172 (dk_at dksX5_grows_0 9 rfl rfl)
theorem dX5_grows_10 : decode cX5_grows 10 = .ok (.iload_n 3, 1) := dk_29 (dk_at dksX5_grows_0 10 rfl rfl)
theorem dX5_grows_11 : decode cX5_grows 11 = .ok (.iconst 1, 1) := dk_4 (dk_at dksX5_grows_0 11 rfl rfl)
theorem dX5_grows_12 : decode cX5_grows 12 = .ok (.iadd, 1) := dk_96 (dk_at dksX5_grows_0 12 rfl rfl)
theorem dX5_grows_13 : decode cX5_grows 13 = .ok (.istore 4, 2) := dk_54 4 (dk_at dksX5_grows_0 13 rfl rfl)
theorem dX5_grows_15 : decode cX5_grows 15 = .ok (.iconst 0, 1) := dk_3 (dk_at dksX5_grows_0 15 rfl rfl)
theorem dX5_grows_16 : decode cX5_grows 16 = .ok (.istore 5, 2) := dk_54 5 (dk_at dksX5_grows_0 16 rfl rfl)
theorem dX5_grows_18 : decode cX5_grows 18 = .ok (.iload 5, 2) := dk_21 5 (dk_at dksX5_grows_0 18 rfl rfl)
theorem dX5_grows_20 : decode cX5_grows 20 = .ok (.iload_n 3, 1) := dk_29 (dk_at dksX5_grows_0 20 rfl rfl)
theorem dX5_grows_21 : decode cX5_grows 21 = .ok (.if_icmp .gt 157, 3) := dk_163 0 157 (dk_at dksX5_grows_0 21 rfl rfl)
theorem dX5_grows_24 : decode cX5_grows 24 = .ok (.aload_n 0, 1) := dk_42 (dk_at dksX5_grows_1 0 rfl rfl)
theorem dX5_grows_25 : decode cX5_grows 25 = .ok (.iload_n 2, 1) := dk_28 (dk_at dksX5_grows_1 1 rfl rfl)
theorem dX5_grows_26 : decode cX5_grows 26 = .ok (.iload 5, 2) := dk_21 5 (dk_at dksX5_grows_1 2 rfl rfl)
theorem dX5_grows_28 : decode cX5_grows 28 = .ok (.iload_n 3, 1) := dk_29 (dk_at dksX5_grows_1 4 rfl rfl)
theorem dX5_grows_29 : decode cX5_grows 29 = .ok (.invokevirtual 252, 3) := dk_182 0 252 (dk_at dksX5_grows_1 5 rfl rfl)
theorem dX5_grows_32 : decode cX5_grows 32 = .ok (.istore 6, 2) := dk_54 6 (dk_at dksX5_grows_1 8 rfl rfl)
theorem dX5_grows_34 : decode cX5_grows 34 = .ok (.iconst 0, 1) := dk_3 (dk_at dksX5_grows_1 10 rfl rfl)
theorem dX5_grows_35 : decode cX5_grows 35 = .ok (.istore 7, 2) := dk_54 7 (dk_at dksX5_grows_1 11 rfl rfl)
theorem dX5_grows_37 : decode cX5_grows 37 = .ok (.iload 7, 2) := dk_21 7 (dk_at dksX5_grows_1 13 rfl rfl)
theorem dX5_grows_39 : decode cX5_grows 39 = .ok (.iload 6, 2) := dk_21 6 (dk_at dksX5_grows_1 15 rfl rfl)
theorem dX5_grows_41 : decode cX5_grows 41 = .ok (.if_icmp .gt 131, 3) := dk_163 0 131 (dk_at dksX5_grows_1 17 rfl rfl)
theorem dX5_grows_44 : decode cX5_grows 44 = .ok (.iload 7, 2) := dk_21 7 (dk_at dksX5_grows_1 20 rfl rfl)
theorem dX5_grows_46 : decode cX5_grows 46 = .ok (.iload 6, 2) := dk_21 6 (dk_at dksX5_grows_1 22 rfl rfl)
theorem dX5_grows_48 : decode cX5_grows 48 = .ok (.iconst (-1), 1) := dk_2 (dk_at dksX5_grows_2 0 rfl rfl)
theorem dX5_grows_49 : decode cX5_grows 49 = .ok (.ixor, 1) := dk_130 (dk_at dksX5_grows_2 1 rfl rfl)
theorem dX5_grows_50 : decode cX5_grows 50 = .ok (.iand, 1) := dk_126 (dk_at dksX5_grows_2 2 rfl rfl)
theorem dX5_grows_51 : decode cX5_grows 51 = .ok (.ifCond .eq 6, 3) := dk_153 0 6 (dk_at dksX5_grows_2 3 rfl rfl)
theorem dX5_grows_54 : decode cX5_grows 54 = .ok (.goto 112, 3) := dk_167 0 112 (dk_at dksX5_grows_2 6 rfl rfl)
theorem dX5_grows_57 : decode cX5_grows 57 = .ok (.aload_n 0, 1) := dk_42 (dk_at dksX5_grows_2 9 rfl rfl)
theorem dX5_grows_58 : decode cX5_grows 58 = .ok (.iload_n 2, 1) := dk_28 (dk_at dksX5_grows_2 10 rfl rfl)
theorem dX5_grows_59 : decode cX5_grows 59 = .ok (.iload 7, 2) := dk_21 7 (dk_at dksX5_grows_2 11 rfl rfl)
theorem dX5_grows_61 : decode cX5_grows 61 = .ok (.iload 5, 2) := dk_21 5 (dk_at dksX5_grows_2 13 rfl rfl)
theorem dX5_grows_63 : decode cX5_grows 63 = .ok (.iload 4, 2) := dk_21 4 (dk_at dksX5_grows_2 15 rfl rfl)
theorem dX5_grows_65 : decode cX5_grows 65 = .ok (.invokevirtual 255, 3) := dk_182 0 255 (dk_at dksX5_grows_2 17 rfl rfl)
theorem dX5_grows_68 : decode cX5_grows 68 = .ok (.iconst 0, 1) := dk_3 (dk_at dksX5_grows_2 20 rfl rfl)
theorem dX5_grows_69 : decode cX5_grows 69 = .ok (.istore 8, 2) := dk_54 8 (dk_at dksX5_grows_2 21 rfl rfl)
theorem dX5_grows_71 : decode cX5_grows 71 = .ok (.iload 8, 2) := dk_21 8 (dk_at dksX5_grows_3 0 rfl rfl)
theorem dX5_grows_73 : decode cX5_grows 73 = .ok (.iconst 2, 1) := dk_5 (dk_at dksX5_grows_3 2 rfl rfl)
theorem dX5_grows_74 : decode cX5_grows 74 = .ok (.if_icmp .ge 81, 3) := dk_162 0 81 (dk_at dksX5_grows_3 3 rfl rfl)
theorem dX5_grows_77 : decode cX5_grows 77 = .ok (.aload_n 0, 1) := dk_42 (dk_at dksX5_grows_3 6 rfl rfl)
theorem dX5_grows_78 : decode cX5_grows 78 = .ok (.getfield 41, 3) := dk_180 0 41 (dk_at dksX5_grows_3 7 rfl rfl)
theorem dX5_grows_81 : decode cX5_grows 81 = .ok (.bipush 6, 2) := dk_16 6 (dk_at dksX5_grows_3 10 rfl rfl)
theorem dX5_grows_83 : decode cX5_grows 83 = .ok (.iload_n 2, 1) := dk_28 (dk_at dksX5_grows_3 12 rfl rfl)
theorem dX5_grows_84 : decode cX5_grows 84 = .ok (.imul, 1) := dk_104 (dk_at dksX5_grows_3 13 rfl rfl)
theorem dX5_grows_85 : decode cX5_grows 85 = .ok (.iload_n 3, 1) := dk_29 (dk_at dksX5_grows_3 14 rfl rfl)
theorem dX5_grows_86 : decode cX5_grows 86 = .ok (.iadd, 1) := dk_96 (dk_at dksX5_grows_3 15 rfl rfl)
theorem dX5_grows_87 : decode cX5_grows 87 = .ok (.iload 8, 2) := dk_21 8 (dk_at dksX5_grows_3 16 rfl rfl)
theorem dX5_grows_89 : decode cX5_grows 89 = .ok (.ifCond .ne 8, 3) := dk_154 0 8 (dk_at dksX5_grows_3 18 rfl rfl)
theorem dX5_grows_92 : decode cX5_grows 92 = .ok (.iload 5, 2) := dk_21 5 (dk_at dksX5_grows_3 21 rfl rfl)
theorem dX5_grows_94 : decode cX5_grows 94 = .ok (.goto 5, 3) := dk_167 0 5 (dk_at dksX5_grows_4 0 rfl rfl)
theorem dX5_grows_97 : decode cX5_grows 97 = .ok (.iload 4, 2) := dk_21 4 (dk_at dksX5_grows_4 3 rfl rfl)
theorem dX5_grows_99 : decode cX5_grows 99 = .ok (.iastore, 1) := dk_79 (dk_at dksX5_grows_4 5 rfl rfl)
theorem dX5_grows_100 : decode cX5_grows 100 = .ok (.aload_n 0, 1) := dk_42 (dk_at dksX5_grows_4 6 rfl rfl)
theorem dX5_grows_101 : decode cX5_grows 101 = .ok (.getfield 44, 3) := dk_180 0 44 (dk_at dksX5_grows_4 7 rfl rfl)
theorem dX5_grows_104 : decode cX5_grows 104 = .ok (.bipush 6, 2) := dk_16 6 (dk_at dksX5_grows_4 10 rfl rfl)
theorem dX5_grows_106 : decode cX5_grows 106 = .ok (.iload_n 2, 1) := dk_28 (dk_at dksX5_grows_4 12 rfl rfl)
theorem dX5_grows_107 : decode cX5_grows 107 = .ok (.imul, 1) := dk_104 (dk_at dksX5_grows_4 13 rfl rfl)
theorem dX5_grows_108 : decode cX5_grows 108 = .ok (.iload_n 3, 1) := dk_29 (dk_at dksX5_grows_4 14 rfl rfl)
theorem dX5_grows_109 : decode cX5_grows 109 = .ok (.iadd, 1) := dk_96 (dk_at dksX5_grows_4 15 rfl rfl)
theorem dX5_grows_110 : decode cX5_grows 110 = .ok (.iload 8, 2) := dk_21 8 (dk_at dksX5_grows_4 16 rfl rfl)
theorem dX5_grows_112 : decode cX5_grows 112 = .ok (.ifCond .ne 8, 3) := dk_154 0 8 (dk_at dksX5_grows_4 18 rfl rfl)
theorem dX5_grows_115 : decode cX5_grows 115 = .ok (.iload 4, 2) := dk_21 4 (dk_at dksX5_grows_4 21 rfl rfl)
theorem dX5_grows_117 : decode cX5_grows 117 = .ok (.goto 5, 3) := dk_167 0 5 (dk_at dksX5_grows_5 0 rfl rfl)
theorem dX5_grows_120 : decode cX5_grows 120 = .ok (.iload 5, 2) := dk_21 5 (dk_at dksX5_grows_5 3 rfl rfl)
theorem dX5_grows_122 : decode cX5_grows 122 = .ok (.iastore, 1) := dk_79 (dk_at dksX5_grows_5 5 rfl rfl)
theorem dX5_grows_123 : decode cX5_grows 123 = .ok (.aload_n 0, 1) := dk_42 (dk_at dksX5_grows_5 6 rfl rfl)
theorem dX5_grows_124 : decode cX5_grows 124 = .ok (.aload_n 1, 1) := dk_43 (dk_at dksX5_grows_5 7 rfl rfl)
theorem dX5_grows_125 : decode cX5_grows 125 = .ok (.iload_n 2, 1) := dk_28 (dk_at dksX5_grows_5 8 rfl rfl)
theorem dX5_grows_126 : decode cX5_grows 126 = .ok (.iload_n 3, 1) := dk_29 (dk_at dksX5_grows_5 9 rfl rfl)
theorem dX5_grows_127 : decode cX5_grows 127 = .ok (.iconst 1, 1) := dk_4 (dk_at dksX5_grows_5 10 rfl rfl)
theorem dX5_grows_128 : decode cX5_grows 128 = .ok (.iadd, 1) := dk_96 (dk_at dksX5_grows_5 11 rfl rfl)
theorem dX5_grows_129 : decode cX5_grows 129 = .ok (.invokevirtual 259, 3) := dk_182 1 3 (dk_at dksX5_grows_5 12 rfl rfl)
theorem dX5_grows_132 : decode cX5_grows 132 = .ok (.ifCond .eq 17, 3) := dk_153 0 17 (dk_at dksX5_grows_5 15 rfl rfl)
theorem dX5_grows_135 : decode cX5_grows 135 = .ok (.aload_n 0, 1) := dk_42 (dk_at dksX5_grows_5 18 rfl rfl)
theorem dX5_grows_136 : decode cX5_grows 136 = .ok (.aload_n 1, 1) := dk_43 (dk_at dksX5_grows_5 19 rfl rfl)
theorem dX5_grows_137 : decode cX5_grows 137 = .ok (.iload_n 2, 1) := dk_28 (dk_at dksX5_grows_5 20 rfl rfl)
theorem dX5_grows_138 : decode cX5_grows 138 = .ok (.iload_n 3, 1) := dk_29 (dk_at dksX5_grows_5 21 rfl rfl)
theorem dX5_grows_139 : decode cX5_grows 139 = .ok (.iconst 1, 1) := dk_4 (dk_at dksX5_grows_5 22 rfl rfl)
theorem dX5_grows_140 : decode cX5_grows 140 = .ok (.iadd, 1) := dk_96 (dk_at dksX5_grows_5 23 rfl rfl)
theorem dX5_grows_141 : decode cX5_grows 141 = .ok (.invokevirtual 262, 3) := dk_182 1 6 (dk_at dksX5_grows_6 0 rfl rfl)
theorem dX5_grows_144 : decode cX5_grows 144 = .ok (.ifCond .eq 5, 3) := dk_153 0 5 (dk_at dksX5_grows_6 3 rfl rfl)
theorem dX5_grows_147 : decode cX5_grows 147 = .ok (.iconst 1, 1) := dk_4 (dk_at dksX5_grows_6 6 rfl rfl)
theorem dX5_grows_148 : decode cX5_grows 148 = .ok (.ireturn, 1) := dk_172 (dk_at dksX5_grows_6 7 rfl rfl)
theorem dX5_grows_149 : decode cX5_grows 149 = .ok (.iinc 8 1, 3) := dk_132 8 1 (dk_at dksX5_grows_6 8 rfl rfl)
theorem dX5_grows_152 : decode cX5_grows 152 = .ok (.goto (-81), 3) := dk_167 255 175 (dk_at dksX5_grows_6 11 rfl rfl)
theorem dX5_grows_155 : decode cX5_grows 155 = .ok (.aload_n 0, 1) := dk_42 (dk_at dksX5_grows_6 14 rfl rfl)
theorem dX5_grows_156 : decode cX5_grows 156 = .ok (.iload_n 2, 1) := dk_28 (dk_at dksX5_grows_6 15 rfl rfl)
theorem dX5_grows_157 : decode cX5_grows 157 = .ok (.iload 7, 2) := dk_21 7 (dk_at dksX5_grows_6 16 rfl rfl)
theorem dX5_grows_159 : decode cX5_grows 159 = .ok (.iload 4, 2) := dk_21 4 (dk_at dksX5_grows_6 18 rfl rfl)
theorem dX5_grows_161 : decode cX5_grows 161 = .ok (.iload 5, 2) := dk_21 5 (dk_at dksX5_grows_6 20 rfl rfl)
theorem dX5_grows_163 : decode cX5_grows 163 = .ok (.invokevirtual 255, 3) := dk_182 0 255 (dk_at dksX5_grows_7 0 rfl rfl)
theorem dX5_grows_166 : decode cX5_grows 166 = .ok (.iinc 7 1, 3) := dk_132 7 1 (dk_at dksX5_grows_7 3 rfl rfl)
theorem dX5_grows_169 : decode cX5_grows 169 = .ok (.goto (-132), 3) := dk_167 255 124 (dk_at dksX5_grows_7 6 rfl rfl)
theorem dX5_grows_172 : decode cX5_grows 172 = .ok (.iinc 5 1, 3) := dk_132 5 1 (dk_at dksX5_grows_7 9 rfl rfl)
theorem dX5_grows_175 : decode cX5_grows 175 = .ok (.goto (-157), 3) := dk_167 255 99 (dk_at dksX5_grows_7 12 rfl rfl)
theorem dX5_grows_178 : decode cX5_grows 178 = .ok (.iconst 0, 1) := dk_3 (dk_at dksX5_grows_7 15 rfl rfl)
theorem dX5_grows_179 : decode cX5_grows 179 = .ok (.ireturn, 1) := dk_172 (dk_at dksX5_grows_7 16 rfl rfl)
abbrev cX5_endsAt : ByteArray := prog_9_method_53_code
def yX5_endsAt : MethodName := ⟨RX5, "endsAt", "(III)I"⟩
def dkwX5_endsAt_2 : List UInt8 := [21, 5, 120, 128, 54, 4, 132, 5, 1, 167, 255, 206, 21, 4, 172]
abbrev dktX5_endsAt_2 : List UInt8 := dkwX5_endsAt_2 ++ []
def dkwX5_endsAt_1 : List UInt8 := [28, 159, 0, 19, 42, 180, 0, 44, 16, 6, 27, 104, 21, 5, 96, 46, 28, 160, 0, 12, 21, 4, 4]
abbrev dktX5_endsAt_1 : List UInt8 := dkwX5_endsAt_1 ++ dktX5_endsAt_2
def dkwX5_endsAt_0 : List UInt8 := [3, 54, 4, 3, 54, 5, 21, 5, 29, 162, 0, 50, 42, 180, 0, 41, 16, 6, 27, 104, 21, 5, 96, 46]
abbrev dktX5_endsAt_0 : List UInt8 := dkwX5_endsAt_0 ++ dktX5_endsAt_1
theorem dksX5_endsAt_0 : cX5_endsAt.data.toList.drop 0 = dktX5_endsAt_0 := by decide +kernel
theorem dksX5_endsAt_1 : cX5_endsAt.data.toList.drop 24 = dktX5_endsAt_1 := dk_seg dksX5_endsAt_0 24 rfl rfl
theorem dksX5_endsAt_2 : cX5_endsAt.data.toList.drop 47 = dktX5_endsAt_2 := dk_seg dksX5_endsAt_1 23 rfl rfl
theorem dX5_endsAt_0 : decode cX5_endsAt 0 = .ok (.iconst 0, 1) := dk_3 (dk_at dksX5_endsAt_0 0 rfl rfl)
theorem dX5_endsAt_1 : decode cX5_endsAt 1 = .ok (.istore 4, 2) := dk_54 4 (dk_at dksX5_endsAt_0 1 rfl rfl)
theorem dX5_endsAt_3 : decode cX5_endsAt 3 = .ok (.iconst 0, 1) := dk_3 (dk_at dksX5_endsAt_0 3 rfl rfl)
theorem dX5_endsAt_4 : decode cX5_endsAt 4 = .ok (.istore 5, 2) := dk_54 5 (dk_at dksX5_endsAt_0 4 rfl rfl)
theorem dX5_endsAt_6 : decode cX5_endsAt 6 = .ok (.iload 5, 2) := dk_21 5 (dk_at dksX5_endsAt_0 6 rfl rfl)
theorem dX5_endsAt_8 : decode cX5_endsAt 8 = .ok (.iload_n 3, 1) := dk_29 (dk_at dksX5_endsAt_0 8 rfl rfl)
theorem dX5_endsAt_9 : decode cX5_endsAt 9 = .ok (.if_icmp .ge 50, 3) := dk_162 0 50 (dk_at dksX5_endsAt_0 9 rfl rfl)
theorem dX5_endsAt_12 : decode cX5_endsAt 12 = .ok (.aload_n 0, 1) := dk_42 (dk_at dksX5_endsAt_0 12 rfl rfl)
theorem dX5_endsAt_13 : decode cX5_endsAt 13 = .ok (.getfield 41, 3) := dk_180 0 41 (dk_at dksX5_endsAt_0 13 rfl rfl)
theorem dX5_endsAt_16 : decode cX5_endsAt 16 = .ok (.bipush 6, 2) := dk_16 6 (dk_at dksX5_endsAt_0 16 rfl rfl)
theorem dX5_endsAt_18 : decode cX5_endsAt 18 = .ok (.iload_n 1, 1) := dk_27 (dk_at dksX5_endsAt_0 18 rfl rfl)
theorem dX5_endsAt_19 : decode cX5_endsAt 19 = .ok (.imul, 1) := dk_104 (dk_at dksX5_endsAt_0 19 rfl rfl)
theorem dX5_endsAt_20 : decode cX5_endsAt 20 = .ok (.iload 5, 2) := dk_21 5 (dk_at dksX5_endsAt_0 20 rfl rfl)
theorem dX5_endsAt_22 : decode cX5_endsAt 22 = .ok (.iadd, 1) := dk_96 (dk_at dksX5_endsAt_0 22 rfl rfl)
theorem dX5_endsAt_23 : decode cX5_endsAt 23 = .ok (.iaload, 1) := dk_46 (dk_at dksX5_endsAt_0 23 rfl rfl)
theorem dX5_endsAt_24 : decode cX5_endsAt 24 = .ok (.iload_n 2, 1) := dk_28 (dk_at dksX5_endsAt_1 0 rfl rfl)
theorem dX5_endsAt_25 : decode cX5_endsAt 25 = .ok (.if_icmp .eq 19, 3) := dk_159 0 19 (dk_at dksX5_endsAt_1 1 rfl rfl)
theorem dX5_endsAt_28 : decode cX5_endsAt 28 = .ok (.aload_n 0, 1) := dk_42 (dk_at dksX5_endsAt_1 4 rfl rfl)
theorem dX5_endsAt_29 : decode cX5_endsAt 29 = .ok (.getfield 44, 3) := dk_180 0 44 (dk_at dksX5_endsAt_1 5 rfl rfl)
theorem dX5_endsAt_32 : decode cX5_endsAt 32 = .ok (.bipush 6, 2) := dk_16 6 (dk_at dksX5_endsAt_1 8 rfl rfl)
theorem dX5_endsAt_34 : decode cX5_endsAt 34 = .ok (.iload_n 1, 1) := dk_27 (dk_at dksX5_endsAt_1 10 rfl rfl)
theorem dX5_endsAt_35 : decode cX5_endsAt 35 = .ok (.imul, 1) := dk_104 (dk_at dksX5_endsAt_1 11 rfl rfl)
theorem dX5_endsAt_36 : decode cX5_endsAt 36 = .ok (.iload 5, 2) := dk_21 5 (dk_at dksX5_endsAt_1 12 rfl rfl)
theorem dX5_endsAt_38 : decode cX5_endsAt 38 = .ok (.iadd, 1) := dk_96 (dk_at dksX5_endsAt_1 14 rfl rfl)
theorem dX5_endsAt_39 : decode cX5_endsAt 39 = .ok (.iaload, 1) := dk_46 (dk_at dksX5_endsAt_1 15 rfl rfl)
theorem dX5_endsAt_40 : decode cX5_endsAt 40 = .ok (.iload_n 2, 1) := dk_28 (dk_at dksX5_endsAt_1 16 rfl rfl)
theorem dX5_endsAt_41 : decode cX5_endsAt 41 = .ok (.if_icmp .ne 12, 3) := dk_160 0 12 (dk_at dksX5_endsAt_1 17 rfl rfl)
theorem dX5_endsAt_44 : decode cX5_endsAt 44 = .ok (.iload 4, 2) := dk_21 4 (dk_at dksX5_endsAt_1 20 rfl rfl)
theorem dX5_endsAt_46 : decode cX5_endsAt 46 = .ok (.iconst 1, 1) := dk_4 (dk_at dksX5_endsAt_1 22 rfl rfl)
theorem dX5_endsAt_47 : decode cX5_endsAt 47 = .ok (.iload 5, 2) := dk_21 5 (dk_at dksX5_endsAt_2 0 rfl rfl)
theorem dX5_endsAt_49 : decode cX5_endsAt 49 = .ok (.ishl, 1) := dk_120 (dk_at dksX5_endsAt_2 2 rfl rfl)
theorem dX5_endsAt_50 : decode cX5_endsAt 50 = .ok (.ior, 1) := dk_128 (dk_at dksX5_endsAt_2 3 rfl rfl)
theorem dX5_endsAt_51 : decode cX5_endsAt 51 = .ok (.istore 4, 2) := dk_54 4 (dk_at dksX5_endsAt_2 4 rfl rfl)
theorem dX5_endsAt_53 : decode cX5_endsAt 53 = .ok (.iinc 5 1, 3) := dk_132 5 1 (dk_at dksX5_endsAt_2 6 rfl rfl)
theorem dX5_endsAt_56 : decode cX5_endsAt 56 = .ok (.goto (-50), 3) := dk_167 255 206 (dk_at dksX5_endsAt_2 9 rfl rfl)
theorem dX5_endsAt_59 : decode cX5_endsAt 59 = .ok (.iload 4, 2) := dk_21 4 (dk_at dksX5_endsAt_2 12 rfl rfl)
theorem dX5_endsAt_61 : decode cX5_endsAt 61 = .ok (.ireturn, 1) := dk_172 (dk_at dksX5_endsAt_2 14 rfl rfl)
abbrev cX5_bends : ByteArray := prog_9_method_54_code
def yX5_bends : MethodName := ⟨RX5, "bends", "(IIII)V"⟩
def dkwX5_bends_3 : List UInt8 := [132, 5, 1, 167, 255, 187, 177]
abbrev dktX5_bends_3 : List UInt8 := dkwX5_bends_3 ++ []
def dkwX5_bends_2 : List UInt8 := [21, 5, 96, 21, 4, 79, 167, 0, 17, 42, 180, 0, 44, 16, 6, 27, 104, 21, 5, 96, 21, 4, 79]
abbrev dktX5_bends_2 : List UInt8 := dkwX5_bends_2 ++ dktX5_bends_3
def dkwX5_bends_1 : List UInt8 := [180, 0, 41, 16, 6, 27, 104, 21, 5, 96, 46, 29, 160, 0, 20, 42, 180, 0, 41, 16, 6, 27, 104]
abbrev dktX5_bends_1 : List UInt8 := dkwX5_bends_1 ++ dktX5_bends_2
def dkwX5_bends_0 : List UInt8 := [3, 54, 5, 21, 5, 16, 6, 162, 0, 68, 28, 21, 5, 184, 0, 200, 154, 0, 6, 167, 0, 50, 42]
abbrev dktX5_bends_0 : List UInt8 := dkwX5_bends_0 ++ dktX5_bends_1
theorem dksX5_bends_0 : cX5_bends.data.toList.drop 0 = dktX5_bends_0 := by decide +kernel
theorem dksX5_bends_1 : cX5_bends.data.toList.drop 23 = dktX5_bends_1 := dk_seg dksX5_bends_0 23 rfl rfl
theorem dksX5_bends_2 : cX5_bends.data.toList.drop 46 = dktX5_bends_2 := dk_seg dksX5_bends_1 23 rfl rfl
theorem dksX5_bends_3 : cX5_bends.data.toList.drop 69 = dktX5_bends_3 := dk_seg dksX5_bends_2 23 rfl rfl
theorem dX5_bends_0 : decode cX5_bends 0 = .ok (.iconst 0, 1) := dk_3 (dk_at dksX5_bends_0 0 rfl rfl)
theorem dX5_bends_1 : decode cX5_bends 1 = .ok (.istore 5, 2) := dk_54 5 (dk_at dksX5_bends_0 1 rfl rfl)
theorem dX5_bends_3 : decode cX5_bends 3 = .ok (.iload 5, 2) := dk_21 5 (dk_at dksX5_bends_0 3 rfl rfl)
theorem dX5_bends_5 : decode cX5_bends 5 = .ok (.bipush 6, 2) := dk_16 6 (dk_at dksX5_bends_0 5 rfl rfl)
theorem dX5_bends_7 : decode cX5_bends 7 = .ok (.if_icmp .ge 68, 3) := dk_162 0 68 (dk_at dksX5_bends_0 7 rfl rfl)
theorem dX5_bends_10 : decode cX5_bends 10 = .ok (.iload_n 2, 1) := dk_28 (dk_at dksX5_bends_0 10 rfl rfl)
theorem dX5_bends_11 : decode cX5_bends 11 = .ok (.iload 5, 2) := dk_21 5 (dk_at dksX5_bends_0 11 rfl rfl)
theorem dX5_bends_13 : decode cX5_bends 13 = .ok (.invokestatic 200, 3) := dk_184 0 200 (dk_at dksX5_bends_0 13 rfl rfl)
theorem dX5_bends_16 : decode cX5_bends 16 = .ok (.ifCond .ne 6, 3) := dk_154 0 6 (dk_at dksX5_bends_0 16 rfl rfl)
theorem dX5_bends_19 : decode cX5_bends 19 = .ok (.goto 50, 3) := dk_167 0 50 (dk_at dksX5_bends_0 19 rfl rfl)
theorem dX5_bends_22 : decode cX5_bends 22 = .ok (.aload_n 0, 1) := dk_42 (dk_at dksX5_bends_0 22 rfl rfl)
theorem dX5_bends_23 : decode cX5_bends 23 = .ok (.getfield 41, 3) := dk_180 0 41 (dk_at dksX5_bends_1 0 rfl rfl)
theorem dX5_bends_26 : decode cX5_bends 26 = .ok (.bipush 6, 2) := dk_16 6 (dk_at dksX5_bends_1 3 rfl rfl)
theorem dX5_bends_28 : decode cX5_bends 28 = .ok (.iload_n 1, 1) := dk_27 (dk_at dksX5_bends_1 5 rfl rfl)
theorem dX5_bends_29 : decode cX5_bends 29 = .ok (.imul, 1) := dk_104 (dk_at dksX5_bends_1 6 rfl rfl)
theorem dX5_bends_30 : decode cX5_bends 30 = .ok (.iload 5, 2) := dk_21 5 (dk_at dksX5_bends_1 7 rfl rfl)
theorem dX5_bends_32 : decode cX5_bends 32 = .ok (.iadd, 1) := dk_96 (dk_at dksX5_bends_1 9 rfl rfl)
theorem dX5_bends_33 : decode cX5_bends 33 = .ok (.iaload, 1) := dk_46 (dk_at dksX5_bends_1 10 rfl rfl)
theorem dX5_bends_34 : decode cX5_bends 34 = .ok (.iload_n 3, 1) := dk_29 (dk_at dksX5_bends_1 11 rfl rfl)
theorem dX5_bends_35 : decode cX5_bends 35 = .ok (.if_icmp .ne 20, 3) := dk_160 0 20 (dk_at dksX5_bends_1 12 rfl rfl)
theorem dX5_bends_38 : decode cX5_bends 38 = .ok (.aload_n 0, 1) := dk_42 (dk_at dksX5_bends_1 15 rfl rfl)
theorem dX5_bends_39 : decode cX5_bends 39 = .ok (.getfield 41, 3) := dk_180 0 41 (dk_at dksX5_bends_1 16 rfl rfl)
theorem dX5_bends_42 : decode cX5_bends 42 = .ok (.bipush 6, 2) := dk_16 6 (dk_at dksX5_bends_1 19 rfl rfl)
theorem dX5_bends_44 : decode cX5_bends 44 = .ok (.iload_n 1, 1) := dk_27 (dk_at dksX5_bends_1 21 rfl rfl)
theorem dX5_bends_45 : decode cX5_bends 45 = .ok (.imul, 1) := dk_104 (dk_at dksX5_bends_1 22 rfl rfl)
theorem dX5_bends_46 : decode cX5_bends 46 = .ok (.iload 5, 2) := dk_21 5 (dk_at dksX5_bends_2 0 rfl rfl)
theorem dX5_bends_48 : decode cX5_bends 48 = .ok (.iadd, 1) := dk_96 (dk_at dksX5_bends_2 2 rfl rfl)
theorem dX5_bends_49 : decode cX5_bends 49 = .ok (.iload 4, 2) := dk_21 4 (dk_at dksX5_bends_2 3 rfl rfl)
theorem dX5_bends_51 : decode cX5_bends 51 = .ok (.iastore, 1) := dk_79 (dk_at dksX5_bends_2 5 rfl rfl)
theorem dX5_bends_52 : decode cX5_bends 52 = .ok (.goto 17, 3) := dk_167 0 17 (dk_at dksX5_bends_2 6 rfl rfl)
theorem dX5_bends_55 : decode cX5_bends 55 = .ok (.aload_n 0, 1) := dk_42 (dk_at dksX5_bends_2 9 rfl rfl)
theorem dX5_bends_56 : decode cX5_bends 56 = .ok (.getfield 44, 3) := dk_180 0 44 (dk_at dksX5_bends_2 10 rfl rfl)
theorem dX5_bends_59 : decode cX5_bends 59 = .ok (.bipush 6, 2) := dk_16 6 (dk_at dksX5_bends_2 13 rfl rfl)
theorem dX5_bends_61 : decode cX5_bends 61 = .ok (.iload_n 1, 1) := dk_27 (dk_at dksX5_bends_2 15 rfl rfl)
theorem dX5_bends_62 : decode cX5_bends 62 = .ok (.imul, 1) := dk_104 (dk_at dksX5_bends_2 16 rfl rfl)
theorem dX5_bends_63 : decode cX5_bends 63 = .ok (.iload 5, 2) := dk_21 5 (dk_at dksX5_bends_2 17 rfl rfl)
theorem dX5_bends_65 : decode cX5_bends 65 = .ok (.iadd, 1) := dk_96 (dk_at dksX5_bends_2 19 rfl rfl)
theorem dX5_bends_66 : decode cX5_bends 66 = .ok (.iload 4, 2) := dk_21 4 (dk_at dksX5_bends_2 20 rfl rfl)
theorem dX5_bends_68 : decode cX5_bends 68 = .ok (.iastore, 1) := dk_79 (dk_at dksX5_bends_2 22 rfl rfl)
theorem dX5_bends_69 : decode cX5_bends 69 = .ok (.iinc 5 1, 3) := dk_132 5 1 (dk_at dksX5_bends_3 0 rfl rfl)
theorem dX5_bends_72 : decode cX5_bends 72 = .ok (.goto (-69), 3) := dk_167 255 187 (dk_at dksX5_bends_3 3 rfl rfl)
theorem dX5_bends_75 : decode cX5_bends 75 = .ok (.return_, 1) := dk_177 (dk_at dksX5_bends_3 6 rfl rfl)
abbrev cX5_areWays : ByteArray := prog_9_method_52_code
def yX5_areWays : MethodName := ⟨RX5, "areWays", "([III)Z"⟩
def dkwX5_areWays_1 : List UInt8 := [3, 172, 132, 4, 1, 167, 255, 230, 4, 172]
abbrev dktX5_areWays_1 : List UInt8 := dkwX5_areWays_1 ++ []
def dkwX5_areWays_0 : List UInt8 := [3, 54, 4, 21, 4, 43, 16, 37, 46, 162, 0, 23, 42, 43, 28, 21, 4, 29, 182, 0, 248, 154, 0, 5]
abbrev dktX5_areWays_0 : List UInt8 := dkwX5_areWays_0 ++ dktX5_areWays_1
theorem dksX5_areWays_0 : cX5_areWays.data.toList.drop 0 = dktX5_areWays_0 := by decide +kernel
theorem dksX5_areWays_1 : cX5_areWays.data.toList.drop 24 = dktX5_areWays_1 := dk_seg dksX5_areWays_0 24 rfl rfl
theorem dX5_areWays_0 : decode cX5_areWays 0 = .ok (.iconst 0, 1) := dk_3 (dk_at dksX5_areWays_0 0 rfl rfl)
theorem dX5_areWays_1 : decode cX5_areWays 1 = .ok (.istore 4, 2) := dk_54 4 (dk_at dksX5_areWays_0 1 rfl rfl)
theorem dX5_areWays_3 : decode cX5_areWays 3 = .ok (.iload 4, 2) := dk_21 4 (dk_at dksX5_areWays_0 3 rfl rfl)
theorem dX5_areWays_5 : decode cX5_areWays 5 = .ok (.aload_n 1, 1) := dk_43 (dk_at dksX5_areWays_0 5 rfl rfl)
theorem dX5_areWays_6 : decode cX5_areWays 6 = .ok (.bipush 37, 2) := dk_16 37 (dk_at dksX5_areWays_0 6 rfl rfl)
theorem dX5_areWays_8 : decode cX5_areWays 8 = .ok (.iaload, 1) := dk_46 (dk_at dksX5_areWays_0 8 rfl rfl)
theorem dX5_areWays_9 : decode cX5_areWays 9 = .ok (.if_icmp .ge 23, 3) := dk_162 0 23 (dk_at dksX5_areWays_0 9 rfl rfl)
theorem dX5_areWays_12 : decode cX5_areWays 12 = .ok (.aload_n 0, 1) := dk_42 (dk_at dksX5_areWays_0 12 rfl rfl)
theorem dX5_areWays_13 : decode cX5_areWays 13 = .ok (.aload_n 1, 1) := dk_43 (dk_at dksX5_areWays_0 13 rfl rfl)
theorem dX5_areWays_14 : decode cX5_areWays 14 = .ok (.iload_n 2, 1) := dk_28 (dk_at dksX5_areWays_0 14 rfl rfl)
theorem dX5_areWays_15 : decode cX5_areWays 15 = .ok (.iload 4, 2) := dk_21 4 (dk_at dksX5_areWays_0 15 rfl rfl)
theorem dX5_areWays_17 : decode cX5_areWays 17 = .ok (.iload_n 3, 1) := dk_29 (dk_at dksX5_areWays_0 17 rfl rfl)
theorem dX5_areWays_18 : decode cX5_areWays 18 = .ok (.invokevirtual 248, 3) := dk_182 0 248 (dk_at dksX5_areWays_0 18 rfl rfl)
theorem dX5_areWays_21 : decode cX5_areWays 21 = .ok (.ifCond .ne 5, 3) := dk_154 0 5 (dk_at dksX5_areWays_0 21 rfl rfl)
theorem dX5_areWays_24 : decode cX5_areWays 24 = .ok (.iconst 0, 1) := dk_3 (dk_at dksX5_areWays_1 0 rfl rfl)
theorem dX5_areWays_25 : decode cX5_areWays 25 = .ok (.ireturn, 1) := dk_172 (dk_at dksX5_areWays_1 1 rfl rfl)
theorem dX5_areWays_26 : decode cX5_areWays 26 = .ok (.iinc 4 1, 3) := dk_132 4 1 (dk_at dksX5_areWays_1 2 rfl rfl)
theorem dX5_areWays_29 : decode cX5_areWays 29 = .ok (.goto (-26), 3) := dk_167 255 230 (dk_at dksX5_areWays_1 5 rfl rfl)
theorem dX5_areWays_32 : decode cX5_areWays 32 = .ok (.iconst 1, 1) := dk_4 (dk_at dksX5_areWays_1 8 rfl rfl)
theorem dX5_areWays_33 : decode cX5_areWays 33 = .ok (.ireturn, 1) := dk_172 (dk_at dksX5_areWays_1 9 rfl rfl)
abbrev cX5_isWay : ByteArray := prog_9_method_49_code
def yX5_isWay : MethodName := ⟨RX5, "isWay", "([IIII)Z"⟩
def dkwX5_isWay_12 : List UInt8 := [54, 8, 167, 255, 156, 42, 180, 0, 239, 21, 6, 160, 0, 7, 4, 167, 0, 4, 3, 172]
abbrev dktX5_isWay_12 : List UInt8 := dkwX5_isWay_12 ++ []
def dkwX5_isWay_11 : List UInt8 := [28, 29, 21, 12, 182, 0, 245, 21, 10, 160, 0, 7, 21, 12, 54, 11, 132, 12, 1, 167, 255, 218, 21, 11]
abbrev dktX5_isWay_11 : List UInt8 := dkwX5_isWay_11 ++ dktX5_isWay_12
def dkwX5_isWay_10 : List UInt8 := [54, 11, 3, 54, 12, 21, 12, 21, 4, 162, 0, 37, 21, 9, 21, 12, 184, 0, 200, 153, 0, 21, 42, 43]
abbrev dktX5_isWay_10 : List UInt8 := dkwX5_isWay_10 ++ dktX5_isWay_11
def dkwX5_isWay_9 : List UInt8 := [21, 9, 4, 21, 8, 120, 2, 130, 126, 54, 9, 42, 43, 28, 29, 21, 8, 182, 0, 242, 54, 10, 2]
abbrev dktX5_isWay_9 : List UInt8 := dkwX5_isWay_9 ++ dktX5_isWay_10
def dkwX5_isWay_8 : List UInt8 := [159, 0, 100, 42, 180, 0, 50, 42, 180, 0, 239, 21, 8, 79, 42, 89, 180, 0, 239, 4, 96, 181, 0, 239]
abbrev dktX5_isWay_8 : List UInt8 := dkwX5_isWay_8 ++ dktX5_isWay_9
def dkwX5_isWay_7 : List UInt8 := [167, 255, 158, 21, 7, 2, 160, 0, 5, 3, 172, 21, 7, 54, 8, 21, 5, 54, 9, 21, 8, 2]
abbrev dktX5_isWay_7 : List UInt8 := dkwX5_isWay_7 ++ dktX5_isWay_8
def dkwX5_isWay_6 : List UInt8 := [160, 0, 6, 3, 54, 9, 132, 10, 1, 167, 255, 205, 21, 9, 153, 0, 7, 21, 8, 54, 7, 132, 8, 1]
abbrev dktX5_isWay_6 : List UInt8 := dkwX5_isWay_6 ++ dktX5_isWay_7
def dkwX5_isWay_5 : List UInt8 := [184, 0, 200, 153, 0, 27, 42, 43, 28, 29, 21, 10, 182, 0, 242, 42, 43, 28, 29, 21, 8, 182, 0, 245]
abbrev dktX5_isWay_5 : List UInt8 := dkwX5_isWay_5 ++ dktX5_isWay_6
def dkwX5_isWay_4 : List UInt8 := [54, 9, 3, 54, 10, 21, 10, 21, 4, 162, 0, 50, 21, 10, 21, 8, 159, 0, 37, 21, 5, 21, 10]
abbrev dktX5_isWay_4 : List UInt8 := dkwX5_isWay_4 ++ dktX5_isWay_5
def dkwX5_isWay_3 : List UInt8 := [162, 0, 97, 21, 7, 2, 160, 0, 91, 21, 5, 21, 8, 184, 0, 200, 154, 0, 6, 167, 0, 72, 4]
abbrev dktX5_isWay_3 : List UInt8 := dkwX5_isWay_3 ++ dktX5_isWay_4
def dkwX5_isWay_2 : List UInt8 := [21, 5, 184, 0, 204, 54, 6, 21, 6, 154, 0, 5, 4, 172, 2, 54, 7, 3, 54, 8, 21, 8, 21, 4]
abbrev dktX5_isWay_2 : List UInt8 := dkwX5_isWay_2 ++ dktX5_isWay_3
def dkwX5_isWay_1 : List UInt8 := [153, 0, 12, 21, 5, 4, 21, 6, 120, 128, 54, 5, 132, 6, 1, 167, 255, 225, 42, 3, 181, 0, 239]
abbrev dktX5_isWay_1 : List UInt8 := dkwX5_isWay_1 ++ dktX5_isWay_2
def dkwX5_isWay_0 : List UInt8 := [3, 54, 5, 3, 54, 6, 21, 6, 21, 4, 162, 0, 30, 43, 16, 6, 21, 6, 104, 29, 96, 46]
abbrev dktX5_isWay_0 : List UInt8 := dkwX5_isWay_0 ++ dktX5_isWay_1
theorem dksX5_isWay_0 : cX5_isWay.data.toList.drop 0 = dktX5_isWay_0 := by decide +kernel
theorem dksX5_isWay_1 : cX5_isWay.data.toList.drop 22 = dktX5_isWay_1 := dk_seg dksX5_isWay_0 22 rfl rfl
theorem dksX5_isWay_2 : cX5_isWay.data.toList.drop 45 = dktX5_isWay_2 := dk_seg dksX5_isWay_1 23 rfl rfl
theorem dksX5_isWay_3 : cX5_isWay.data.toList.drop 69 = dktX5_isWay_3 := dk_seg dksX5_isWay_2 24 rfl rfl
theorem dksX5_isWay_4 : cX5_isWay.data.toList.drop 92 = dktX5_isWay_4 := dk_seg dksX5_isWay_3 23 rfl rfl
theorem dksX5_isWay_5 : cX5_isWay.data.toList.drop 115 = dktX5_isWay_5 := dk_seg dksX5_isWay_4 23 rfl rfl
theorem dksX5_isWay_6 : cX5_isWay.data.toList.drop 139 = dktX5_isWay_6 := dk_seg dksX5_isWay_5 24 rfl rfl
theorem dksX5_isWay_7 : cX5_isWay.data.toList.drop 163 = dktX5_isWay_7 := dk_seg dksX5_isWay_6 24 rfl rfl
theorem dksX5_isWay_8 : cX5_isWay.data.toList.drop 185 = dktX5_isWay_8 := dk_seg dksX5_isWay_7 22 rfl rfl
theorem dksX5_isWay_9 : cX5_isWay.data.toList.drop 209 = dktX5_isWay_9 := dk_seg dksX5_isWay_8 24 rfl rfl
theorem dksX5_isWay_10 : cX5_isWay.data.toList.drop 232 = dktX5_isWay_10 := dk_seg dksX5_isWay_9 23 rfl rfl
theorem dksX5_isWay_11 : cX5_isWay.data.toList.drop 256 = dktX5_isWay_11 := dk_seg dksX5_isWay_10 24 rfl rfl
theorem dksX5_isWay_12 : cX5_isWay.data.toList.drop 280 = dktX5_isWay_12 := dk_seg dksX5_isWay_11 24 rfl rfl
theorem dX5_isWay_0 : decode cX5_isWay 0 = .ok (.iconst 0, 1) := dk_3 (dk_at dksX5_isWay_0 0 rfl rfl)
theorem dX5_isWay_1 : decode cX5_isWay 1 = .ok (.istore 5, 2) := dk_54 5 (dk_at dksX5_isWay_0 1 rfl rfl)
theorem dX5_isWay_3 : decode cX5_isWay 3 = .ok (.iconst 0, 1) := dk_3 (dk_at dksX5_isWay_0 3 rfl rfl)
theorem dX5_isWay_4 : decode cX5_isWay 4 = .ok (.istore 6, 2) := dk_54 6 (dk_at dksX5_isWay_0 4 rfl rfl)
theorem dX5_isWay_6 : decode cX5_isWay 6 = .ok (.iload 6, 2) := dk_21 6 (dk_at dksX5_isWay_0 6 rfl rfl)
theorem dX5_isWay_8 : decode cX5_isWay 8 = .ok (.iload 4, 2) := dk_21 4 (dk_at dksX5_isWay_0 8 rfl rfl)
theorem dX5_isWay_10 : decode cX5_isWay 10 = .ok (.if_icmp .ge 30, 3) := dk_162 0 30 (dk_at dksX5_isWay_0 10 rfl rfl)
theorem dX5_isWay_13 : decode cX5_isWay 13 = .ok (.aload_n 1, 1) := dk_43 (dk_at dksX5_isWay_0 13 rfl rfl)
theorem dX5_isWay_14 : decode cX5_isWay 14 = .ok (.bipush 6, 2) := dk_16 6 (dk_at dksX5_isWay_0 14 rfl rfl)
theorem dX5_isWay_16 : decode cX5_isWay 16 = .ok (.iload 6, 2) := dk_21 6 (dk_at dksX5_isWay_0 16 rfl rfl)
theorem dX5_isWay_18 : decode cX5_isWay 18 = .ok (.imul, 1) := dk_104 (dk_at dksX5_isWay_0 18 rfl rfl)
theorem dX5_isWay_19 : decode cX5_isWay 19 = .ok (.iload_n 3, 1) := dk_29 (dk_at dksX5_isWay_0 19 rfl rfl)
theorem dX5_isWay_20 : decode cX5_isWay 20 = .ok (.iadd, 1) := dk_96 (dk_at dksX5_isWay_0 20 rfl rfl)
theorem dX5_isWay_21 : decode cX5_isWay 21 = .ok (.iaload, 1) := dk_46 (dk_at dksX5_isWay_0 21 rfl rfl)
theorem dX5_isWay_22 : decode cX5_isWay 22 = .ok (.ifCond .eq 12, 3) := dk_153 0 12 (dk_at dksX5_isWay_1 0 rfl rfl)
theorem dX5_isWay_25 : decode cX5_isWay 25 = .ok (.iload 5, 2) := dk_21 5 (dk_at dksX5_isWay_1 3 rfl rfl)
theorem dX5_isWay_27 : decode cX5_isWay 27 = .ok (.iconst 1, 1) := dk_4 (dk_at dksX5_isWay_1 5 rfl rfl)
theorem dX5_isWay_28 : decode cX5_isWay 28 = .ok (.iload 6, 2) := dk_21 6 (dk_at dksX5_isWay_1 6 rfl rfl)
theorem dX5_isWay_30 : decode cX5_isWay 30 = .ok (.ishl, 1) := dk_120 (dk_at dksX5_isWay_1 8 rfl rfl)
theorem dX5_isWay_31 : decode cX5_isWay 31 = .ok (.ior, 1) := dk_128 (dk_at dksX5_isWay_1 9 rfl rfl)
theorem dX5_isWay_32 : decode cX5_isWay 32 = .ok (.istore 5, 2) := dk_54 5 (dk_at dksX5_isWay_1 10 rfl rfl)
theorem dX5_isWay_34 : decode cX5_isWay 34 = .ok (.iinc 6 1, 3) := dk_132 6 1 (dk_at dksX5_isWay_1 12 rfl rfl)
theorem dX5_isWay_37 : decode cX5_isWay 37 = .ok (.goto (-31), 3) := dk_167 255 225 (dk_at dksX5_isWay_1 15 rfl rfl)
theorem dX5_isWay_40 : decode cX5_isWay 40 = .ok (.aload_n 0, 1) := dk_42 (dk_at dksX5_isWay_1 18 rfl rfl)
theorem dX5_isWay_41 : decode cX5_isWay 41 = .ok (.iconst 0, 1) := dk_3 (dk_at dksX5_isWay_1 19 rfl rfl)
theorem dX5_isWay_42 : decode cX5_isWay 42 = .ok (.putfield 239, 3) := dk_181 0 239 (dk_at dksX5_isWay_1 20 rfl rfl)
theorem dX5_isWay_45 : decode cX5_isWay 45 = .ok (.iload 5, 2) := dk_21 5 (dk_at dksX5_isWay_2 0 rfl rfl)
theorem dX5_isWay_47 : decode cX5_isWay 47 = .ok (.invokestatic 204, 3) := dk_184 0 204 (dk_at dksX5_isWay_2 2 rfl rfl)
theorem dX5_isWay_50 : decode cX5_isWay 50 = .ok (.istore 6, 2) := dk_54 6 (dk_at dksX5_isWay_2 5 rfl rfl)
theorem dX5_isWay_52 : decode cX5_isWay 52 = .ok (.iload 6, 2) := dk_21 6 (dk_at dksX5_isWay_2 7 rfl rfl)
theorem dX5_isWay_54 : decode cX5_isWay 54 = .ok (.ifCond .ne 5, 3) := dk_154 0 5 (dk_at dksX5_isWay_2 9 rfl rfl)
theorem dX5_isWay_57 : decode cX5_isWay 57 = .ok (.iconst 1, 1) := dk_4 (dk_at dksX5_isWay_2 12 rfl rfl)
theorem dX5_isWay_58 : decode cX5_isWay 58 = .ok (.ireturn, 1) := dk_172 (dk_at dksX5_isWay_2 13 rfl rfl)
theorem dX5_isWay_59 : decode cX5_isWay 59 = .ok (.iconst (-1), 1) := dk_2 (dk_at dksX5_isWay_2 14 rfl rfl)
theorem dX5_isWay_60 : decode cX5_isWay 60 = .ok (.istore 7, 2) := dk_54 7 (dk_at dksX5_isWay_2 15 rfl rfl)
theorem dX5_isWay_62 : decode cX5_isWay 62 = .ok (.iconst 0, 1) := dk_3 (dk_at dksX5_isWay_2 17 rfl rfl)
theorem dX5_isWay_63 : decode cX5_isWay 63 = .ok (.istore 8, 2) := dk_54 8 (dk_at dksX5_isWay_2 18 rfl rfl)
theorem dX5_isWay_65 : decode cX5_isWay 65 = .ok (.iload 8, 2) := dk_21 8 (dk_at dksX5_isWay_2 20 rfl rfl)
theorem dX5_isWay_67 : decode cX5_isWay 67 = .ok (.iload 4, 2) := dk_21 4 (dk_at dksX5_isWay_2 22 rfl rfl)
theorem dX5_isWay_69 : decode cX5_isWay 69 = .ok (.if_icmp .ge 97, 3) := dk_162 0 97 (dk_at dksX5_isWay_3 0 rfl rfl)
theorem dX5_isWay_72 : decode cX5_isWay 72 = .ok (.iload 7, 2) := dk_21 7 (dk_at dksX5_isWay_3 3 rfl rfl)
theorem dX5_isWay_74 : decode cX5_isWay 74 = .ok (.iconst (-1), 1) := dk_2 (dk_at dksX5_isWay_3 5 rfl rfl)
theorem dX5_isWay_75 : decode cX5_isWay 75 = .ok (.if_icmp .ne 91, 3) := dk_160 0 91 (dk_at dksX5_isWay_3 6 rfl rfl)
theorem dX5_isWay_78 : decode cX5_isWay 78 = .ok (.iload 5, 2) := dk_21 5 (dk_at dksX5_isWay_3 9 rfl rfl)
theorem dX5_isWay_80 : decode cX5_isWay 80 = .ok (.iload 8, 2) := dk_21 8 (dk_at dksX5_isWay_3 11 rfl rfl)
theorem dX5_isWay_82 : decode cX5_isWay 82 = .ok (.invokestatic 200, 3) := dk_184 0 200 (dk_at dksX5_isWay_3 13 rfl rfl)
theorem dX5_isWay_85 : decode cX5_isWay 85 = .ok (.ifCond .ne 6, 3) := dk_154 0 6 (dk_at dksX5_isWay_3 16 rfl rfl)
theorem dX5_isWay_88 : decode cX5_isWay 88 = .ok (.goto 72, 3) := dk_167 0 72 (dk_at dksX5_isWay_3 19 rfl rfl)
theorem dX5_isWay_91 : decode cX5_isWay 91 = .ok (.iconst 1, 1) := dk_4 (dk_at dksX5_isWay_3 22 rfl rfl)
theorem dX5_isWay_92 : decode cX5_isWay 92 = .ok (.istore 9, 2) := dk_54 9 (dk_at dksX5_isWay_4 0 rfl rfl)
theorem dX5_isWay_94 : decode cX5_isWay 94 = .ok (.iconst 0, 1) := dk_3 (dk_at dksX5_isWay_4 2 rfl rfl)
theorem dX5_isWay_95 : decode cX5_isWay 95 = .ok (.istore 10, 2) := dk_54 10 (dk_at dksX5_isWay_4 3 rfl rfl)
theorem dX5_isWay_97 : decode cX5_isWay 97 = .ok (.iload 10, 2) := dk_21 10 (dk_at dksX5_isWay_4 5 rfl rfl)
theorem dX5_isWay_99 : decode cX5_isWay 99 = .ok (.iload 4, 2) := dk_21 4 (dk_at dksX5_isWay_4 7 rfl rfl)
theorem dX5_isWay_101 : decode cX5_isWay 101 = .ok (.if_icmp .ge 50, 3) := dk_162 0 50 (dk_at dksX5_isWay_4 9 rfl rfl)
theorem dX5_isWay_104 : decode cX5_isWay 104 = .ok (.iload 10, 2) := dk_21 10 (dk_at dksX5_isWay_4 12 rfl rfl)
theorem dX5_isWay_106 : decode cX5_isWay 106 = .ok (.iload 8, 2) := dk_21 8 (dk_at dksX5_isWay_4 14 rfl rfl)
theorem dX5_isWay_108 : decode cX5_isWay 108 = .ok (.if_icmp .eq 37, 3) := dk_159 0 37 (dk_at dksX5_isWay_4 16 rfl rfl)
theorem dX5_isWay_111 : decode cX5_isWay 111 = .ok (.iload 5, 2) := dk_21 5 (dk_at dksX5_isWay_4 19 rfl rfl)
theorem dX5_isWay_113 : decode cX5_isWay 113 = .ok (.iload 10, 2) := dk_21 10 (dk_at dksX5_isWay_4 21 rfl rfl)
theorem dX5_isWay_115 : decode cX5_isWay 115 = .ok (.invokestatic 200, 3) := dk_184 0 200 (dk_at dksX5_isWay_5 0 rfl rfl)
theorem dX5_isWay_118 : decode cX5_isWay 118 = .ok (.ifCond .eq 27, 3) := dk_153 0 27 (dk_at dksX5_isWay_5 3 rfl rfl)
theorem dX5_isWay_121 : decode cX5_isWay 121 = .ok (.aload_n 0, 1) := dk_42 (dk_at dksX5_isWay_5 6 rfl rfl)
theorem dX5_isWay_122 : decode cX5_isWay 122 = .ok (.aload_n 1, 1) := dk_43 (dk_at dksX5_isWay_5 7 rfl rfl)
theorem dX5_isWay_123 : decode cX5_isWay 123 = .ok (.iload_n 2, 1) := dk_28 (dk_at dksX5_isWay_5 8 rfl rfl)
theorem dX5_isWay_124 : decode cX5_isWay 124 = .ok (.iload_n 3, 1) := dk_29 (dk_at dksX5_isWay_5 9 rfl rfl)
theorem dX5_isWay_125 : decode cX5_isWay 125 = .ok (.iload 10, 2) := dk_21 10 (dk_at dksX5_isWay_5 10 rfl rfl)
theorem dX5_isWay_127 : decode cX5_isWay 127 = .ok (.invokevirtual 242, 3) := dk_182 0 242 (dk_at dksX5_isWay_5 12 rfl rfl)
theorem dX5_isWay_130 : decode cX5_isWay 130 = .ok (.aload_n 0, 1) := dk_42 (dk_at dksX5_isWay_5 15 rfl rfl)
theorem dX5_isWay_131 : decode cX5_isWay 131 = .ok (.aload_n 1, 1) := dk_43 (dk_at dksX5_isWay_5 16 rfl rfl)
theorem dX5_isWay_132 : decode cX5_isWay 132 = .ok (.iload_n 2, 1) := dk_28 (dk_at dksX5_isWay_5 17 rfl rfl)
theorem dX5_isWay_133 : decode cX5_isWay 133 = .ok (.iload_n 3, 1) := dk_29 (dk_at dksX5_isWay_5 18 rfl rfl)
theorem dX5_isWay_134 : decode cX5_isWay 134 = .ok (.iload 8, 2) := dk_21 8 (dk_at dksX5_isWay_5 19 rfl rfl)
theorem dX5_isWay_136 : decode cX5_isWay 136 = .ok (.invokevirtual 245, 3) := dk_182 0 245 (dk_at dksX5_isWay_5 21 rfl rfl)
theorem dX5_isWay_139 : decode cX5_isWay 139 = .ok (.if_icmp .ne 6, 3) := dk_160 0 6 (dk_at dksX5_isWay_6 0 rfl rfl)
theorem dX5_isWay_142 : decode cX5_isWay 142 = .ok (.iconst 0, 1) := dk_3 (dk_at dksX5_isWay_6 3 rfl rfl)
theorem dX5_isWay_143 : decode cX5_isWay 143 = .ok (.istore 9, 2) := dk_54 9 (dk_at dksX5_isWay_6 4 rfl rfl)
theorem dX5_isWay_145 : decode cX5_isWay 145 = .ok (.iinc 10 1, 3) := dk_132 10 1 (dk_at dksX5_isWay_6 6 rfl rfl)
theorem dX5_isWay_148 : decode cX5_isWay 148 = .ok (.goto (-51), 3) := dk_167 255 205 (dk_at dksX5_isWay_6 9 rfl rfl)
theorem dX5_isWay_151 : decode cX5_isWay 151 = .ok (.iload 9, 2) := dk_21 9 (dk_at dksX5_isWay_6 12 rfl rfl)
theorem dX5_isWay_153 : decode cX5_isWay 153 = .ok (.ifCond .eq 7, 3) := dk_153 0 7 (dk_at dksX5_isWay_6 14 rfl rfl)
theorem dX5_isWay_156 : decode cX5_isWay 156 = .ok (.iload 8, 2) := dk_21 8 (dk_at dksX5_isWay_6 17 rfl rfl)
theorem dX5_isWay_158 : decode cX5_isWay 158 = .ok (.istore 7, 2) := dk_54 7 (dk_at dksX5_isWay_6 19 rfl rfl)
theorem dX5_isWay_160 : decode cX5_isWay 160 = .ok (.iinc 8 1, 3) := dk_132 8 1 (dk_at dksX5_isWay_6 21 rfl rfl)
theorem dX5_isWay_163 : decode cX5_isWay 163 = .ok (.goto (-98), 3) := dk_167 255 158 (dk_at dksX5_isWay_7 0 rfl rfl)
theorem dX5_isWay_166 : decode cX5_isWay 166 = .ok (.iload 7, 2) := dk_21 7 (dk_at dksX5_isWay_7 3 rfl rfl)
theorem dX5_isWay_168 : decode cX5_isWay 168 = .ok (.iconst (-1), 1) := dk_2 (dk_at dksX5_isWay_7 5 rfl rfl)
theorem dX5_isWay_169 : decode cX5_isWay 169 = .ok (.if_icmp .ne 5, 3) := dk_160 0 5 (dk_at dksX5_isWay_7 6 rfl rfl)
theorem dX5_isWay_172 : decode cX5_isWay 172 = .ok (.iconst 0, 1) := dk_3 (dk_at dksX5_isWay_7 9 rfl rfl)
theorem dX5_isWay_173 : decode cX5_isWay 173 = .ok (.ireturn, 1) := dk_172 (dk_at dksX5_isWay_7 10 rfl rfl)
theorem dX5_isWay_174 : decode cX5_isWay 174 = .ok (.iload 7, 2) := dk_21 7 (dk_at dksX5_isWay_7 11 rfl rfl)
theorem dX5_isWay_176 : decode cX5_isWay 176 = .ok (.istore 8, 2) := dk_54 8 (dk_at dksX5_isWay_7 13 rfl rfl)
theorem dX5_isWay_178 : decode cX5_isWay 178 = .ok (.iload 5, 2) := dk_21 5 (dk_at dksX5_isWay_7 15 rfl rfl)
theorem dX5_isWay_180 : decode cX5_isWay 180 = .ok (.istore 9, 2) := dk_54 9 (dk_at dksX5_isWay_7 17 rfl rfl)
theorem dX5_isWay_182 : decode cX5_isWay 182 = .ok (.iload 8, 2) := dk_21 8 (dk_at dksX5_isWay_7 19 rfl rfl)
theorem dX5_isWay_184 : decode cX5_isWay 184 = .ok (.iconst (-1), 1) := dk_2 (dk_at dksX5_isWay_7 21 rfl rfl)
theorem dX5_isWay_185 : decode cX5_isWay 185 = .ok (.if_icmp .eq 100, 3) := dk_159 0 100 (dk_at dksX5_isWay_8 0 rfl rfl)
theorem dX5_isWay_188 : decode cX5_isWay 188 = .ok (.aload_n 0, 1) := dk_42 (dk_at dksX5_isWay_8 3 rfl rfl)
theorem dX5_isWay_189 : decode cX5_isWay 189 = .ok (.getfield 50, 3) := dk_180 0 50 (dk_at dksX5_isWay_8 4 rfl rfl)
theorem dX5_isWay_192 : decode cX5_isWay 192 = .ok (.aload_n 0, 1) := dk_42 (dk_at dksX5_isWay_8 7 rfl rfl)
theorem dX5_isWay_193 : decode cX5_isWay 193 = .ok (.getfield 239, 3) := dk_180 0 239 (dk_at dksX5_isWay_8 8 rfl rfl)
theorem dX5_isWay_196 : decode cX5_isWay 196 = .ok (.iload 8, 2) := dk_21 8 (dk_at dksX5_isWay_8 11 rfl rfl)
theorem dX5_isWay_198 : decode cX5_isWay 198 = .ok (.iastore, 1) := dk_79 (dk_at dksX5_isWay_8 13 rfl rfl)
theorem dX5_isWay_199 : decode cX5_isWay 199 = .ok (.aload_n 0, 1) := dk_42 (dk_at dksX5_isWay_8 14 rfl rfl)
theorem dX5_isWay_200 : decode cX5_isWay 200 = .ok (.dup, 1) := dk_89 (dk_at dksX5_isWay_8 15 rfl rfl)
theorem dX5_isWay_201 : decode cX5_isWay 201 = .ok (.getfield 239, 3) := dk_180 0 239 (dk_at dksX5_isWay_8 16 rfl rfl)
theorem dX5_isWay_204 : decode cX5_isWay 204 = .ok (.iconst 1, 1) := dk_4 (dk_at dksX5_isWay_8 19 rfl rfl)
theorem dX5_isWay_205 : decode cX5_isWay 205 = .ok (.iadd, 1) := dk_96 (dk_at dksX5_isWay_8 20 rfl rfl)
theorem dX5_isWay_206 : decode cX5_isWay 206 = .ok (.putfield 239, 3) := dk_181 0 239 (dk_at dksX5_isWay_8 21 rfl rfl)
theorem dX5_isWay_209 : decode cX5_isWay 209 = .ok (.iload 9, 2) := dk_21 9 (dk_at dksX5_isWay_9 0 rfl rfl)
theorem dX5_isWay_211 : decode cX5_isWay 211 = .ok (.iconst 1, 1) := dk_4 (dk_at dksX5_isWay_9 2 rfl rfl)
theorem dX5_isWay_212 : decode cX5_isWay 212 = .ok (.iload 8, 2) := dk_21 8 (dk_at dksX5_isWay_9 3 rfl rfl)
theorem dX5_isWay_214 : decode cX5_isWay 214 = .ok (.ishl, 1) := dk_120 (dk_at dksX5_isWay_9 5 rfl rfl)
theorem dX5_isWay_215 : decode cX5_isWay 215 = .ok (.iconst (-1), 1) := dk_2 (dk_at dksX5_isWay_9 6 rfl rfl)
theorem dX5_isWay_216 : decode cX5_isWay 216 = .ok (.ixor, 1) := dk_130 (dk_at dksX5_isWay_9 7 rfl rfl)
theorem dX5_isWay_217 : decode cX5_isWay 217 = .ok (.iand, 1) := dk_126 (dk_at dksX5_isWay_9 8 rfl rfl)
theorem dX5_isWay_218 : decode cX5_isWay 218 = .ok (.istore 9, 2) := dk_54 9 (dk_at dksX5_isWay_9 9 rfl rfl)
theorem dX5_isWay_220 : decode cX5_isWay 220 = .ok (.aload_n 0, 1) := dk_42 (dk_at dksX5_isWay_9 11 rfl rfl)
theorem dX5_isWay_221 : decode cX5_isWay 221 = .ok (.aload_n 1, 1) := dk_43 (dk_at dksX5_isWay_9 12 rfl rfl)
theorem dX5_isWay_222 : decode cX5_isWay 222 = .ok (.iload_n 2, 1) := dk_28 (dk_at dksX5_isWay_9 13 rfl rfl)
theorem dX5_isWay_223 : decode cX5_isWay 223 = .ok (.iload_n 3, 1) := dk_29 (dk_at dksX5_isWay_9 14 rfl rfl)
theorem dX5_isWay_224 : decode cX5_isWay 224 = .ok (.iload 8, 2) := dk_21 8 (dk_at dksX5_isWay_9 15 rfl rfl)
theorem dX5_isWay_226 : decode cX5_isWay 226 = .ok (.invokevirtual 242, 3) := dk_182 0 242 (dk_at dksX5_isWay_9 17 rfl rfl)
theorem dX5_isWay_229 : decode cX5_isWay 229 = .ok (.istore 10, 2) := dk_54 10 (dk_at dksX5_isWay_9 20 rfl rfl)
theorem dX5_isWay_231 : decode cX5_isWay 231 = .ok (.iconst (-1), 1) := dk_2 (dk_at dksX5_isWay_9 22 rfl rfl)
theorem dX5_isWay_232 : decode cX5_isWay 232 = .ok (.istore 11, 2) := dk_54 11 (dk_at dksX5_isWay_10 0 rfl rfl)
theorem dX5_isWay_234 : decode cX5_isWay 234 = .ok (.iconst 0, 1) := dk_3 (dk_at dksX5_isWay_10 2 rfl rfl)
theorem dX5_isWay_235 : decode cX5_isWay 235 = .ok (.istore 12, 2) := dk_54 12 (dk_at dksX5_isWay_10 3 rfl rfl)
theorem dX5_isWay_237 : decode cX5_isWay 237 = .ok (.iload 12, 2) := dk_21 12 (dk_at dksX5_isWay_10 5 rfl rfl)
theorem dX5_isWay_239 : decode cX5_isWay 239 = .ok (.iload 4, 2) := dk_21 4 (dk_at dksX5_isWay_10 7 rfl rfl)
theorem dX5_isWay_241 : decode cX5_isWay 241 = .ok (.if_icmp .ge 37, 3) := dk_162 0 37 (dk_at dksX5_isWay_10 9 rfl rfl)
theorem dX5_isWay_244 : decode cX5_isWay 244 = .ok (.iload 9, 2) := dk_21 9 (dk_at dksX5_isWay_10 12 rfl rfl)
theorem dX5_isWay_246 : decode cX5_isWay 246 = .ok (.iload 12, 2) := dk_21 12 (dk_at dksX5_isWay_10 14 rfl rfl)
theorem dX5_isWay_248 : decode cX5_isWay 248 = .ok (.invokestatic 200, 3) := dk_184 0 200 (dk_at dksX5_isWay_10 16 rfl rfl)
theorem dX5_isWay_251 : decode cX5_isWay 251 = .ok (.ifCond .eq 21, 3) := dk_153 0 21 (dk_at dksX5_isWay_10 19 rfl rfl)
theorem dX5_isWay_254 : decode cX5_isWay 254 = .ok (.aload_n 0, 1) := dk_42 (dk_at dksX5_isWay_10 22 rfl rfl)
theorem dX5_isWay_255 : decode cX5_isWay 255 = .ok (.aload_n 1, 1) := dk_43 (dk_at dksX5_isWay_10 23 rfl rfl)
theorem dX5_isWay_256 : decode cX5_isWay 256 = .ok (.iload_n 2, 1) := dk_28 (dk_at dksX5_isWay_11 0 rfl rfl)
theorem dX5_isWay_257 : decode cX5_isWay 257 = .ok (.iload_n 3, 1) := dk_29 (dk_at dksX5_isWay_11 1 rfl rfl)
theorem dX5_isWay_258 : decode cX5_isWay 258 = .ok (.iload 12, 2) := dk_21 12 (dk_at dksX5_isWay_11 2 rfl rfl)
theorem dX5_isWay_260 : decode cX5_isWay 260 = .ok (.invokevirtual 245, 3) := dk_182 0 245 (dk_at dksX5_isWay_11 4 rfl rfl)
theorem dX5_isWay_263 : decode cX5_isWay 263 = .ok (.iload 10, 2) := dk_21 10 (dk_at dksX5_isWay_11 7 rfl rfl)
theorem dX5_isWay_265 : decode cX5_isWay 265 = .ok (.if_icmp .ne 7, 3) := dk_160 0 7 (dk_at dksX5_isWay_11 9 rfl rfl)
theorem dX5_isWay_268 : decode cX5_isWay 268 = .ok (.iload 12, 2) := dk_21 12 (dk_at dksX5_isWay_11 12 rfl rfl)
theorem dX5_isWay_270 : decode cX5_isWay 270 = .ok (.istore 11, 2) := dk_54 11 (dk_at dksX5_isWay_11 14 rfl rfl)
theorem dX5_isWay_272 : decode cX5_isWay 272 = .ok (.iinc 12 1, 3) := dk_132 12 1 (dk_at dksX5_isWay_11 16 rfl rfl)
theorem dX5_isWay_275 : decode cX5_isWay 275 = .ok (.goto (-38), 3) := dk_167 255 218 (dk_at dksX5_isWay_11 19 rfl rfl)
theorem dX5_isWay_278 : decode cX5_isWay 278 = .ok (.iload 11, 2) := dk_21 11 (dk_at dksX5_isWay_11 22 rfl rfl)
theorem dX5_isWay_280 : decode cX5_isWay 280 = .ok (.istore 8, 2) := dk_54 8 (dk_at dksX5_isWay_12 0 rfl rfl)
theorem dX5_isWay_282 : decode cX5_isWay 282 = .ok (.goto (-100), 3) := dk_167 255 156 (dk_at dksX5_isWay_12 2 rfl rfl)
theorem dX5_isWay_285 : decode cX5_isWay 285 = .ok (.aload_n 0, 1) := dk_42 (dk_at dksX5_isWay_12 5 rfl rfl)
theorem dX5_isWay_286 : decode cX5_isWay 286 = .ok (.getfield 239, 3) := dk_180 0 239 (dk_at dksX5_isWay_12 6 rfl rfl)
theorem dX5_isWay_289 : decode cX5_isWay 289 = .ok (.iload 6, 2) := dk_21 6 (dk_at dksX5_isWay_12 9 rfl rfl)
theorem dX5_isWay_291 : decode cX5_isWay 291 = .ok (.if_icmp .ne 7, 3) := dk_160 0 7 (dk_at dksX5_isWay_12 11 rfl rfl)
theorem dX5_isWay_294 : decode cX5_isWay 294 = .ok (.iconst 1, 1) := dk_4 (dk_at dksX5_isWay_12 14 rfl rfl)
theorem dX5_isWay_295 : decode cX5_isWay 295 = .ok (.goto 4, 3) := dk_167 0 4 (dk_at dksX5_isWay_12 15 rfl rfl)
theorem dX5_isWay_298 : decode cX5_isWay 298 = .ok (.iconst 0, 1) := dk_3 (dk_at dksX5_isWay_12 18 rfl rfl)
theorem dX5_isWay_299 : decode cX5_isWay 299 = .ok (.ireturn, 1) := dk_172 (dk_at dksX5_isWay_12 19 rfl rfl)
abbrev cX5_headOf : ByteArray := prog_9_method_50_code
def yX5_headOf : MethodName := ⟨RX5, "headOf", "([IIII)I"⟩
def dkwX5_headOf_1 : List UInt8 := [46, 167, 0, 15, 42, 180, 0, 41, 16, 6, 28, 104, 21, 4, 96, 46, 172]
abbrev dktX5_headOf_1 : List UInt8 := dkwX5_headOf_1 ++ []
def dkwX5_headOf_0 : List UInt8 := [43, 16, 6, 21, 4, 104, 29, 96, 46, 4, 160, 0, 18, 42, 180, 0, 44, 16, 6, 28, 104, 21, 4, 96]
abbrev dktX5_headOf_0 : List UInt8 := dkwX5_headOf_0 ++ dktX5_headOf_1
theorem dksX5_headOf_0 : cX5_headOf.data.toList.drop 0 = dktX5_headOf_0 := by decide +kernel
theorem dksX5_headOf_1 : cX5_headOf.data.toList.drop 24 = dktX5_headOf_1 := dk_seg dksX5_headOf_0 24 rfl rfl
theorem dX5_headOf_0 : decode cX5_headOf 0 = .ok (.aload_n 1, 1) := dk_43 (dk_at dksX5_headOf_0 0 rfl rfl)
theorem dX5_headOf_1 : decode cX5_headOf 1 = .ok (.bipush 6, 2) := dk_16 6 (dk_at dksX5_headOf_0 1 rfl rfl)
theorem dX5_headOf_3 : decode cX5_headOf 3 = .ok (.iload 4, 2) := dk_21 4 (dk_at dksX5_headOf_0 3 rfl rfl)
theorem dX5_headOf_5 : decode cX5_headOf 5 = .ok (.imul, 1) := dk_104 (dk_at dksX5_headOf_0 5 rfl rfl)
theorem dX5_headOf_6 : decode cX5_headOf 6 = .ok (.iload_n 3, 1) := dk_29 (dk_at dksX5_headOf_0 6 rfl rfl)
theorem dX5_headOf_7 : decode cX5_headOf 7 = .ok (.iadd, 1) := dk_96 (dk_at dksX5_headOf_0 7 rfl rfl)
theorem dX5_headOf_8 : decode cX5_headOf 8 = .ok (.iaload, 1) := dk_46 (dk_at dksX5_headOf_0 8 rfl rfl)
theorem dX5_headOf_9 : decode cX5_headOf 9 = .ok (.iconst 1, 1) := dk_4 (dk_at dksX5_headOf_0 9 rfl rfl)
theorem dX5_headOf_10 : decode cX5_headOf 10 = .ok (.if_icmp .ne 18, 3) := dk_160 0 18 (dk_at dksX5_headOf_0 10 rfl rfl)
theorem dX5_headOf_13 : decode cX5_headOf 13 = .ok (.aload_n 0, 1) := dk_42 (dk_at dksX5_headOf_0 13 rfl rfl)
theorem dX5_headOf_14 : decode cX5_headOf 14 = .ok (.getfield 44, 3) := dk_180 0 44 (dk_at dksX5_headOf_0 14 rfl rfl)
theorem dX5_headOf_17 : decode cX5_headOf 17 = .ok (.bipush 6, 2) := dk_16 6 (dk_at dksX5_headOf_0 17 rfl rfl)
theorem dX5_headOf_19 : decode cX5_headOf 19 = .ok (.iload_n 2, 1) := dk_28 (dk_at dksX5_headOf_0 19 rfl rfl)
theorem dX5_headOf_20 : decode cX5_headOf 20 = .ok (.imul, 1) := dk_104 (dk_at dksX5_headOf_0 20 rfl rfl)
theorem dX5_headOf_21 : decode cX5_headOf 21 = .ok (.iload 4, 2) := dk_21 4 (dk_at dksX5_headOf_0 21 rfl rfl)
theorem dX5_headOf_23 : decode cX5_headOf 23 = .ok (.iadd, 1) := dk_96 (dk_at dksX5_headOf_0 23 rfl rfl)
theorem dX5_headOf_24 : decode cX5_headOf 24 = .ok (.iaload, 1) := dk_46 (dk_at dksX5_headOf_1 0 rfl rfl)
theorem dX5_headOf_25 : decode cX5_headOf 25 = .ok (.goto 15, 3) := dk_167 0 15 (dk_at dksX5_headOf_1 1 rfl rfl)
theorem dX5_headOf_28 : decode cX5_headOf 28 = .ok (.aload_n 0, 1) := dk_42 (dk_at dksX5_headOf_1 4 rfl rfl)
theorem dX5_headOf_29 : decode cX5_headOf 29 = .ok (.getfield 41, 3) := dk_180 0 41 (dk_at dksX5_headOf_1 5 rfl rfl)
theorem dX5_headOf_32 : decode cX5_headOf 32 = .ok (.bipush 6, 2) := dk_16 6 (dk_at dksX5_headOf_1 8 rfl rfl)
theorem dX5_headOf_34 : decode cX5_headOf 34 = .ok (.iload_n 2, 1) := dk_28 (dk_at dksX5_headOf_1 10 rfl rfl)
theorem dX5_headOf_35 : decode cX5_headOf 35 = .ok (.imul, 1) := dk_104 (dk_at dksX5_headOf_1 11 rfl rfl)
theorem dX5_headOf_36 : decode cX5_headOf 36 = .ok (.iload 4, 2) := dk_21 4 (dk_at dksX5_headOf_1 12 rfl rfl)
theorem dX5_headOf_38 : decode cX5_headOf 38 = .ok (.iadd, 1) := dk_96 (dk_at dksX5_headOf_1 14 rfl rfl)
theorem dX5_headOf_39 : decode cX5_headOf 39 = .ok (.iaload, 1) := dk_46 (dk_at dksX5_headOf_1 15 rfl rfl)
theorem dX5_headOf_40 : decode cX5_headOf 40 = .ok (.ireturn, 1) := dk_172 (dk_at dksX5_headOf_1 16 rfl rfl)
abbrev cX5_tailOf : ByteArray := prog_9_method_51_code
def yX5_tailOf : MethodName := ⟨RX5, "tailOf", "([IIII)I"⟩
def dkwX5_tailOf_1 : List UInt8 := [46, 167, 0, 15, 42, 180, 0, 44, 16, 6, 28, 104, 21, 4, 96, 46, 172]
abbrev dktX5_tailOf_1 : List UInt8 := dkwX5_tailOf_1 ++ []
def dkwX5_tailOf_0 : List UInt8 := [43, 16, 6, 21, 4, 104, 29, 96, 46, 4, 160, 0, 18, 42, 180, 0, 41, 16, 6, 28, 104, 21, 4, 96]
abbrev dktX5_tailOf_0 : List UInt8 := dkwX5_tailOf_0 ++ dktX5_tailOf_1
theorem dksX5_tailOf_0 : cX5_tailOf.data.toList.drop 0 = dktX5_tailOf_0 := by decide +kernel
theorem dksX5_tailOf_1 : cX5_tailOf.data.toList.drop 24 = dktX5_tailOf_1 := dk_seg dksX5_tailOf_0 24 rfl rfl
theorem dX5_tailOf_0 : decode cX5_tailOf 0 = .ok (.aload_n 1, 1) := dk_43 (dk_at dksX5_tailOf_0 0 rfl rfl)
theorem dX5_tailOf_1 : decode cX5_tailOf 1 = .ok (.bipush 6, 2) := dk_16 6 (dk_at dksX5_tailOf_0 1 rfl rfl)
theorem dX5_tailOf_3 : decode cX5_tailOf 3 = .ok (.iload 4, 2) := dk_21 4 (dk_at dksX5_tailOf_0 3 rfl rfl)
theorem dX5_tailOf_5 : decode cX5_tailOf 5 = .ok (.imul, 1) := dk_104 (dk_at dksX5_tailOf_0 5 rfl rfl)
theorem dX5_tailOf_6 : decode cX5_tailOf 6 = .ok (.iload_n 3, 1) := dk_29 (dk_at dksX5_tailOf_0 6 rfl rfl)
theorem dX5_tailOf_7 : decode cX5_tailOf 7 = .ok (.iadd, 1) := dk_96 (dk_at dksX5_tailOf_0 7 rfl rfl)
theorem dX5_tailOf_8 : decode cX5_tailOf 8 = .ok (.iaload, 1) := dk_46 (dk_at dksX5_tailOf_0 8 rfl rfl)
theorem dX5_tailOf_9 : decode cX5_tailOf 9 = .ok (.iconst 1, 1) := dk_4 (dk_at dksX5_tailOf_0 9 rfl rfl)
theorem dX5_tailOf_10 : decode cX5_tailOf 10 = .ok (.if_icmp .ne 18, 3) := dk_160 0 18 (dk_at dksX5_tailOf_0 10 rfl rfl)
theorem dX5_tailOf_13 : decode cX5_tailOf 13 = .ok (.aload_n 0, 1) := dk_42 (dk_at dksX5_tailOf_0 13 rfl rfl)
theorem dX5_tailOf_14 : decode cX5_tailOf 14 = .ok (.getfield 41, 3) := dk_180 0 41 (dk_at dksX5_tailOf_0 14 rfl rfl)
theorem dX5_tailOf_17 : decode cX5_tailOf 17 = .ok (.bipush 6, 2) := dk_16 6 (dk_at dksX5_tailOf_0 17 rfl rfl)
theorem dX5_tailOf_19 : decode cX5_tailOf 19 = .ok (.iload_n 2, 1) := dk_28 (dk_at dksX5_tailOf_0 19 rfl rfl)
theorem dX5_tailOf_20 : decode cX5_tailOf 20 = .ok (.imul, 1) := dk_104 (dk_at dksX5_tailOf_0 20 rfl rfl)
theorem dX5_tailOf_21 : decode cX5_tailOf 21 = .ok (.iload 4, 2) := dk_21 4 (dk_at dksX5_tailOf_0 21 rfl rfl)
theorem dX5_tailOf_23 : decode cX5_tailOf 23 = .ok (.iadd, 1) := dk_96 (dk_at dksX5_tailOf_0 23 rfl rfl)
theorem dX5_tailOf_24 : decode cX5_tailOf 24 = .ok (.iaload, 1) := dk_46 (dk_at dksX5_tailOf_1 0 rfl rfl)
theorem dX5_tailOf_25 : decode cX5_tailOf 25 = .ok (.goto 15, 3) := dk_167 0 15 (dk_at dksX5_tailOf_1 1 rfl rfl)
theorem dX5_tailOf_28 : decode cX5_tailOf 28 = .ok (.aload_n 0, 1) := dk_42 (dk_at dksX5_tailOf_1 4 rfl rfl)
theorem dX5_tailOf_29 : decode cX5_tailOf 29 = .ok (.getfield 44, 3) := dk_180 0 44 (dk_at dksX5_tailOf_1 5 rfl rfl)
theorem dX5_tailOf_32 : decode cX5_tailOf 32 = .ok (.bipush 6, 2) := dk_16 6 (dk_at dksX5_tailOf_1 8 rfl rfl)
theorem dX5_tailOf_34 : decode cX5_tailOf 34 = .ok (.iload_n 2, 1) := dk_28 (dk_at dksX5_tailOf_1 10 rfl rfl)
theorem dX5_tailOf_35 : decode cX5_tailOf 35 = .ok (.imul, 1) := dk_104 (dk_at dksX5_tailOf_1 11 rfl rfl)
theorem dX5_tailOf_36 : decode cX5_tailOf 36 = .ok (.iload 4, 2) := dk_21 4 (dk_at dksX5_tailOf_1 12 rfl rfl)
theorem dX5_tailOf_38 : decode cX5_tailOf 38 = .ok (.iadd, 1) := dk_96 (dk_at dksX5_tailOf_1 14 rfl rfl)
theorem dX5_tailOf_39 : decode cX5_tailOf 39 = .ok (.iaload, 1) := dk_46 (dk_at dksX5_tailOf_1 15 rfl rfl)
theorem dX5_tailOf_40 : decode cX5_tailOf 40 = .ok (.ireturn, 1) := dk_172 (dk_at dksX5_tailOf_1 16 rfl rfl)
abbrev cX5_arc : ByteArray := prog_9_method_59_code
def yX5_arc : MethodName := ⟨RX5, "arc", "(III)I"⟩
def dkwX5_arc_4 : List UInt8 := [104, 28, 96, 46, 172]
abbrev dktX5_arc_4 : List UInt8 := dkwX5_arc_4 ++ []
def dkwX5_arc_3 : List UInt8 := [154, 0, 17, 42, 180, 0, 41, 16, 6, 27, 104, 28, 96, 46, 167, 0, 14, 42, 180, 0, 44, 16, 6, 27]
abbrev dktX5_arc_3 : List UInt8 := dkwX5_arc_3 ++ dktX5_arc_4
def dkwX5_arc_2 : List UInt8 := [162, 0, 21, 29, 133, 9, 10, 184, 0, 140, 153, 0, 11, 42, 27, 182, 1, 12, 154, 0, 5, 2, 172, 29]
abbrev dktX5_arc_2 : List UInt8 := dkwX5_arc_2 ++ dktX5_arc_3
def dkwX5_arc_1 : List UInt8 := [153, 0, 45, 28, 155, 0, 41, 28, 42, 180, 0, 13, 27, 154, 0, 8, 16, 36, 167, 0, 5, 16, 37, 46]
abbrev dktX5_arc_1 : List UInt8 := dkwX5_arc_1 ++ dktX5_arc_2
def dkwX5_arc_0 : List UInt8 := [42, 3, 181, 0, 83, 42, 180, 0, 13, 16, 36, 46, 153, 0, 55, 27, 133, 9, 10, 184, 0, 140]
abbrev dktX5_arc_0 : List UInt8 := dkwX5_arc_0 ++ dktX5_arc_1
theorem dksX5_arc_0 : cX5_arc.data.toList.drop 0 = dktX5_arc_0 := by decide +kernel
theorem dksX5_arc_1 : cX5_arc.data.toList.drop 22 = dktX5_arc_1 := dk_seg dksX5_arc_0 22 rfl rfl
theorem dksX5_arc_2 : cX5_arc.data.toList.drop 46 = dktX5_arc_2 := dk_seg dksX5_arc_1 24 rfl rfl
theorem dksX5_arc_3 : cX5_arc.data.toList.drop 70 = dktX5_arc_3 := dk_seg dksX5_arc_2 24 rfl rfl
theorem dksX5_arc_4 : cX5_arc.data.toList.drop 94 = dktX5_arc_4 := dk_seg dksX5_arc_3 24 rfl rfl
theorem dX5_arc_0 : decode cX5_arc 0 = .ok (.aload_n 0, 1) := dk_42 (dk_at dksX5_arc_0 0 rfl rfl)
theorem dX5_arc_1 : decode cX5_arc 1 = .ok (.iconst 0, 1) := dk_3 (dk_at dksX5_arc_0 1 rfl rfl)
theorem dX5_arc_2 : decode cX5_arc 2 = .ok (.putfield 83, 3) := dk_181 0 83 (dk_at dksX5_arc_0 2 rfl rfl)
theorem dX5_arc_5 : decode cX5_arc 5 = .ok (.aload_n 0, 1) := dk_42 (dk_at dksX5_arc_0 5 rfl rfl)
theorem dX5_arc_6 : decode cX5_arc 6 = .ok (.getfield 13, 3) := dk_180 0 13 (dk_at dksX5_arc_0 6 rfl rfl)
theorem dX5_arc_9 : decode cX5_arc 9 = .ok (.bipush 36, 2) := dk_16 36 (dk_at dksX5_arc_0 9 rfl rfl)
theorem dX5_arc_11 : decode cX5_arc 11 = .ok (.iaload, 1) := dk_46 (dk_at dksX5_arc_0 11 rfl rfl)
theorem dX5_arc_12 : decode cX5_arc 12 = .ok (.ifCond .eq 55, 3) := dk_153 0 55 (dk_at dksX5_arc_0 12 rfl rfl)
theorem dX5_arc_15 : decode cX5_arc 15 = .ok (.iload_n 1, 1) := dk_27 (dk_at dksX5_arc_0 15 rfl rfl)
theorem dX5_arc_16 : decode cX5_arc 16 = .ok (.i2l, 1) := dk_133 (dk_at dksX5_arc_0 16 rfl rfl)
theorem dX5_arc_17 : decode cX5_arc 17 = .ok (.lconst 0, 1) := dk_9 (dk_at dksX5_arc_0 17 rfl rfl)
theorem dX5_arc_18 : decode cX5_arc 18 = .ok (.lconst 1, 1) := dk_10 (dk_at dksX5_arc_0 18 rfl rfl)
theorem dX5_arc_19 : decode cX5_arc 19 = .ok (.invokestatic 140, 3) := dk_184 0 140 (dk_at dksX5_arc_0 19 rfl rfl)
theorem dX5_arc_22 : decode cX5_arc 22 = .ok (.ifCond .eq 45, 3) := dk_153 0 45 (dk_at dksX5_arc_1 0 rfl rfl)
theorem dX5_arc_25 : decode cX5_arc 25 = .ok (.iload_n 2, 1) := dk_28 (dk_at dksX5_arc_1 3 rfl rfl)
theorem dX5_arc_26 : decode cX5_arc 26 = .ok (.ifCond .lt 41, 3) := dk_155 0 41 (dk_at dksX5_arc_1 4 rfl rfl)
theorem dX5_arc_29 : decode cX5_arc 29 = .ok (.iload_n 2, 1) := dk_28 (dk_at dksX5_arc_1 7 rfl rfl)
theorem dX5_arc_30 : decode cX5_arc 30 = .ok (.aload_n 0, 1) := dk_42 (dk_at dksX5_arc_1 8 rfl rfl)
theorem dX5_arc_31 : decode cX5_arc 31 = .ok (.getfield 13, 3) := dk_180 0 13 (dk_at dksX5_arc_1 9 rfl rfl)
theorem dX5_arc_34 : decode cX5_arc 34 = .ok (.iload_n 1, 1) := dk_27 (dk_at dksX5_arc_1 12 rfl rfl)
theorem dX5_arc_35 : decode cX5_arc 35 = .ok (.ifCond .ne 8, 3) := dk_154 0 8 (dk_at dksX5_arc_1 13 rfl rfl)
theorem dX5_arc_38 : decode cX5_arc 38 = .ok (.bipush 36, 2) := dk_16 36 (dk_at dksX5_arc_1 16 rfl rfl)
theorem dX5_arc_40 : decode cX5_arc 40 = .ok (.goto 5, 3) := dk_167 0 5 (dk_at dksX5_arc_1 18 rfl rfl)
theorem dX5_arc_43 : decode cX5_arc 43 = .ok (.bipush 37, 2) := dk_16 37 (dk_at dksX5_arc_1 21 rfl rfl)
theorem dX5_arc_45 : decode cX5_arc 45 = .ok (.iaload, 1) := dk_46 (dk_at dksX5_arc_1 23 rfl rfl)
theorem dX5_arc_46 : decode cX5_arc 46 = .ok (.if_icmp .ge 21, 3) := dk_162 0 21 (dk_at dksX5_arc_2 0 rfl rfl)
theorem dX5_arc_49 : decode cX5_arc 49 = .ok (.iload_n 3, 1) := dk_29 (dk_at dksX5_arc_2 3 rfl rfl)
theorem dX5_arc_50 : decode cX5_arc 50 = .ok (.i2l, 1) := dk_133 (dk_at dksX5_arc_2 4 rfl rfl)
theorem dX5_arc_51 : decode cX5_arc 51 = .ok (.lconst 0, 1) := dk_9 (dk_at dksX5_arc_2 5 rfl rfl)
theorem dX5_arc_52 : decode cX5_arc 52 = .ok (.lconst 1, 1) := dk_10 (dk_at dksX5_arc_2 6 rfl rfl)
theorem dX5_arc_53 : decode cX5_arc 53 = .ok (.invokestatic 140, 3) := dk_184 0 140 (dk_at dksX5_arc_2 7 rfl rfl)
theorem dX5_arc_56 : decode cX5_arc 56 = .ok (.ifCond .eq 11, 3) := dk_153 0 11 (dk_at dksX5_arc_2 10 rfl rfl)
theorem dX5_arc_59 : decode cX5_arc 59 = .ok (.aload_n 0, 1) := dk_42 (dk_at dksX5_arc_2 13 rfl rfl)
theorem dX5_arc_60 : decode cX5_arc 60 = .ok (.iload_n 1, 1) := dk_27 (dk_at dksX5_arc_2 14 rfl rfl)
theorem dX5_arc_61 : decode cX5_arc 61 = .ok (.invokevirtual 268, 3) := dk_182 1 12 (dk_at dksX5_arc_2 15 rfl rfl)
theorem dX5_arc_64 : decode cX5_arc 64 = .ok (.ifCond .ne 5, 3) := dk_154 0 5 (dk_at dksX5_arc_2 18 rfl rfl)
theorem dX5_arc_67 : decode cX5_arc 67 = .ok (.iconst (-1), 1) := dk_2 (dk_at dksX5_arc_2 21 rfl rfl)
theorem dX5_arc_68 : decode cX5_arc 68 = .ok (.ireturn, 1) := dk_172 (dk_at dksX5_arc_2 22 rfl rfl)
theorem dX5_arc_69 : decode cX5_arc 69 = .ok (.iload_n 3, 1) := dk_29 (dk_at dksX5_arc_2 23 rfl rfl)
theorem dX5_arc_70 : decode cX5_arc 70 = .ok (.ifCond .ne 17, 3) := dk_154 0 17 (dk_at dksX5_arc_3 0 rfl rfl)
theorem dX5_arc_73 : decode cX5_arc 73 = .ok (.aload_n 0, 1) := dk_42 (dk_at dksX5_arc_3 3 rfl rfl)
theorem dX5_arc_74 : decode cX5_arc 74 = .ok (.getfield 41, 3) := dk_180 0 41 (dk_at dksX5_arc_3 4 rfl rfl)
theorem dX5_arc_77 : decode cX5_arc 77 = .ok (.bipush 6, 2) := dk_16 6 (dk_at dksX5_arc_3 7 rfl rfl)
theorem dX5_arc_79 : decode cX5_arc 79 = .ok (.iload_n 1, 1) := dk_27 (dk_at dksX5_arc_3 9 rfl rfl)
theorem dX5_arc_80 : decode cX5_arc 80 = .ok (.imul, 1) := dk_104 (dk_at dksX5_arc_3 10 rfl rfl)
theorem dX5_arc_81 : decode cX5_arc 81 = .ok (.iload_n 2, 1) := dk_28 (dk_at dksX5_arc_3 11 rfl rfl)
theorem dX5_arc_82 : decode cX5_arc 82 = .ok (.iadd, 1) := dk_96 (dk_at dksX5_arc_3 12 rfl rfl)
theorem dX5_arc_83 : decode cX5_arc 83 = .ok (.iaload, 1) := dk_46 (dk_at dksX5_arc_3 13 rfl rfl)
theorem dX5_arc_84 : decode cX5_arc 84 = .ok (.goto 14, 3) := dk_167 0 14 (dk_at dksX5_arc_3 14 rfl rfl)
theorem dX5_arc_87 : decode cX5_arc 87 = .ok (.aload_n 0, 1) := dk_42 (dk_at dksX5_arc_3 17 rfl rfl)
theorem dX5_arc_88 : decode cX5_arc 88 = .ok (.getfield 44, 3) := dk_180 0 44 (dk_at dksX5_arc_3 18 rfl rfl)
theorem dX5_arc_91 : decode cX5_arc 91 = .ok (.bipush 6, 2) := dk_16 6 (dk_at dksX5_arc_3 21 rfl rfl)
theorem dX5_arc_93 : decode cX5_arc 93 = .ok (.iload_n 1, 1) := dk_27 (dk_at dksX5_arc_3 23 rfl rfl)
theorem dX5_arc_94 : decode cX5_arc 94 = .ok (.imul, 1) := dk_104 (dk_at dksX5_arc_4 0 rfl rfl)
theorem dX5_arc_95 : decode cX5_arc 95 = .ok (.iload_n 2, 1) := dk_28 (dk_at dksX5_arc_4 1 rfl rfl)
theorem dX5_arc_96 : decode cX5_arc 96 = .ok (.iadd, 1) := dk_96 (dk_at dksX5_arc_4 2 rfl rfl)
theorem dX5_arc_97 : decode cX5_arc 97 = .ok (.iaload, 1) := dk_46 (dk_at dksX5_arc_4 3 rfl rfl)
theorem dX5_arc_98 : decode cX5_arc 98 = .ok (.ireturn, 1) := dk_172 (dk_at dksX5_arc_4 4 rfl rfl)
abbrev cX5_way : ByteArray := prog_9_method_60_code
def yX5_way : MethodName := ⟨RX5, "way", "(III)I"⟩
def dkwX5_way_4 : List UInt8 := [29, 46, 167, 0, 4, 2, 172]
abbrev dktX5_way_4 : List UInt8 := dkwX5_way_4 ++ []
def dkwX5_way_3 : List UInt8 := [42, 180, 0, 47, 16, 36, 46, 182, 0, 248, 54, 4, 29, 42, 180, 0, 239, 162, 0, 12, 42, 180, 0, 50]
abbrev dktX5_way_3 : List UInt8 := dkwX5_way_3 ++ dktX5_way_4
def dkwX5_way_2 : List UInt8 := [162, 0, 15, 29, 155, 0, 11, 42, 27, 182, 1, 12, 154, 0, 5, 2, 172, 42, 42, 180, 0, 47, 27, 28]
abbrev dktX5_way_2 : List UInt8 := dkwX5_way_2 ++ dktX5_way_3
def dkwX5_way_1 : List UInt8 := [153, 0, 39, 28, 155, 0, 35, 28, 42, 180, 0, 13, 27, 154, 0, 8, 16, 37, 167, 0, 5, 16, 36, 46]
abbrev dktX5_way_1 : List UInt8 := dkwX5_way_1 ++ dktX5_way_2
def dkwX5_way_0 : List UInt8 := [42, 3, 181, 0, 83, 42, 180, 0, 13, 16, 36, 46, 153, 0, 49, 27, 133, 9, 10, 184, 0, 140]
abbrev dktX5_way_0 : List UInt8 := dkwX5_way_0 ++ dktX5_way_1
theorem dksX5_way_0 : cX5_way.data.toList.drop 0 = dktX5_way_0 := by decide +kernel
theorem dksX5_way_1 : cX5_way.data.toList.drop 22 = dktX5_way_1 := dk_seg dksX5_way_0 22 rfl rfl
theorem dksX5_way_2 : cX5_way.data.toList.drop 46 = dktX5_way_2 := dk_seg dksX5_way_1 24 rfl rfl
theorem dksX5_way_3 : cX5_way.data.toList.drop 70 = dktX5_way_3 := dk_seg dksX5_way_2 24 rfl rfl
theorem dksX5_way_4 : cX5_way.data.toList.drop 94 = dktX5_way_4 := dk_seg dksX5_way_3 24 rfl rfl
theorem dX5_way_0 : decode cX5_way 0 = .ok (.aload_n 0, 1) := dk_42 (dk_at dksX5_way_0 0 rfl rfl)
theorem dX5_way_1 : decode cX5_way 1 = .ok (.iconst 0, 1) := dk_3 (dk_at dksX5_way_0 1 rfl rfl)
theorem dX5_way_2 : decode cX5_way 2 = .ok (.putfield 83, 3) := dk_181 0 83 (dk_at dksX5_way_0 2 rfl rfl)
theorem dX5_way_5 : decode cX5_way 5 = .ok (.aload_n 0, 1) := dk_42 (dk_at dksX5_way_0 5 rfl rfl)
theorem dX5_way_6 : decode cX5_way 6 = .ok (.getfield 13, 3) := dk_180 0 13 (dk_at dksX5_way_0 6 rfl rfl)
theorem dX5_way_9 : decode cX5_way 9 = .ok (.bipush 36, 2) := dk_16 36 (dk_at dksX5_way_0 9 rfl rfl)
theorem dX5_way_11 : decode cX5_way 11 = .ok (.iaload, 1) := dk_46 (dk_at dksX5_way_0 11 rfl rfl)
theorem dX5_way_12 : decode cX5_way 12 = .ok (.ifCond .eq 49, 3) := dk_153 0 49 (dk_at dksX5_way_0 12 rfl rfl)
theorem dX5_way_15 : decode cX5_way 15 = .ok (.iload_n 1, 1) := dk_27 (dk_at dksX5_way_0 15 rfl rfl)
theorem dX5_way_16 : decode cX5_way 16 = .ok (.i2l, 1) := dk_133 (dk_at dksX5_way_0 16 rfl rfl)
theorem dX5_way_17 : decode cX5_way 17 = .ok (.lconst 0, 1) := dk_9 (dk_at dksX5_way_0 17 rfl rfl)
theorem dX5_way_18 : decode cX5_way 18 = .ok (.lconst 1, 1) := dk_10 (dk_at dksX5_way_0 18 rfl rfl)
theorem dX5_way_19 : decode cX5_way 19 = .ok (.invokestatic 140, 3) := dk_184 0 140 (dk_at dksX5_way_0 19 rfl rfl)
theorem dX5_way_22 : decode cX5_way 22 = .ok (.ifCond .eq 39, 3) := dk_153 0 39 (dk_at dksX5_way_1 0 rfl rfl)
theorem dX5_way_25 : decode cX5_way 25 = .ok (.iload_n 2, 1) := dk_28 (dk_at dksX5_way_1 3 rfl rfl)
theorem dX5_way_26 : decode cX5_way 26 = .ok (.ifCond .lt 35, 3) := dk_155 0 35 (dk_at dksX5_way_1 4 rfl rfl)
theorem dX5_way_29 : decode cX5_way 29 = .ok (.iload_n 2, 1) := dk_28 (dk_at dksX5_way_1 7 rfl rfl)
theorem dX5_way_30 : decode cX5_way 30 = .ok (.aload_n 0, 1) := dk_42 (dk_at dksX5_way_1 8 rfl rfl)
theorem dX5_way_31 : decode cX5_way 31 = .ok (.getfield 13, 3) := dk_180 0 13 (dk_at dksX5_way_1 9 rfl rfl)
theorem dX5_way_34 : decode cX5_way 34 = .ok (.iload_n 1, 1) := dk_27 (dk_at dksX5_way_1 12 rfl rfl)
theorem dX5_way_35 : decode cX5_way 35 = .ok (.ifCond .ne 8, 3) := dk_154 0 8 (dk_at dksX5_way_1 13 rfl rfl)
theorem dX5_way_38 : decode cX5_way 38 = .ok (.bipush 37, 2) := dk_16 37 (dk_at dksX5_way_1 16 rfl rfl)
theorem dX5_way_40 : decode cX5_way 40 = .ok (.goto 5, 3) := dk_167 0 5 (dk_at dksX5_way_1 18 rfl rfl)
theorem dX5_way_43 : decode cX5_way 43 = .ok (.bipush 36, 2) := dk_16 36 (dk_at dksX5_way_1 21 rfl rfl)
theorem dX5_way_45 : decode cX5_way 45 = .ok (.iaload, 1) := dk_46 (dk_at dksX5_way_1 23 rfl rfl)
theorem dX5_way_46 : decode cX5_way 46 = .ok (.if_icmp .ge 15, 3) := dk_162 0 15 (dk_at dksX5_way_2 0 rfl rfl)
theorem dX5_way_49 : decode cX5_way 49 = .ok (.iload_n 3, 1) := dk_29 (dk_at dksX5_way_2 3 rfl rfl)
theorem dX5_way_50 : decode cX5_way 50 = .ok (.ifCond .lt 11, 3) := dk_155 0 11 (dk_at dksX5_way_2 4 rfl rfl)
theorem dX5_way_53 : decode cX5_way 53 = .ok (.aload_n 0, 1) := dk_42 (dk_at dksX5_way_2 7 rfl rfl)
theorem dX5_way_54 : decode cX5_way 54 = .ok (.iload_n 1, 1) := dk_27 (dk_at dksX5_way_2 8 rfl rfl)
theorem dX5_way_55 : decode cX5_way 55 = .ok (.invokevirtual 268, 3) := dk_182 1 12 (dk_at dksX5_way_2 9 rfl rfl)
theorem dX5_way_58 : decode cX5_way 58 = .ok (.ifCond .ne 5, 3) := dk_154 0 5 (dk_at dksX5_way_2 12 rfl rfl)
theorem dX5_way_61 : decode cX5_way 61 = .ok (.iconst (-1), 1) := dk_2 (dk_at dksX5_way_2 15 rfl rfl)
theorem dX5_way_62 : decode cX5_way 62 = .ok (.ireturn, 1) := dk_172 (dk_at dksX5_way_2 16 rfl rfl)
theorem dX5_way_63 : decode cX5_way 63 = .ok (.aload_n 0, 1) := dk_42 (dk_at dksX5_way_2 17 rfl rfl)
theorem dX5_way_64 : decode cX5_way 64 = .ok (.aload_n 0, 1) := dk_42 (dk_at dksX5_way_2 18 rfl rfl)
theorem dX5_way_65 : decode cX5_way 65 = .ok (.getfield 47, 3) := dk_180 0 47 (dk_at dksX5_way_2 19 rfl rfl)
theorem dX5_way_68 : decode cX5_way 68 = .ok (.iload_n 1, 1) := dk_27 (dk_at dksX5_way_2 22 rfl rfl)
theorem dX5_way_69 : decode cX5_way 69 = .ok (.iload_n 2, 1) := dk_28 (dk_at dksX5_way_2 23 rfl rfl)
theorem dX5_way_70 : decode cX5_way 70 = .ok (.aload_n 0, 1) := dk_42 (dk_at dksX5_way_3 0 rfl rfl)
theorem dX5_way_71 : decode cX5_way 71 = .ok (.getfield 47, 3) := dk_180 0 47 (dk_at dksX5_way_3 1 rfl rfl)
theorem dX5_way_74 : decode cX5_way 74 = .ok (.bipush 36, 2) := dk_16 36 (dk_at dksX5_way_3 4 rfl rfl)
theorem dX5_way_76 : decode cX5_way 76 = .ok (.iaload, 1) := dk_46 (dk_at dksX5_way_3 6 rfl rfl)
theorem dX5_way_77 : decode cX5_way 77 = .ok (.invokevirtual 248, 3) := dk_182 0 248 (dk_at dksX5_way_3 7 rfl rfl)
theorem dX5_way_80 : decode cX5_way 80 = .ok (.istore 4, 2) := dk_54 4 (dk_at dksX5_way_3 10 rfl rfl)
theorem dX5_way_82 : decode cX5_way 82 = .ok (.iload_n 3, 1) := dk_29 (dk_at dksX5_way_3 12 rfl rfl)
theorem dX5_way_83 : decode cX5_way 83 = .ok (.aload_n 0, 1) := dk_42 (dk_at dksX5_way_3 13 rfl rfl)
theorem dX5_way_84 : decode cX5_way 84 = .ok (.getfield 239, 3) := dk_180 0 239 (dk_at dksX5_way_3 14 rfl rfl)
theorem dX5_way_87 : decode cX5_way 87 = .ok (.if_icmp .ge 12, 3) := dk_162 0 12 (dk_at dksX5_way_3 17 rfl rfl)
theorem dX5_way_90 : decode cX5_way 90 = .ok (.aload_n 0, 1) := dk_42 (dk_at dksX5_way_3 20 rfl rfl)
theorem dX5_way_91 : decode cX5_way 91 = .ok (.getfield 50, 3) := dk_180 0 50 (dk_at dksX5_way_3 21 rfl rfl)
theorem dX5_way_94 : decode cX5_way 94 = .ok (.iload_n 3, 1) := dk_29 (dk_at dksX5_way_4 0 rfl rfl)
theorem dX5_way_95 : decode cX5_way 95 = .ok (.iaload, 1) := dk_46 (dk_at dksX5_way_4 1 rfl rfl)
theorem dX5_way_96 : decode cX5_way 96 = .ok (.goto 4, 3) := dk_167 0 4 (dk_at dksX5_way_4 2 rfl rfl)
theorem dX5_way_99 : decode cX5_way 99 = .ok (.iconst (-1), 1) := dk_2 (dk_at dksX5_way_4 5 rfl rfl)
theorem dX5_way_100 : decode cX5_way 100 = .ok (.ireturn, 1) := dk_172 (dk_at dksX5_way_4 6 rfl rfl)
abbrev cX5_signed : ByteArray := prog_9_method_66_code
def yX5_signed : MethodName := ⟨RX5, "signed", "(II)I"⟩
def dkwX5_signed_1 : List UInt8 := [182, 1, 27, 42, 180, 0, 59, 16, 6, 27, 104, 28, 96, 46, 172]
abbrev dktX5_signed_1 : List UInt8 := dkwX5_signed_1 ++ []
def dkwX5_signed_0 : List UInt8 := [42, 3, 181, 0, 83, 42, 42, 180, 0, 13, 27, 28, 182, 0, 158, 154, 0, 6, 18, 133, 172, 42]
abbrev dktX5_signed_0 : List UInt8 := dkwX5_signed_0 ++ dktX5_signed_1
theorem dksX5_signed_0 : cX5_signed.data.toList.drop 0 = dktX5_signed_0 := by decide +kernel
theorem dksX5_signed_1 : cX5_signed.data.toList.drop 22 = dktX5_signed_1 := dk_seg dksX5_signed_0 22 rfl rfl
theorem dX5_signed_0 : decode cX5_signed 0 = .ok (.aload_n 0, 1) := dk_42 (dk_at dksX5_signed_0 0 rfl rfl)
theorem dX5_signed_1 : decode cX5_signed 1 = .ok (.iconst 0, 1) := dk_3 (dk_at dksX5_signed_0 1 rfl rfl)
theorem dX5_signed_2 : decode cX5_signed 2 = .ok (.putfield 83, 3) := dk_181 0 83 (dk_at dksX5_signed_0 2 rfl rfl)
theorem dX5_signed_5 : decode cX5_signed 5 = .ok (.aload_n 0, 1) := dk_42 (dk_at dksX5_signed_0 5 rfl rfl)
theorem dX5_signed_6 : decode cX5_signed 6 = .ok (.aload_n 0, 1) := dk_42 (dk_at dksX5_signed_0 6 rfl rfl)
theorem dX5_signed_7 : decode cX5_signed 7 = .ok (.getfield 13, 3) := dk_180 0 13 (dk_at dksX5_signed_0 7 rfl rfl)
theorem dX5_signed_10 : decode cX5_signed 10 = .ok (.iload_n 1, 1) := dk_27 (dk_at dksX5_signed_0 10 rfl rfl)
theorem dX5_signed_11 : decode cX5_signed 11 = .ok (.iload_n 2, 1) := dk_28 (dk_at dksX5_signed_0 11 rfl rfl)
theorem dX5_signed_12 : decode cX5_signed 12 = .ok (.invokevirtual 158, 3) := dk_182 0 158 (dk_at dksX5_signed_0 12 rfl rfl)
theorem dX5_signed_15 : decode cX5_signed 15 = .ok (.ifCond .ne 6, 3) := dk_154 0 6 (dk_at dksX5_signed_0 15 rfl rfl)
theorem dX5_signed_18 : decode cX5_signed 18 = .ok (.ldc 133, 2) := dk_18 133 (dk_at dksX5_signed_0 18 rfl rfl)
theorem dX5_signed_20 : decode cX5_signed 20 = .ok (.ireturn, 1) := dk_172 (dk_at dksX5_signed_0 20 rfl rfl)
theorem dX5_signed_21 : decode cX5_signed 21 = .ok (.aload_n 0, 1) := dk_42 (dk_at dksX5_signed_0 21 rfl rfl)
theorem dX5_signed_22 : decode cX5_signed 22 = .ok (.invokevirtual 283, 3) := dk_182 1 27 (dk_at dksX5_signed_1 0 rfl rfl)
theorem dX5_signed_25 : decode cX5_signed 25 = .ok (.aload_n 0, 1) := dk_42 (dk_at dksX5_signed_1 3 rfl rfl)
theorem dX5_signed_26 : decode cX5_signed 26 = .ok (.getfield 59, 3) := dk_180 0 59 (dk_at dksX5_signed_1 4 rfl rfl)
theorem dX5_signed_29 : decode cX5_signed 29 = .ok (.bipush 6, 2) := dk_16 6 (dk_at dksX5_signed_1 7 rfl rfl)
theorem dX5_signed_31 : decode cX5_signed 31 = .ok (.iload_n 1, 1) := dk_27 (dk_at dksX5_signed_1 9 rfl rfl)
theorem dX5_signed_32 : decode cX5_signed 32 = .ok (.imul, 1) := dk_104 (dk_at dksX5_signed_1 10 rfl rfl)
theorem dX5_signed_33 : decode cX5_signed 33 = .ok (.iload_n 2, 1) := dk_28 (dk_at dksX5_signed_1 11 rfl rfl)
theorem dX5_signed_34 : decode cX5_signed 34 = .ok (.iadd, 1) := dk_96 (dk_at dksX5_signed_1 12 rfl rfl)
theorem dX5_signed_35 : decode cX5_signed 35 = .ok (.iaload, 1) := dk_46 (dk_at dksX5_signed_1 13 rfl rfl)
theorem dX5_signed_36 : decode cX5_signed 36 = .ok (.ireturn, 1) := dk_172 (dk_at dksX5_signed_1 14 rfl rfl)
abbrev cX5_laysSigns : ByteArray := prog_9_method_65_code
def yX5_laysSigns : MethodName := ⟨RX5, "laysSigns", "()V"⟩
def dkwX5_laysSigns_17 : List UInt8 := [4, 167, 0, 4, 2, 79, 132, 1, 255, 167, 255, 36, 177]
abbrev dktX5_laysSigns_17 : List UInt8 := dkwX5_laysSigns_17 ++ []
def dkwX5_laysSigns_16 : List UInt8 := [96, 54, 5, 21, 7, 54, 6, 167, 255, 193, 42, 180, 0, 59, 28, 21, 5, 4, 96, 7, 112, 154, 0, 7]
abbrev dktX5_laysSigns_16 : List UInt8 := dkwX5_laysSigns_16 ++ dktX5_laysSigns_17
def dkwX5_laysSigns_15 : List UInt8 := [21, 6, 46, 4, 100, 159, 0, 9, 132, 7, 1, 167, 255, 223, 21, 5, 42, 21, 6, 21, 7, 182, 1, 24]
abbrev dktX5_laysSigns_15 : List UInt8 := dkwX5_laysSigns_15 ++ dktX5_laysSigns_16
def dkwX5_laysSigns_14 : List UInt8 := [54, 7, 42, 21, 6, 21, 7, 182, 1, 18, 153, 0, 22, 42, 180, 0, 56, 21, 7, 46, 42, 180, 0, 56]
abbrev dktX5_laysSigns_14 : List UInt8 := dkwX5_laysSigns_14 ++ dktX5_laysSigns_15
def dkwX5_laysSigns_13 : List UInt8 := [42, 21, 4, 182, 1, 21, 3, 54, 5, 28, 16, 6, 108, 54, 6, 21, 6, 21, 4, 159, 0, 62, 3]
abbrev dktX5_laysSigns_13 : List UInt8 := dkwX5_laysSigns_13 ++ dktX5_laysSigns_14
def dkwX5_laysSigns_12 : List UInt8 := [61, 42, 180, 0, 56, 21, 5, 46, 62, 132, 4, 1, 167, 255, 163, 16, 6, 28, 16, 6, 112, 96, 54, 4]
abbrev dktX5_laysSigns_12 : List UInt8 := dkwX5_laysSigns_12 ++ dktX5_laysSigns_13
def dkwX5_laysSigns_11 : List UInt8 := [182, 1, 21, 28, 2, 159, 0, 17, 42, 180, 0, 56, 21, 5, 46, 29, 161, 0, 6, 167, 0, 14, 21, 4]
abbrev dktX5_laysSigns_11 : List UInt8 := dkwX5_laysSigns_11 ++ dktX5_laysSigns_12
def dkwX5_laysSigns_10 : List UInt8 := [153, 0, 57, 42, 180, 0, 59, 21, 4, 46, 16, 9, 159, 0, 6, 167, 0, 42, 42, 16, 6, 21, 6, 96]
abbrev dktX5_laysSigns_10 : List UInt8 := dkwX5_laysSigns_10 ++ dktX5_laysSigns_11
def dkwX5_laysSigns_9 : List UInt8 := [16, 6, 108, 54, 5, 21, 4, 16, 6, 112, 54, 6, 42, 42, 180, 0, 13, 21, 5, 21, 6, 182, 0, 158]
abbrev dktX5_laysSigns_9 : List UInt8 := dkwX5_laysSigns_9 ++ dktX5_laysSigns_10
def dkwX5_laysSigns_8 : List UInt8 := [167, 255, 104, 27, 158, 0, 222, 2, 61, 3, 62, 3, 54, 4, 21, 4, 16, 36, 162, 0, 92, 21, 4]
abbrev dktX5_laysSigns_8 : List UInt8 := dkwX5_laysSigns_8 ++ dktX5_laysSigns_9
def dkwX5_laysSigns_7 : List UInt8 := [180, 0, 53, 21, 6, 21, 4, 79, 132, 6, 1, 167, 255, 218, 132, 3, 1, 167, 255, 123, 132, 2, 1]
abbrev dktX5_laysSigns_7 : List UInt8 := dkwX5_laysSigns_7 ++ dktX5_laysSigns_8
def dkwX5_laysSigns_6 : List UInt8 := [162, 0, 37, 21, 4, 21, 5, 159, 0, 30, 42, 180, 0, 53, 21, 6, 46, 21, 5, 160, 0, 12, 42]
abbrev dktX5_laysSigns_6 : List UInt8 := dkwX5_laysSigns_6 ++ dktX5_laysSigns_7
def dkwX5_laysSigns_5 : List UInt8 := [4, 79, 27, 21, 4, 21, 5, 160, 0, 7, 4, 167, 0, 4, 3, 96, 60, 3, 54, 6, 21, 6, 16, 12]
abbrev dktX5_laysSigns_5 : List UInt8 := dkwX5_laysSigns_5 ++ dktX5_laysSigns_6
def dkwX5_laysSigns_4 : List UInt8 := [54, 5, 42, 180, 0, 59, 16, 6, 28, 104, 29, 96, 21, 4, 21, 5, 160, 0, 8, 16, 9, 167, 0, 4]
abbrev dktX5_laysSigns_4 : List UInt8 := dkwX5_laysSigns_4 ++ dktX5_laysSigns_5
def dkwX5_laysSigns_3 : List UInt8 := [154, 0, 6, 167, 0, 105, 42, 180, 0, 53, 28, 46, 54, 4, 42, 180, 0, 53, 16, 6, 29, 96, 46]
abbrev dktX5_laysSigns_3 : List UInt8 := dkwX5_laysSigns_3 ++ dktX5_laysSigns_4
def dkwX5_laysSigns_2 : List UInt8 := [62, 29, 42, 180, 0, 13, 16, 37, 46, 162, 0, 128, 42, 180, 0, 13, 16, 6, 28, 104, 29, 96, 46]
abbrev dktX5_laysSigns_2 : List UInt8 := dkwX5_laysSigns_2 ++ dktX5_laysSigns_3
def dkwX5_laysSigns_1 : List UInt8 := [27, 79, 132, 1, 1, 167, 255, 240, 3, 60, 3, 61, 28, 42, 180, 0, 13, 16, 36, 46, 162, 0, 147, 3]
abbrev dktX5_laysSigns_1 : List UInt8 := dkwX5_laysSigns_1 ++ dktX5_laysSigns_2
def dkwX5_laysSigns_0 : List UInt8 := [42, 180, 0, 13, 42, 180, 0, 59, 184, 0, 170, 3, 60, 27, 16, 12, 162, 0, 16, 42, 180, 0, 53, 27]
abbrev dktX5_laysSigns_0 : List UInt8 := dkwX5_laysSigns_0 ++ dktX5_laysSigns_1
theorem dksX5_laysSigns_0 : cX5_laysSigns.data.toList.drop 0 = dktX5_laysSigns_0 := by decide +kernel
theorem dksX5_laysSigns_1 : cX5_laysSigns.data.toList.drop 24 = dktX5_laysSigns_1 := dk_seg dksX5_laysSigns_0 24 rfl rfl
theorem dksX5_laysSigns_2 : cX5_laysSigns.data.toList.drop 48 = dktX5_laysSigns_2 := dk_seg dksX5_laysSigns_1 24 rfl rfl
theorem dksX5_laysSigns_3 : cX5_laysSigns.data.toList.drop 71 = dktX5_laysSigns_3 := dk_seg dksX5_laysSigns_2 23 rfl rfl
theorem dksX5_laysSigns_4 : cX5_laysSigns.data.toList.drop 94 = dktX5_laysSigns_4 := dk_seg dksX5_laysSigns_3 23 rfl rfl
theorem dksX5_laysSigns_5 : cX5_laysSigns.data.toList.drop 118 = dktX5_laysSigns_5 := dk_seg dksX5_laysSigns_4 24 rfl rfl
theorem dksX5_laysSigns_6 : cX5_laysSigns.data.toList.drop 142 = dktX5_laysSigns_6 := dk_seg dksX5_laysSigns_5 24 rfl rfl
theorem dksX5_laysSigns_7 : cX5_laysSigns.data.toList.drop 165 = dktX5_laysSigns_7 := dk_seg dksX5_laysSigns_6 23 rfl rfl
theorem dksX5_laysSigns_8 : cX5_laysSigns.data.toList.drop 188 = dktX5_laysSigns_8 := dk_seg dksX5_laysSigns_7 23 rfl rfl
theorem dksX5_laysSigns_9 : cX5_laysSigns.data.toList.drop 211 = dktX5_laysSigns_9 := dk_seg dksX5_laysSigns_8 23 rfl rfl
theorem dksX5_laysSigns_10 : cX5_laysSigns.data.toList.drop 235 = dktX5_laysSigns_10 := dk_seg dksX5_laysSigns_9 24 rfl rfl
theorem dksX5_laysSigns_11 : cX5_laysSigns.data.toList.drop 259 = dktX5_laysSigns_11 := dk_seg dksX5_laysSigns_10 24 rfl rfl
theorem dksX5_laysSigns_12 : cX5_laysSigns.data.toList.drop 283 = dktX5_laysSigns_12 := dk_seg dksX5_laysSigns_11 24 rfl rfl
theorem dksX5_laysSigns_13 : cX5_laysSigns.data.toList.drop 307 = dktX5_laysSigns_13 := dk_seg dksX5_laysSigns_12 24 rfl rfl
theorem dksX5_laysSigns_14 : cX5_laysSigns.data.toList.drop 330 = dktX5_laysSigns_14 := dk_seg dksX5_laysSigns_13 23 rfl rfl
theorem dksX5_laysSigns_15 : cX5_laysSigns.data.toList.drop 354 = dktX5_laysSigns_15 := dk_seg dksX5_laysSigns_14 24 rfl rfl
theorem dksX5_laysSigns_16 : cX5_laysSigns.data.toList.drop 378 = dktX5_laysSigns_16 := dk_seg dksX5_laysSigns_15 24 rfl rfl
theorem dksX5_laysSigns_17 : cX5_laysSigns.data.toList.drop 402 = dktX5_laysSigns_17 := dk_seg dksX5_laysSigns_16 24 rfl rfl
theorem dX5_laysSigns_0 : decode cX5_laysSigns 0 = .ok (.aload_n 0, 1) := dk_42 (dk_at dksX5_laysSigns_0 0 rfl rfl)
theorem dX5_laysSigns_1 : decode cX5_laysSigns 1 = .ok (.getfield 13, 3) := dk_180 0 13 (dk_at dksX5_laysSigns_0 1 rfl rfl)
theorem dX5_laysSigns_4 : decode cX5_laysSigns 4 = .ok (.aload_n 0, 1) := dk_42 (dk_at dksX5_laysSigns_0 4 rfl rfl)
theorem dX5_laysSigns_5 : decode cX5_laysSigns 5 = .ok (.getfield 59, 3) := dk_180 0 59 (dk_at dksX5_laysSigns_0 5 rfl rfl)
theorem dX5_laysSigns_8 : decode cX5_laysSigns 8 = .ok (.invokestatic 170, 3) := dk_184 0 170 (dk_at dksX5_laysSigns_0 8 rfl rfl)
theorem dX5_laysSigns_11 : decode cX5_laysSigns 11 = .ok (.iconst 0, 1) := dk_3 (dk_at dksX5_laysSigns_0 11 rfl rfl)
theorem dX5_laysSigns_12 : decode cX5_laysSigns 12 = .ok (.istore_n 1, 1) := dk_60 (dk_at dksX5_laysSigns_0 12 rfl rfl)
theorem dX5_laysSigns_13 : decode cX5_laysSigns 13 = .ok (.iload_n 1, 1) := dk_27 (dk_at dksX5_laysSigns_0 13 rfl rfl)
theorem dX5_laysSigns_14 : decode cX5_laysSigns 14 = .ok (.bipush 12, 2) := dk_16 12 (dk_at dksX5_laysSigns_0 14 rfl rfl)
theorem dX5_laysSigns_16 : decode cX5_laysSigns 16 = .ok (.if_icmp .ge 16, 3) := dk_162 0 16 (dk_at dksX5_laysSigns_0 16 rfl rfl)
theorem dX5_laysSigns_19 : decode cX5_laysSigns 19 = .ok (.aload_n 0, 1) := dk_42 (dk_at dksX5_laysSigns_0 19 rfl rfl)
theorem dX5_laysSigns_20 : decode cX5_laysSigns 20 = .ok (.getfield 53, 3) := dk_180 0 53 (dk_at dksX5_laysSigns_0 20 rfl rfl)
theorem dX5_laysSigns_23 : decode cX5_laysSigns 23 = .ok (.iload_n 1, 1) := dk_27 (dk_at dksX5_laysSigns_0 23 rfl rfl)
theorem dX5_laysSigns_24 : decode cX5_laysSigns 24 = .ok (.iload_n 1, 1) := dk_27 (dk_at dksX5_laysSigns_1 0 rfl rfl)
theorem dX5_laysSigns_25 : decode cX5_laysSigns 25 = .ok (.iastore, 1) := dk_79 (dk_at dksX5_laysSigns_1 1 rfl rfl)
theorem dX5_laysSigns_26 : decode cX5_laysSigns 26 = .ok (.iinc 1 1, 3) := dk_132 1 1 (dk_at dksX5_laysSigns_1 2 rfl rfl)
theorem dX5_laysSigns_29 : decode cX5_laysSigns 29 = .ok (.goto (-16), 3) := dk_167 255 240 (dk_at dksX5_laysSigns_1 5 rfl rfl)
theorem dX5_laysSigns_32 : decode cX5_laysSigns 32 = .ok (.iconst 0, 1) := dk_3 (dk_at dksX5_laysSigns_1 8 rfl rfl)
theorem dX5_laysSigns_33 : decode cX5_laysSigns 33 = .ok (.istore_n 1, 1) := dk_60 (dk_at dksX5_laysSigns_1 9 rfl rfl)
theorem dX5_laysSigns_34 : decode cX5_laysSigns 34 = .ok (.iconst 0, 1) := dk_3 (dk_at dksX5_laysSigns_1 10 rfl rfl)
theorem dX5_laysSigns_35 : decode cX5_laysSigns 35 = .ok (.istore_n 2, 1) := dk_61 (dk_at dksX5_laysSigns_1 11 rfl rfl)
theorem dX5_laysSigns_36 : decode cX5_laysSigns 36 = .ok (.iload_n 2, 1) := dk_28 (dk_at dksX5_laysSigns_1 12 rfl rfl)
theorem dX5_laysSigns_37 : decode cX5_laysSigns 37 = .ok (.aload_n 0, 1) := dk_42 (dk_at dksX5_laysSigns_1 13 rfl rfl)
theorem dX5_laysSigns_38 : decode cX5_laysSigns 38 = .ok (.getfield 13, 3) := dk_180 0 13 (dk_at dksX5_laysSigns_1 14 rfl rfl)
theorem dX5_laysSigns_41 : decode cX5_laysSigns 41 = .ok (.bipush 36, 2) := dk_16 36 (dk_at dksX5_laysSigns_1 17 rfl rfl)
theorem dX5_laysSigns_43 : decode cX5_laysSigns 43 = .ok (.iaload, 1) := dk_46 (dk_at dksX5_laysSigns_1 19 rfl rfl)
theorem dX5_laysSigns_44 : decode cX5_laysSigns 44 = .ok (.if_icmp .ge 147, 3) := dk_162 0 147 (dk_at dksX5_laysSigns_1 20 rfl rfl)
theorem dX5_laysSigns_47 : decode cX5_laysSigns 47 = .ok (.iconst 0, 1) := dk_3 (dk_at dksX5_laysSigns_1 23 rfl rfl)
theorem dX5_laysSigns_48 : decode cX5_laysSigns 48 = .ok (.istore_n 3, 1) := dk_62 (dk_at dksX5_laysSigns_2 0 rfl rfl)
theorem dX5_laysSigns_49 : decode cX5_laysSigns 49 = .ok (.iload_n 3, 1) := dk_29 (dk_at dksX5_laysSigns_2 1 rfl rfl)
theorem dX5_laysSigns_50 : decode cX5_laysSigns 50 = .ok (.aload_n 0, 1) := dk_42 (dk_at dksX5_laysSigns_2 2 rfl rfl)
theorem dX5_laysSigns_51 : decode cX5_laysSigns 51 = .ok (.getfield 13, 3) := dk_180 0 13 (dk_at dksX5_laysSigns_2 3 rfl rfl)
theorem dX5_laysSigns_54 : decode cX5_laysSigns 54 = .ok (.bipush 37, 2) := dk_16 37 (dk_at dksX5_laysSigns_2 6 rfl rfl)
theorem dX5_laysSigns_56 : decode cX5_laysSigns 56 = .ok (.iaload, 1) := dk_46 (dk_at dksX5_laysSigns_2 8 rfl rfl)
theorem dX5_laysSigns_57 : decode cX5_laysSigns 57 = .ok (.if_icmp .ge 128, 3) := dk_162 0 128 (dk_at dksX5_laysSigns_2 9 rfl rfl)
theorem dX5_laysSigns_60 : decode cX5_laysSigns 60 = .ok (.aload_n 0, 1) := dk_42 (dk_at dksX5_laysSigns_2 12 rfl rfl)
theorem dX5_laysSigns_61 : decode cX5_laysSigns 61 = .ok (.getfield 13, 3) := dk_180 0 13 (dk_at dksX5_laysSigns_2 13 rfl rfl)
theorem dX5_laysSigns_64 : decode cX5_laysSigns 64 = .ok (.bipush 6, 2) := dk_16 6 (dk_at dksX5_laysSigns_2 16 rfl rfl)
theorem dX5_laysSigns_66 : decode cX5_laysSigns 66 = .ok (.iload_n 2, 1) := dk_28 (dk_at dksX5_laysSigns_2 18 rfl rfl)
theorem dX5_laysSigns_67 : decode cX5_laysSigns 67 = .ok (.imul, 1) := dk_104 (dk_at dksX5_laysSigns_2 19 rfl rfl)
theorem dX5_laysSigns_68 : decode cX5_laysSigns 68 = .ok (.iload_n 3, 1) := dk_29 (dk_at dksX5_laysSigns_2 20 rfl rfl)
theorem dX5_laysSigns_69 : decode cX5_laysSigns 69 = .ok (.iadd, 1) := dk_96 (dk_at dksX5_laysSigns_2 21 rfl rfl)
theorem dX5_laysSigns_70 : decode cX5_laysSigns 70 = .ok (.iaload, 1) := dk_46 (dk_at dksX5_laysSigns_2 22 rfl rfl)
theorem dX5_laysSigns_71 : decode cX5_laysSigns 71 = .ok (.ifCond .ne 6, 3) := dk_154 0 6 (dk_at dksX5_laysSigns_3 0 rfl rfl)
theorem dX5_laysSigns_74 : decode cX5_laysSigns 74 = .ok (.goto 105, 3) := dk_167 0 105 (dk_at dksX5_laysSigns_3 3 rfl rfl)
theorem dX5_laysSigns_77 : decode cX5_laysSigns 77 = .ok (.aload_n 0, 1) := dk_42 (dk_at dksX5_laysSigns_3 6 rfl rfl)
theorem dX5_laysSigns_78 : decode cX5_laysSigns 78 = .ok (.getfield 53, 3) := dk_180 0 53 (dk_at dksX5_laysSigns_3 7 rfl rfl)
theorem dX5_laysSigns_81 : decode cX5_laysSigns 81 = .ok (.iload_n 2, 1) := dk_28 (dk_at dksX5_laysSigns_3 10 rfl rfl)
theorem dX5_laysSigns_82 : decode cX5_laysSigns 82 = .ok (.iaload, 1) := dk_46 (dk_at dksX5_laysSigns_3 11 rfl rfl)
theorem dX5_laysSigns_83 : decode cX5_laysSigns 83 = .ok (.istore 4, 2) := dk_54 4 (dk_at dksX5_laysSigns_3 12 rfl rfl)
theorem dX5_laysSigns_85 : decode cX5_laysSigns 85 = .ok (.aload_n 0, 1) := dk_42 (dk_at dksX5_laysSigns_3 14 rfl rfl)
theorem dX5_laysSigns_86 : decode cX5_laysSigns 86 = .ok (.getfield 53, 3) := dk_180 0 53 (dk_at dksX5_laysSigns_3 15 rfl rfl)
theorem dX5_laysSigns_89 : decode cX5_laysSigns 89 = .ok (.bipush 6, 2) := dk_16 6 (dk_at dksX5_laysSigns_3 18 rfl rfl)
theorem dX5_laysSigns_91 : decode cX5_laysSigns 91 = .ok (.iload_n 3, 1) := dk_29 (dk_at dksX5_laysSigns_3 20 rfl rfl)
theorem dX5_laysSigns_92 : decode cX5_laysSigns 92 = .ok (.iadd, 1) := dk_96 (dk_at dksX5_laysSigns_3 21 rfl rfl)
theorem dX5_laysSigns_93 : decode cX5_laysSigns 93 = .ok (.iaload, 1) := dk_46 (dk_at dksX5_laysSigns_3 22 rfl rfl)
theorem dX5_laysSigns_94 : decode cX5_laysSigns 94 = .ok (.istore 5, 2) := dk_54 5 (dk_at dksX5_laysSigns_4 0 rfl rfl)
theorem dX5_laysSigns_96 : decode cX5_laysSigns 96 = .ok (.aload_n 0, 1) := dk_42 (dk_at dksX5_laysSigns_4 2 rfl rfl)
theorem dX5_laysSigns_97 : decode cX5_laysSigns 97 = .ok (.getfield 59, 3) := dk_180 0 59 (dk_at dksX5_laysSigns_4 3 rfl rfl)
theorem dX5_laysSigns_100 : decode cX5_laysSigns 100 = .ok (.bipush 6, 2) := dk_16 6 (dk_at dksX5_laysSigns_4 6 rfl rfl)
theorem dX5_laysSigns_102 : decode cX5_laysSigns 102 = .ok (.iload_n 2, 1) := dk_28 (dk_at dksX5_laysSigns_4 8 rfl rfl)
theorem dX5_laysSigns_103 : decode cX5_laysSigns 103 = .ok (.imul, 1) := dk_104 (dk_at dksX5_laysSigns_4 9 rfl rfl)
theorem dX5_laysSigns_104 : decode cX5_laysSigns 104 = .ok (.iload_n 3, 1) := dk_29 (dk_at dksX5_laysSigns_4 10 rfl rfl)
theorem dX5_laysSigns_105 : decode cX5_laysSigns 105 = .ok (.iadd, 1) := dk_96 (dk_at dksX5_laysSigns_4 11 rfl rfl)
theorem dX5_laysSigns_106 : decode cX5_laysSigns 106 = .ok (.iload 4, 2) := dk_21 4 (dk_at dksX5_laysSigns_4 12 rfl rfl)
theorem dX5_laysSigns_108 : decode cX5_laysSigns 108 = .ok (.iload 5, 2) := dk_21 5 (dk_at dksX5_laysSigns_4 14 rfl rfl)
theorem dX5_laysSigns_110 : decode cX5_laysSigns 110 = .ok (.if_icmp .ne 8, 3) := dk_160 0 8 (dk_at dksX5_laysSigns_4 16 rfl rfl)
theorem dX5_laysSigns_113 : decode cX5_laysSigns 113 = .ok (.bipush 9, 2) := dk_16 9 (dk_at dksX5_laysSigns_4 19 rfl rfl)
theorem dX5_laysSigns_115 : decode cX5_laysSigns 115 = .ok (.goto 4, 3) := dk_167 0 4 (dk_at dksX5_laysSigns_4 21 rfl rfl)
theorem dX5_laysSigns_118 : decode cX5_laysSigns 118 = .ok (.iconst 1, 1) := dk_4 (dk_at dksX5_laysSigns_5 0 rfl rfl)
theorem dX5_laysSigns_119 : decode cX5_laysSigns 119 = .ok (.iastore, 1) := dk_79 (dk_at dksX5_laysSigns_5 1 rfl rfl)
theorem dX5_laysSigns_120 : decode cX5_laysSigns 120 = .ok (.iload_n 1, 1) := dk_27 (dk_at dksX5_laysSigns_5 2 rfl rfl)
theorem dX5_laysSigns_121 : decode cX5_laysSigns 121 = .ok (.iload 4, 2) := dk_21 4 (dk_at dksX5_laysSigns_5 3 rfl rfl)
theorem dX5_laysSigns_123 : decode cX5_laysSigns 123 = .ok (.iload 5, 2) := dk_21 5 (dk_at dksX5_laysSigns_5 5 rfl rfl)
theorem dX5_laysSigns_125 : decode cX5_laysSigns 125 = .ok (.if_icmp .ne 7, 3) := dk_160 0 7 (dk_at dksX5_laysSigns_5 7 rfl rfl)
theorem dX5_laysSigns_128 : decode cX5_laysSigns 128 = .ok (.iconst 1, 1) := dk_4 (dk_at dksX5_laysSigns_5 10 rfl rfl)
theorem dX5_laysSigns_129 : decode cX5_laysSigns 129 = .ok (.goto 4, 3) := dk_167 0 4 (dk_at dksX5_laysSigns_5 11 rfl rfl)
theorem dX5_laysSigns_132 : decode cX5_laysSigns 132 = .ok (.iconst 0, 1) := dk_3 (dk_at dksX5_laysSigns_5 14 rfl rfl)
theorem dX5_laysSigns_133 : decode cX5_laysSigns 133 = .ok (.iadd, 1) := dk_96 (dk_at dksX5_laysSigns_5 15 rfl rfl)
theorem dX5_laysSigns_134 : decode cX5_laysSigns 134 = .ok (.istore_n 1, 1) := dk_60 (dk_at dksX5_laysSigns_5 16 rfl rfl)
theorem dX5_laysSigns_135 : decode cX5_laysSigns 135 = .ok (.iconst 0, 1) := dk_3 (dk_at dksX5_laysSigns_5 17 rfl rfl)
theorem dX5_laysSigns_136 : decode cX5_laysSigns 136 = .ok (.istore 6, 2) := dk_54 6 (dk_at dksX5_laysSigns_5 18 rfl rfl)
theorem dX5_laysSigns_138 : decode cX5_laysSigns 138 = .ok (.iload 6, 2) := dk_21 6 (dk_at dksX5_laysSigns_5 20 rfl rfl)
theorem dX5_laysSigns_140 : decode cX5_laysSigns 140 = .ok (.bipush 12, 2) := dk_16 12 (dk_at dksX5_laysSigns_5 22 rfl rfl)
theorem dX5_laysSigns_142 : decode cX5_laysSigns 142 = .ok (.if_icmp .ge 37, 3) := dk_162 0 37 (dk_at dksX5_laysSigns_6 0 rfl rfl)
theorem dX5_laysSigns_145 : decode cX5_laysSigns 145 = .ok (.iload 4, 2) := dk_21 4 (dk_at dksX5_laysSigns_6 3 rfl rfl)
theorem dX5_laysSigns_147 : decode cX5_laysSigns 147 = .ok (.iload 5, 2) := dk_21 5 (dk_at dksX5_laysSigns_6 5 rfl rfl)
theorem dX5_laysSigns_149 : decode cX5_laysSigns 149 = .ok (.if_icmp .eq 30, 3) := dk_159 0 30 (dk_at dksX5_laysSigns_6 7 rfl rfl)
theorem dX5_laysSigns_152 : decode cX5_laysSigns 152 = .ok (.aload_n 0, 1) := dk_42 (dk_at dksX5_laysSigns_6 10 rfl rfl)
theorem dX5_laysSigns_153 : decode cX5_laysSigns 153 = .ok (.getfield 53, 3) := dk_180 0 53 (dk_at dksX5_laysSigns_6 11 rfl rfl)
theorem dX5_laysSigns_156 : decode cX5_laysSigns 156 = .ok (.iload 6, 2) := dk_21 6 (dk_at dksX5_laysSigns_6 14 rfl rfl)
theorem dX5_laysSigns_158 : decode cX5_laysSigns 158 = .ok (.iaload, 1) := dk_46 (dk_at dksX5_laysSigns_6 16 rfl rfl)
theorem dX5_laysSigns_159 : decode cX5_laysSigns 159 = .ok (.iload 5, 2) := dk_21 5 (dk_at dksX5_laysSigns_6 17 rfl rfl)
theorem dX5_laysSigns_161 : decode cX5_laysSigns 161 = .ok (.if_icmp .ne 12, 3) := dk_160 0 12 (dk_at dksX5_laysSigns_6 19 rfl rfl)
theorem dX5_laysSigns_164 : decode cX5_laysSigns 164 = .ok (.aload_n 0, 1) := dk_42 (dk_at dksX5_laysSigns_6 22 rfl rfl)
theorem dX5_laysSigns_165 : decode cX5_laysSigns 165 = .ok (.getfield 53, 3) := dk_180 0 53 (dk_at dksX5_laysSigns_7 0 rfl rfl)
theorem dX5_laysSigns_168 : decode cX5_laysSigns 168 = .ok (.iload 6, 2) := dk_21 6 (dk_at dksX5_laysSigns_7 3 rfl rfl)
theorem dX5_laysSigns_170 : decode cX5_laysSigns 170 = .ok (.iload 4, 2) := dk_21 4 (dk_at dksX5_laysSigns_7 5 rfl rfl)
theorem dX5_laysSigns_172 : decode cX5_laysSigns 172 = .ok (.iastore, 1) := dk_79 (dk_at dksX5_laysSigns_7 7 rfl rfl)
theorem dX5_laysSigns_173 : decode cX5_laysSigns 173 = .ok (.iinc 6 1, 3) := dk_132 6 1 (dk_at dksX5_laysSigns_7 8 rfl rfl)
theorem dX5_laysSigns_176 : decode cX5_laysSigns 176 = .ok (.goto (-38), 3) := dk_167 255 218 (dk_at dksX5_laysSigns_7 11 rfl rfl)
theorem dX5_laysSigns_179 : decode cX5_laysSigns 179 = .ok (.iinc 3 1, 3) := dk_132 3 1 (dk_at dksX5_laysSigns_7 14 rfl rfl)
theorem dX5_laysSigns_182 : decode cX5_laysSigns 182 = .ok (.goto (-133), 3) := dk_167 255 123 (dk_at dksX5_laysSigns_7 17 rfl rfl)
theorem dX5_laysSigns_185 : decode cX5_laysSigns 185 = .ok (.iinc 2 1, 3) := dk_132 2 1 (dk_at dksX5_laysSigns_7 20 rfl rfl)
theorem dX5_laysSigns_188 : decode cX5_laysSigns 188 = .ok (.goto (-152), 3) := dk_167 255 104 (dk_at dksX5_laysSigns_8 0 rfl rfl)
theorem dX5_laysSigns_191 : decode cX5_laysSigns 191 = .ok (.iload_n 1, 1) := dk_27 (dk_at dksX5_laysSigns_8 3 rfl rfl)
theorem dX5_laysSigns_192 : decode cX5_laysSigns 192 = .ok (.ifCond .le 222, 3) := dk_158 0 222 (dk_at dksX5_laysSigns_8 4 rfl rfl)
theorem dX5_laysSigns_195 : decode cX5_laysSigns 195 = .ok (.iconst (-1), 1) := dk_2 (dk_at dksX5_laysSigns_8 7 rfl rfl)
theorem dX5_laysSigns_196 : decode cX5_laysSigns 196 = .ok (.istore_n 2, 1) := dk_61 (dk_at dksX5_laysSigns_8 8 rfl rfl)
theorem dX5_laysSigns_197 : decode cX5_laysSigns 197 = .ok (.iconst 0, 1) := dk_3 (dk_at dksX5_laysSigns_8 9 rfl rfl)
theorem dX5_laysSigns_198 : decode cX5_laysSigns 198 = .ok (.istore_n 3, 1) := dk_62 (dk_at dksX5_laysSigns_8 10 rfl rfl)
theorem dX5_laysSigns_199 : decode cX5_laysSigns 199 = .ok (.iconst 0, 1) := dk_3 (dk_at dksX5_laysSigns_8 11 rfl rfl)
theorem dX5_laysSigns_200 : decode cX5_laysSigns 200 = .ok (.istore 4, 2) := dk_54 4 (dk_at dksX5_laysSigns_8 12 rfl rfl)
theorem dX5_laysSigns_202 : decode cX5_laysSigns 202 = .ok (.iload 4, 2) := dk_21 4 (dk_at dksX5_laysSigns_8 14 rfl rfl)
theorem dX5_laysSigns_204 : decode cX5_laysSigns 204 = .ok (.bipush 36, 2) := dk_16 36 (dk_at dksX5_laysSigns_8 16 rfl rfl)
theorem dX5_laysSigns_206 : decode cX5_laysSigns 206 = .ok (.if_icmp .ge 92, 3) := dk_162 0 92 (dk_at dksX5_laysSigns_8 18 rfl rfl)
theorem dX5_laysSigns_209 : decode cX5_laysSigns 209 = .ok (.iload 4, 2) := dk_21 4 (dk_at dksX5_laysSigns_8 21 rfl rfl)
theorem dX5_laysSigns_211 : decode cX5_laysSigns 211 = .ok (.bipush 6, 2) := dk_16 6 (dk_at dksX5_laysSigns_9 0 rfl rfl)
theorem dX5_laysSigns_213 : decode cX5_laysSigns 213 = .ok (.idiv, 1) := dk_108 (dk_at dksX5_laysSigns_9 2 rfl rfl)
theorem dX5_laysSigns_214 : decode cX5_laysSigns 214 = .ok (.istore 5, 2) := dk_54 5 (dk_at dksX5_laysSigns_9 3 rfl rfl)
theorem dX5_laysSigns_216 : decode cX5_laysSigns 216 = .ok (.iload 4, 2) := dk_21 4 (dk_at dksX5_laysSigns_9 5 rfl rfl)
theorem dX5_laysSigns_218 : decode cX5_laysSigns 218 = .ok (.bipush 6, 2) := dk_16 6 (dk_at dksX5_laysSigns_9 7 rfl rfl)
theorem dX5_laysSigns_220 : decode cX5_laysSigns 220 = .ok (.irem, 1) := dk_112 (dk_at dksX5_laysSigns_9 9 rfl rfl)
theorem dX5_laysSigns_221 : decode cX5_laysSigns 221 = .ok (.istore 6, 2) := dk_54 6 (dk_at dksX5_laysSigns_9 10 rfl rfl)
theorem dX5_laysSigns_223 : decode cX5_laysSigns 223 = .ok (.aload_n 0, 1) := dk_42 (dk_at dksX5_laysSigns_9 12 rfl rfl)
theorem dX5_laysSigns_224 : decode cX5_laysSigns 224 = .ok (.aload_n 0, 1) := dk_42 (dk_at dksX5_laysSigns_9 13 rfl rfl)
theorem dX5_laysSigns_225 : decode cX5_laysSigns 225 = .ok (.getfield 13, 3) := dk_180 0 13 (dk_at dksX5_laysSigns_9 14 rfl rfl)
theorem dX5_laysSigns_228 : decode cX5_laysSigns 228 = .ok (.iload 5, 2) := dk_21 5 (dk_at dksX5_laysSigns_9 17 rfl rfl)
theorem dX5_laysSigns_230 : decode cX5_laysSigns 230 = .ok (.iload 6, 2) := dk_21 6 (dk_at dksX5_laysSigns_9 19 rfl rfl)
theorem dX5_laysSigns_232 : decode cX5_laysSigns 232 = .ok (.invokevirtual 158, 3) := dk_182 0 158 (dk_at dksX5_laysSigns_9 21 rfl rfl)
theorem dX5_laysSigns_235 : decode cX5_laysSigns 235 = .ok (.ifCond .eq 57, 3) := dk_153 0 57 (dk_at dksX5_laysSigns_10 0 rfl rfl)
theorem dX5_laysSigns_238 : decode cX5_laysSigns 238 = .ok (.aload_n 0, 1) := dk_42 (dk_at dksX5_laysSigns_10 3 rfl rfl)
theorem dX5_laysSigns_239 : decode cX5_laysSigns 239 = .ok (.getfield 59, 3) := dk_180 0 59 (dk_at dksX5_laysSigns_10 4 rfl rfl)
theorem dX5_laysSigns_242 : decode cX5_laysSigns 242 = .ok (.iload 4, 2) := dk_21 4 (dk_at dksX5_laysSigns_10 7 rfl rfl)
theorem dX5_laysSigns_244 : decode cX5_laysSigns 244 = .ok (.iaload, 1) := dk_46 (dk_at dksX5_laysSigns_10 9 rfl rfl)
theorem dX5_laysSigns_245 : decode cX5_laysSigns 245 = .ok (.bipush 9, 2) := dk_16 9 (dk_at dksX5_laysSigns_10 10 rfl rfl)
theorem dX5_laysSigns_247 : decode cX5_laysSigns 247 = .ok (.if_icmp .eq 6, 3) := dk_159 0 6 (dk_at dksX5_laysSigns_10 12 rfl rfl)
theorem dX5_laysSigns_250 : decode cX5_laysSigns 250 = .ok (.goto 42, 3) := dk_167 0 42 (dk_at dksX5_laysSigns_10 15 rfl rfl)
theorem dX5_laysSigns_253 : decode cX5_laysSigns 253 = .ok (.aload_n 0, 1) := dk_42 (dk_at dksX5_laysSigns_10 18 rfl rfl)
theorem dX5_laysSigns_254 : decode cX5_laysSigns 254 = .ok (.bipush 6, 2) := dk_16 6 (dk_at dksX5_laysSigns_10 19 rfl rfl)
theorem dX5_laysSigns_256 : decode cX5_laysSigns 256 = .ok (.iload 6, 2) := dk_21 6 (dk_at dksX5_laysSigns_10 21 rfl rfl)
theorem dX5_laysSigns_258 : decode cX5_laysSigns 258 = .ok (.iadd, 1) := dk_96 (dk_at dksX5_laysSigns_10 23 rfl rfl)
theorem dX5_laysSigns_259 : decode cX5_laysSigns 259 = .ok (.invokevirtual 277, 3) := dk_182 1 21 (dk_at dksX5_laysSigns_11 0 rfl rfl)
theorem dX5_laysSigns_262 : decode cX5_laysSigns 262 = .ok (.iload_n 2, 1) := dk_28 (dk_at dksX5_laysSigns_11 3 rfl rfl)
theorem dX5_laysSigns_263 : decode cX5_laysSigns 263 = .ok (.iconst (-1), 1) := dk_2 (dk_at dksX5_laysSigns_11 4 rfl rfl)
theorem dX5_laysSigns_264 : decode cX5_laysSigns 264 = .ok (.if_icmp .eq 17, 3) := dk_159 0 17 (dk_at dksX5_laysSigns_11 5 rfl rfl)
theorem dX5_laysSigns_267 : decode cX5_laysSigns 267 = .ok (.aload_n 0, 1) := dk_42 (dk_at dksX5_laysSigns_11 8 rfl rfl)
theorem dX5_laysSigns_268 : decode cX5_laysSigns 268 = .ok (.getfield 56, 3) := dk_180 0 56 (dk_at dksX5_laysSigns_11 9 rfl rfl)
theorem dX5_laysSigns_271 : decode cX5_laysSigns 271 = .ok (.iload 5, 2) := dk_21 5 (dk_at dksX5_laysSigns_11 12 rfl rfl)
theorem dX5_laysSigns_273 : decode cX5_laysSigns 273 = .ok (.iaload, 1) := dk_46 (dk_at dksX5_laysSigns_11 14 rfl rfl)
theorem dX5_laysSigns_274 : decode cX5_laysSigns 274 = .ok (.iload_n 3, 1) := dk_29 (dk_at dksX5_laysSigns_11 15 rfl rfl)
theorem dX5_laysSigns_275 : decode cX5_laysSigns 275 = .ok (.if_icmp .lt 6, 3) := dk_161 0 6 (dk_at dksX5_laysSigns_11 16 rfl rfl)
theorem dX5_laysSigns_278 : decode cX5_laysSigns 278 = .ok (.goto 14, 3) := dk_167 0 14 (dk_at dksX5_laysSigns_11 19 rfl rfl)
theorem dX5_laysSigns_281 : decode cX5_laysSigns 281 = .ok (.iload 4, 2) := dk_21 4 (dk_at dksX5_laysSigns_11 22 rfl rfl)
theorem dX5_laysSigns_283 : decode cX5_laysSigns 283 = .ok (.istore_n 2, 1) := dk_61 (dk_at dksX5_laysSigns_12 0 rfl rfl)
theorem dX5_laysSigns_284 : decode cX5_laysSigns 284 = .ok (.aload_n 0, 1) := dk_42 (dk_at dksX5_laysSigns_12 1 rfl rfl)
theorem dX5_laysSigns_285 : decode cX5_laysSigns 285 = .ok (.getfield 56, 3) := dk_180 0 56 (dk_at dksX5_laysSigns_12 2 rfl rfl)
theorem dX5_laysSigns_288 : decode cX5_laysSigns 288 = .ok (.iload 5, 2) := dk_21 5 (dk_at dksX5_laysSigns_12 5 rfl rfl)
theorem dX5_laysSigns_290 : decode cX5_laysSigns 290 = .ok (.iaload, 1) := dk_46 (dk_at dksX5_laysSigns_12 7 rfl rfl)
theorem dX5_laysSigns_291 : decode cX5_laysSigns 291 = .ok (.istore_n 3, 1) := dk_62 (dk_at dksX5_laysSigns_12 8 rfl rfl)
theorem dX5_laysSigns_292 : decode cX5_laysSigns 292 = .ok (.iinc 4 1, 3) := dk_132 4 1 (dk_at dksX5_laysSigns_12 9 rfl rfl)
theorem dX5_laysSigns_295 : decode cX5_laysSigns 295 = .ok (.goto (-93), 3) := dk_167 255 163 (dk_at dksX5_laysSigns_12 12 rfl rfl)
theorem dX5_laysSigns_298 : decode cX5_laysSigns 298 = .ok (.bipush 6, 2) := dk_16 6 (dk_at dksX5_laysSigns_12 15 rfl rfl)
theorem dX5_laysSigns_300 : decode cX5_laysSigns 300 = .ok (.iload_n 2, 1) := dk_28 (dk_at dksX5_laysSigns_12 17 rfl rfl)
theorem dX5_laysSigns_301 : decode cX5_laysSigns 301 = .ok (.bipush 6, 2) := dk_16 6 (dk_at dksX5_laysSigns_12 18 rfl rfl)
theorem dX5_laysSigns_303 : decode cX5_laysSigns 303 = .ok (.irem, 1) := dk_112 (dk_at dksX5_laysSigns_12 20 rfl rfl)
theorem dX5_laysSigns_304 : decode cX5_laysSigns 304 = .ok (.iadd, 1) := dk_96 (dk_at dksX5_laysSigns_12 21 rfl rfl)
theorem dX5_laysSigns_305 : decode cX5_laysSigns 305 = .ok (.istore 4, 2) := dk_54 4 (dk_at dksX5_laysSigns_12 22 rfl rfl)
theorem dX5_laysSigns_307 : decode cX5_laysSigns 307 = .ok (.aload_n 0, 1) := dk_42 (dk_at dksX5_laysSigns_13 0 rfl rfl)
theorem dX5_laysSigns_308 : decode cX5_laysSigns 308 = .ok (.iload 4, 2) := dk_21 4 (dk_at dksX5_laysSigns_13 1 rfl rfl)
theorem dX5_laysSigns_310 : decode cX5_laysSigns 310 = .ok (.invokevirtual 277, 3) := dk_182 1 21 (dk_at dksX5_laysSigns_13 3 rfl rfl)
theorem dX5_laysSigns_313 : decode cX5_laysSigns 313 = .ok (.iconst 0, 1) := dk_3 (dk_at dksX5_laysSigns_13 6 rfl rfl)
theorem dX5_laysSigns_314 : decode cX5_laysSigns 314 = .ok (.istore 5, 2) := dk_54 5 (dk_at dksX5_laysSigns_13 7 rfl rfl)
theorem dX5_laysSigns_316 : decode cX5_laysSigns 316 = .ok (.iload_n 2, 1) := dk_28 (dk_at dksX5_laysSigns_13 9 rfl rfl)
theorem dX5_laysSigns_317 : decode cX5_laysSigns 317 = .ok (.bipush 6, 2) := dk_16 6 (dk_at dksX5_laysSigns_13 10 rfl rfl)
theorem dX5_laysSigns_319 : decode cX5_laysSigns 319 = .ok (.idiv, 1) := dk_108 (dk_at dksX5_laysSigns_13 12 rfl rfl)
theorem dX5_laysSigns_320 : decode cX5_laysSigns 320 = .ok (.istore 6, 2) := dk_54 6 (dk_at dksX5_laysSigns_13 13 rfl rfl)
theorem dX5_laysSigns_322 : decode cX5_laysSigns 322 = .ok (.iload 6, 2) := dk_21 6 (dk_at dksX5_laysSigns_13 15 rfl rfl)
theorem dX5_laysSigns_324 : decode cX5_laysSigns 324 = .ok (.iload 4, 2) := dk_21 4 (dk_at dksX5_laysSigns_13 17 rfl rfl)
theorem dX5_laysSigns_326 : decode cX5_laysSigns 326 = .ok (.if_icmp .eq 62, 3) := dk_159 0 62 (dk_at dksX5_laysSigns_13 19 rfl rfl)
theorem dX5_laysSigns_329 : decode cX5_laysSigns 329 = .ok (.iconst 0, 1) := dk_3 (dk_at dksX5_laysSigns_13 22 rfl rfl)
theorem dX5_laysSigns_330 : decode cX5_laysSigns 330 = .ok (.istore 7, 2) := dk_54 7 (dk_at dksX5_laysSigns_14 0 rfl rfl)
theorem dX5_laysSigns_332 : decode cX5_laysSigns 332 = .ok (.aload_n 0, 1) := dk_42 (dk_at dksX5_laysSigns_14 2 rfl rfl)
theorem dX5_laysSigns_333 : decode cX5_laysSigns 333 = .ok (.iload 6, 2) := dk_21 6 (dk_at dksX5_laysSigns_14 3 rfl rfl)
theorem dX5_laysSigns_335 : decode cX5_laysSigns 335 = .ok (.iload 7, 2) := dk_21 7 (dk_at dksX5_laysSigns_14 5 rfl rfl)
theorem dX5_laysSigns_337 : decode cX5_laysSigns 337 = .ok (.invokevirtual 274, 3) := dk_182 1 18 (dk_at dksX5_laysSigns_14 7 rfl rfl)
theorem dX5_laysSigns_340 : decode cX5_laysSigns 340 = .ok (.ifCond .eq 22, 3) := dk_153 0 22 (dk_at dksX5_laysSigns_14 10 rfl rfl)
theorem dX5_laysSigns_343 : decode cX5_laysSigns 343 = .ok (.aload_n 0, 1) := dk_42 (dk_at dksX5_laysSigns_14 13 rfl rfl)
theorem dX5_laysSigns_344 : decode cX5_laysSigns 344 = .ok (.getfield 56, 3) := dk_180 0 56 (dk_at dksX5_laysSigns_14 14 rfl rfl)
theorem dX5_laysSigns_347 : decode cX5_laysSigns 347 = .ok (.iload 7, 2) := dk_21 7 (dk_at dksX5_laysSigns_14 17 rfl rfl)
theorem dX5_laysSigns_349 : decode cX5_laysSigns 349 = .ok (.iaload, 1) := dk_46 (dk_at dksX5_laysSigns_14 19 rfl rfl)
theorem dX5_laysSigns_350 : decode cX5_laysSigns 350 = .ok (.aload_n 0, 1) := dk_42 (dk_at dksX5_laysSigns_14 20 rfl rfl)
theorem dX5_laysSigns_351 : decode cX5_laysSigns 351 = .ok (.getfield 56, 3) := dk_180 0 56 (dk_at dksX5_laysSigns_14 21 rfl rfl)
theorem dX5_laysSigns_354 : decode cX5_laysSigns 354 = .ok (.iload 6, 2) := dk_21 6 (dk_at dksX5_laysSigns_15 0 rfl rfl)
theorem dX5_laysSigns_356 : decode cX5_laysSigns 356 = .ok (.iaload, 1) := dk_46 (dk_at dksX5_laysSigns_15 2 rfl rfl)
theorem dX5_laysSigns_357 : decode cX5_laysSigns 357 = .ok (.iconst 1, 1) := dk_4 (dk_at dksX5_laysSigns_15 3 rfl rfl)
theorem dX5_laysSigns_358 : decode cX5_laysSigns 358 = .ok (.isub, 1) := dk_100 (dk_at dksX5_laysSigns_15 4 rfl rfl)
theorem dX5_laysSigns_359 : decode cX5_laysSigns 359 = .ok (.if_icmp .eq 9, 3) := dk_159 0 9 (dk_at dksX5_laysSigns_15 5 rfl rfl)
theorem dX5_laysSigns_362 : decode cX5_laysSigns 362 = .ok (.iinc 7 1, 3) := dk_132 7 1 (dk_at dksX5_laysSigns_15 8 rfl rfl)
theorem dX5_laysSigns_365 : decode cX5_laysSigns 365 = .ok (.goto (-33), 3) := dk_167 255 223 (dk_at dksX5_laysSigns_15 11 rfl rfl)
theorem dX5_laysSigns_368 : decode cX5_laysSigns 368 = .ok (.iload 5, 2) := dk_21 5 (dk_at dksX5_laysSigns_15 14 rfl rfl)
theorem dX5_laysSigns_370 : decode cX5_laysSigns 370 = .ok (.aload_n 0, 1) := dk_42 (dk_at dksX5_laysSigns_15 16 rfl rfl)
theorem dX5_laysSigns_371 : decode cX5_laysSigns 371 = .ok (.iload 6, 2) := dk_21 6 (dk_at dksX5_laysSigns_15 17 rfl rfl)
theorem dX5_laysSigns_373 : decode cX5_laysSigns 373 = .ok (.iload 7, 2) := dk_21 7 (dk_at dksX5_laysSigns_15 19 rfl rfl)
theorem dX5_laysSigns_375 : decode cX5_laysSigns 375 = .ok (.invokevirtual 280, 3) := dk_182 1 24 (dk_at dksX5_laysSigns_15 21 rfl rfl)
theorem dX5_laysSigns_378 : decode cX5_laysSigns 378 = .ok (.iadd, 1) := dk_96 (dk_at dksX5_laysSigns_16 0 rfl rfl)
theorem dX5_laysSigns_379 : decode cX5_laysSigns 379 = .ok (.istore 5, 2) := dk_54 5 (dk_at dksX5_laysSigns_16 1 rfl rfl)
theorem dX5_laysSigns_381 : decode cX5_laysSigns 381 = .ok (.iload 7, 2) := dk_21 7 (dk_at dksX5_laysSigns_16 3 rfl rfl)
theorem dX5_laysSigns_383 : decode cX5_laysSigns 383 = .ok (.istore 6, 2) := dk_54 6 (dk_at dksX5_laysSigns_16 5 rfl rfl)
theorem dX5_laysSigns_385 : decode cX5_laysSigns 385 = .ok (.goto (-63), 3) := dk_167 255 193 (dk_at dksX5_laysSigns_16 7 rfl rfl)
theorem dX5_laysSigns_388 : decode cX5_laysSigns 388 = .ok (.aload_n 0, 1) := dk_42 (dk_at dksX5_laysSigns_16 10 rfl rfl)
theorem dX5_laysSigns_389 : decode cX5_laysSigns 389 = .ok (.getfield 59, 3) := dk_180 0 59 (dk_at dksX5_laysSigns_16 11 rfl rfl)
theorem dX5_laysSigns_392 : decode cX5_laysSigns 392 = .ok (.iload_n 2, 1) := dk_28 (dk_at dksX5_laysSigns_16 14 rfl rfl)
theorem dX5_laysSigns_393 : decode cX5_laysSigns 393 = .ok (.iload 5, 2) := dk_21 5 (dk_at dksX5_laysSigns_16 15 rfl rfl)
theorem dX5_laysSigns_395 : decode cX5_laysSigns 395 = .ok (.iconst 1, 1) := dk_4 (dk_at dksX5_laysSigns_16 17 rfl rfl)
theorem dX5_laysSigns_396 : decode cX5_laysSigns 396 = .ok (.iadd, 1) := dk_96 (dk_at dksX5_laysSigns_16 18 rfl rfl)
theorem dX5_laysSigns_397 : decode cX5_laysSigns 397 = .ok (.iconst 4, 1) := dk_7 (dk_at dksX5_laysSigns_16 19 rfl rfl)
theorem dX5_laysSigns_398 : decode cX5_laysSigns 398 = .ok (.irem, 1) := dk_112 (dk_at dksX5_laysSigns_16 20 rfl rfl)
theorem dX5_laysSigns_399 : decode cX5_laysSigns 399 = .ok (.ifCond .ne 7, 3) := dk_154 0 7 (dk_at dksX5_laysSigns_16 21 rfl rfl)
theorem dX5_laysSigns_402 : decode cX5_laysSigns 402 = .ok (.iconst 1, 1) := dk_4 (dk_at dksX5_laysSigns_17 0 rfl rfl)
theorem dX5_laysSigns_403 : decode cX5_laysSigns 403 = .ok (.goto 4, 3) := dk_167 0 4 (dk_at dksX5_laysSigns_17 1 rfl rfl)
theorem dX5_laysSigns_406 : decode cX5_laysSigns 406 = .ok (.iconst (-1), 1) := dk_2 (dk_at dksX5_laysSigns_17 4 rfl rfl)
theorem dX5_laysSigns_407 : decode cX5_laysSigns 407 = .ok (.iastore, 1) := dk_79 (dk_at dksX5_laysSigns_17 5 rfl rfl)
theorem dX5_laysSigns_408 : decode cX5_laysSigns 408 = .ok (.iinc 1 (-1), 3) := dk_132 1 255 (dk_at dksX5_laysSigns_17 6 rfl rfl)
theorem dX5_laysSigns_411 : decode cX5_laysSigns 411 = .ok (.goto (-220), 3) := dk_167 255 36 (dk_at dksX5_laysSigns_17 9 rfl rfl)
theorem dX5_laysSigns_414 : decode cX5_laysSigns 414 = .ok (.return_, 1) := dk_177 (dk_at dksX5_laysSigns_17 12 rfl rfl)
abbrev cX5_laysSteps : ByteArray := prog_9_method_64_code
def yX5_laysSteps : MethodName := ⟨RX5, "laysSteps", "(I)V"⟩
def dkwX5_laysSteps_5 : List UInt8 := [177]
abbrev dktX5_laysSteps_5 : List UInt8 := dkwX5_laysSteps_5 ++ []
def dkwX5_laysSteps_4 : List UInt8 := [21, 4, 28, 4, 96, 79, 132, 4, 1, 167, 255, 215, 132, 3, 1, 167, 255, 187, 132, 2, 1, 167, 255, 173]
abbrev dktX5_laysSteps_4 : List UInt8 := dkwX5_laysSteps_4 ++ dktX5_laysSteps_5
def dkwX5_laysSteps_3 : List UInt8 := [180, 0, 56, 21, 4, 46, 2, 160, 0, 23, 42, 29, 21, 4, 182, 1, 18, 153, 0, 13, 42, 180, 0, 56]
abbrev dktX5_laysSteps_3 : List UInt8 := dkwX5_laysSteps_3 ++ dktX5_laysSteps_4
def dkwX5_laysSteps_2 : List UInt8 := [180, 0, 56, 29, 46, 28, 159, 0, 6, 167, 0, 50, 3, 54, 4, 21, 4, 16, 12, 162, 0, 40, 42]
abbrev dktX5_laysSteps_2 : List UInt8 := dkwX5_laysSteps_2 ++ dktX5_laysSteps_3
def dkwX5_laysSteps_1 : List UInt8 := [132, 2, 1, 167, 255, 231, 3, 61, 28, 16, 12, 162, 0, 83, 3, 62, 29, 16, 12, 162, 0, 69, 42]
abbrev dktX5_laysSteps_1 : List UInt8 := dkwX5_laysSteps_1 ++ dktX5_laysSteps_2
def dkwX5_laysSteps_0 : List UInt8 := [3, 61, 28, 16, 12, 162, 0, 25, 42, 180, 0, 56, 28, 28, 27, 160, 0, 7, 3, 167, 0, 4, 2, 79]
abbrev dktX5_laysSteps_0 : List UInt8 := dkwX5_laysSteps_0 ++ dktX5_laysSteps_1
theorem dksX5_laysSteps_0 : cX5_laysSteps.data.toList.drop 0 = dktX5_laysSteps_0 := by decide +kernel
theorem dksX5_laysSteps_1 : cX5_laysSteps.data.toList.drop 24 = dktX5_laysSteps_1 := dk_seg dksX5_laysSteps_0 24 rfl rfl
theorem dksX5_laysSteps_2 : cX5_laysSteps.data.toList.drop 47 = dktX5_laysSteps_2 := dk_seg dksX5_laysSteps_1 23 rfl rfl
theorem dksX5_laysSteps_3 : cX5_laysSteps.data.toList.drop 70 = dktX5_laysSteps_3 := dk_seg dksX5_laysSteps_2 23 rfl rfl
theorem dksX5_laysSteps_4 : cX5_laysSteps.data.toList.drop 94 = dktX5_laysSteps_4 := dk_seg dksX5_laysSteps_3 24 rfl rfl
theorem dksX5_laysSteps_5 : cX5_laysSteps.data.toList.drop 118 = dktX5_laysSteps_5 := dk_seg dksX5_laysSteps_4 24 rfl rfl
theorem dX5_laysSteps_0 : decode cX5_laysSteps 0 = .ok (.iconst 0, 1) := dk_3 (dk_at dksX5_laysSteps_0 0 rfl rfl)
theorem dX5_laysSteps_1 : decode cX5_laysSteps 1 = .ok (.istore_n 2, 1) := dk_61 (dk_at dksX5_laysSteps_0 1 rfl rfl)
theorem dX5_laysSteps_2 : decode cX5_laysSteps 2 = .ok (.iload_n 2, 1) := dk_28 (dk_at dksX5_laysSteps_0 2 rfl rfl)
theorem dX5_laysSteps_3 : decode cX5_laysSteps 3 = .ok (.bipush 12, 2) := dk_16 12 (dk_at dksX5_laysSteps_0 3 rfl rfl)
theorem dX5_laysSteps_5 : decode cX5_laysSteps 5 = .ok (.if_icmp .ge 25, 3) := dk_162 0 25 (dk_at dksX5_laysSteps_0 5 rfl rfl)
theorem dX5_laysSteps_8 : decode cX5_laysSteps 8 = .ok (.aload_n 0, 1) := dk_42 (dk_at dksX5_laysSteps_0 8 rfl rfl)
theorem dX5_laysSteps_9 : decode cX5_laysSteps 9 = .ok (.getfield 56, 3) := dk_180 0 56 (dk_at dksX5_laysSteps_0 9 rfl rfl)
theorem dX5_laysSteps_12 : decode cX5_laysSteps 12 = .ok (.iload_n 2, 1) := dk_28 (dk_at dksX5_laysSteps_0 12 rfl rfl)
theorem dX5_laysSteps_13 : decode cX5_laysSteps 13 = .ok (.iload_n 2, 1) := dk_28 (dk_at dksX5_laysSteps_0 13 rfl rfl)
theorem dX5_laysSteps_14 : decode cX5_laysSteps 14 = .ok (.iload_n 1, 1) := dk_27 (dk_at dksX5_laysSteps_0 14 rfl rfl)
theorem dX5_laysSteps_15 : decode cX5_laysSteps 15 = .ok (.if_icmp .ne 7, 3) := dk_160 0 7 (dk_at dksX5_laysSteps_0 15 rfl rfl)
theorem dX5_laysSteps_18 : decode cX5_laysSteps 18 = .ok (.iconst 0, 1) := dk_3 (dk_at dksX5_laysSteps_0 18 rfl rfl)
theorem dX5_laysSteps_19 : decode cX5_laysSteps 19 = .ok (.goto 4, 3) := dk_167 0 4 (dk_at dksX5_laysSteps_0 19 rfl rfl)
theorem dX5_laysSteps_22 : decode cX5_laysSteps 22 = .ok (.iconst (-1), 1) := dk_2 (dk_at dksX5_laysSteps_0 22 rfl rfl)
theorem dX5_laysSteps_23 : decode cX5_laysSteps 23 = .ok (.iastore, 1) := dk_79 (dk_at dksX5_laysSteps_0 23 rfl rfl)
theorem dX5_laysSteps_24 : decode cX5_laysSteps 24 = .ok (.iinc 2 1, 3) := dk_132 2 1 (dk_at dksX5_laysSteps_1 0 rfl rfl)
theorem dX5_laysSteps_27 : decode cX5_laysSteps 27 = .ok (.goto (-25), 3) := dk_167 255 231 (dk_at dksX5_laysSteps_1 3 rfl rfl)
theorem dX5_laysSteps_30 : decode cX5_laysSteps 30 = .ok (.iconst 0, 1) := dk_3 (dk_at dksX5_laysSteps_1 6 rfl rfl)
theorem dX5_laysSteps_31 : decode cX5_laysSteps 31 = .ok (.istore_n 2, 1) := dk_61 (dk_at dksX5_laysSteps_1 7 rfl rfl)
theorem dX5_laysSteps_32 : decode cX5_laysSteps 32 = .ok (.iload_n 2, 1) := dk_28 (dk_at dksX5_laysSteps_1 8 rfl rfl)
theorem dX5_laysSteps_33 : decode cX5_laysSteps 33 = .ok (.bipush 12, 2) := dk_16 12 (dk_at dksX5_laysSteps_1 9 rfl rfl)
theorem dX5_laysSteps_35 : decode cX5_laysSteps 35 = .ok (.if_icmp .ge 83, 3) := dk_162 0 83 (dk_at dksX5_laysSteps_1 11 rfl rfl)
theorem dX5_laysSteps_38 : decode cX5_laysSteps 38 = .ok (.iconst 0, 1) := dk_3 (dk_at dksX5_laysSteps_1 14 rfl rfl)
theorem dX5_laysSteps_39 : decode cX5_laysSteps 39 = .ok (.istore_n 3, 1) := dk_62 (dk_at dksX5_laysSteps_1 15 rfl rfl)
theorem dX5_laysSteps_40 : decode cX5_laysSteps 40 = .ok (.iload_n 3, 1) := dk_29 (dk_at dksX5_laysSteps_1 16 rfl rfl)
theorem dX5_laysSteps_41 : decode cX5_laysSteps 41 = .ok (.bipush 12, 2) := dk_16 12 (dk_at dksX5_laysSteps_1 17 rfl rfl)
theorem dX5_laysSteps_43 : decode cX5_laysSteps 43 = .ok (.if_icmp .ge 69, 3) := dk_162 0 69 (dk_at dksX5_laysSteps_1 19 rfl rfl)
theorem dX5_laysSteps_46 : decode cX5_laysSteps 46 = .ok (.aload_n 0, 1) := dk_42 (dk_at dksX5_laysSteps_1 22 rfl rfl)
theorem dX5_laysSteps_47 : decode cX5_laysSteps 47 = .ok (.getfield 56, 3) := dk_180 0 56 (dk_at dksX5_laysSteps_2 0 rfl rfl)
theorem dX5_laysSteps_50 : decode cX5_laysSteps 50 = .ok (.iload_n 3, 1) := dk_29 (dk_at dksX5_laysSteps_2 3 rfl rfl)
theorem dX5_laysSteps_51 : decode cX5_laysSteps 51 = .ok (.iaload, 1) := dk_46 (dk_at dksX5_laysSteps_2 4 rfl rfl)
theorem dX5_laysSteps_52 : decode cX5_laysSteps 52 = .ok (.iload_n 2, 1) := dk_28 (dk_at dksX5_laysSteps_2 5 rfl rfl)
theorem dX5_laysSteps_53 : decode cX5_laysSteps 53 = .ok (.if_icmp .eq 6, 3) := dk_159 0 6 (dk_at dksX5_laysSteps_2 6 rfl rfl)
theorem dX5_laysSteps_56 : decode cX5_laysSteps 56 = .ok (.goto 50, 3) := dk_167 0 50 (dk_at dksX5_laysSteps_2 9 rfl rfl)
theorem dX5_laysSteps_59 : decode cX5_laysSteps 59 = .ok (.iconst 0, 1) := dk_3 (dk_at dksX5_laysSteps_2 12 rfl rfl)
theorem dX5_laysSteps_60 : decode cX5_laysSteps 60 = .ok (.istore 4, 2) := dk_54 4 (dk_at dksX5_laysSteps_2 13 rfl rfl)
theorem dX5_laysSteps_62 : decode cX5_laysSteps 62 = .ok (.iload 4, 2) := dk_21 4 (dk_at dksX5_laysSteps_2 15 rfl rfl)
theorem dX5_laysSteps_64 : decode cX5_laysSteps 64 = .ok (.bipush 12, 2) := dk_16 12 (dk_at dksX5_laysSteps_2 17 rfl rfl)
theorem dX5_laysSteps_66 : decode cX5_laysSteps 66 = .ok (.if_icmp .ge 40, 3) := dk_162 0 40 (dk_at dksX5_laysSteps_2 19 rfl rfl)
theorem dX5_laysSteps_69 : decode cX5_laysSteps 69 = .ok (.aload_n 0, 1) := dk_42 (dk_at dksX5_laysSteps_2 22 rfl rfl)
theorem dX5_laysSteps_70 : decode cX5_laysSteps 70 = .ok (.getfield 56, 3) := dk_180 0 56 (dk_at dksX5_laysSteps_3 0 rfl rfl)
theorem dX5_laysSteps_73 : decode cX5_laysSteps 73 = .ok (.iload 4, 2) := dk_21 4 (dk_at dksX5_laysSteps_3 3 rfl rfl)
theorem dX5_laysSteps_75 : decode cX5_laysSteps 75 = .ok (.iaload, 1) := dk_46 (dk_at dksX5_laysSteps_3 5 rfl rfl)
theorem dX5_laysSteps_76 : decode cX5_laysSteps 76 = .ok (.iconst (-1), 1) := dk_2 (dk_at dksX5_laysSteps_3 6 rfl rfl)
theorem dX5_laysSteps_77 : decode cX5_laysSteps 77 = .ok (.if_icmp .ne 23, 3) := dk_160 0 23 (dk_at dksX5_laysSteps_3 7 rfl rfl)
theorem dX5_laysSteps_80 : decode cX5_laysSteps 80 = .ok (.aload_n 0, 1) := dk_42 (dk_at dksX5_laysSteps_3 10 rfl rfl)
theorem dX5_laysSteps_81 : decode cX5_laysSteps 81 = .ok (.iload_n 3, 1) := dk_29 (dk_at dksX5_laysSteps_3 11 rfl rfl)
theorem dX5_laysSteps_82 : decode cX5_laysSteps 82 = .ok (.iload 4, 2) := dk_21 4 (dk_at dksX5_laysSteps_3 12 rfl rfl)
theorem dX5_laysSteps_84 : decode cX5_laysSteps 84 = .ok (.invokevirtual 274, 3) := dk_182 1 18 (dk_at dksX5_laysSteps_3 14 rfl rfl)
theorem dX5_laysSteps_87 : decode cX5_laysSteps 87 = .ok (.ifCond .eq 13, 3) := dk_153 0 13 (dk_at dksX5_laysSteps_3 17 rfl rfl)
theorem dX5_laysSteps_90 : decode cX5_laysSteps 90 = .ok (.aload_n 0, 1) := dk_42 (dk_at dksX5_laysSteps_3 20 rfl rfl)
theorem dX5_laysSteps_91 : decode cX5_laysSteps 91 = .ok (.getfield 56, 3) := dk_180 0 56 (dk_at dksX5_laysSteps_3 21 rfl rfl)
theorem dX5_laysSteps_94 : decode cX5_laysSteps 94 = .ok (.iload 4, 2) := dk_21 4 (dk_at dksX5_laysSteps_4 0 rfl rfl)
theorem dX5_laysSteps_96 : decode cX5_laysSteps 96 = .ok (.iload_n 2, 1) := dk_28 (dk_at dksX5_laysSteps_4 2 rfl rfl)
theorem dX5_laysSteps_97 : decode cX5_laysSteps 97 = .ok (.iconst 1, 1) := dk_4 (dk_at dksX5_laysSteps_4 3 rfl rfl)
theorem dX5_laysSteps_98 : decode cX5_laysSteps 98 = .ok (.iadd, 1) := dk_96 (dk_at dksX5_laysSteps_4 4 rfl rfl)
theorem dX5_laysSteps_99 : decode cX5_laysSteps 99 = .ok (.iastore, 1) := dk_79 (dk_at dksX5_laysSteps_4 5 rfl rfl)
theorem dX5_laysSteps_100 : decode cX5_laysSteps 100 = .ok (.iinc 4 1, 3) := dk_132 4 1 (dk_at dksX5_laysSteps_4 6 rfl rfl)
theorem dX5_laysSteps_103 : decode cX5_laysSteps 103 = .ok (.goto (-41), 3) := dk_167 255 215 (dk_at dksX5_laysSteps_4 9 rfl rfl)
theorem dX5_laysSteps_106 : decode cX5_laysSteps 106 = .ok (.iinc 3 1, 3) := dk_132 3 1 (dk_at dksX5_laysSteps_4 12 rfl rfl)
theorem dX5_laysSteps_109 : decode cX5_laysSteps 109 = .ok (.goto (-69), 3) := dk_167 255 187 (dk_at dksX5_laysSteps_4 15 rfl rfl)
theorem dX5_laysSteps_112 : decode cX5_laysSteps 112 = .ok (.iinc 2 1, 3) := dk_132 2 1 (dk_at dksX5_laysSteps_4 18 rfl rfl)
theorem dX5_laysSteps_115 : decode cX5_laysSteps 115 = .ok (.goto (-83), 3) := dk_167 255 173 (dk_at dksX5_laysSteps_4 21 rfl rfl)
theorem dX5_laysSteps_118 : decode cX5_laysSteps 118 = .ok (.return_, 1) := dk_177 (dk_at dksX5_laysSteps_5 0 rfl rfl)
abbrev cX5_areTold : ByteArray := prog_9_method_62_code
def yX5_areTold : MethodName := ⟨RX5, "areTold", "(II)Z"⟩
def dkwX5_areTold_2 : List UInt8 := [4, 167, 0, 4, 3, 172]
abbrev dktX5_areTold_2 : List UInt8 := dkwX5_areTold_2 ++ []
def dkwX5_areTold_1 : List UInt8 := [27, 16, 6, 161, 0, 25, 28, 16, 6, 162, 0, 19, 42, 28, 27, 16, 6, 100, 182, 1, 15, 153, 0, 7]
abbrev dktX5_areTold_1 : List UInt8 := dkwX5_areTold_1 ++ dktX5_areTold_2
def dkwX5_areTold_0 : List UInt8 := [27, 16, 6, 162, 0, 21, 28, 16, 6, 161, 0, 15, 42, 27, 28, 16, 6, 100, 182, 1, 15, 167, 0, 32]
abbrev dktX5_areTold_0 : List UInt8 := dkwX5_areTold_0 ++ dktX5_areTold_1
theorem dksX5_areTold_0 : cX5_areTold.data.toList.drop 0 = dktX5_areTold_0 := by decide +kernel
theorem dksX5_areTold_1 : cX5_areTold.data.toList.drop 24 = dktX5_areTold_1 := dk_seg dksX5_areTold_0 24 rfl rfl
theorem dksX5_areTold_2 : cX5_areTold.data.toList.drop 48 = dktX5_areTold_2 := dk_seg dksX5_areTold_1 24 rfl rfl
theorem dX5_areTold_0 : decode cX5_areTold 0 = .ok (.iload_n 1, 1) := dk_27 (dk_at dksX5_areTold_0 0 rfl rfl)
theorem dX5_areTold_1 : decode cX5_areTold 1 = .ok (.bipush 6, 2) := dk_16 6 (dk_at dksX5_areTold_0 1 rfl rfl)
theorem dX5_areTold_3 : decode cX5_areTold 3 = .ok (.if_icmp .ge 21, 3) := dk_162 0 21 (dk_at dksX5_areTold_0 3 rfl rfl)
theorem dX5_areTold_6 : decode cX5_areTold 6 = .ok (.iload_n 2, 1) := dk_28 (dk_at dksX5_areTold_0 6 rfl rfl)
theorem dX5_areTold_7 : decode cX5_areTold 7 = .ok (.bipush 6, 2) := dk_16 6 (dk_at dksX5_areTold_0 7 rfl rfl)
theorem dX5_areTold_9 : decode cX5_areTold 9 = .ok (.if_icmp .lt 15, 3) := dk_161 0 15 (dk_at dksX5_areTold_0 9 rfl rfl)
theorem dX5_areTold_12 : decode cX5_areTold 12 = .ok (.aload_n 0, 1) := dk_42 (dk_at dksX5_areTold_0 12 rfl rfl)
theorem dX5_areTold_13 : decode cX5_areTold 13 = .ok (.iload_n 1, 1) := dk_27 (dk_at dksX5_areTold_0 13 rfl rfl)
theorem dX5_areTold_14 : decode cX5_areTold 14 = .ok (.iload_n 2, 1) := dk_28 (dk_at dksX5_areTold_0 14 rfl rfl)
theorem dX5_areTold_15 : decode cX5_areTold 15 = .ok (.bipush 6, 2) := dk_16 6 (dk_at dksX5_areTold_0 15 rfl rfl)
theorem dX5_areTold_17 : decode cX5_areTold 17 = .ok (.isub, 1) := dk_100 (dk_at dksX5_areTold_0 17 rfl rfl)
theorem dX5_areTold_18 : decode cX5_areTold 18 = .ok (.invokevirtual 271, 3) := dk_182 1 15 (dk_at dksX5_areTold_0 18 rfl rfl)
theorem dX5_areTold_21 : decode cX5_areTold 21 = .ok (.goto 32, 3) := dk_167 0 32 (dk_at dksX5_areTold_0 21 rfl rfl)
theorem dX5_areTold_24 : decode cX5_areTold 24 = .ok (.iload_n 1, 1) := dk_27 (dk_at dksX5_areTold_1 0 rfl rfl)
theorem dX5_areTold_25 : decode cX5_areTold 25 = .ok (.bipush 6, 2) := dk_16 6 (dk_at dksX5_areTold_1 1 rfl rfl)
theorem dX5_areTold_27 : decode cX5_areTold 27 = .ok (.if_icmp .lt 25, 3) := dk_161 0 25 (dk_at dksX5_areTold_1 3 rfl rfl)
theorem dX5_areTold_30 : decode cX5_areTold 30 = .ok (.iload_n 2, 1) := dk_28 (dk_at dksX5_areTold_1 6 rfl rfl)
theorem dX5_areTold_31 : decode cX5_areTold 31 = .ok (.bipush 6, 2) := dk_16 6 (dk_at dksX5_areTold_1 7 rfl rfl)
theorem dX5_areTold_33 : decode cX5_areTold 33 = .ok (.if_icmp .ge 19, 3) := dk_162 0 19 (dk_at dksX5_areTold_1 9 rfl rfl)
theorem dX5_areTold_36 : decode cX5_areTold 36 = .ok (.aload_n 0, 1) := dk_42 (dk_at dksX5_areTold_1 12 rfl rfl)
theorem dX5_areTold_37 : decode cX5_areTold 37 = .ok (.iload_n 2, 1) := dk_28 (dk_at dksX5_areTold_1 13 rfl rfl)
theorem dX5_areTold_38 : decode cX5_areTold 38 = .ok (.iload_n 1, 1) := dk_27 (dk_at dksX5_areTold_1 14 rfl rfl)
theorem dX5_areTold_39 : decode cX5_areTold 39 = .ok (.bipush 6, 2) := dk_16 6 (dk_at dksX5_areTold_1 15 rfl rfl)
theorem dX5_areTold_41 : decode cX5_areTold 41 = .ok (.isub, 1) := dk_100 (dk_at dksX5_areTold_1 17 rfl rfl)
theorem dX5_areTold_42 : decode cX5_areTold 42 = .ok (.invokevirtual 271, 3) := dk_182 1 15 (dk_at dksX5_areTold_1 18 rfl rfl)
theorem dX5_areTold_45 : decode cX5_areTold 45 = .ok (.ifCond .eq 7, 3) := dk_153 0 7 (dk_at dksX5_areTold_1 21 rfl rfl)
theorem dX5_areTold_48 : decode cX5_areTold 48 = .ok (.iconst 1, 1) := dk_4 (dk_at dksX5_areTold_2 0 rfl rfl)
theorem dX5_areTold_49 : decode cX5_areTold 49 = .ok (.goto 4, 3) := dk_167 0 4 (dk_at dksX5_areTold_2 1 rfl rfl)
theorem dX5_areTold_52 : decode cX5_areTold 52 = .ok (.iconst 0, 1) := dk_3 (dk_at dksX5_areTold_2 4 rfl rfl)
theorem dX5_areTold_53 : decode cX5_areTold 53 = .ok (.ireturn, 1) := dk_172 (dk_at dksX5_areTold_2 5 rfl rfl)
abbrev cX5_isTold : ByteArray := prog_9_method_61_code
def yX5_isTold : MethodName := ⟨RX5, "isTold", "(II)Z"⟩
def dkwX5_isTold_2 : List UInt8 := [172]
abbrev dktX5_isTold_2 : List UInt8 := dkwX5_isTold_2 ++ []
def dkwX5_isTold_1 : List UInt8 := [153, 0, 23, 42, 180, 0, 59, 16, 6, 27, 104, 28, 96, 46, 16, 9, 159, 0, 7, 4, 167, 0, 4, 3]
abbrev dktX5_isTold_1 : List UInt8 := dkwX5_isTold_1 ++ dktX5_isTold_2
def dkwX5_isTold_0 : List UInt8 := [42, 42, 180, 0, 59, 27, 28, 182, 0, 158, 153, 0, 37, 42, 180, 0, 59, 16, 6, 27, 104, 28, 96, 46]
abbrev dktX5_isTold_0 : List UInt8 := dkwX5_isTold_0 ++ dktX5_isTold_1
theorem dksX5_isTold_0 : cX5_isTold.data.toList.drop 0 = dktX5_isTold_0 := by decide +kernel
theorem dksX5_isTold_1 : cX5_isTold.data.toList.drop 24 = dktX5_isTold_1 := dk_seg dksX5_isTold_0 24 rfl rfl
theorem dksX5_isTold_2 : cX5_isTold.data.toList.drop 48 = dktX5_isTold_2 := dk_seg dksX5_isTold_1 24 rfl rfl
theorem dX5_isTold_0 : decode cX5_isTold 0 = .ok (.aload_n 0, 1) := dk_42 (dk_at dksX5_isTold_0 0 rfl rfl)
theorem dX5_isTold_1 : decode cX5_isTold 1 = .ok (.aload_n 0, 1) := dk_42 (dk_at dksX5_isTold_0 1 rfl rfl)
theorem dX5_isTold_2 : decode cX5_isTold 2 = .ok (.getfield 59, 3) := dk_180 0 59 (dk_at dksX5_isTold_0 2 rfl rfl)
theorem dX5_isTold_5 : decode cX5_isTold 5 = .ok (.iload_n 1, 1) := dk_27 (dk_at dksX5_isTold_0 5 rfl rfl)
theorem dX5_isTold_6 : decode cX5_isTold 6 = .ok (.iload_n 2, 1) := dk_28 (dk_at dksX5_isTold_0 6 rfl rfl)
theorem dX5_isTold_7 : decode cX5_isTold 7 = .ok (.invokevirtual 158, 3) := dk_182 0 158 (dk_at dksX5_isTold_0 7 rfl rfl)
theorem dX5_isTold_10 : decode cX5_isTold 10 = .ok (.ifCond .eq 37, 3) := dk_153 0 37 (dk_at dksX5_isTold_0 10 rfl rfl)
theorem dX5_isTold_13 : decode cX5_isTold 13 = .ok (.aload_n 0, 1) := dk_42 (dk_at dksX5_isTold_0 13 rfl rfl)
theorem dX5_isTold_14 : decode cX5_isTold 14 = .ok (.getfield 59, 3) := dk_180 0 59 (dk_at dksX5_isTold_0 14 rfl rfl)
theorem dX5_isTold_17 : decode cX5_isTold 17 = .ok (.bipush 6, 2) := dk_16 6 (dk_at dksX5_isTold_0 17 rfl rfl)
theorem dX5_isTold_19 : decode cX5_isTold 19 = .ok (.iload_n 1, 1) := dk_27 (dk_at dksX5_isTold_0 19 rfl rfl)
theorem dX5_isTold_20 : decode cX5_isTold 20 = .ok (.imul, 1) := dk_104 (dk_at dksX5_isTold_0 20 rfl rfl)
theorem dX5_isTold_21 : decode cX5_isTold 21 = .ok (.iload_n 2, 1) := dk_28 (dk_at dksX5_isTold_0 21 rfl rfl)
theorem dX5_isTold_22 : decode cX5_isTold 22 = .ok (.iadd, 1) := dk_96 (dk_at dksX5_isTold_0 22 rfl rfl)
theorem dX5_isTold_23 : decode cX5_isTold 23 = .ok (.iaload, 1) := dk_46 (dk_at dksX5_isTold_0 23 rfl rfl)
theorem dX5_isTold_24 : decode cX5_isTold 24 = .ok (.ifCond .eq 23, 3) := dk_153 0 23 (dk_at dksX5_isTold_1 0 rfl rfl)
theorem dX5_isTold_27 : decode cX5_isTold 27 = .ok (.aload_n 0, 1) := dk_42 (dk_at dksX5_isTold_1 3 rfl rfl)
theorem dX5_isTold_28 : decode cX5_isTold 28 = .ok (.getfield 59, 3) := dk_180 0 59 (dk_at dksX5_isTold_1 4 rfl rfl)
theorem dX5_isTold_31 : decode cX5_isTold 31 = .ok (.bipush 6, 2) := dk_16 6 (dk_at dksX5_isTold_1 7 rfl rfl)
theorem dX5_isTold_33 : decode cX5_isTold 33 = .ok (.iload_n 1, 1) := dk_27 (dk_at dksX5_isTold_1 9 rfl rfl)
theorem dX5_isTold_34 : decode cX5_isTold 34 = .ok (.imul, 1) := dk_104 (dk_at dksX5_isTold_1 10 rfl rfl)
theorem dX5_isTold_35 : decode cX5_isTold 35 = .ok (.iload_n 2, 1) := dk_28 (dk_at dksX5_isTold_1 11 rfl rfl)
theorem dX5_isTold_36 : decode cX5_isTold 36 = .ok (.iadd, 1) := dk_96 (dk_at dksX5_isTold_1 12 rfl rfl)
theorem dX5_isTold_37 : decode cX5_isTold 37 = .ok (.iaload, 1) := dk_46 (dk_at dksX5_isTold_1 13 rfl rfl)
theorem dX5_isTold_38 : decode cX5_isTold 38 = .ok (.bipush 9, 2) := dk_16 9 (dk_at dksX5_isTold_1 14 rfl rfl)
theorem dX5_isTold_40 : decode cX5_isTold 40 = .ok (.if_icmp .eq 7, 3) := dk_159 0 7 (dk_at dksX5_isTold_1 16 rfl rfl)
theorem dX5_isTold_43 : decode cX5_isTold 43 = .ok (.iconst 1, 1) := dk_4 (dk_at dksX5_isTold_1 19 rfl rfl)
theorem dX5_isTold_44 : decode cX5_isTold 44 = .ok (.goto 4, 3) := dk_167 0 4 (dk_at dksX5_isTold_1 20 rfl rfl)
theorem dX5_isTold_47 : decode cX5_isTold 47 = .ok (.iconst 0, 1) := dk_3 (dk_at dksX5_isTold_1 23 rfl rfl)
theorem dX5_isTold_48 : decode cX5_isTold 48 = .ok (.ireturn, 1) := dk_172 (dk_at dksX5_isTold_2 0 rfl rfl)
abbrev cX5_signBetween : ByteArray := prog_9_method_63_code
def yX5_signBetween : MethodName := ⟨RX5, "signBetween", "(II)I"⟩
def dkwX5_signBetween_1 : List UInt8 := [180, 0, 59, 16, 6, 28, 104, 27, 96, 16, 6, 100, 46, 172]
abbrev dktX5_signBetween_1 : List UInt8 := dkwX5_signBetween_1 ++ []
def dkwX5_signBetween_0 : List UInt8 := [27, 16, 6, 162, 0, 20, 42, 180, 0, 59, 16, 6, 27, 104, 28, 96, 16, 6, 100, 46, 167, 0, 17, 42]
abbrev dktX5_signBetween_0 : List UInt8 := dkwX5_signBetween_0 ++ dktX5_signBetween_1
theorem dksX5_signBetween_0 : cX5_signBetween.data.toList.drop 0 = dktX5_signBetween_0 := by decide +kernel
theorem dksX5_signBetween_1 : cX5_signBetween.data.toList.drop 24 = dktX5_signBetween_1 := dk_seg dksX5_signBetween_0 24 rfl rfl
theorem dX5_signBetween_0 : decode cX5_signBetween 0 = .ok (.iload_n 1, 1) := dk_27 (dk_at dksX5_signBetween_0 0 rfl rfl)
theorem dX5_signBetween_1 : decode cX5_signBetween 1 = .ok (.bipush 6, 2) := dk_16 6 (dk_at dksX5_signBetween_0 1 rfl rfl)
theorem dX5_signBetween_3 : decode cX5_signBetween 3 = .ok (.if_icmp .ge 20, 3) := dk_162 0 20 (dk_at dksX5_signBetween_0 3 rfl rfl)
theorem dX5_signBetween_6 : decode cX5_signBetween 6 = .ok (.aload_n 0, 1) := dk_42 (dk_at dksX5_signBetween_0 6 rfl rfl)
theorem dX5_signBetween_7 : decode cX5_signBetween 7 = .ok (.getfield 59, 3) := dk_180 0 59 (dk_at dksX5_signBetween_0 7 rfl rfl)
theorem dX5_signBetween_10 : decode cX5_signBetween 10 = .ok (.bipush 6, 2) := dk_16 6 (dk_at dksX5_signBetween_0 10 rfl rfl)
theorem dX5_signBetween_12 : decode cX5_signBetween 12 = .ok (.iload_n 1, 1) := dk_27 (dk_at dksX5_signBetween_0 12 rfl rfl)
theorem dX5_signBetween_13 : decode cX5_signBetween 13 = .ok (.imul, 1) := dk_104 (dk_at dksX5_signBetween_0 13 rfl rfl)
theorem dX5_signBetween_14 : decode cX5_signBetween 14 = .ok (.iload_n 2, 1) := dk_28 (dk_at dksX5_signBetween_0 14 rfl rfl)
theorem dX5_signBetween_15 : decode cX5_signBetween 15 = .ok (.iadd, 1) := dk_96 (dk_at dksX5_signBetween_0 15 rfl rfl)
theorem dX5_signBetween_16 : decode cX5_signBetween 16 = .ok (.bipush 6, 2) := dk_16 6 (dk_at dksX5_signBetween_0 16 rfl rfl)
theorem dX5_signBetween_18 : decode cX5_signBetween 18 = .ok (.isub, 1) := dk_100 (dk_at dksX5_signBetween_0 18 rfl rfl)
theorem dX5_signBetween_19 : decode cX5_signBetween 19 = .ok (.iaload, 1) := dk_46 (dk_at dksX5_signBetween_0 19 rfl rfl)
theorem dX5_signBetween_20 : decode cX5_signBetween 20 = .ok (.goto 17, 3) := dk_167 0 17 (dk_at dksX5_signBetween_0 20 rfl rfl)
theorem dX5_signBetween_23 : decode cX5_signBetween 23 = .ok (.aload_n 0, 1) := dk_42 (dk_at dksX5_signBetween_0 23 rfl rfl)
theorem dX5_signBetween_24 : decode cX5_signBetween 24 = .ok (.getfield 59, 3) := dk_180 0 59 (dk_at dksX5_signBetween_1 0 rfl rfl)
theorem dX5_signBetween_27 : decode cX5_signBetween 27 = .ok (.bipush 6, 2) := dk_16 6 (dk_at dksX5_signBetween_1 3 rfl rfl)
theorem dX5_signBetween_29 : decode cX5_signBetween 29 = .ok (.iload_n 2, 1) := dk_28 (dk_at dksX5_signBetween_1 5 rfl rfl)
theorem dX5_signBetween_30 : decode cX5_signBetween 30 = .ok (.imul, 1) := dk_104 (dk_at dksX5_signBetween_1 6 rfl rfl)
theorem dX5_signBetween_31 : decode cX5_signBetween 31 = .ok (.iload_n 1, 1) := dk_27 (dk_at dksX5_signBetween_1 7 rfl rfl)
theorem dX5_signBetween_32 : decode cX5_signBetween 32 = .ok (.iadd, 1) := dk_96 (dk_at dksX5_signBetween_1 8 rfl rfl)
theorem dX5_signBetween_33 : decode cX5_signBetween 33 = .ok (.bipush 6, 2) := dk_16 6 (dk_at dksX5_signBetween_1 9 rfl rfl)
theorem dX5_signBetween_35 : decode cX5_signBetween 35 = .ok (.isub, 1) := dk_100 (dk_at dksX5_signBetween_1 11 rfl rfl)
theorem dX5_signBetween_36 : decode cX5_signBetween 36 = .ok (.iaload, 1) := dk_46 (dk_at dksX5_signBetween_1 12 rfl rfl)
theorem dX5_signBetween_37 : decode cX5_signBetween 37 = .ok (.ireturn, 1) := dk_172 (dk_at dksX5_signBetween_1 13 rfl rfl)
abbrev cX5_regular : ByteArray := prog_9_method_67_code
def yX5_regular : MethodName := ⟨RX5, "regular", "()I"⟩
def dkwX5_regular_1 : List UInt8 := [180, 0, 59, 182, 0, 227, 153, 0, 7, 4, 167, 0, 4, 3, 172]
abbrev dktX5_regular_1 : List UInt8 := dkwX5_regular_1 ++ []
def dkwX5_regular_0 : List UInt8 := [42, 3, 181, 0, 83, 42, 180, 0, 13, 16, 36, 46, 154, 0, 5, 2, 172, 42, 182, 1, 27, 42, 42]
abbrev dktX5_regular_0 : List UInt8 := dkwX5_regular_0 ++ dktX5_regular_1
theorem dksX5_regular_0 : cX5_regular.data.toList.drop 0 = dktX5_regular_0 := by decide +kernel
theorem dksX5_regular_1 : cX5_regular.data.toList.drop 23 = dktX5_regular_1 := dk_seg dksX5_regular_0 23 rfl rfl
theorem dX5_regular_0 : decode cX5_regular 0 = .ok (.aload_n 0, 1) := dk_42 (dk_at dksX5_regular_0 0 rfl rfl)
theorem dX5_regular_1 : decode cX5_regular 1 = .ok (.iconst 0, 1) := dk_3 (dk_at dksX5_regular_0 1 rfl rfl)
theorem dX5_regular_2 : decode cX5_regular 2 = .ok (.putfield 83, 3) := dk_181 0 83 (dk_at dksX5_regular_0 2 rfl rfl)
theorem dX5_regular_5 : decode cX5_regular 5 = .ok (.aload_n 0, 1) := dk_42 (dk_at dksX5_regular_0 5 rfl rfl)
theorem dX5_regular_6 : decode cX5_regular 6 = .ok (.getfield 13, 3) := dk_180 0 13 (dk_at dksX5_regular_0 6 rfl rfl)
theorem dX5_regular_9 : decode cX5_regular 9 = .ok (.bipush 36, 2) := dk_16 36 (dk_at dksX5_regular_0 9 rfl rfl)
theorem dX5_regular_11 : decode cX5_regular 11 = .ok (.iaload, 1) := dk_46 (dk_at dksX5_regular_0 11 rfl rfl)
theorem dX5_regular_12 : decode cX5_regular 12 = .ok (.ifCond .ne 5, 3) := dk_154 0 5 (dk_at dksX5_regular_0 12 rfl rfl)
theorem dX5_regular_15 : decode cX5_regular 15 = .ok (.iconst (-1), 1) := dk_2 (dk_at dksX5_regular_0 15 rfl rfl)
theorem dX5_regular_16 : decode cX5_regular 16 = .ok (.ireturn, 1) := dk_172 (dk_at dksX5_regular_0 16 rfl rfl)
theorem dX5_regular_17 : decode cX5_regular 17 = .ok (.aload_n 0, 1) := dk_42 (dk_at dksX5_regular_0 17 rfl rfl)
theorem dX5_regular_18 : decode cX5_regular 18 = .ok (.invokevirtual 283, 3) := dk_182 1 27 (dk_at dksX5_regular_0 18 rfl rfl)
theorem dX5_regular_21 : decode cX5_regular 21 = .ok (.aload_n 0, 1) := dk_42 (dk_at dksX5_regular_0 21 rfl rfl)
theorem dX5_regular_22 : decode cX5_regular 22 = .ok (.aload_n 0, 1) := dk_42 (dk_at dksX5_regular_0 22 rfl rfl)
theorem dX5_regular_23 : decode cX5_regular 23 = .ok (.getfield 59, 3) := dk_180 0 59 (dk_at dksX5_regular_1 0 rfl rfl)
theorem dX5_regular_26 : decode cX5_regular 26 = .ok (.invokevirtual 227, 3) := dk_182 0 227 (dk_at dksX5_regular_1 3 rfl rfl)
theorem dX5_regular_29 : decode cX5_regular 29 = .ok (.ifCond .eq 7, 3) := dk_153 0 7 (dk_at dksX5_regular_1 6 rfl rfl)
theorem dX5_regular_32 : decode cX5_regular 32 = .ok (.iconst 1, 1) := dk_4 (dk_at dksX5_regular_1 9 rfl rfl)
theorem dX5_regular_33 : decode cX5_regular 33 = .ok (.goto 4, 3) := dk_167 0 4 (dk_at dksX5_regular_1 10 rfl rfl)
theorem dX5_regular_36 : decode cX5_regular 36 = .ok (.iconst 0, 1) := dk_3 (dk_at dksX5_regular_1 13 rfl rfl)
theorem dX5_regular_37 : decode cX5_regular 37 = .ok (.ireturn, 1) := dk_172 (dk_at dksX5_regular_1 14 rfl rfl)
abbrev cX5_scaled : ByteArray := prog_9_method_69_code
def yX5_scaled : MethodName := ⟨RX5, "scaled", "(I)I"⟩
def dkwX5_scaled_4 : List UInt8 := [180, 0, 13, 42, 180, 0, 65, 182, 1, 30, 153, 0, 7, 4, 167, 0, 4, 3, 172]
abbrev dktX5_scaled_4 : List UInt8 := dkwX5_scaled_4 ++ []
def dkwX5_scaled_3 : List UInt8 := [160, 0, 39, 42, 180, 0, 65, 16, 37, 46, 42, 180, 0, 13, 16, 37, 46, 160, 0, 22, 42, 42]
abbrev dktX5_scaled_3 : List UInt8 := dkwX5_scaled_3 ++ dktX5_scaled_4
def dkwX5_scaled_2 : List UInt8 := [46, 79, 132, 2, 1, 167, 255, 230, 42, 180, 0, 65, 16, 36, 46, 42, 180, 0, 13, 16, 36, 46]
abbrev dktX5_scaled_2 : List UInt8 := dkwX5_scaled_2 ++ dktX5_scaled_3
def dkwX5_scaled_1 : List UInt8 := [172, 3, 61, 28, 16, 38, 162, 0, 26, 42, 180, 0, 65, 28, 42, 180, 0, 23, 16, 38, 27, 104, 28, 96]
abbrev dktX5_scaled_1 : List UInt8 := dkwX5_scaled_1 ++ dktX5_scaled_2
def dkwX5_scaled_0 : List UInt8 := [42, 3, 181, 0, 83, 42, 180, 0, 13, 16, 36, 46, 153, 0, 11, 42, 27, 182, 0, 192, 154, 0, 5, 2]
abbrev dktX5_scaled_0 : List UInt8 := dkwX5_scaled_0 ++ dktX5_scaled_1
theorem dksX5_scaled_0 : cX5_scaled.data.toList.drop 0 = dktX5_scaled_0 := by decide +kernel
theorem dksX5_scaled_1 : cX5_scaled.data.toList.drop 24 = dktX5_scaled_1 := dk_seg dksX5_scaled_0 24 rfl rfl
theorem dksX5_scaled_2 : cX5_scaled.data.toList.drop 48 = dktX5_scaled_2 := dk_seg dksX5_scaled_1 24 rfl rfl
theorem dksX5_scaled_3 : cX5_scaled.data.toList.drop 70 = dktX5_scaled_3 := dk_seg dksX5_scaled_2 22 rfl rfl
theorem dksX5_scaled_4 : cX5_scaled.data.toList.drop 92 = dktX5_scaled_4 := dk_seg dksX5_scaled_3 22 rfl rfl
theorem dX5_scaled_0 : decode cX5_scaled 0 = .ok (.aload_n 0, 1) := dk_42 (dk_at dksX5_scaled_0 0 rfl rfl)
theorem dX5_scaled_1 : decode cX5_scaled 1 = .ok (.iconst 0, 1) := dk_3 (dk_at dksX5_scaled_0 1 rfl rfl)
theorem dX5_scaled_2 : decode cX5_scaled 2 = .ok (.putfield 83, 3) := dk_181 0 83 (dk_at dksX5_scaled_0 2 rfl rfl)
theorem dX5_scaled_5 : decode cX5_scaled 5 = .ok (.aload_n 0, 1) := dk_42 (dk_at dksX5_scaled_0 5 rfl rfl)
theorem dX5_scaled_6 : decode cX5_scaled 6 = .ok (.getfield 13, 3) := dk_180 0 13 (dk_at dksX5_scaled_0 6 rfl rfl)
theorem dX5_scaled_9 : decode cX5_scaled 9 = .ok (.bipush 36, 2) := dk_16 36 (dk_at dksX5_scaled_0 9 rfl rfl)
theorem dX5_scaled_11 : decode cX5_scaled 11 = .ok (.iaload, 1) := dk_46 (dk_at dksX5_scaled_0 11 rfl rfl)
theorem dX5_scaled_12 : decode cX5_scaled 12 = .ok (.ifCond .eq 11, 3) := dk_153 0 11 (dk_at dksX5_scaled_0 12 rfl rfl)
theorem dX5_scaled_15 : decode cX5_scaled 15 = .ok (.aload_n 0, 1) := dk_42 (dk_at dksX5_scaled_0 15 rfl rfl)
theorem dX5_scaled_16 : decode cX5_scaled 16 = .ok (.iload_n 1, 1) := dk_27 (dk_at dksX5_scaled_0 16 rfl rfl)
theorem dX5_scaled_17 : decode cX5_scaled 17 = .ok (.invokevirtual 192, 3) := dk_182 0 192 (dk_at dksX5_scaled_0 17 rfl rfl)
theorem dX5_scaled_20 : decode cX5_scaled 20 = .ok (.ifCond .ne 5, 3) := dk_154 0 5 (dk_at dksX5_scaled_0 20 rfl rfl)
theorem dX5_scaled_23 : decode cX5_scaled 23 = .ok (.iconst (-1), 1) := dk_2 (dk_at dksX5_scaled_0 23 rfl rfl)
theorem dX5_scaled_24 : decode cX5_scaled 24 = .ok (.ireturn, 1) := dk_172 (dk_at dksX5_scaled_1 0 rfl rfl)
theorem dX5_scaled_25 : decode cX5_scaled 25 = .ok (.iconst 0, 1) := dk_3 (dk_at dksX5_scaled_1 1 rfl rfl)
theorem dX5_scaled_26 : decode cX5_scaled 26 = .ok (.istore_n 2, 1) := dk_61 (dk_at dksX5_scaled_1 2 rfl rfl)
theorem dX5_scaled_27 : decode cX5_scaled 27 = .ok (.iload_n 2, 1) := dk_28 (dk_at dksX5_scaled_1 3 rfl rfl)
theorem dX5_scaled_28 : decode cX5_scaled 28 = .ok (.bipush 38, 2) := dk_16 38 (dk_at dksX5_scaled_1 4 rfl rfl)
theorem dX5_scaled_30 : decode cX5_scaled 30 = .ok (.if_icmp .ge 26, 3) := dk_162 0 26 (dk_at dksX5_scaled_1 6 rfl rfl)
theorem dX5_scaled_33 : decode cX5_scaled 33 = .ok (.aload_n 0, 1) := dk_42 (dk_at dksX5_scaled_1 9 rfl rfl)
theorem dX5_scaled_34 : decode cX5_scaled 34 = .ok (.getfield 65, 3) := dk_180 0 65 (dk_at dksX5_scaled_1 10 rfl rfl)
theorem dX5_scaled_37 : decode cX5_scaled 37 = .ok (.iload_n 2, 1) := dk_28 (dk_at dksX5_scaled_1 13 rfl rfl)
theorem dX5_scaled_38 : decode cX5_scaled 38 = .ok (.aload_n 0, 1) := dk_42 (dk_at dksX5_scaled_1 14 rfl rfl)
theorem dX5_scaled_39 : decode cX5_scaled 39 = .ok (.getfield 23, 3) := dk_180 0 23 (dk_at dksX5_scaled_1 15 rfl rfl)
theorem dX5_scaled_42 : decode cX5_scaled 42 = .ok (.bipush 38, 2) := dk_16 38 (dk_at dksX5_scaled_1 18 rfl rfl)
theorem dX5_scaled_44 : decode cX5_scaled 44 = .ok (.iload_n 1, 1) := dk_27 (dk_at dksX5_scaled_1 20 rfl rfl)
theorem dX5_scaled_45 : decode cX5_scaled 45 = .ok (.imul, 1) := dk_104 (dk_at dksX5_scaled_1 21 rfl rfl)
theorem dX5_scaled_46 : decode cX5_scaled 46 = .ok (.iload_n 2, 1) := dk_28 (dk_at dksX5_scaled_1 22 rfl rfl)
theorem dX5_scaled_47 : decode cX5_scaled 47 = .ok (.iadd, 1) := dk_96 (dk_at dksX5_scaled_1 23 rfl rfl)
theorem dX5_scaled_48 : decode cX5_scaled 48 = .ok (.iaload, 1) := dk_46 (dk_at dksX5_scaled_2 0 rfl rfl)
theorem dX5_scaled_49 : decode cX5_scaled 49 = .ok (.iastore, 1) := dk_79 (dk_at dksX5_scaled_2 1 rfl rfl)
theorem dX5_scaled_50 : decode cX5_scaled 50 = .ok (.iinc 2 1, 3) := dk_132 2 1 (dk_at dksX5_scaled_2 2 rfl rfl)
theorem dX5_scaled_53 : decode cX5_scaled 53 = .ok (.goto (-26), 3) := dk_167 255 230 (dk_at dksX5_scaled_2 5 rfl rfl)
theorem dX5_scaled_56 : decode cX5_scaled 56 = .ok (.aload_n 0, 1) := dk_42 (dk_at dksX5_scaled_2 8 rfl rfl)
theorem dX5_scaled_57 : decode cX5_scaled 57 = .ok (.getfield 65, 3) := dk_180 0 65 (dk_at dksX5_scaled_2 9 rfl rfl)
theorem dX5_scaled_60 : decode cX5_scaled 60 = .ok (.bipush 36, 2) := dk_16 36 (dk_at dksX5_scaled_2 12 rfl rfl)
theorem dX5_scaled_62 : decode cX5_scaled 62 = .ok (.iaload, 1) := dk_46 (dk_at dksX5_scaled_2 14 rfl rfl)
theorem dX5_scaled_63 : decode cX5_scaled 63 = .ok (.aload_n 0, 1) := dk_42 (dk_at dksX5_scaled_2 15 rfl rfl)
theorem dX5_scaled_64 : decode cX5_scaled 64 = .ok (.getfield 13, 3) := dk_180 0 13 (dk_at dksX5_scaled_2 16 rfl rfl)
theorem dX5_scaled_67 : decode cX5_scaled 67 = .ok (.bipush 36, 2) := dk_16 36 (dk_at dksX5_scaled_2 19 rfl rfl)
theorem dX5_scaled_69 : decode cX5_scaled 69 = .ok (.iaload, 1) := dk_46 (dk_at dksX5_scaled_2 21 rfl rfl)
theorem dX5_scaled_70 : decode cX5_scaled 70 = .ok (.if_icmp .ne 39, 3) := dk_160 0 39 (dk_at dksX5_scaled_3 0 rfl rfl)
theorem dX5_scaled_73 : decode cX5_scaled 73 = .ok (.aload_n 0, 1) := dk_42 (dk_at dksX5_scaled_3 3 rfl rfl)
theorem dX5_scaled_74 : decode cX5_scaled 74 = .ok (.getfield 65, 3) := dk_180 0 65 (dk_at dksX5_scaled_3 4 rfl rfl)
theorem dX5_scaled_77 : decode cX5_scaled 77 = .ok (.bipush 37, 2) := dk_16 37 (dk_at dksX5_scaled_3 7 rfl rfl)
theorem dX5_scaled_79 : decode cX5_scaled 79 = .ok (.iaload, 1) := dk_46 (dk_at dksX5_scaled_3 9 rfl rfl)
theorem dX5_scaled_80 : decode cX5_scaled 80 = .ok (.aload_n 0, 1) := dk_42 (dk_at dksX5_scaled_3 10 rfl rfl)
theorem dX5_scaled_81 : decode cX5_scaled 81 = .ok (.getfield 13, 3) := dk_180 0 13 (dk_at dksX5_scaled_3 11 rfl rfl)
theorem dX5_scaled_84 : decode cX5_scaled 84 = .ok (.bipush 37, 2) := dk_16 37 (dk_at dksX5_scaled_3 14 rfl rfl)
theorem dX5_scaled_86 : decode cX5_scaled 86 = .ok (.iaload, 1) := dk_46 (dk_at dksX5_scaled_3 16 rfl rfl)
theorem dX5_scaled_87 : decode cX5_scaled 87 = .ok (.if_icmp .ne 22, 3) := dk_160 0 22 (dk_at dksX5_scaled_3 17 rfl rfl)
theorem dX5_scaled_90 : decode cX5_scaled 90 = .ok (.aload_n 0, 1) := dk_42 (dk_at dksX5_scaled_3 20 rfl rfl)
theorem dX5_scaled_91 : decode cX5_scaled 91 = .ok (.aload_n 0, 1) := dk_42 (dk_at dksX5_scaled_3 21 rfl rfl)
theorem dX5_scaled_92 : decode cX5_scaled 92 = .ok (.getfield 13, 3) := dk_180 0 13 (dk_at dksX5_scaled_4 0 rfl rfl)
theorem dX5_scaled_95 : decode cX5_scaled 95 = .ok (.aload_n 0, 1) := dk_42 (dk_at dksX5_scaled_4 3 rfl rfl)
theorem dX5_scaled_96 : decode cX5_scaled 96 = .ok (.getfield 65, 3) := dk_180 0 65 (dk_at dksX5_scaled_4 4 rfl rfl)
theorem dX5_scaled_99 : decode cX5_scaled 99 = .ok (.invokevirtual 286, 3) := dk_182 1 30 (dk_at dksX5_scaled_4 7 rfl rfl)
theorem dX5_scaled_102 : decode cX5_scaled 102 = .ok (.ifCond .eq 7, 3) := dk_153 0 7 (dk_at dksX5_scaled_4 10 rfl rfl)
theorem dX5_scaled_105 : decode cX5_scaled 105 = .ok (.iconst 1, 1) := dk_4 (dk_at dksX5_scaled_4 13 rfl rfl)
theorem dX5_scaled_106 : decode cX5_scaled 106 = .ok (.goto 4, 3) := dk_167 0 4 (dk_at dksX5_scaled_4 14 rfl rfl)
theorem dX5_scaled_109 : decode cX5_scaled 109 = .ok (.iconst 0, 1) := dk_3 (dk_at dksX5_scaled_4 17 rfl rfl)
theorem dX5_scaled_110 : decode cX5_scaled 110 = .ok (.ireturn, 1) := dk_172 (dk_at dksX5_scaled_4 18 rfl rfl)
abbrev cX5_isScaled : ByteArray := prog_9_method_68_code
def yX5_isScaled : MethodName := ⟨RX5, "isScaled", "([I[I)Z"⟩
def dkwX5_isScaled_13 : List UInt8 := [167, 254, 229, 4, 172]
abbrev dktX5_isScaled_13 : List UInt8 := dkwX5_isScaled_13 ++ []
def dkwX5_isScaled_12 : List UInt8 := [132, 5, 1, 167, 255, 236, 21, 5, 16, 12, 162, 0, 11, 42, 180, 0, 62, 21, 5, 4, 79, 132, 3, 1]
abbrev dktX5_isScaled_12 : List UInt8 := dkwX5_isScaled_12 ++ dktX5_isScaled_13
def dkwX5_isScaled_11 : List UInt8 := [167, 255, 29, 3, 54, 5, 21, 5, 16, 12, 162, 0, 19, 42, 180, 0, 62, 21, 5, 46, 153, 0, 9]
abbrev dktX5_isScaled_11 : List UInt8 := dkwX5_isScaled_11 ++ dktX5_isScaled_12
def dkwX5_isScaled_10 : List UInt8 := [180, 0, 62, 21, 5, 46, 104, 79, 4, 54, 4, 132, 6, 1, 167, 255, 61, 132, 5, 1, 167, 255, 43]
abbrev dktX5_isScaled_10 : List UInt8 := dkwX5_isScaled_10 ++ dktX5_isScaled_11
def dkwX5_isScaled_9 : List UInt8 := [21, 6, 96, 46, 104, 79, 167, 0, 26, 42, 180, 0, 62, 16, 6, 21, 6, 96, 21, 7, 21, 8, 104, 42]
abbrev dktX5_isScaled_9 : List UInt8 := dkwX5_isScaled_9 ++ dktX5_isScaled_10
def dkwX5_isScaled_8 : List UInt8 := [21, 5, 46, 154, 0, 29, 42, 180, 0, 62, 21, 5, 21, 7, 21, 8, 104, 42, 180, 0, 62, 16, 6]
abbrev dktX5_isScaled_8 : List UInt8 := dkwX5_isScaled_8 ++ dktX5_isScaled_9
def dkwX5_isScaled_7 : List UInt8 := [46, 104, 42, 180, 0, 62, 16, 6, 21, 6, 96, 46, 104, 21, 8, 159, 0, 67, 3, 172, 42, 180, 0, 62]
abbrev dktX5_isScaled_7 : List UInt8 := dkwX5_isScaled_7 ++ dktX5_isScaled_8
def dkwX5_isScaled_6 : List UInt8 := [153, 0, 44, 42, 180, 0, 62, 16, 6, 21, 6, 96, 46, 153, 0, 31, 21, 7, 42, 180, 0, 62, 21, 5]
abbrev dktX5_isScaled_6 : List UInt8 := dkwX5_isScaled_6 ++ dktX5_isScaled_7
def dkwX5_isScaled_5 : List UInt8 := [180, 0, 62, 16, 6, 21, 6, 96, 46, 154, 0, 6, 167, 0, 116, 42, 180, 0, 62, 21, 5, 46]
abbrev dktX5_isScaled_5 : List UInt8 := dkwX5_isScaled_5 ++ dktX5_isScaled_6
def dkwX5_isScaled_4 : List UInt8 := [21, 8, 104, 159, 0, 5, 3, 172, 21, 7, 153, 0, 142, 42, 180, 0, 62, 21, 5, 46, 154, 0, 19, 42]
abbrev dktX5_isScaled_4 : List UInt8 := dkwX5_isScaled_4 ++ dktX5_isScaled_5
def dkwX5_isScaled_3 : List UInt8 := [96, 46, 54, 7, 44, 16, 6, 21, 5, 104, 21, 6, 96, 46, 54, 8, 21, 7, 21, 7, 104, 21, 8]
abbrev dktX5_isScaled_3 : List UInt8 := dkwX5_isScaled_3 ++ dktX5_isScaled_4
def dkwX5_isScaled_2 : List UInt8 := [46, 162, 0, 210, 3, 54, 6, 21, 6, 43, 16, 37, 46, 162, 0, 192, 43, 16, 6, 21, 5, 104, 21, 6]
abbrev dktX5_isScaled_2 : List UInt8 := dkwX5_isScaled_2 ++ dktX5_isScaled_3
def dkwX5_isScaled_1 : List UInt8 := [16, 12, 162, 1, 27, 4, 54, 4, 21, 4, 153, 0, 228, 3, 54, 4, 3, 54, 5, 21, 5, 43, 16, 36]
abbrev dktX5_isScaled_1 : List UInt8 := dkwX5_isScaled_1 ++ dktX5_isScaled_2
def dkwX5_isScaled_0 : List UInt8 := [3, 62, 29, 16, 12, 162, 0, 16, 42, 180, 0, 62, 29, 3, 79, 132, 3, 1, 167, 255, 240, 3, 62, 29]
abbrev dktX5_isScaled_0 : List UInt8 := dkwX5_isScaled_0 ++ dktX5_isScaled_1
theorem dksX5_isScaled_0 : cX5_isScaled.data.toList.drop 0 = dktX5_isScaled_0 := by decide +kernel
theorem dksX5_isScaled_1 : cX5_isScaled.data.toList.drop 24 = dktX5_isScaled_1 := dk_seg dksX5_isScaled_0 24 rfl rfl
theorem dksX5_isScaled_2 : cX5_isScaled.data.toList.drop 48 = dktX5_isScaled_2 := dk_seg dksX5_isScaled_1 24 rfl rfl
theorem dksX5_isScaled_3 : cX5_isScaled.data.toList.drop 72 = dktX5_isScaled_3 := dk_seg dksX5_isScaled_2 24 rfl rfl
theorem dksX5_isScaled_4 : cX5_isScaled.data.toList.drop 95 = dktX5_isScaled_4 := dk_seg dksX5_isScaled_3 23 rfl rfl
theorem dksX5_isScaled_5 : cX5_isScaled.data.toList.drop 119 = dktX5_isScaled_5 := dk_seg dksX5_isScaled_4 24 rfl rfl
theorem dksX5_isScaled_6 : cX5_isScaled.data.toList.drop 141 = dktX5_isScaled_6 := dk_seg dksX5_isScaled_5 22 rfl rfl
theorem dksX5_isScaled_7 : cX5_isScaled.data.toList.drop 165 = dktX5_isScaled_7 := dk_seg dksX5_isScaled_6 24 rfl rfl
theorem dksX5_isScaled_8 : cX5_isScaled.data.toList.drop 189 = dktX5_isScaled_8 := dk_seg dksX5_isScaled_7 24 rfl rfl
theorem dksX5_isScaled_9 : cX5_isScaled.data.toList.drop 212 = dktX5_isScaled_9 := dk_seg dksX5_isScaled_8 23 rfl rfl
theorem dksX5_isScaled_10 : cX5_isScaled.data.toList.drop 236 = dktX5_isScaled_10 := dk_seg dksX5_isScaled_9 24 rfl rfl
theorem dksX5_isScaled_11 : cX5_isScaled.data.toList.drop 259 = dktX5_isScaled_11 := dk_seg dksX5_isScaled_10 23 rfl rfl
theorem dksX5_isScaled_12 : cX5_isScaled.data.toList.drop 282 = dktX5_isScaled_12 := dk_seg dksX5_isScaled_11 23 rfl rfl
theorem dksX5_isScaled_13 : cX5_isScaled.data.toList.drop 306 = dktX5_isScaled_13 := dk_seg dksX5_isScaled_12 24 rfl rfl
theorem dX5_isScaled_0 : decode cX5_isScaled 0 = .ok (.iconst 0, 1) := dk_3 (dk_at dksX5_isScaled_0 0 rfl rfl)
theorem dX5_isScaled_1 : decode cX5_isScaled 1 = .ok (.istore_n 3, 1) := dk_62 (dk_at dksX5_isScaled_0 1 rfl rfl)
theorem dX5_isScaled_2 : decode cX5_isScaled 2 = .ok (.iload_n 3, 1) := dk_29 (dk_at dksX5_isScaled_0 2 rfl rfl)
theorem dX5_isScaled_3 : decode cX5_isScaled 3 = .ok (.bipush 12, 2) := dk_16 12 (dk_at dksX5_isScaled_0 3 rfl rfl)
theorem dX5_isScaled_5 : decode cX5_isScaled 5 = .ok (.if_icmp .ge 16, 3) := dk_162 0 16 (dk_at dksX5_isScaled_0 5 rfl rfl)
theorem dX5_isScaled_8 : decode cX5_isScaled 8 = .ok (.aload_n 0, 1) := dk_42 (dk_at dksX5_isScaled_0 8 rfl rfl)
theorem dX5_isScaled_9 : decode cX5_isScaled 9 = .ok (.getfield 62, 3) := dk_180 0 62 (dk_at dksX5_isScaled_0 9 rfl rfl)
theorem dX5_isScaled_12 : decode cX5_isScaled 12 = .ok (.iload_n 3, 1) := dk_29 (dk_at dksX5_isScaled_0 12 rfl rfl)
theorem dX5_isScaled_13 : decode cX5_isScaled 13 = .ok (.iconst 0, 1) := dk_3 (dk_at dksX5_isScaled_0 13 rfl rfl)
theorem dX5_isScaled_14 : decode cX5_isScaled 14 = .ok (.iastore, 1) := dk_79 (dk_at dksX5_isScaled_0 14 rfl rfl)
theorem dX5_isScaled_15 : decode cX5_isScaled 15 = .ok (.iinc 3 1, 3) := dk_132 3 1 (dk_at dksX5_isScaled_0 15 rfl rfl)
theorem dX5_isScaled_18 : decode cX5_isScaled 18 = .ok (.goto (-16), 3) := dk_167 255 240 (dk_at dksX5_isScaled_0 18 rfl rfl)
theorem dX5_isScaled_21 : decode cX5_isScaled 21 = .ok (.iconst 0, 1) := dk_3 (dk_at dksX5_isScaled_0 21 rfl rfl)
theorem dX5_isScaled_22 : decode cX5_isScaled 22 = .ok (.istore_n 3, 1) := dk_62 (dk_at dksX5_isScaled_0 22 rfl rfl)
theorem dX5_isScaled_23 : decode cX5_isScaled 23 = .ok (.iload_n 3, 1) := dk_29 (dk_at dksX5_isScaled_0 23 rfl rfl)
theorem dX5_isScaled_24 : decode cX5_isScaled 24 = .ok (.bipush 12, 2) := dk_16 12 (dk_at dksX5_isScaled_1 0 rfl rfl)
theorem dX5_isScaled_26 : decode cX5_isScaled 26 = .ok (.if_icmp .ge 283, 3) := dk_162 1 27 (dk_at dksX5_isScaled_1 2 rfl rfl)
theorem dX5_isScaled_29 : decode cX5_isScaled 29 = .ok (.iconst 1, 1) := dk_4 (dk_at dksX5_isScaled_1 5 rfl rfl)
theorem dX5_isScaled_30 : decode cX5_isScaled 30 = .ok (.istore 4, 2) := dk_54 4 (dk_at dksX5_isScaled_1 6 rfl rfl)
theorem dX5_isScaled_32 : decode cX5_isScaled 32 = .ok (.iload 4, 2) := dk_21 4 (dk_at dksX5_isScaled_1 8 rfl rfl)
theorem dX5_isScaled_34 : decode cX5_isScaled 34 = .ok (.ifCond .eq 228, 3) := dk_153 0 228 (dk_at dksX5_isScaled_1 10 rfl rfl)
theorem dX5_isScaled_37 : decode cX5_isScaled 37 = .ok (.iconst 0, 1) := dk_3 (dk_at dksX5_isScaled_1 13 rfl rfl)
theorem dX5_isScaled_38 : decode cX5_isScaled 38 = .ok (.istore 4, 2) := dk_54 4 (dk_at dksX5_isScaled_1 14 rfl rfl)
theorem dX5_isScaled_40 : decode cX5_isScaled 40 = .ok (.iconst 0, 1) := dk_3 (dk_at dksX5_isScaled_1 16 rfl rfl)
theorem dX5_isScaled_41 : decode cX5_isScaled 41 = .ok (.istore 5, 2) := dk_54 5 (dk_at dksX5_isScaled_1 17 rfl rfl)
theorem dX5_isScaled_43 : decode cX5_isScaled 43 = .ok (.iload 5, 2) := dk_21 5 (dk_at dksX5_isScaled_1 19 rfl rfl)
theorem dX5_isScaled_45 : decode cX5_isScaled 45 = .ok (.aload_n 1, 1) := dk_43 (dk_at dksX5_isScaled_1 21 rfl rfl)
theorem dX5_isScaled_46 : decode cX5_isScaled 46 = .ok (.bipush 36, 2) := dk_16 36 (dk_at dksX5_isScaled_1 22 rfl rfl)
theorem dX5_isScaled_48 : decode cX5_isScaled 48 = .ok (.iaload, 1) := dk_46 (dk_at dksX5_isScaled_2 0 rfl rfl)
theorem dX5_isScaled_49 : decode cX5_isScaled 49 = .ok (.if_icmp .ge 210, 3) := dk_162 0 210 (dk_at dksX5_isScaled_2 1 rfl rfl)
theorem dX5_isScaled_52 : decode cX5_isScaled 52 = .ok (.iconst 0, 1) := dk_3 (dk_at dksX5_isScaled_2 4 rfl rfl)
theorem dX5_isScaled_53 : decode cX5_isScaled 53 = .ok (.istore 6, 2) := dk_54 6 (dk_at dksX5_isScaled_2 5 rfl rfl)
theorem dX5_isScaled_55 : decode cX5_isScaled 55 = .ok (.iload 6, 2) := dk_21 6 (dk_at dksX5_isScaled_2 7 rfl rfl)
theorem dX5_isScaled_57 : decode cX5_isScaled 57 = .ok (.aload_n 1, 1) := dk_43 (dk_at dksX5_isScaled_2 9 rfl rfl)
theorem dX5_isScaled_58 : decode cX5_isScaled 58 = .ok (.bipush 37, 2) := dk_16 37 (dk_at dksX5_isScaled_2 10 rfl rfl)
theorem dX5_isScaled_60 : decode cX5_isScaled 60 = .ok (.iaload, 1) := dk_46 (dk_at dksX5_isScaled_2 12 rfl rfl)
theorem dX5_isScaled_61 : decode cX5_isScaled 61 = .ok (.if_icmp .ge 192, 3) := dk_162 0 192 (dk_at dksX5_isScaled_2 13 rfl rfl)
theorem dX5_isScaled_64 : decode cX5_isScaled 64 = .ok (.aload_n 1, 1) := dk_43 (dk_at dksX5_isScaled_2 16 rfl rfl)
theorem dX5_isScaled_65 : decode cX5_isScaled 65 = .ok (.bipush 6, 2) := dk_16 6 (dk_at dksX5_isScaled_2 17 rfl rfl)
theorem dX5_isScaled_67 : decode cX5_isScaled 67 = .ok (.iload 5, 2) := dk_21 5 (dk_at dksX5_isScaled_2 19 rfl rfl)
theorem dX5_isScaled_69 : decode cX5_isScaled 69 = .ok (.imul, 1) := dk_104 (dk_at dksX5_isScaled_2 21 rfl rfl)
theorem dX5_isScaled_70 : decode cX5_isScaled 70 = .ok (.iload 6, 2) := dk_21 6 (dk_at dksX5_isScaled_2 22 rfl rfl)
theorem dX5_isScaled_72 : decode cX5_isScaled 72 = .ok (.iadd, 1) := dk_96 (dk_at dksX5_isScaled_3 0 rfl rfl)
theorem dX5_isScaled_73 : decode cX5_isScaled 73 = .ok (.iaload, 1) := dk_46 (dk_at dksX5_isScaled_3 1 rfl rfl)
theorem dX5_isScaled_74 : decode cX5_isScaled 74 = .ok (.istore 7, 2) := dk_54 7 (dk_at dksX5_isScaled_3 2 rfl rfl)
theorem dX5_isScaled_76 : decode cX5_isScaled 76 = .ok (.aload_n 2, 1) := dk_44 (dk_at dksX5_isScaled_3 4 rfl rfl)
theorem dX5_isScaled_77 : decode cX5_isScaled 77 = .ok (.bipush 6, 2) := dk_16 6 (dk_at dksX5_isScaled_3 5 rfl rfl)
theorem dX5_isScaled_79 : decode cX5_isScaled 79 = .ok (.iload 5, 2) := dk_21 5 (dk_at dksX5_isScaled_3 7 rfl rfl)
theorem dX5_isScaled_81 : decode cX5_isScaled 81 = .ok (.imul, 1) := dk_104 (dk_at dksX5_isScaled_3 9 rfl rfl)
theorem dX5_isScaled_82 : decode cX5_isScaled 82 = .ok (.iload 6, 2) := dk_21 6 (dk_at dksX5_isScaled_3 10 rfl rfl)
theorem dX5_isScaled_84 : decode cX5_isScaled 84 = .ok (.iadd, 1) := dk_96 (dk_at dksX5_isScaled_3 12 rfl rfl)
theorem dX5_isScaled_85 : decode cX5_isScaled 85 = .ok (.iaload, 1) := dk_46 (dk_at dksX5_isScaled_3 13 rfl rfl)
theorem dX5_isScaled_86 : decode cX5_isScaled 86 = .ok (.istore 8, 2) := dk_54 8 (dk_at dksX5_isScaled_3 14 rfl rfl)
theorem dX5_isScaled_88 : decode cX5_isScaled 88 = .ok (.iload 7, 2) := dk_21 7 (dk_at dksX5_isScaled_3 16 rfl rfl)
theorem dX5_isScaled_90 : decode cX5_isScaled 90 = .ok (.iload 7, 2) := dk_21 7 (dk_at dksX5_isScaled_3 18 rfl rfl)
theorem dX5_isScaled_92 : decode cX5_isScaled 92 = .ok (.imul, 1) := dk_104 (dk_at dksX5_isScaled_3 20 rfl rfl)
theorem dX5_isScaled_93 : decode cX5_isScaled 93 = .ok (.iload 8, 2) := dk_21 8 (dk_at dksX5_isScaled_3 21 rfl rfl)
theorem dX5_isScaled_95 : decode cX5_isScaled 95 = .ok (.iload 8, 2) := dk_21 8 (dk_at dksX5_isScaled_4 0 rfl rfl)
theorem dX5_isScaled_97 : decode cX5_isScaled 97 = .ok (.imul, 1) := dk_104 (dk_at dksX5_isScaled_4 2 rfl rfl)
theorem dX5_isScaled_98 : decode cX5_isScaled 98 = .ok (.if_icmp .eq 5, 3) := dk_159 0 5 (dk_at dksX5_isScaled_4 3 rfl rfl)
theorem dX5_isScaled_101 : decode cX5_isScaled 101 = .ok (.iconst 0, 1) := dk_3 (dk_at dksX5_isScaled_4 6 rfl rfl)
theorem dX5_isScaled_102 : decode cX5_isScaled 102 = .ok (.ireturn, 1) := dk_172 (dk_at dksX5_isScaled_4 7 rfl rfl)
theorem dX5_isScaled_103 : decode cX5_isScaled 103 = .ok (.iload 7, 2) := dk_21 7 (dk_at dksX5_isScaled_4 8 rfl rfl)
theorem dX5_isScaled_105 : decode cX5_isScaled 105 = .ok (.ifCond .eq 142, 3) := dk_153 0 142 (dk_at dksX5_isScaled_4 10 rfl rfl)
theorem dX5_isScaled_108 : decode cX5_isScaled 108 = .ok (.aload_n 0, 1) := dk_42 (dk_at dksX5_isScaled_4 13 rfl rfl)
theorem dX5_isScaled_109 : decode cX5_isScaled 109 = .ok (.getfield 62, 3) := dk_180 0 62 (dk_at dksX5_isScaled_4 14 rfl rfl)
theorem dX5_isScaled_112 : decode cX5_isScaled 112 = .ok (.iload 5, 2) := dk_21 5 (dk_at dksX5_isScaled_4 17 rfl rfl)
theorem dX5_isScaled_114 : decode cX5_isScaled 114 = .ok (.iaload, 1) := dk_46 (dk_at dksX5_isScaled_4 19 rfl rfl)
theorem dX5_isScaled_115 : decode cX5_isScaled 115 = .ok (.ifCond .ne 19, 3) := dk_154 0 19 (dk_at dksX5_isScaled_4 20 rfl rfl)
theorem dX5_isScaled_118 : decode cX5_isScaled 118 = .ok (.aload_n 0, 1) := dk_42 (dk_at dksX5_isScaled_4 23 rfl rfl)
theorem dX5_isScaled_119 : decode cX5_isScaled 119 = .ok (.getfield 62, 3) := dk_180 0 62 (dk_at dksX5_isScaled_5 0 rfl rfl)
theorem dX5_isScaled_122 : decode cX5_isScaled 122 = .ok (.bipush 6, 2) := dk_16 6 (dk_at dksX5_isScaled_5 3 rfl rfl)
theorem dX5_isScaled_124 : decode cX5_isScaled 124 = .ok (.iload 6, 2) := dk_21 6 (dk_at dksX5_isScaled_5 5 rfl rfl)
theorem dX5_isScaled_126 : decode cX5_isScaled 126 = .ok (.iadd, 1) := dk_96 (dk_at dksX5_isScaled_5 7 rfl rfl)
theorem dX5_isScaled_127 : decode cX5_isScaled 127 = .ok (.iaload, 1) := dk_46 (dk_at dksX5_isScaled_5 8 rfl rfl)
theorem dX5_isScaled_128 : decode cX5_isScaled 128 = .ok (.ifCond .ne 6, 3) := dk_154 0 6 (dk_at dksX5_isScaled_5 9 rfl rfl)
theorem dX5_isScaled_131 : decode cX5_isScaled 131 = .ok (.goto 116, 3) := dk_167 0 116 (dk_at dksX5_isScaled_5 12 rfl rfl)
theorem dX5_isScaled_134 : decode cX5_isScaled 134 = .ok (.aload_n 0, 1) := dk_42 (dk_at dksX5_isScaled_5 15 rfl rfl)
theorem dX5_isScaled_135 : decode cX5_isScaled 135 = .ok (.getfield 62, 3) := dk_180 0 62 (dk_at dksX5_isScaled_5 16 rfl rfl)
theorem dX5_isScaled_138 : decode cX5_isScaled 138 = .ok (.iload 5, 2) := dk_21 5 (dk_at dksX5_isScaled_5 19 rfl rfl)
theorem dX5_isScaled_140 : decode cX5_isScaled 140 = .ok (.iaload, 1) := dk_46 (dk_at dksX5_isScaled_5 21 rfl rfl)
theorem dX5_isScaled_141 : decode cX5_isScaled 141 = .ok (.ifCond .eq 44, 3) := dk_153 0 44 (dk_at dksX5_isScaled_6 0 rfl rfl)
theorem dX5_isScaled_144 : decode cX5_isScaled 144 = .ok (.aload_n 0, 1) := dk_42 (dk_at dksX5_isScaled_6 3 rfl rfl)
theorem dX5_isScaled_145 : decode cX5_isScaled 145 = .ok (.getfield 62, 3) := dk_180 0 62 (dk_at dksX5_isScaled_6 4 rfl rfl)
theorem dX5_isScaled_148 : decode cX5_isScaled 148 = .ok (.bipush 6, 2) := dk_16 6 (dk_at dksX5_isScaled_6 7 rfl rfl)
theorem dX5_isScaled_150 : decode cX5_isScaled 150 = .ok (.iload 6, 2) := dk_21 6 (dk_at dksX5_isScaled_6 9 rfl rfl)
theorem dX5_isScaled_152 : decode cX5_isScaled 152 = .ok (.iadd, 1) := dk_96 (dk_at dksX5_isScaled_6 11 rfl rfl)
theorem dX5_isScaled_153 : decode cX5_isScaled 153 = .ok (.iaload, 1) := dk_46 (dk_at dksX5_isScaled_6 12 rfl rfl)
theorem dX5_isScaled_154 : decode cX5_isScaled 154 = .ok (.ifCond .eq 31, 3) := dk_153 0 31 (dk_at dksX5_isScaled_6 13 rfl rfl)
theorem dX5_isScaled_157 : decode cX5_isScaled 157 = .ok (.iload 7, 2) := dk_21 7 (dk_at dksX5_isScaled_6 16 rfl rfl)
theorem dX5_isScaled_159 : decode cX5_isScaled 159 = .ok (.aload_n 0, 1) := dk_42 (dk_at dksX5_isScaled_6 18 rfl rfl)
theorem dX5_isScaled_160 : decode cX5_isScaled 160 = .ok (.getfield 62, 3) := dk_180 0 62 (dk_at dksX5_isScaled_6 19 rfl rfl)
theorem dX5_isScaled_163 : decode cX5_isScaled 163 = .ok (.iload 5, 2) := dk_21 5 (dk_at dksX5_isScaled_6 22 rfl rfl)
theorem dX5_isScaled_165 : decode cX5_isScaled 165 = .ok (.iaload, 1) := dk_46 (dk_at dksX5_isScaled_7 0 rfl rfl)
theorem dX5_isScaled_166 : decode cX5_isScaled 166 = .ok (.imul, 1) := dk_104 (dk_at dksX5_isScaled_7 1 rfl rfl)
theorem dX5_isScaled_167 : decode cX5_isScaled 167 = .ok (.aload_n 0, 1) := dk_42 (dk_at dksX5_isScaled_7 2 rfl rfl)
theorem dX5_isScaled_168 : decode cX5_isScaled 168 = .ok (.getfield 62, 3) := dk_180 0 62 (dk_at dksX5_isScaled_7 3 rfl rfl)
theorem dX5_isScaled_171 : decode cX5_isScaled 171 = .ok (.bipush 6, 2) := dk_16 6 (dk_at dksX5_isScaled_7 6 rfl rfl)
theorem dX5_isScaled_173 : decode cX5_isScaled 173 = .ok (.iload 6, 2) := dk_21 6 (dk_at dksX5_isScaled_7 8 rfl rfl)
theorem dX5_isScaled_175 : decode cX5_isScaled 175 = .ok (.iadd, 1) := dk_96 (dk_at dksX5_isScaled_7 10 rfl rfl)
theorem dX5_isScaled_176 : decode cX5_isScaled 176 = .ok (.iaload, 1) := dk_46 (dk_at dksX5_isScaled_7 11 rfl rfl)
theorem dX5_isScaled_177 : decode cX5_isScaled 177 = .ok (.imul, 1) := dk_104 (dk_at dksX5_isScaled_7 12 rfl rfl)
theorem dX5_isScaled_178 : decode cX5_isScaled 178 = .ok (.iload 8, 2) := dk_21 8 (dk_at dksX5_isScaled_7 13 rfl rfl)
theorem dX5_isScaled_180 : decode cX5_isScaled 180 = .ok (.if_icmp .eq 67, 3) := dk_159 0 67 (dk_at dksX5_isScaled_7 15 rfl rfl)
theorem dX5_isScaled_183 : decode cX5_isScaled 183 = .ok (.iconst 0, 1) := dk_3 (dk_at dksX5_isScaled_7 18 rfl rfl)
theorem dX5_isScaled_184 : decode cX5_isScaled 184 = .ok (.ireturn, 1) := dk_172 (dk_at dksX5_isScaled_7 19 rfl rfl)
theorem dX5_isScaled_185 : decode cX5_isScaled 185 = .ok (.aload_n 0, 1) := dk_42 (dk_at dksX5_isScaled_7 20 rfl rfl)
theorem dX5_isScaled_186 : decode cX5_isScaled 186 = .ok (.getfield 62, 3) := dk_180 0 62 (dk_at dksX5_isScaled_7 21 rfl rfl)
theorem dX5_isScaled_189 : decode cX5_isScaled 189 = .ok (.iload 5, 2) := dk_21 5 (dk_at dksX5_isScaled_8 0 rfl rfl)
theorem dX5_isScaled_191 : decode cX5_isScaled 191 = .ok (.iaload, 1) := dk_46 (dk_at dksX5_isScaled_8 2 rfl rfl)
theorem dX5_isScaled_192 : decode cX5_isScaled 192 = .ok (.ifCond .ne 29, 3) := dk_154 0 29 (dk_at dksX5_isScaled_8 3 rfl rfl)
theorem dX5_isScaled_195 : decode cX5_isScaled 195 = .ok (.aload_n 0, 1) := dk_42 (dk_at dksX5_isScaled_8 6 rfl rfl)
theorem dX5_isScaled_196 : decode cX5_isScaled 196 = .ok (.getfield 62, 3) := dk_180 0 62 (dk_at dksX5_isScaled_8 7 rfl rfl)
theorem dX5_isScaled_199 : decode cX5_isScaled 199 = .ok (.iload 5, 2) := dk_21 5 (dk_at dksX5_isScaled_8 10 rfl rfl)
theorem dX5_isScaled_201 : decode cX5_isScaled 201 = .ok (.iload 7, 2) := dk_21 7 (dk_at dksX5_isScaled_8 12 rfl rfl)
theorem dX5_isScaled_203 : decode cX5_isScaled 203 = .ok (.iload 8, 2) := dk_21 8 (dk_at dksX5_isScaled_8 14 rfl rfl)
theorem dX5_isScaled_205 : decode cX5_isScaled 205 = .ok (.imul, 1) := dk_104 (dk_at dksX5_isScaled_8 16 rfl rfl)
theorem dX5_isScaled_206 : decode cX5_isScaled 206 = .ok (.aload_n 0, 1) := dk_42 (dk_at dksX5_isScaled_8 17 rfl rfl)
theorem dX5_isScaled_207 : decode cX5_isScaled 207 = .ok (.getfield 62, 3) := dk_180 0 62 (dk_at dksX5_isScaled_8 18 rfl rfl)
theorem dX5_isScaled_210 : decode cX5_isScaled 210 = .ok (.bipush 6, 2) := dk_16 6 (dk_at dksX5_isScaled_8 21 rfl rfl)
theorem dX5_isScaled_212 : decode cX5_isScaled 212 = .ok (.iload 6, 2) := dk_21 6 (dk_at dksX5_isScaled_9 0 rfl rfl)
theorem dX5_isScaled_214 : decode cX5_isScaled 214 = .ok (.iadd, 1) := dk_96 (dk_at dksX5_isScaled_9 2 rfl rfl)
theorem dX5_isScaled_215 : decode cX5_isScaled 215 = .ok (.iaload, 1) := dk_46 (dk_at dksX5_isScaled_9 3 rfl rfl)
theorem dX5_isScaled_216 : decode cX5_isScaled 216 = .ok (.imul, 1) := dk_104 (dk_at dksX5_isScaled_9 4 rfl rfl)
theorem dX5_isScaled_217 : decode cX5_isScaled 217 = .ok (.iastore, 1) := dk_79 (dk_at dksX5_isScaled_9 5 rfl rfl)
theorem dX5_isScaled_218 : decode cX5_isScaled 218 = .ok (.goto 26, 3) := dk_167 0 26 (dk_at dksX5_isScaled_9 6 rfl rfl)
theorem dX5_isScaled_221 : decode cX5_isScaled 221 = .ok (.aload_n 0, 1) := dk_42 (dk_at dksX5_isScaled_9 9 rfl rfl)
theorem dX5_isScaled_222 : decode cX5_isScaled 222 = .ok (.getfield 62, 3) := dk_180 0 62 (dk_at dksX5_isScaled_9 10 rfl rfl)
theorem dX5_isScaled_225 : decode cX5_isScaled 225 = .ok (.bipush 6, 2) := dk_16 6 (dk_at dksX5_isScaled_9 13 rfl rfl)
theorem dX5_isScaled_227 : decode cX5_isScaled 227 = .ok (.iload 6, 2) := dk_21 6 (dk_at dksX5_isScaled_9 15 rfl rfl)
theorem dX5_isScaled_229 : decode cX5_isScaled 229 = .ok (.iadd, 1) := dk_96 (dk_at dksX5_isScaled_9 17 rfl rfl)
theorem dX5_isScaled_230 : decode cX5_isScaled 230 = .ok (.iload 7, 2) := dk_21 7 (dk_at dksX5_isScaled_9 18 rfl rfl)
theorem dX5_isScaled_232 : decode cX5_isScaled 232 = .ok (.iload 8, 2) := dk_21 8 (dk_at dksX5_isScaled_9 20 rfl rfl)
theorem dX5_isScaled_234 : decode cX5_isScaled 234 = .ok (.imul, 1) := dk_104 (dk_at dksX5_isScaled_9 22 rfl rfl)
theorem dX5_isScaled_235 : decode cX5_isScaled 235 = .ok (.aload_n 0, 1) := dk_42 (dk_at dksX5_isScaled_9 23 rfl rfl)
theorem dX5_isScaled_236 : decode cX5_isScaled 236 = .ok (.getfield 62, 3) := dk_180 0 62 (dk_at dksX5_isScaled_10 0 rfl rfl)
theorem dX5_isScaled_239 : decode cX5_isScaled 239 = .ok (.iload 5, 2) := dk_21 5 (dk_at dksX5_isScaled_10 3 rfl rfl)
theorem dX5_isScaled_241 : decode cX5_isScaled 241 = .ok (.iaload, 1) := dk_46 (dk_at dksX5_isScaled_10 5 rfl rfl)
theorem dX5_isScaled_242 : decode cX5_isScaled 242 = .ok (.imul, 1) := dk_104 (dk_at dksX5_isScaled_10 6 rfl rfl)
theorem dX5_isScaled_243 : decode cX5_isScaled 243 = .ok (.iastore, 1) := dk_79 (dk_at dksX5_isScaled_10 7 rfl rfl)
theorem dX5_isScaled_244 : decode cX5_isScaled 244 = .ok (.iconst 1, 1) := dk_4 (dk_at dksX5_isScaled_10 8 rfl rfl)
theorem dX5_isScaled_245 : decode cX5_isScaled 245 = .ok (.istore 4, 2) := dk_54 4 (dk_at dksX5_isScaled_10 9 rfl rfl)
theorem dX5_isScaled_247 : decode cX5_isScaled 247 = .ok (.iinc 6 1, 3) := dk_132 6 1 (dk_at dksX5_isScaled_10 11 rfl rfl)
theorem dX5_isScaled_250 : decode cX5_isScaled 250 = .ok (.goto (-195), 3) := dk_167 255 61 (dk_at dksX5_isScaled_10 14 rfl rfl)
theorem dX5_isScaled_253 : decode cX5_isScaled 253 = .ok (.iinc 5 1, 3) := dk_132 5 1 (dk_at dksX5_isScaled_10 17 rfl rfl)
theorem dX5_isScaled_256 : decode cX5_isScaled 256 = .ok (.goto (-213), 3) := dk_167 255 43 (dk_at dksX5_isScaled_10 20 rfl rfl)
theorem dX5_isScaled_259 : decode cX5_isScaled 259 = .ok (.goto (-227), 3) := dk_167 255 29 (dk_at dksX5_isScaled_11 0 rfl rfl)
theorem dX5_isScaled_262 : decode cX5_isScaled 262 = .ok (.iconst 0, 1) := dk_3 (dk_at dksX5_isScaled_11 3 rfl rfl)
theorem dX5_isScaled_263 : decode cX5_isScaled 263 = .ok (.istore 5, 2) := dk_54 5 (dk_at dksX5_isScaled_11 4 rfl rfl)
theorem dX5_isScaled_265 : decode cX5_isScaled 265 = .ok (.iload 5, 2) := dk_21 5 (dk_at dksX5_isScaled_11 6 rfl rfl)
theorem dX5_isScaled_267 : decode cX5_isScaled 267 = .ok (.bipush 12, 2) := dk_16 12 (dk_at dksX5_isScaled_11 8 rfl rfl)
theorem dX5_isScaled_269 : decode cX5_isScaled 269 = .ok (.if_icmp .ge 19, 3) := dk_162 0 19 (dk_at dksX5_isScaled_11 10 rfl rfl)
theorem dX5_isScaled_272 : decode cX5_isScaled 272 = .ok (.aload_n 0, 1) := dk_42 (dk_at dksX5_isScaled_11 13 rfl rfl)
theorem dX5_isScaled_273 : decode cX5_isScaled 273 = .ok (.getfield 62, 3) := dk_180 0 62 (dk_at dksX5_isScaled_11 14 rfl rfl)
theorem dX5_isScaled_276 : decode cX5_isScaled 276 = .ok (.iload 5, 2) := dk_21 5 (dk_at dksX5_isScaled_11 17 rfl rfl)
theorem dX5_isScaled_278 : decode cX5_isScaled 278 = .ok (.iaload, 1) := dk_46 (dk_at dksX5_isScaled_11 19 rfl rfl)
theorem dX5_isScaled_279 : decode cX5_isScaled 279 = .ok (.ifCond .eq 9, 3) := dk_153 0 9 (dk_at dksX5_isScaled_11 20 rfl rfl)
theorem dX5_isScaled_282 : decode cX5_isScaled 282 = .ok (.iinc 5 1, 3) := dk_132 5 1 (dk_at dksX5_isScaled_12 0 rfl rfl)
theorem dX5_isScaled_285 : decode cX5_isScaled 285 = .ok (.goto (-20), 3) := dk_167 255 236 (dk_at dksX5_isScaled_12 3 rfl rfl)
theorem dX5_isScaled_288 : decode cX5_isScaled 288 = .ok (.iload 5, 2) := dk_21 5 (dk_at dksX5_isScaled_12 6 rfl rfl)
theorem dX5_isScaled_290 : decode cX5_isScaled 290 = .ok (.bipush 12, 2) := dk_16 12 (dk_at dksX5_isScaled_12 8 rfl rfl)
theorem dX5_isScaled_292 : decode cX5_isScaled 292 = .ok (.if_icmp .ge 11, 3) := dk_162 0 11 (dk_at dksX5_isScaled_12 10 rfl rfl)
theorem dX5_isScaled_295 : decode cX5_isScaled 295 = .ok (.aload_n 0, 1) := dk_42 (dk_at dksX5_isScaled_12 13 rfl rfl)
theorem dX5_isScaled_296 : decode cX5_isScaled 296 = .ok (.getfield 62, 3) := dk_180 0 62 (dk_at dksX5_isScaled_12 14 rfl rfl)
theorem dX5_isScaled_299 : decode cX5_isScaled 299 = .ok (.iload 5, 2) := dk_21 5 (dk_at dksX5_isScaled_12 17 rfl rfl)
theorem dX5_isScaled_301 : decode cX5_isScaled 301 = .ok (.iconst 1, 1) := dk_4 (dk_at dksX5_isScaled_12 19 rfl rfl)
theorem dX5_isScaled_302 : decode cX5_isScaled 302 = .ok (.iastore, 1) := dk_79 (dk_at dksX5_isScaled_12 20 rfl rfl)
theorem dX5_isScaled_303 : decode cX5_isScaled 303 = .ok (.iinc 3 1, 3) := dk_132 3 1 (dk_at dksX5_isScaled_12 21 rfl rfl)
theorem dX5_isScaled_306 : decode cX5_isScaled 306 = .ok (.goto (-283), 3) := dk_167 254 229 (dk_at dksX5_isScaled_13 0 rfl rfl)
theorem dX5_isScaled_309 : decode cX5_isScaled 309 = .ok (.iconst 1, 1) := dk_4 (dk_at dksX5_isScaled_13 3 rfl rfl)
theorem dX5_isScaled_310 : decode cX5_isScaled 310 = .ok (.ireturn, 1) := dk_172 (dk_at dksX5_isScaled_13 4 rfl rfl)
abbrev cX5_special : ByteArray := prog_9_method_73_code
def yX5_special : MethodName := ⟨RX5, "special", "()I"⟩
def dkwX5_special_5 : List UInt8 := [172]
abbrev dktX5_special_5 : List UInt8 := dkwX5_special_5 ++ []
def dkwX5_special_4 : List UInt8 := [132, 2, 1, 167, 255, 207, 42, 3, 3, 182, 1, 41, 153, 0, 5, 27, 172, 132, 1, 1, 167, 255, 183, 3]
abbrev dktX5_special_4 : List UInt8 := dkwX5_special_4 ++ dktX5_special_5
def dkwX5_special_3 : List UInt8 := [27, 4, 160, 0, 9, 19, 1, 44, 167, 0, 6, 19, 1, 46, 28, 182, 0, 112, 184, 0, 121, 4, 100, 79]
abbrev dktX5_special_3 : List UInt8 := dkwX5_special_3 ++ dktX5_special_4
def dkwX5_special_2 : List UInt8 := [3, 61, 28, 16, 25, 162, 0, 49, 42, 180, 0, 65, 16, 6, 28, 8, 108, 104, 28, 8, 112, 96, 18, 116]
abbrev dktX5_special_2 : List UInt8 := dkwX5_special_2 ++ dktX5_special_3
def dkwX5_special_1 : List UInt8 := [8, 160, 0, 14, 42, 180, 0, 13, 16, 37, 46, 8, 159, 0, 5, 3, 172, 4, 60, 27, 6, 162, 0, 74]
abbrev dktX5_special_1 : List UInt8 := dkwX5_special_1 ++ dktX5_special_2
def dkwX5_special_0 : List UInt8 := [42, 3, 181, 0, 83, 42, 180, 0, 13, 16, 36, 46, 154, 0, 5, 2, 172, 42, 180, 0, 13, 16, 36, 46]
abbrev dktX5_special_0 : List UInt8 := dkwX5_special_0 ++ dktX5_special_1
theorem dksX5_special_0 : cX5_special.data.toList.drop 0 = dktX5_special_0 := by decide +kernel
theorem dksX5_special_1 : cX5_special.data.toList.drop 24 = dktX5_special_1 := dk_seg dksX5_special_0 24 rfl rfl
theorem dksX5_special_2 : cX5_special.data.toList.drop 48 = dktX5_special_2 := dk_seg dksX5_special_1 24 rfl rfl
theorem dksX5_special_3 : cX5_special.data.toList.drop 72 = dktX5_special_3 := dk_seg dksX5_special_2 24 rfl rfl
theorem dksX5_special_4 : cX5_special.data.toList.drop 96 = dktX5_special_4 := dk_seg dksX5_special_3 24 rfl rfl
theorem dksX5_special_5 : cX5_special.data.toList.drop 120 = dktX5_special_5 := dk_seg dksX5_special_4 24 rfl rfl
theorem dX5_special_0 : decode cX5_special 0 = .ok (.aload_n 0, 1) := dk_42 (dk_at dksX5_special_0 0 rfl rfl)
theorem dX5_special_1 : decode cX5_special 1 = .ok (.iconst 0, 1) := dk_3 (dk_at dksX5_special_0 1 rfl rfl)
theorem dX5_special_2 : decode cX5_special 2 = .ok (.putfield 83, 3) := dk_181 0 83 (dk_at dksX5_special_0 2 rfl rfl)
theorem dX5_special_5 : decode cX5_special 5 = .ok (.aload_n 0, 1) := dk_42 (dk_at dksX5_special_0 5 rfl rfl)
theorem dX5_special_6 : decode cX5_special 6 = .ok (.getfield 13, 3) := dk_180 0 13 (dk_at dksX5_special_0 6 rfl rfl)
theorem dX5_special_9 : decode cX5_special 9 = .ok (.bipush 36, 2) := dk_16 36 (dk_at dksX5_special_0 9 rfl rfl)
theorem dX5_special_11 : decode cX5_special 11 = .ok (.iaload, 1) := dk_46 (dk_at dksX5_special_0 11 rfl rfl)
theorem dX5_special_12 : decode cX5_special 12 = .ok (.ifCond .ne 5, 3) := dk_154 0 5 (dk_at dksX5_special_0 12 rfl rfl)
theorem dX5_special_15 : decode cX5_special 15 = .ok (.iconst (-1), 1) := dk_2 (dk_at dksX5_special_0 15 rfl rfl)
theorem dX5_special_16 : decode cX5_special 16 = .ok (.ireturn, 1) := dk_172 (dk_at dksX5_special_0 16 rfl rfl)
theorem dX5_special_17 : decode cX5_special 17 = .ok (.aload_n 0, 1) := dk_42 (dk_at dksX5_special_0 17 rfl rfl)
theorem dX5_special_18 : decode cX5_special 18 = .ok (.getfield 13, 3) := dk_180 0 13 (dk_at dksX5_special_0 18 rfl rfl)
theorem dX5_special_21 : decode cX5_special 21 = .ok (.bipush 36, 2) := dk_16 36 (dk_at dksX5_special_0 21 rfl rfl)
theorem dX5_special_23 : decode cX5_special 23 = .ok (.iaload, 1) := dk_46 (dk_at dksX5_special_0 23 rfl rfl)
theorem dX5_special_24 : decode cX5_special 24 = .ok (.iconst 5, 1) := dk_8 (dk_at dksX5_special_1 0 rfl rfl)
theorem dX5_special_25 : decode cX5_special 25 = .ok (.if_icmp .ne 14, 3) := dk_160 0 14 (dk_at dksX5_special_1 1 rfl rfl)
theorem dX5_special_28 : decode cX5_special 28 = .ok (.aload_n 0, 1) := dk_42 (dk_at dksX5_special_1 4 rfl rfl)
theorem dX5_special_29 : decode cX5_special 29 = .ok (.getfield 13, 3) := dk_180 0 13 (dk_at dksX5_special_1 5 rfl rfl)
theorem dX5_special_32 : decode cX5_special 32 = .ok (.bipush 37, 2) := dk_16 37 (dk_at dksX5_special_1 8 rfl rfl)
theorem dX5_special_34 : decode cX5_special 34 = .ok (.iaload, 1) := dk_46 (dk_at dksX5_special_1 10 rfl rfl)
theorem dX5_special_35 : decode cX5_special 35 = .ok (.iconst 5, 1) := dk_8 (dk_at dksX5_special_1 11 rfl rfl)
theorem dX5_special_36 : decode cX5_special 36 = .ok (.if_icmp .eq 5, 3) := dk_159 0 5 (dk_at dksX5_special_1 12 rfl rfl)
theorem dX5_special_39 : decode cX5_special 39 = .ok (.iconst 0, 1) := dk_3 (dk_at dksX5_special_1 15 rfl rfl)
theorem dX5_special_40 : decode cX5_special 40 = .ok (.ireturn, 1) := dk_172 (dk_at dksX5_special_1 16 rfl rfl)
theorem dX5_special_41 : decode cX5_special 41 = .ok (.iconst 1, 1) := dk_4 (dk_at dksX5_special_1 17 rfl rfl)
theorem dX5_special_42 : decode cX5_special 42 = .ok (.istore_n 1, 1) := dk_60 (dk_at dksX5_special_1 18 rfl rfl)
theorem dX5_special_43 : decode cX5_special 43 = .ok (.iload_n 1, 1) := dk_27 (dk_at dksX5_special_1 19 rfl rfl)
theorem dX5_special_44 : decode cX5_special 44 = .ok (.iconst 3, 1) := dk_6 (dk_at dksX5_special_1 20 rfl rfl)
theorem dX5_special_45 : decode cX5_special 45 = .ok (.if_icmp .ge 74, 3) := dk_162 0 74 (dk_at dksX5_special_1 21 rfl rfl)
theorem dX5_special_48 : decode cX5_special 48 = .ok (.iconst 0, 1) := dk_3 (dk_at dksX5_special_2 0 rfl rfl)
theorem dX5_special_49 : decode cX5_special 49 = .ok (.istore_n 2, 1) := dk_61 (dk_at dksX5_special_2 1 rfl rfl)
theorem dX5_special_50 : decode cX5_special 50 = .ok (.iload_n 2, 1) := dk_28 (dk_at dksX5_special_2 2 rfl rfl)
theorem dX5_special_51 : decode cX5_special 51 = .ok (.bipush 25, 2) := dk_16 25 (dk_at dksX5_special_2 3 rfl rfl)
theorem dX5_special_53 : decode cX5_special 53 = .ok (.if_icmp .ge 49, 3) := dk_162 0 49 (dk_at dksX5_special_2 5 rfl rfl)
theorem dX5_special_56 : decode cX5_special 56 = .ok (.aload_n 0, 1) := dk_42 (dk_at dksX5_special_2 8 rfl rfl)
theorem dX5_special_57 : decode cX5_special 57 = .ok (.getfield 65, 3) := dk_180 0 65 (dk_at dksX5_special_2 9 rfl rfl)
theorem dX5_special_60 : decode cX5_special 60 = .ok (.bipush 6, 2) := dk_16 6 (dk_at dksX5_special_2 12 rfl rfl)
theorem dX5_special_62 : decode cX5_special 62 = .ok (.iload_n 2, 1) := dk_28 (dk_at dksX5_special_2 14 rfl rfl)
theorem dX5_special_63 : decode cX5_special 63 = .ok (.iconst 5, 1) := dk_8 (dk_at dksX5_special_2 15 rfl rfl)
theorem dX5_special_64 : decode cX5_special 64 = .ok (.idiv, 1) := dk_108 (dk_at dksX5_special_2 16 rfl rfl)
theorem dX5_special_65 : decode cX5_special 65 = .ok (.imul, 1) := dk_104 (dk_at dksX5_special_2 17 rfl rfl)
theorem dX5_special_66 : decode cX5_special 66 = .ok (.iload_n 2, 1) := dk_28 (dk_at dksX5_special_2 18 rfl rfl)
theorem dX5_special_67 : decode cX5_special 67 = .ok (.iconst 5, 1) := dk_8 (dk_at dksX5_special_2 19 rfl rfl)
theorem dX5_special_68 : decode cX5_special 68 = .ok (.irem, 1) := dk_112 (dk_at dksX5_special_2 20 rfl rfl)
theorem dX5_special_69 : decode cX5_special 69 = .ok (.iadd, 1) := dk_96 (dk_at dksX5_special_2 21 rfl rfl)
theorem dX5_special_70 : decode cX5_special 70 = .ok (.ldc 116, 2) := dk_18 116 (dk_at dksX5_special_2 22 rfl rfl)
theorem dX5_special_72 : decode cX5_special 72 = .ok (.iload_n 1, 1) := dk_27 (dk_at dksX5_special_3 0 rfl rfl)
theorem dX5_special_73 : decode cX5_special 73 = .ok (.iconst 1, 1) := dk_4 (dk_at dksX5_special_3 1 rfl rfl)
theorem dX5_special_74 : decode cX5_special 74 = .ok (.if_icmp .ne 9, 3) := dk_160 0 9 (dk_at dksX5_special_3 2 rfl rfl)
theorem dX5_special_77 : decode cX5_special 77 = .ok (.ldc_w 300, 3) := dk_19 1 44 (dk_at dksX5_special_3 5 rfl rfl)
theorem dX5_special_80 : decode cX5_special 80 = .ok (.goto 6, 3) := dk_167 0 6 (dk_at dksX5_special_3 8 rfl rfl)
theorem dX5_special_83 : decode cX5_special 83 = .ok (.ldc_w 302, 3) := dk_19 1 46 (dk_at dksX5_special_3 11 rfl rfl)
theorem dX5_special_86 : decode cX5_special 86 = .ok (.iload_n 2, 1) := dk_28 (dk_at dksX5_special_3 14 rfl rfl)
theorem dX5_special_87 : decode cX5_special 87 = .ok (.invokevirtual 112, 3) := dk_182 0 112 (dk_at dksX5_special_3 15 rfl rfl)
theorem dX5_special_90 : decode cX5_special 90 = .ok (.invokestatic 121, 3) := dk_184 0 121 (dk_at dksX5_special_3 18 rfl rfl)
theorem dX5_special_93 : decode cX5_special 93 = .ok (.iconst 1, 1) := dk_4 (dk_at dksX5_special_3 21 rfl rfl)
theorem dX5_special_94 : decode cX5_special 94 = .ok (.isub, 1) := dk_100 (dk_at dksX5_special_3 22 rfl rfl)
theorem dX5_special_95 : decode cX5_special 95 = .ok (.iastore, 1) := dk_79 (dk_at dksX5_special_3 23 rfl rfl)
theorem dX5_special_96 : decode cX5_special 96 = .ok (.iinc 2 1, 3) := dk_132 2 1 (dk_at dksX5_special_4 0 rfl rfl)
theorem dX5_special_99 : decode cX5_special 99 = .ok (.goto (-49), 3) := dk_167 255 207 (dk_at dksX5_special_4 3 rfl rfl)
theorem dX5_special_102 : decode cX5_special 102 = .ok (.aload_n 0, 1) := dk_42 (dk_at dksX5_special_4 6 rfl rfl)
theorem dX5_special_103 : decode cX5_special 103 = .ok (.iconst 0, 1) := dk_3 (dk_at dksX5_special_4 7 rfl rfl)
theorem dX5_special_104 : decode cX5_special 104 = .ok (.iconst 0, 1) := dk_3 (dk_at dksX5_special_4 8 rfl rfl)
theorem dX5_special_105 : decode cX5_special 105 = .ok (.invokevirtual 297, 3) := dk_182 1 41 (dk_at dksX5_special_4 9 rfl rfl)
theorem dX5_special_108 : decode cX5_special 108 = .ok (.ifCond .eq 5, 3) := dk_153 0 5 (dk_at dksX5_special_4 12 rfl rfl)
theorem dX5_special_111 : decode cX5_special 111 = .ok (.iload_n 1, 1) := dk_27 (dk_at dksX5_special_4 15 rfl rfl)
theorem dX5_special_112 : decode cX5_special 112 = .ok (.ireturn, 1) := dk_172 (dk_at dksX5_special_4 16 rfl rfl)
theorem dX5_special_113 : decode cX5_special 113 = .ok (.iinc 1 1, 3) := dk_132 1 1 (dk_at dksX5_special_4 17 rfl rfl)
theorem dX5_special_116 : decode cX5_special 116 = .ok (.goto (-73), 3) := dk_167 255 183 (dk_at dksX5_special_4 20 rfl rfl)
theorem dX5_special_119 : decode cX5_special 119 = .ok (.iconst 0, 1) := dk_3 (dk_at dksX5_special_4 23 rfl rfl)
theorem dX5_special_120 : decode cX5_special 120 = .ok (.ireturn, 1) := dk_172 (dk_at dksX5_special_5 0 rfl rfl)
abbrev cX5_doRows : ByteArray := prog_9_method_72_code
def yX5_doRows : MethodName := ⟨RX5, "doRows", "(II)Z"⟩
def dkwX5_doRows_5 : List UInt8 := [28, 4, 29, 120, 128, 182, 1, 41, 153, 0, 5, 4, 172, 132, 3, 1, 167, 255, 135, 3, 172]
abbrev dktX5_doRows_5 : List UInt8 := dkwX5_doRows_5 ++ []
def dkwX5_doRows_4 : List UInt8 := [132, 6, 1, 167, 255, 197, 42, 180, 0, 71, 27, 29, 79, 21, 4, 21, 5, 160, 0, 20, 42, 27, 4, 96]
abbrev dktX5_doRows_4 : List UInt8 := dkwX5_doRows_4 ++ dktX5_doRows_5
def dkwX5_doRows_3 : List UInt8 := [42, 180, 0, 65, 16, 6, 27, 104, 21, 6, 96, 46, 154, 0, 7, 3, 167, 0, 4, 4, 96, 54, 5]
abbrev dktX5_doRows_3 : List UInt8 := dkwX5_doRows_3 ++ dktX5_doRows_4
def dkwX5_doRows_2 : List UInt8 := [180, 0, 13, 16, 6, 29, 104, 21, 6, 96, 46, 154, 0, 7, 3, 167, 0, 4, 4, 96, 54, 4, 21, 5]
abbrev dktX5_doRows_2 : List UInt8 := dkwX5_doRows_2 ++ dktX5_doRows_3
def dkwX5_doRows_1 : List UInt8 := [153, 0, 6, 167, 0, 105, 3, 54, 4, 3, 54, 5, 3, 54, 6, 21, 6, 8, 162, 0, 59, 21, 4, 42]
abbrev dktX5_doRows_1 : List UInt8 := dkwX5_doRows_1 ++ dktX5_doRows_2
def dkwX5_doRows_0 : List UInt8 := [27, 8, 160, 0, 10, 42, 3, 3, 182, 1, 38, 172, 3, 62, 29, 8, 162, 0, 122, 28, 29, 184, 0, 200]
abbrev dktX5_doRows_0 : List UInt8 := dkwX5_doRows_0 ++ dktX5_doRows_1
theorem dksX5_doRows_0 : cX5_doRows.data.toList.drop 0 = dktX5_doRows_0 := by decide +kernel
theorem dksX5_doRows_1 : cX5_doRows.data.toList.drop 24 = dktX5_doRows_1 := dk_seg dksX5_doRows_0 24 rfl rfl
theorem dksX5_doRows_2 : cX5_doRows.data.toList.drop 48 = dktX5_doRows_2 := dk_seg dksX5_doRows_1 24 rfl rfl
theorem dksX5_doRows_3 : cX5_doRows.data.toList.drop 72 = dktX5_doRows_3 := dk_seg dksX5_doRows_2 24 rfl rfl
theorem dksX5_doRows_4 : cX5_doRows.data.toList.drop 95 = dktX5_doRows_4 := dk_seg dksX5_doRows_3 23 rfl rfl
theorem dksX5_doRows_5 : cX5_doRows.data.toList.drop 119 = dktX5_doRows_5 := dk_seg dksX5_doRows_4 24 rfl rfl
theorem dX5_doRows_0 : decode cX5_doRows 0 = .ok (.iload_n 1, 1) := dk_27 (dk_at dksX5_doRows_0 0 rfl rfl)
theorem dX5_doRows_1 : decode cX5_doRows 1 = .ok (.iconst 5, 1) := dk_8 (dk_at dksX5_doRows_0 1 rfl rfl)
theorem dX5_doRows_2 : decode cX5_doRows 2 = .ok (.if_icmp .ne 10, 3) := dk_160 0 10 (dk_at dksX5_doRows_0 2 rfl rfl)
theorem dX5_doRows_5 : decode cX5_doRows 5 = .ok (.aload_n 0, 1) := dk_42 (dk_at dksX5_doRows_0 5 rfl rfl)
theorem dX5_doRows_6 : decode cX5_doRows 6 = .ok (.iconst 0, 1) := dk_3 (dk_at dksX5_doRows_0 6 rfl rfl)
theorem dX5_doRows_7 : decode cX5_doRows 7 = .ok (.iconst 0, 1) := dk_3 (dk_at dksX5_doRows_0 7 rfl rfl)
theorem dX5_doRows_8 : decode cX5_doRows 8 = .ok (.invokevirtual 294, 3) := dk_182 1 38 (dk_at dksX5_doRows_0 8 rfl rfl)
theorem dX5_doRows_11 : decode cX5_doRows 11 = .ok (.ireturn, 1) := dk_172 (dk_at dksX5_doRows_0 11 rfl rfl)
theorem dX5_doRows_12 : decode cX5_doRows 12 = .ok (.iconst 0, 1) := dk_3 (dk_at dksX5_doRows_0 12 rfl rfl)
theorem dX5_doRows_13 : decode cX5_doRows 13 = .ok (.istore_n 3, 1) := dk_62 (dk_at dksX5_doRows_0 13 rfl rfl)
theorem dX5_doRows_14 : decode cX5_doRows 14 = .ok (.iload_n 3, 1) := dk_29 (dk_at dksX5_doRows_0 14 rfl rfl)
theorem dX5_doRows_15 : decode cX5_doRows 15 = .ok (.iconst 5, 1) := dk_8 (dk_at dksX5_doRows_0 15 rfl rfl)
theorem dX5_doRows_16 : decode cX5_doRows 16 = .ok (.if_icmp .ge 122, 3) := dk_162 0 122 (dk_at dksX5_doRows_0 16 rfl rfl)
theorem dX5_doRows_19 : decode cX5_doRows 19 = .ok (.iload_n 2, 1) := dk_28 (dk_at dksX5_doRows_0 19 rfl rfl)
theorem dX5_doRows_20 : decode cX5_doRows 20 = .ok (.iload_n 3, 1) := dk_29 (dk_at dksX5_doRows_0 20 rfl rfl)
theorem dX5_doRows_21 : decode cX5_doRows 21 = .ok (.invokestatic 200, 3) := dk_184 0 200 (dk_at dksX5_doRows_0 21 rfl rfl)
theorem dX5_doRows_24 : decode cX5_doRows 24 = .ok (.ifCond .eq 6, 3) := dk_153 0 6 (dk_at dksX5_doRows_1 0 rfl rfl)
theorem dX5_doRows_27 : decode cX5_doRows 27 = .ok (.goto 105, 3) := dk_167 0 105 (dk_at dksX5_doRows_1 3 rfl rfl)
theorem dX5_doRows_30 : decode cX5_doRows 30 = .ok (.iconst 0, 1) := dk_3 (dk_at dksX5_doRows_1 6 rfl rfl)
theorem dX5_doRows_31 : decode cX5_doRows 31 = .ok (.istore 4, 2) := dk_54 4 (dk_at dksX5_doRows_1 7 rfl rfl)
theorem dX5_doRows_33 : decode cX5_doRows 33 = .ok (.iconst 0, 1) := dk_3 (dk_at dksX5_doRows_1 9 rfl rfl)
theorem dX5_doRows_34 : decode cX5_doRows 34 = .ok (.istore 5, 2) := dk_54 5 (dk_at dksX5_doRows_1 10 rfl rfl)
theorem dX5_doRows_36 : decode cX5_doRows 36 = .ok (.iconst 0, 1) := dk_3 (dk_at dksX5_doRows_1 12 rfl rfl)
theorem dX5_doRows_37 : decode cX5_doRows 37 = .ok (.istore 6, 2) := dk_54 6 (dk_at dksX5_doRows_1 13 rfl rfl)
theorem dX5_doRows_39 : decode cX5_doRows 39 = .ok (.iload 6, 2) := dk_21 6 (dk_at dksX5_doRows_1 15 rfl rfl)
theorem dX5_doRows_41 : decode cX5_doRows 41 = .ok (.iconst 5, 1) := dk_8 (dk_at dksX5_doRows_1 17 rfl rfl)
theorem dX5_doRows_42 : decode cX5_doRows 42 = .ok (.if_icmp .ge 59, 3) := dk_162 0 59 (dk_at dksX5_doRows_1 18 rfl rfl)
theorem dX5_doRows_45 : decode cX5_doRows 45 = .ok (.iload 4, 2) := dk_21 4 (dk_at dksX5_doRows_1 21 rfl rfl)
theorem dX5_doRows_47 : decode cX5_doRows 47 = .ok (.aload_n 0, 1) := dk_42 (dk_at dksX5_doRows_1 23 rfl rfl)
theorem dX5_doRows_48 : decode cX5_doRows 48 = .ok (.getfield 13, 3) := dk_180 0 13 (dk_at dksX5_doRows_2 0 rfl rfl)
theorem dX5_doRows_51 : decode cX5_doRows 51 = .ok (.bipush 6, 2) := dk_16 6 (dk_at dksX5_doRows_2 3 rfl rfl)
theorem dX5_doRows_53 : decode cX5_doRows 53 = .ok (.iload_n 3, 1) := dk_29 (dk_at dksX5_doRows_2 5 rfl rfl)
theorem dX5_doRows_54 : decode cX5_doRows 54 = .ok (.imul, 1) := dk_104 (dk_at dksX5_doRows_2 6 rfl rfl)
theorem dX5_doRows_55 : decode cX5_doRows 55 = .ok (.iload 6, 2) := dk_21 6 (dk_at dksX5_doRows_2 7 rfl rfl)
theorem dX5_doRows_57 : decode cX5_doRows 57 = .ok (.iadd, 1) := dk_96 (dk_at dksX5_doRows_2 9 rfl rfl)
theorem dX5_doRows_58 : decode cX5_doRows 58 = .ok (.iaload, 1) := dk_46 (dk_at dksX5_doRows_2 10 rfl rfl)
theorem dX5_doRows_59 : decode cX5_doRows 59 = .ok (.ifCond .ne 7, 3) := dk_154 0 7 (dk_at dksX5_doRows_2 11 rfl rfl)
theorem dX5_doRows_62 : decode cX5_doRows 62 = .ok (.iconst 0, 1) := dk_3 (dk_at dksX5_doRows_2 14 rfl rfl)
theorem dX5_doRows_63 : decode cX5_doRows 63 = .ok (.goto 4, 3) := dk_167 0 4 (dk_at dksX5_doRows_2 15 rfl rfl)
theorem dX5_doRows_66 : decode cX5_doRows 66 = .ok (.iconst 1, 1) := dk_4 (dk_at dksX5_doRows_2 18 rfl rfl)
theorem dX5_doRows_67 : decode cX5_doRows 67 = .ok (.iadd, 1) := dk_96 (dk_at dksX5_doRows_2 19 rfl rfl)
theorem dX5_doRows_68 : decode cX5_doRows 68 = .ok (.istore 4, 2) := dk_54 4 (dk_at dksX5_doRows_2 20 rfl rfl)
theorem dX5_doRows_70 : decode cX5_doRows 70 = .ok (.iload 5, 2) := dk_21 5 (dk_at dksX5_doRows_2 22 rfl rfl)
theorem dX5_doRows_72 : decode cX5_doRows 72 = .ok (.aload_n 0, 1) := dk_42 (dk_at dksX5_doRows_3 0 rfl rfl)
theorem dX5_doRows_73 : decode cX5_doRows 73 = .ok (.getfield 65, 3) := dk_180 0 65 (dk_at dksX5_doRows_3 1 rfl rfl)
theorem dX5_doRows_76 : decode cX5_doRows 76 = .ok (.bipush 6, 2) := dk_16 6 (dk_at dksX5_doRows_3 4 rfl rfl)
theorem dX5_doRows_78 : decode cX5_doRows 78 = .ok (.iload_n 1, 1) := dk_27 (dk_at dksX5_doRows_3 6 rfl rfl)
theorem dX5_doRows_79 : decode cX5_doRows 79 = .ok (.imul, 1) := dk_104 (dk_at dksX5_doRows_3 7 rfl rfl)
theorem dX5_doRows_80 : decode cX5_doRows 80 = .ok (.iload 6, 2) := dk_21 6 (dk_at dksX5_doRows_3 8 rfl rfl)
theorem dX5_doRows_82 : decode cX5_doRows 82 = .ok (.iadd, 1) := dk_96 (dk_at dksX5_doRows_3 10 rfl rfl)
theorem dX5_doRows_83 : decode cX5_doRows 83 = .ok (.iaload, 1) := dk_46 (dk_at dksX5_doRows_3 11 rfl rfl)
theorem dX5_doRows_84 : decode cX5_doRows 84 = .ok (.ifCond .ne 7, 3) := dk_154 0 7 (dk_at dksX5_doRows_3 12 rfl rfl)
theorem dX5_doRows_87 : decode cX5_doRows 87 = .ok (.iconst 0, 1) := dk_3 (dk_at dksX5_doRows_3 15 rfl rfl)
theorem dX5_doRows_88 : decode cX5_doRows 88 = .ok (.goto 4, 3) := dk_167 0 4 (dk_at dksX5_doRows_3 16 rfl rfl)
theorem dX5_doRows_91 : decode cX5_doRows 91 = .ok (.iconst 1, 1) := dk_4 (dk_at dksX5_doRows_3 19 rfl rfl)
theorem dX5_doRows_92 : decode cX5_doRows 92 = .ok (.iadd, 1) := dk_96 (dk_at dksX5_doRows_3 20 rfl rfl)
theorem dX5_doRows_93 : decode cX5_doRows 93 = .ok (.istore 5, 2) := dk_54 5 (dk_at dksX5_doRows_3 21 rfl rfl)
theorem dX5_doRows_95 : decode cX5_doRows 95 = .ok (.iinc 6 1, 3) := dk_132 6 1 (dk_at dksX5_doRows_4 0 rfl rfl)
theorem dX5_doRows_98 : decode cX5_doRows 98 = .ok (.goto (-59), 3) := dk_167 255 197 (dk_at dksX5_doRows_4 3 rfl rfl)
theorem dX5_doRows_101 : decode cX5_doRows 101 = .ok (.aload_n 0, 1) := dk_42 (dk_at dksX5_doRows_4 6 rfl rfl)
theorem dX5_doRows_102 : decode cX5_doRows 102 = .ok (.getfield 71, 3) := dk_180 0 71 (dk_at dksX5_doRows_4 7 rfl rfl)
theorem dX5_doRows_105 : decode cX5_doRows 105 = .ok (.iload_n 1, 1) := dk_27 (dk_at dksX5_doRows_4 10 rfl rfl)
theorem dX5_doRows_106 : decode cX5_doRows 106 = .ok (.iload_n 3, 1) := dk_29 (dk_at dksX5_doRows_4 11 rfl rfl)
theorem dX5_doRows_107 : decode cX5_doRows 107 = .ok (.iastore, 1) := dk_79 (dk_at dksX5_doRows_4 12 rfl rfl)
theorem dX5_doRows_108 : decode cX5_doRows 108 = .ok (.iload 4, 2) := dk_21 4 (dk_at dksX5_doRows_4 13 rfl rfl)
theorem dX5_doRows_110 : decode cX5_doRows 110 = .ok (.iload 5, 2) := dk_21 5 (dk_at dksX5_doRows_4 15 rfl rfl)
theorem dX5_doRows_112 : decode cX5_doRows 112 = .ok (.if_icmp .ne 20, 3) := dk_160 0 20 (dk_at dksX5_doRows_4 17 rfl rfl)
theorem dX5_doRows_115 : decode cX5_doRows 115 = .ok (.aload_n 0, 1) := dk_42 (dk_at dksX5_doRows_4 20 rfl rfl)
theorem dX5_doRows_116 : decode cX5_doRows 116 = .ok (.iload_n 1, 1) := dk_27 (dk_at dksX5_doRows_4 21 rfl rfl)
theorem dX5_doRows_117 : decode cX5_doRows 117 = .ok (.iconst 1, 1) := dk_4 (dk_at dksX5_doRows_4 22 rfl rfl)
theorem dX5_doRows_118 : decode cX5_doRows 118 = .ok (.iadd, 1) := dk_96 (dk_at dksX5_doRows_4 23 rfl rfl)
theorem dX5_doRows_119 : decode cX5_doRows 119 = .ok (.iload_n 2, 1) := dk_28 (dk_at dksX5_doRows_5 0 rfl rfl)
theorem dX5_doRows_120 : decode cX5_doRows 120 = .ok (.iconst 1, 1) := dk_4 (dk_at dksX5_doRows_5 1 rfl rfl)
theorem dX5_doRows_121 : decode cX5_doRows 121 = .ok (.iload_n 3, 1) := dk_29 (dk_at dksX5_doRows_5 2 rfl rfl)
theorem dX5_doRows_122 : decode cX5_doRows 122 = .ok (.ishl, 1) := dk_120 (dk_at dksX5_doRows_5 3 rfl rfl)
theorem dX5_doRows_123 : decode cX5_doRows 123 = .ok (.ior, 1) := dk_128 (dk_at dksX5_doRows_5 4 rfl rfl)
theorem dX5_doRows_124 : decode cX5_doRows 124 = .ok (.invokevirtual 297, 3) := dk_182 1 41 (dk_at dksX5_doRows_5 5 rfl rfl)
theorem dX5_doRows_127 : decode cX5_doRows 127 = .ok (.ifCond .eq 5, 3) := dk_153 0 5 (dk_at dksX5_doRows_5 8 rfl rfl)
theorem dX5_doRows_130 : decode cX5_doRows 130 = .ok (.iconst 1, 1) := dk_4 (dk_at dksX5_doRows_5 11 rfl rfl)
theorem dX5_doRows_131 : decode cX5_doRows 131 = .ok (.ireturn, 1) := dk_172 (dk_at dksX5_doRows_5 12 rfl rfl)
theorem dX5_doRows_132 : decode cX5_doRows 132 = .ok (.iinc 3 1, 3) := dk_132 3 1 (dk_at dksX5_doRows_5 13 rfl rfl)
theorem dX5_doRows_135 : decode cX5_doRows 135 = .ok (.goto (-121), 3) := dk_167 255 135 (dk_at dksX5_doRows_5 16 rfl rfl)
theorem dX5_doRows_138 : decode cX5_doRows 138 = .ok (.iconst 0, 1) := dk_3 (dk_at dksX5_doRows_5 19 rfl rfl)
theorem dX5_doRows_139 : decode cX5_doRows 139 = .ok (.ireturn, 1) := dk_172 (dk_at dksX5_doRows_5 20 rfl rfl)
abbrev cX5_doColumns : ByteArray := prog_9_method_71_code
def yX5_doColumns : MethodName := ⟨RX5, "doColumns", "(II)Z"⟩
def dkwX5_doColumns_6 : List UInt8 := [172]
abbrev dktX5_doColumns_6 : List UInt8 := dkwX5_doColumns_6 ++ []
def dkwX5_doColumns_5 : List UInt8 := [42, 27, 4, 96, 28, 4, 29, 120, 128, 182, 1, 38, 153, 0, 5, 4, 172, 132, 3, 1, 167, 255, 130, 3]
abbrev dktX5_doColumns_5 : List UInt8 := dkwX5_doColumns_5 ++ dktX5_doColumns_6
def dkwX5_doColumns_4 : List UInt8 := [167, 0, 4, 3, 54, 4, 132, 5, 1, 167, 255, 187, 42, 180, 0, 74, 27, 29, 79, 21, 4, 153, 0, 20]
abbrev dktX5_doColumns_4 : List UInt8 := dkwX5_doColumns_4 ++ dktX5_doColumns_5
def dkwX5_doColumns_3 : List UInt8 := [42, 180, 0, 65, 16, 6, 21, 5, 104, 27, 96, 46, 154, 0, 7, 4, 167, 0, 4, 3, 160, 0, 7, 4]
abbrev dktX5_doColumns_3 : List UInt8 := dkwX5_doColumns_3 ++ dktX5_doColumns_4
def dkwX5_doColumns_2 : List UInt8 := [180, 0, 13, 16, 6, 42, 180, 0, 71, 21, 5, 46, 104, 29, 96, 46, 154, 0, 7, 4, 167, 0, 4, 3]
abbrev dktX5_doColumns_2 : List UInt8 := dkwX5_doColumns_2 ++ dktX5_doColumns_3
def dkwX5_doColumns_1 : List UInt8 := [153, 0, 6, 167, 0, 110, 4, 54, 4, 3, 54, 5, 21, 5, 8, 162, 0, 69, 21, 4, 153, 0, 64, 42]
abbrev dktX5_doColumns_1 : List UInt8 := dkwX5_doColumns_1 ++ dktX5_doColumns_2
def dkwX5_doColumns_0 : List UInt8 := [27, 8, 160, 0, 8, 42, 182, 1, 34, 172, 3, 62, 29, 8, 162, 0, 127, 28, 29, 184, 0, 200]
abbrev dktX5_doColumns_0 : List UInt8 := dkwX5_doColumns_0 ++ dktX5_doColumns_1
theorem dksX5_doColumns_0 : cX5_doColumns.data.toList.drop 0 = dktX5_doColumns_0 := by decide +kernel
theorem dksX5_doColumns_1 : cX5_doColumns.data.toList.drop 22 = dktX5_doColumns_1 := dk_seg dksX5_doColumns_0 22 rfl rfl
theorem dksX5_doColumns_2 : cX5_doColumns.data.toList.drop 46 = dktX5_doColumns_2 := dk_seg dksX5_doColumns_1 24 rfl rfl
theorem dksX5_doColumns_3 : cX5_doColumns.data.toList.drop 70 = dktX5_doColumns_3 := dk_seg dksX5_doColumns_2 24 rfl rfl
theorem dksX5_doColumns_4 : cX5_doColumns.data.toList.drop 94 = dktX5_doColumns_4 := dk_seg dksX5_doColumns_3 24 rfl rfl
theorem dksX5_doColumns_5 : cX5_doColumns.data.toList.drop 118 = dktX5_doColumns_5 := dk_seg dksX5_doColumns_4 24 rfl rfl
theorem dksX5_doColumns_6 : cX5_doColumns.data.toList.drop 142 = dktX5_doColumns_6 := dk_seg dksX5_doColumns_5 24 rfl rfl
theorem dX5_doColumns_0 : decode cX5_doColumns 0 = .ok (.iload_n 1, 1) := dk_27 (dk_at dksX5_doColumns_0 0 rfl rfl)
theorem dX5_doColumns_1 : decode cX5_doColumns 1 = .ok (.iconst 5, 1) := dk_8 (dk_at dksX5_doColumns_0 1 rfl rfl)
theorem dX5_doColumns_2 : decode cX5_doColumns 2 = .ok (.if_icmp .ne 8, 3) := dk_160 0 8 (dk_at dksX5_doColumns_0 2 rfl rfl)
theorem dX5_doColumns_5 : decode cX5_doColumns 5 = .ok (.aload_n 0, 1) := dk_42 (dk_at dksX5_doColumns_0 5 rfl rfl)
theorem dX5_doColumns_6 : decode cX5_doColumns 6 = .ok (.invokevirtual 290, 3) := dk_182 1 34 (dk_at dksX5_doColumns_0 6 rfl rfl)
theorem dX5_doColumns_9 : decode cX5_doColumns 9 = .ok (.ireturn, 1) := dk_172 (dk_at dksX5_doColumns_0 9 rfl rfl)
theorem dX5_doColumns_10 : decode cX5_doColumns 10 = .ok (.iconst 0, 1) := dk_3 (dk_at dksX5_doColumns_0 10 rfl rfl)
theorem dX5_doColumns_11 : decode cX5_doColumns 11 = .ok (.istore_n 3, 1) := dk_62 (dk_at dksX5_doColumns_0 11 rfl rfl)
theorem dX5_doColumns_12 : decode cX5_doColumns 12 = .ok (.iload_n 3, 1) := dk_29 (dk_at dksX5_doColumns_0 12 rfl rfl)
theorem dX5_doColumns_13 : decode cX5_doColumns 13 = .ok (.iconst 5, 1) := dk_8 (dk_at dksX5_doColumns_0 13 rfl rfl)
theorem dX5_doColumns_14 : decode cX5_doColumns 14 = .ok (.if_icmp .ge 127, 3) := dk_162 0 127 (dk_at dksX5_doColumns_0 14 rfl rfl)
theorem dX5_doColumns_17 : decode cX5_doColumns 17 = .ok (.iload_n 2, 1) := dk_28 (dk_at dksX5_doColumns_0 17 rfl rfl)
theorem dX5_doColumns_18 : decode cX5_doColumns 18 = .ok (.iload_n 3, 1) := dk_29 (dk_at dksX5_doColumns_0 18 rfl rfl)
theorem dX5_doColumns_19 : decode cX5_doColumns 19 = .ok (.invokestatic 200, 3) := dk_184 0 200 (dk_at dksX5_doColumns_0 19 rfl rfl)
theorem dX5_doColumns_22 : decode cX5_doColumns 22 = .ok (.ifCond .eq 6, 3) := dk_153 0 6 (dk_at dksX5_doColumns_1 0 rfl rfl)
theorem dX5_doColumns_25 : decode cX5_doColumns 25 = .ok (.goto 110, 3) := dk_167 0 110 (dk_at dksX5_doColumns_1 3 rfl rfl)
theorem dX5_doColumns_28 : decode cX5_doColumns 28 = .ok (.iconst 1, 1) := dk_4 (dk_at dksX5_doColumns_1 6 rfl rfl)
theorem dX5_doColumns_29 : decode cX5_doColumns 29 = .ok (.istore 4, 2) := dk_54 4 (dk_at dksX5_doColumns_1 7 rfl rfl)
theorem dX5_doColumns_31 : decode cX5_doColumns 31 = .ok (.iconst 0, 1) := dk_3 (dk_at dksX5_doColumns_1 9 rfl rfl)
theorem dX5_doColumns_32 : decode cX5_doColumns 32 = .ok (.istore 5, 2) := dk_54 5 (dk_at dksX5_doColumns_1 10 rfl rfl)
theorem dX5_doColumns_34 : decode cX5_doColumns 34 = .ok (.iload 5, 2) := dk_21 5 (dk_at dksX5_doColumns_1 12 rfl rfl)
theorem dX5_doColumns_36 : decode cX5_doColumns 36 = .ok (.iconst 5, 1) := dk_8 (dk_at dksX5_doColumns_1 14 rfl rfl)
theorem dX5_doColumns_37 : decode cX5_doColumns 37 = .ok (.if_icmp .ge 69, 3) := dk_162 0 69 (dk_at dksX5_doColumns_1 15 rfl rfl)
theorem dX5_doColumns_40 : decode cX5_doColumns 40 = .ok (.iload 4, 2) := dk_21 4 (dk_at dksX5_doColumns_1 18 rfl rfl)
theorem dX5_doColumns_42 : decode cX5_doColumns 42 = .ok (.ifCond .eq 64, 3) := dk_153 0 64 (dk_at dksX5_doColumns_1 20 rfl rfl)
theorem dX5_doColumns_45 : decode cX5_doColumns 45 = .ok (.aload_n 0, 1) := dk_42 (dk_at dksX5_doColumns_1 23 rfl rfl)
theorem dX5_doColumns_46 : decode cX5_doColumns 46 = .ok (.getfield 13, 3) := dk_180 0 13 (dk_at dksX5_doColumns_2 0 rfl rfl)
theorem dX5_doColumns_49 : decode cX5_doColumns 49 = .ok (.bipush 6, 2) := dk_16 6 (dk_at dksX5_doColumns_2 3 rfl rfl)
theorem dX5_doColumns_51 : decode cX5_doColumns 51 = .ok (.aload_n 0, 1) := dk_42 (dk_at dksX5_doColumns_2 5 rfl rfl)
theorem dX5_doColumns_52 : decode cX5_doColumns 52 = .ok (.getfield 71, 3) := dk_180 0 71 (dk_at dksX5_doColumns_2 6 rfl rfl)
theorem dX5_doColumns_55 : decode cX5_doColumns 55 = .ok (.iload 5, 2) := dk_21 5 (dk_at dksX5_doColumns_2 9 rfl rfl)
theorem dX5_doColumns_57 : decode cX5_doColumns 57 = .ok (.iaload, 1) := dk_46 (dk_at dksX5_doColumns_2 11 rfl rfl)
theorem dX5_doColumns_58 : decode cX5_doColumns 58 = .ok (.imul, 1) := dk_104 (dk_at dksX5_doColumns_2 12 rfl rfl)
theorem dX5_doColumns_59 : decode cX5_doColumns 59 = .ok (.iload_n 3, 1) := dk_29 (dk_at dksX5_doColumns_2 13 rfl rfl)
theorem dX5_doColumns_60 : decode cX5_doColumns 60 = .ok (.iadd, 1) := dk_96 (dk_at dksX5_doColumns_2 14 rfl rfl)
theorem dX5_doColumns_61 : decode cX5_doColumns 61 = .ok (.iaload, 1) := dk_46 (dk_at dksX5_doColumns_2 15 rfl rfl)
theorem dX5_doColumns_62 : decode cX5_doColumns 62 = .ok (.ifCond .ne 7, 3) := dk_154 0 7 (dk_at dksX5_doColumns_2 16 rfl rfl)
theorem dX5_doColumns_65 : decode cX5_doColumns 65 = .ok (.iconst 1, 1) := dk_4 (dk_at dksX5_doColumns_2 19 rfl rfl)
theorem dX5_doColumns_66 : decode cX5_doColumns 66 = .ok (.goto 4, 3) := dk_167 0 4 (dk_at dksX5_doColumns_2 20 rfl rfl)
theorem dX5_doColumns_69 : decode cX5_doColumns 69 = .ok (.iconst 0, 1) := dk_3 (dk_at dksX5_doColumns_2 23 rfl rfl)
theorem dX5_doColumns_70 : decode cX5_doColumns 70 = .ok (.aload_n 0, 1) := dk_42 (dk_at dksX5_doColumns_3 0 rfl rfl)
theorem dX5_doColumns_71 : decode cX5_doColumns 71 = .ok (.getfield 65, 3) := dk_180 0 65 (dk_at dksX5_doColumns_3 1 rfl rfl)
theorem dX5_doColumns_74 : decode cX5_doColumns 74 = .ok (.bipush 6, 2) := dk_16 6 (dk_at dksX5_doColumns_3 4 rfl rfl)
theorem dX5_doColumns_76 : decode cX5_doColumns 76 = .ok (.iload 5, 2) := dk_21 5 (dk_at dksX5_doColumns_3 6 rfl rfl)
theorem dX5_doColumns_78 : decode cX5_doColumns 78 = .ok (.imul, 1) := dk_104 (dk_at dksX5_doColumns_3 8 rfl rfl)
theorem dX5_doColumns_79 : decode cX5_doColumns 79 = .ok (.iload_n 1, 1) := dk_27 (dk_at dksX5_doColumns_3 9 rfl rfl)
theorem dX5_doColumns_80 : decode cX5_doColumns 80 = .ok (.iadd, 1) := dk_96 (dk_at dksX5_doColumns_3 10 rfl rfl)
theorem dX5_doColumns_81 : decode cX5_doColumns 81 = .ok (.iaload, 1) := dk_46 (dk_at dksX5_doColumns_3 11 rfl rfl)
theorem dX5_doColumns_82 : decode cX5_doColumns 82 = .ok (.ifCond .ne 7, 3) := dk_154 0 7 (dk_at dksX5_doColumns_3 12 rfl rfl)
theorem dX5_doColumns_85 : decode cX5_doColumns 85 = .ok (.iconst 1, 1) := dk_4 (dk_at dksX5_doColumns_3 15 rfl rfl)
theorem dX5_doColumns_86 : decode cX5_doColumns 86 = .ok (.goto 4, 3) := dk_167 0 4 (dk_at dksX5_doColumns_3 16 rfl rfl)
theorem dX5_doColumns_89 : decode cX5_doColumns 89 = .ok (.iconst 0, 1) := dk_3 (dk_at dksX5_doColumns_3 19 rfl rfl)
theorem dX5_doColumns_90 : decode cX5_doColumns 90 = .ok (.if_icmp .ne 7, 3) := dk_160 0 7 (dk_at dksX5_doColumns_3 20 rfl rfl)
theorem dX5_doColumns_93 : decode cX5_doColumns 93 = .ok (.iconst 1, 1) := dk_4 (dk_at dksX5_doColumns_3 23 rfl rfl)
theorem dX5_doColumns_94 : decode cX5_doColumns 94 = .ok (.goto 4, 3) := dk_167 0 4 (dk_at dksX5_doColumns_4 0 rfl rfl)
theorem dX5_doColumns_97 : decode cX5_doColumns 97 = .ok (.iconst 0, 1) := dk_3 (dk_at dksX5_doColumns_4 3 rfl rfl)
theorem dX5_doColumns_98 : decode cX5_doColumns 98 = .ok (.istore 4, 2) := dk_54 4 (dk_at dksX5_doColumns_4 4 rfl rfl)
theorem dX5_doColumns_100 : decode cX5_doColumns 100 = .ok (.iinc 5 1, 3) := dk_132 5 1 (dk_at dksX5_doColumns_4 6 rfl rfl)
theorem dX5_doColumns_103 : decode cX5_doColumns 103 = .ok (.goto (-69), 3) := dk_167 255 187 (dk_at dksX5_doColumns_4 9 rfl rfl)
theorem dX5_doColumns_106 : decode cX5_doColumns 106 = .ok (.aload_n 0, 1) := dk_42 (dk_at dksX5_doColumns_4 12 rfl rfl)
theorem dX5_doColumns_107 : decode cX5_doColumns 107 = .ok (.getfield 74, 3) := dk_180 0 74 (dk_at dksX5_doColumns_4 13 rfl rfl)
theorem dX5_doColumns_110 : decode cX5_doColumns 110 = .ok (.iload_n 1, 1) := dk_27 (dk_at dksX5_doColumns_4 16 rfl rfl)
theorem dX5_doColumns_111 : decode cX5_doColumns 111 = .ok (.iload_n 3, 1) := dk_29 (dk_at dksX5_doColumns_4 17 rfl rfl)
theorem dX5_doColumns_112 : decode cX5_doColumns 112 = .ok (.iastore, 1) := dk_79 (dk_at dksX5_doColumns_4 18 rfl rfl)
theorem dX5_doColumns_113 : decode cX5_doColumns 113 = .ok (.iload 4, 2) := dk_21 4 (dk_at dksX5_doColumns_4 19 rfl rfl)
theorem dX5_doColumns_115 : decode cX5_doColumns 115 = .ok (.ifCond .eq 20, 3) := dk_153 0 20 (dk_at dksX5_doColumns_4 21 rfl rfl)
theorem dX5_doColumns_118 : decode cX5_doColumns 118 = .ok (.aload_n 0, 1) := dk_42 (dk_at dksX5_doColumns_5 0 rfl rfl)
theorem dX5_doColumns_119 : decode cX5_doColumns 119 = .ok (.iload_n 1, 1) := dk_27 (dk_at dksX5_doColumns_5 1 rfl rfl)
theorem dX5_doColumns_120 : decode cX5_doColumns 120 = .ok (.iconst 1, 1) := dk_4 (dk_at dksX5_doColumns_5 2 rfl rfl)
theorem dX5_doColumns_121 : decode cX5_doColumns 121 = .ok (.iadd, 1) := dk_96 (dk_at dksX5_doColumns_5 3 rfl rfl)
theorem dX5_doColumns_122 : decode cX5_doColumns 122 = .ok (.iload_n 2, 1) := dk_28 (dk_at dksX5_doColumns_5 4 rfl rfl)
theorem dX5_doColumns_123 : decode cX5_doColumns 123 = .ok (.iconst 1, 1) := dk_4 (dk_at dksX5_doColumns_5 5 rfl rfl)
theorem dX5_doColumns_124 : decode cX5_doColumns 124 = .ok (.iload_n 3, 1) := dk_29 (dk_at dksX5_doColumns_5 6 rfl rfl)
theorem dX5_doColumns_125 : decode cX5_doColumns 125 = .ok (.ishl, 1) := dk_120 (dk_at dksX5_doColumns_5 7 rfl rfl)
theorem dX5_doColumns_126 : decode cX5_doColumns 126 = .ok (.ior, 1) := dk_128 (dk_at dksX5_doColumns_5 8 rfl rfl)
theorem dX5_doColumns_127 : decode cX5_doColumns 127 = .ok (.invokevirtual 294, 3) := dk_182 1 38 (dk_at dksX5_doColumns_5 9 rfl rfl)
theorem dX5_doColumns_130 : decode cX5_doColumns 130 = .ok (.ifCond .eq 5, 3) := dk_153 0 5 (dk_at dksX5_doColumns_5 12 rfl rfl)
theorem dX5_doColumns_133 : decode cX5_doColumns 133 = .ok (.iconst 1, 1) := dk_4 (dk_at dksX5_doColumns_5 15 rfl rfl)
theorem dX5_doColumns_134 : decode cX5_doColumns 134 = .ok (.ireturn, 1) := dk_172 (dk_at dksX5_doColumns_5 16 rfl rfl)
theorem dX5_doColumns_135 : decode cX5_doColumns 135 = .ok (.iinc 3 1, 3) := dk_132 3 1 (dk_at dksX5_doColumns_5 17 rfl rfl)
theorem dX5_doColumns_138 : decode cX5_doColumns 138 = .ok (.goto (-126), 3) := dk_167 255 130 (dk_at dksX5_doColumns_5 20 rfl rfl)
theorem dX5_doColumns_141 : decode cX5_doColumns 141 = .ok (.iconst 0, 1) := dk_3 (dk_at dksX5_doColumns_5 23 rfl rfl)
theorem dX5_doColumns_142 : decode cX5_doColumns 142 = .ok (.ireturn, 1) := dk_172 (dk_at dksX5_doColumns_6 0 rfl rfl)
abbrev cX5_isLaid : ByteArray := prog_9_method_70_code
def yX5_isLaid : MethodName := ⟨RX5, "isLaid", "()Z"⟩
def dkwX5_isLaid_3 : List UInt8 := [16, 37, 8, 79, 42, 42, 180, 0, 68, 42, 180, 0, 65, 182, 1, 30, 172]
abbrev dktX5_isLaid_3 : List UInt8 := dkwX5_isLaid_3 ++ []
def dkwX5_isLaid_2 : List UInt8 := [132, 2, 1, 167, 255, 216, 132, 1, 1, 167, 255, 203, 42, 180, 0, 68, 16, 36, 8, 79, 42, 180, 0, 68]
abbrev dktX5_isLaid_2 : List UInt8 := dkwX5_isLaid_2 ++ dktX5_isLaid_3
def dkwX5_isLaid_1 : List UInt8 := [42, 180, 0, 13, 16, 6, 42, 180, 0, 71, 27, 46, 104, 42, 180, 0, 74, 28, 46, 96, 46, 79]
abbrev dktX5_isLaid_1 : List UInt8 := dkwX5_isLaid_1 ++ dktX5_isLaid_2
def dkwX5_isLaid_0 : List UInt8 := [3, 60, 27, 8, 162, 0, 54, 3, 61, 28, 8, 162, 0, 41, 42, 180, 0, 68, 16, 6, 27, 104, 28, 96]
abbrev dktX5_isLaid_0 : List UInt8 := dkwX5_isLaid_0 ++ dktX5_isLaid_1
theorem dksX5_isLaid_0 : cX5_isLaid.data.toList.drop 0 = dktX5_isLaid_0 := by decide +kernel
theorem dksX5_isLaid_1 : cX5_isLaid.data.toList.drop 24 = dktX5_isLaid_1 := dk_seg dksX5_isLaid_0 24 rfl rfl
theorem dksX5_isLaid_2 : cX5_isLaid.data.toList.drop 46 = dktX5_isLaid_2 := dk_seg dksX5_isLaid_1 22 rfl rfl
theorem dksX5_isLaid_3 : cX5_isLaid.data.toList.drop 70 = dktX5_isLaid_3 := dk_seg dksX5_isLaid_2 24 rfl rfl
theorem dX5_isLaid_0 : decode cX5_isLaid 0 = .ok (.iconst 0, 1) := dk_3 (dk_at dksX5_isLaid_0 0 rfl rfl)
theorem dX5_isLaid_1 : decode cX5_isLaid 1 = .ok (.istore_n 1, 1) := dk_60 (dk_at dksX5_isLaid_0 1 rfl rfl)
theorem dX5_isLaid_2 : decode cX5_isLaid 2 = .ok (.iload_n 1, 1) := dk_27 (dk_at dksX5_isLaid_0 2 rfl rfl)
theorem dX5_isLaid_3 : decode cX5_isLaid 3 = .ok (.iconst 5, 1) := dk_8 (dk_at dksX5_isLaid_0 3 rfl rfl)
theorem dX5_isLaid_4 : decode cX5_isLaid 4 = .ok (.if_icmp .ge 54, 3) := dk_162 0 54 (dk_at dksX5_isLaid_0 4 rfl rfl)
theorem dX5_isLaid_7 : decode cX5_isLaid 7 = .ok (.iconst 0, 1) := dk_3 (dk_at dksX5_isLaid_0 7 rfl rfl)
theorem dX5_isLaid_8 : decode cX5_isLaid 8 = .ok (.istore_n 2, 1) := dk_61 (dk_at dksX5_isLaid_0 8 rfl rfl)
theorem dX5_isLaid_9 : decode cX5_isLaid 9 = .ok (.iload_n 2, 1) := dk_28 (dk_at dksX5_isLaid_0 9 rfl rfl)
theorem dX5_isLaid_10 : decode cX5_isLaid 10 = .ok (.iconst 5, 1) := dk_8 (dk_at dksX5_isLaid_0 10 rfl rfl)
theorem dX5_isLaid_11 : decode cX5_isLaid 11 = .ok (.if_icmp .ge 41, 3) := dk_162 0 41 (dk_at dksX5_isLaid_0 11 rfl rfl)
theorem dX5_isLaid_14 : decode cX5_isLaid 14 = .ok (.aload_n 0, 1) := dk_42 (dk_at dksX5_isLaid_0 14 rfl rfl)
theorem dX5_isLaid_15 : decode cX5_isLaid 15 = .ok (.getfield 68, 3) := dk_180 0 68 (dk_at dksX5_isLaid_0 15 rfl rfl)
theorem dX5_isLaid_18 : decode cX5_isLaid 18 = .ok (.bipush 6, 2) := dk_16 6 (dk_at dksX5_isLaid_0 18 rfl rfl)
theorem dX5_isLaid_20 : decode cX5_isLaid 20 = .ok (.iload_n 1, 1) := dk_27 (dk_at dksX5_isLaid_0 20 rfl rfl)
theorem dX5_isLaid_21 : decode cX5_isLaid 21 = .ok (.imul, 1) := dk_104 (dk_at dksX5_isLaid_0 21 rfl rfl)
theorem dX5_isLaid_22 : decode cX5_isLaid 22 = .ok (.iload_n 2, 1) := dk_28 (dk_at dksX5_isLaid_0 22 rfl rfl)
theorem dX5_isLaid_23 : decode cX5_isLaid 23 = .ok (.iadd, 1) := dk_96 (dk_at dksX5_isLaid_0 23 rfl rfl)
theorem dX5_isLaid_24 : decode cX5_isLaid 24 = .ok (.aload_n 0, 1) := dk_42 (dk_at dksX5_isLaid_1 0 rfl rfl)
theorem dX5_isLaid_25 : decode cX5_isLaid 25 = .ok (.getfield 13, 3) := dk_180 0 13 (dk_at dksX5_isLaid_1 1 rfl rfl)
theorem dX5_isLaid_28 : decode cX5_isLaid 28 = .ok (.bipush 6, 2) := dk_16 6 (dk_at dksX5_isLaid_1 4 rfl rfl)
theorem dX5_isLaid_30 : decode cX5_isLaid 30 = .ok (.aload_n 0, 1) := dk_42 (dk_at dksX5_isLaid_1 6 rfl rfl)
theorem dX5_isLaid_31 : decode cX5_isLaid 31 = .ok (.getfield 71, 3) := dk_180 0 71 (dk_at dksX5_isLaid_1 7 rfl rfl)
theorem dX5_isLaid_34 : decode cX5_isLaid 34 = .ok (.iload_n 1, 1) := dk_27 (dk_at dksX5_isLaid_1 10 rfl rfl)
theorem dX5_isLaid_35 : decode cX5_isLaid 35 = .ok (.iaload, 1) := dk_46 (dk_at dksX5_isLaid_1 11 rfl rfl)
theorem dX5_isLaid_36 : decode cX5_isLaid 36 = .ok (.imul, 1) := dk_104 (dk_at dksX5_isLaid_1 12 rfl rfl)
theorem dX5_isLaid_37 : decode cX5_isLaid 37 = .ok (.aload_n 0, 1) := dk_42 (dk_at dksX5_isLaid_1 13 rfl rfl)
theorem dX5_isLaid_38 : decode cX5_isLaid 38 = .ok (.getfield 74, 3) := dk_180 0 74 (dk_at dksX5_isLaid_1 14 rfl rfl)
theorem dX5_isLaid_41 : decode cX5_isLaid 41 = .ok (.iload_n 2, 1) := dk_28 (dk_at dksX5_isLaid_1 17 rfl rfl)
theorem dX5_isLaid_42 : decode cX5_isLaid 42 = .ok (.iaload, 1) := dk_46 (dk_at dksX5_isLaid_1 18 rfl rfl)
theorem dX5_isLaid_43 : decode cX5_isLaid 43 = .ok (.iadd, 1) := dk_96 (dk_at dksX5_isLaid_1 19 rfl rfl)
theorem dX5_isLaid_44 : decode cX5_isLaid 44 = .ok (.iaload, 1) := dk_46 (dk_at dksX5_isLaid_1 20 rfl rfl)
theorem dX5_isLaid_45 : decode cX5_isLaid 45 = .ok (.iastore, 1) := dk_79 (dk_at dksX5_isLaid_1 21 rfl rfl)
theorem dX5_isLaid_46 : decode cX5_isLaid 46 = .ok (.iinc 2 1, 3) := dk_132 2 1 (dk_at dksX5_isLaid_2 0 rfl rfl)
theorem dX5_isLaid_49 : decode cX5_isLaid 49 = .ok (.goto (-40), 3) := dk_167 255 216 (dk_at dksX5_isLaid_2 3 rfl rfl)
theorem dX5_isLaid_52 : decode cX5_isLaid 52 = .ok (.iinc 1 1, 3) := dk_132 1 1 (dk_at dksX5_isLaid_2 6 rfl rfl)
theorem dX5_isLaid_55 : decode cX5_isLaid 55 = .ok (.goto (-53), 3) := dk_167 255 203 (dk_at dksX5_isLaid_2 9 rfl rfl)
theorem dX5_isLaid_58 : decode cX5_isLaid 58 = .ok (.aload_n 0, 1) := dk_42 (dk_at dksX5_isLaid_2 12 rfl rfl)
theorem dX5_isLaid_59 : decode cX5_isLaid 59 = .ok (.getfield 68, 3) := dk_180 0 68 (dk_at dksX5_isLaid_2 13 rfl rfl)
theorem dX5_isLaid_62 : decode cX5_isLaid 62 = .ok (.bipush 36, 2) := dk_16 36 (dk_at dksX5_isLaid_2 16 rfl rfl)
theorem dX5_isLaid_64 : decode cX5_isLaid 64 = .ok (.iconst 5, 1) := dk_8 (dk_at dksX5_isLaid_2 18 rfl rfl)
theorem dX5_isLaid_65 : decode cX5_isLaid 65 = .ok (.iastore, 1) := dk_79 (dk_at dksX5_isLaid_2 19 rfl rfl)
theorem dX5_isLaid_66 : decode cX5_isLaid 66 = .ok (.aload_n 0, 1) := dk_42 (dk_at dksX5_isLaid_2 20 rfl rfl)
theorem dX5_isLaid_67 : decode cX5_isLaid 67 = .ok (.getfield 68, 3) := dk_180 0 68 (dk_at dksX5_isLaid_2 21 rfl rfl)
theorem dX5_isLaid_70 : decode cX5_isLaid 70 = .ok (.bipush 37, 2) := dk_16 37 (dk_at dksX5_isLaid_3 0 rfl rfl)
theorem dX5_isLaid_72 : decode cX5_isLaid 72 = .ok (.iconst 5, 1) := dk_8 (dk_at dksX5_isLaid_3 2 rfl rfl)
theorem dX5_isLaid_73 : decode cX5_isLaid 73 = .ok (.iastore, 1) := dk_79 (dk_at dksX5_isLaid_3 3 rfl rfl)
theorem dX5_isLaid_74 : decode cX5_isLaid 74 = .ok (.aload_n 0, 1) := dk_42 (dk_at dksX5_isLaid_3 4 rfl rfl)
theorem dX5_isLaid_75 : decode cX5_isLaid 75 = .ok (.aload_n 0, 1) := dk_42 (dk_at dksX5_isLaid_3 5 rfl rfl)
theorem dX5_isLaid_76 : decode cX5_isLaid 76 = .ok (.getfield 68, 3) := dk_180 0 68 (dk_at dksX5_isLaid_3 6 rfl rfl)
theorem dX5_isLaid_79 : decode cX5_isLaid 79 = .ok (.aload_n 0, 1) := dk_42 (dk_at dksX5_isLaid_3 9 rfl rfl)
theorem dX5_isLaid_80 : decode cX5_isLaid 80 = .ok (.getfield 65, 3) := dk_180 0 65 (dk_at dksX5_isLaid_3 10 rfl rfl)
theorem dX5_isLaid_83 : decode cX5_isLaid 83 = .ok (.invokevirtual 286, 3) := dk_182 1 30 (dk_at dksX5_isLaid_3 13 rfl rfl)
theorem dX5_isLaid_86 : decode cX5_isLaid 86 = .ok (.ireturn, 1) := dk_172 (dk_at dksX5_isLaid_3 16 rfl rfl)
abbrev cX5_block : ByteArray := prog_9_method_76_code
def yX5_block : MethodName := ⟨RX5, "block", "(II)I"⟩
def dkwX5_block_7 : List UInt8 := [2, 172]
abbrev dktX5_block_7 : List UInt8 := dkwX5_block_7 ++ []
def dkwX5_block_6 : List UInt8 := [167, 255, 202, 21, 5, 172, 132, 3, 1, 132, 4, 1, 167, 255, 148, 27, 2, 160, 0, 7, 29, 167, 0, 4]
abbrev dktX5_block_6 : List UInt8 := dkwX5_block_6 ++ dktX5_block_7
def dkwX5_block_5 : List UInt8 := [21, 6, 96, 46, 21, 4, 160, 0, 10, 4, 21, 6, 120, 167, 0, 4, 3, 128, 54, 5, 132, 6, 1]
abbrev dktX5_block_5 : List UInt8 := dkwX5_block_5 ++ dktX5_block_6
def dkwX5_block_4 : List UInt8 := [21, 5, 42, 16, 6, 28, 104, 21, 6, 96, 182, 1, 54, 153, 0, 27, 42, 180, 0, 53, 16, 6, 28, 104]
abbrev dktX5_block_4 : List UInt8 := dkwX5_block_4 ++ dktX5_block_5
def dkwX5_block_3 : List UInt8 := [159, 0, 6, 167, 0, 77, 29, 27, 160, 0, 69, 3, 54, 5, 3, 54, 6, 21, 6, 16, 6, 162, 0, 53]
abbrev dktX5_block_3 : List UInt8 := dkwX5_block_3 ++ dktX5_block_4
def dkwX5_block_2 : List UInt8 := [16, 12, 162, 0, 107, 42, 21, 4, 182, 1, 54, 153, 0, 92, 42, 180, 0, 53, 21, 4, 46, 21, 4]
abbrev dktX5_block_2 : List UInt8 := dkwX5_block_2 ++ dktX5_block_3
def dkwX5_block_1 : List UInt8 := [28, 133, 9, 10, 184, 0, 140, 154, 0, 5, 2, 172, 42, 182, 1, 51, 3, 62, 3, 54, 4, 21, 4]
abbrev dktX5_block_1 : List UInt8 := dkwX5_block_1 ++ dktX5_block_2
def dkwX5_block_0 : List UInt8 := [42, 3, 181, 0, 83, 42, 180, 0, 13, 16, 36, 46, 153, 0, 22, 27, 2, 161, 0, 17, 27, 155, 0, 15]
abbrev dktX5_block_0 : List UInt8 := dkwX5_block_0 ++ dktX5_block_1
theorem dksX5_block_0 : cX5_block.data.toList.drop 0 = dktX5_block_0 := by decide +kernel
theorem dksX5_block_1 : cX5_block.data.toList.drop 24 = dktX5_block_1 := dk_seg dksX5_block_0 24 rfl rfl
theorem dksX5_block_2 : cX5_block.data.toList.drop 47 = dktX5_block_2 := dk_seg dksX5_block_1 23 rfl rfl
theorem dksX5_block_3 : cX5_block.data.toList.drop 70 = dktX5_block_3 := dk_seg dksX5_block_2 23 rfl rfl
theorem dksX5_block_4 : cX5_block.data.toList.drop 94 = dktX5_block_4 := dk_seg dksX5_block_3 24 rfl rfl
theorem dksX5_block_5 : cX5_block.data.toList.drop 118 = dktX5_block_5 := dk_seg dksX5_block_4 24 rfl rfl
theorem dksX5_block_6 : cX5_block.data.toList.drop 141 = dktX5_block_6 := dk_seg dksX5_block_5 23 rfl rfl
theorem dksX5_block_7 : cX5_block.data.toList.drop 165 = dktX5_block_7 := dk_seg dksX5_block_6 24 rfl rfl
theorem dX5_block_0 : decode cX5_block 0 = .ok (.aload_n 0, 1) := dk_42 (dk_at dksX5_block_0 0 rfl rfl)
theorem dX5_block_1 : decode cX5_block 1 = .ok (.iconst 0, 1) := dk_3 (dk_at dksX5_block_0 1 rfl rfl)
theorem dX5_block_2 : decode cX5_block 2 = .ok (.putfield 83, 3) := dk_181 0 83 (dk_at dksX5_block_0 2 rfl rfl)
theorem dX5_block_5 : decode cX5_block 5 = .ok (.aload_n 0, 1) := dk_42 (dk_at dksX5_block_0 5 rfl rfl)
theorem dX5_block_6 : decode cX5_block 6 = .ok (.getfield 13, 3) := dk_180 0 13 (dk_at dksX5_block_0 6 rfl rfl)
theorem dX5_block_9 : decode cX5_block 9 = .ok (.bipush 36, 2) := dk_16 36 (dk_at dksX5_block_0 9 rfl rfl)
theorem dX5_block_11 : decode cX5_block 11 = .ok (.iaload, 1) := dk_46 (dk_at dksX5_block_0 11 rfl rfl)
theorem dX5_block_12 : decode cX5_block 12 = .ok (.ifCond .eq 22, 3) := dk_153 0 22 (dk_at dksX5_block_0 12 rfl rfl)
theorem dX5_block_15 : decode cX5_block 15 = .ok (.iload_n 1, 1) := dk_27 (dk_at dksX5_block_0 15 rfl rfl)
theorem dX5_block_16 : decode cX5_block 16 = .ok (.iconst (-1), 1) := dk_2 (dk_at dksX5_block_0 16 rfl rfl)
theorem dX5_block_17 : decode cX5_block 17 = .ok (.if_icmp .lt 17, 3) := dk_161 0 17 (dk_at dksX5_block_0 17 rfl rfl)
theorem dX5_block_20 : decode cX5_block 20 = .ok (.iload_n 1, 1) := dk_27 (dk_at dksX5_block_0 20 rfl rfl)
theorem dX5_block_21 : decode cX5_block 21 = .ok (.ifCond .lt 15, 3) := dk_155 0 15 (dk_at dksX5_block_0 21 rfl rfl)
theorem dX5_block_24 : decode cX5_block 24 = .ok (.iload_n 2, 1) := dk_28 (dk_at dksX5_block_1 0 rfl rfl)
theorem dX5_block_25 : decode cX5_block 25 = .ok (.i2l, 1) := dk_133 (dk_at dksX5_block_1 1 rfl rfl)
theorem dX5_block_26 : decode cX5_block 26 = .ok (.lconst 0, 1) := dk_9 (dk_at dksX5_block_1 2 rfl rfl)
theorem dX5_block_27 : decode cX5_block 27 = .ok (.lconst 1, 1) := dk_10 (dk_at dksX5_block_1 3 rfl rfl)
theorem dX5_block_28 : decode cX5_block 28 = .ok (.invokestatic 140, 3) := dk_184 0 140 (dk_at dksX5_block_1 4 rfl rfl)
theorem dX5_block_31 : decode cX5_block 31 = .ok (.ifCond .ne 5, 3) := dk_154 0 5 (dk_at dksX5_block_1 7 rfl rfl)
theorem dX5_block_34 : decode cX5_block 34 = .ok (.iconst (-1), 1) := dk_2 (dk_at dksX5_block_1 10 rfl rfl)
theorem dX5_block_35 : decode cX5_block 35 = .ok (.ireturn, 1) := dk_172 (dk_at dksX5_block_1 11 rfl rfl)
theorem dX5_block_36 : decode cX5_block 36 = .ok (.aload_n 0, 1) := dk_42 (dk_at dksX5_block_1 12 rfl rfl)
theorem dX5_block_37 : decode cX5_block 37 = .ok (.invokevirtual 307, 3) := dk_182 1 51 (dk_at dksX5_block_1 13 rfl rfl)
theorem dX5_block_40 : decode cX5_block 40 = .ok (.iconst 0, 1) := dk_3 (dk_at dksX5_block_1 16 rfl rfl)
theorem dX5_block_41 : decode cX5_block 41 = .ok (.istore_n 3, 1) := dk_62 (dk_at dksX5_block_1 17 rfl rfl)
theorem dX5_block_42 : decode cX5_block 42 = .ok (.iconst 0, 1) := dk_3 (dk_at dksX5_block_1 18 rfl rfl)
theorem dX5_block_43 : decode cX5_block 43 = .ok (.istore 4, 2) := dk_54 4 (dk_at dksX5_block_1 19 rfl rfl)
theorem dX5_block_45 : decode cX5_block 45 = .ok (.iload 4, 2) := dk_21 4 (dk_at dksX5_block_1 21 rfl rfl)
theorem dX5_block_47 : decode cX5_block 47 = .ok (.bipush 12, 2) := dk_16 12 (dk_at dksX5_block_2 0 rfl rfl)
theorem dX5_block_49 : decode cX5_block 49 = .ok (.if_icmp .ge 107, 3) := dk_162 0 107 (dk_at dksX5_block_2 2 rfl rfl)
theorem dX5_block_52 : decode cX5_block 52 = .ok (.aload_n 0, 1) := dk_42 (dk_at dksX5_block_2 5 rfl rfl)
theorem dX5_block_53 : decode cX5_block 53 = .ok (.iload 4, 2) := dk_21 4 (dk_at dksX5_block_2 6 rfl rfl)
theorem dX5_block_55 : decode cX5_block 55 = .ok (.invokevirtual 310, 3) := dk_182 1 54 (dk_at dksX5_block_2 8 rfl rfl)
theorem dX5_block_58 : decode cX5_block 58 = .ok (.ifCond .eq 92, 3) := dk_153 0 92 (dk_at dksX5_block_2 11 rfl rfl)
theorem dX5_block_61 : decode cX5_block 61 = .ok (.aload_n 0, 1) := dk_42 (dk_at dksX5_block_2 14 rfl rfl)
theorem dX5_block_62 : decode cX5_block 62 = .ok (.getfield 53, 3) := dk_180 0 53 (dk_at dksX5_block_2 15 rfl rfl)
theorem dX5_block_65 : decode cX5_block 65 = .ok (.iload 4, 2) := dk_21 4 (dk_at dksX5_block_2 18 rfl rfl)
theorem dX5_block_67 : decode cX5_block 67 = .ok (.iaload, 1) := dk_46 (dk_at dksX5_block_2 20 rfl rfl)
theorem dX5_block_68 : decode cX5_block 68 = .ok (.iload 4, 2) := dk_21 4 (dk_at dksX5_block_2 21 rfl rfl)
theorem dX5_block_70 : decode cX5_block 70 = .ok (.if_icmp .eq 6, 3) := dk_159 0 6 (dk_at dksX5_block_3 0 rfl rfl)
theorem dX5_block_73 : decode cX5_block 73 = .ok (.goto 77, 3) := dk_167 0 77 (dk_at dksX5_block_3 3 rfl rfl)
theorem dX5_block_76 : decode cX5_block 76 = .ok (.iload_n 3, 1) := dk_29 (dk_at dksX5_block_3 6 rfl rfl)
theorem dX5_block_77 : decode cX5_block 77 = .ok (.iload_n 1, 1) := dk_27 (dk_at dksX5_block_3 7 rfl rfl)
theorem dX5_block_78 : decode cX5_block 78 = .ok (.if_icmp .ne 69, 3) := dk_160 0 69 (dk_at dksX5_block_3 8 rfl rfl)
theorem dX5_block_81 : decode cX5_block 81 = .ok (.iconst 0, 1) := dk_3 (dk_at dksX5_block_3 11 rfl rfl)
theorem dX5_block_82 : decode cX5_block 82 = .ok (.istore 5, 2) := dk_54 5 (dk_at dksX5_block_3 12 rfl rfl)
theorem dX5_block_84 : decode cX5_block 84 = .ok (.iconst 0, 1) := dk_3 (dk_at dksX5_block_3 14 rfl rfl)
theorem dX5_block_85 : decode cX5_block 85 = .ok (.istore 6, 2) := dk_54 6 (dk_at dksX5_block_3 15 rfl rfl)
theorem dX5_block_87 : decode cX5_block 87 = .ok (.iload 6, 2) := dk_21 6 (dk_at dksX5_block_3 17 rfl rfl)
theorem dX5_block_89 : decode cX5_block 89 = .ok (.bipush 6, 2) := dk_16 6 (dk_at dksX5_block_3 19 rfl rfl)
theorem dX5_block_91 : decode cX5_block 91 = .ok (.if_icmp .ge 53, 3) := dk_162 0 53 (dk_at dksX5_block_3 21 rfl rfl)
theorem dX5_block_94 : decode cX5_block 94 = .ok (.iload 5, 2) := dk_21 5 (dk_at dksX5_block_4 0 rfl rfl)
theorem dX5_block_96 : decode cX5_block 96 = .ok (.aload_n 0, 1) := dk_42 (dk_at dksX5_block_4 2 rfl rfl)
theorem dX5_block_97 : decode cX5_block 97 = .ok (.bipush 6, 2) := dk_16 6 (dk_at dksX5_block_4 3 rfl rfl)
theorem dX5_block_99 : decode cX5_block 99 = .ok (.iload_n 2, 1) := dk_28 (dk_at dksX5_block_4 5 rfl rfl)
theorem dX5_block_100 : decode cX5_block 100 = .ok (.imul, 1) := dk_104 (dk_at dksX5_block_4 6 rfl rfl)
theorem dX5_block_101 : decode cX5_block 101 = .ok (.iload 6, 2) := dk_21 6 (dk_at dksX5_block_4 7 rfl rfl)
theorem dX5_block_103 : decode cX5_block 103 = .ok (.iadd, 1) := dk_96 (dk_at dksX5_block_4 9 rfl rfl)
theorem dX5_block_104 : decode cX5_block 104 = .ok (.invokevirtual 310, 3) := dk_182 1 54 (dk_at dksX5_block_4 10 rfl rfl)
theorem dX5_block_107 : decode cX5_block 107 = .ok (.ifCond .eq 27, 3) := dk_153 0 27 (dk_at dksX5_block_4 13 rfl rfl)
theorem dX5_block_110 : decode cX5_block 110 = .ok (.aload_n 0, 1) := dk_42 (dk_at dksX5_block_4 16 rfl rfl)
theorem dX5_block_111 : decode cX5_block 111 = .ok (.getfield 53, 3) := dk_180 0 53 (dk_at dksX5_block_4 17 rfl rfl)
theorem dX5_block_114 : decode cX5_block 114 = .ok (.bipush 6, 2) := dk_16 6 (dk_at dksX5_block_4 20 rfl rfl)
theorem dX5_block_116 : decode cX5_block 116 = .ok (.iload_n 2, 1) := dk_28 (dk_at dksX5_block_4 22 rfl rfl)
theorem dX5_block_117 : decode cX5_block 117 = .ok (.imul, 1) := dk_104 (dk_at dksX5_block_4 23 rfl rfl)
theorem dX5_block_118 : decode cX5_block 118 = .ok (.iload 6, 2) := dk_21 6 (dk_at dksX5_block_5 0 rfl rfl)
theorem dX5_block_120 : decode cX5_block 120 = .ok (.iadd, 1) := dk_96 (dk_at dksX5_block_5 2 rfl rfl)
theorem dX5_block_121 : decode cX5_block 121 = .ok (.iaload, 1) := dk_46 (dk_at dksX5_block_5 3 rfl rfl)
theorem dX5_block_122 : decode cX5_block 122 = .ok (.iload 4, 2) := dk_21 4 (dk_at dksX5_block_5 4 rfl rfl)
theorem dX5_block_124 : decode cX5_block 124 = .ok (.if_icmp .ne 10, 3) := dk_160 0 10 (dk_at dksX5_block_5 6 rfl rfl)
theorem dX5_block_127 : decode cX5_block 127 = .ok (.iconst 1, 1) := dk_4 (dk_at dksX5_block_5 9 rfl rfl)
theorem dX5_block_128 : decode cX5_block 128 = .ok (.iload 6, 2) := dk_21 6 (dk_at dksX5_block_5 10 rfl rfl)
theorem dX5_block_130 : decode cX5_block 130 = .ok (.ishl, 1) := dk_120 (dk_at dksX5_block_5 12 rfl rfl)
theorem dX5_block_131 : decode cX5_block 131 = .ok (.goto 4, 3) := dk_167 0 4 (dk_at dksX5_block_5 13 rfl rfl)
theorem dX5_block_134 : decode cX5_block 134 = .ok (.iconst 0, 1) := dk_3 (dk_at dksX5_block_5 16 rfl rfl)
theorem dX5_block_135 : decode cX5_block 135 = .ok (.ior, 1) := dk_128 (dk_at dksX5_block_5 17 rfl rfl)
theorem dX5_block_136 : decode cX5_block 136 = .ok (.istore 5, 2) := dk_54 5 (dk_at dksX5_block_5 18 rfl rfl)
theorem dX5_block_138 : decode cX5_block 138 = .ok (.iinc 6 1, 3) := dk_132 6 1 (dk_at dksX5_block_5 20 rfl rfl)
theorem dX5_block_141 : decode cX5_block 141 = .ok (.goto (-54), 3) := dk_167 255 202 (dk_at dksX5_block_6 0 rfl rfl)
theorem dX5_block_144 : decode cX5_block 144 = .ok (.iload 5, 2) := dk_21 5 (dk_at dksX5_block_6 3 rfl rfl)
theorem dX5_block_146 : decode cX5_block 146 = .ok (.ireturn, 1) := dk_172 (dk_at dksX5_block_6 5 rfl rfl)
theorem dX5_block_147 : decode cX5_block 147 = .ok (.iinc 3 1, 3) := dk_132 3 1 (dk_at dksX5_block_6 6 rfl rfl)
theorem dX5_block_150 : decode cX5_block 150 = .ok (.iinc 4 1, 3) := dk_132 4 1 (dk_at dksX5_block_6 9 rfl rfl)
theorem dX5_block_153 : decode cX5_block 153 = .ok (.goto (-108), 3) := dk_167 255 148 (dk_at dksX5_block_6 12 rfl rfl)
theorem dX5_block_156 : decode cX5_block 156 = .ok (.iload_n 1, 1) := dk_27 (dk_at dksX5_block_6 15 rfl rfl)
theorem dX5_block_157 : decode cX5_block 157 = .ok (.iconst (-1), 1) := dk_2 (dk_at dksX5_block_6 16 rfl rfl)
theorem dX5_block_158 : decode cX5_block 158 = .ok (.if_icmp .ne 7, 3) := dk_160 0 7 (dk_at dksX5_block_6 17 rfl rfl)
theorem dX5_block_161 : decode cX5_block 161 = .ok (.iload_n 3, 1) := dk_29 (dk_at dksX5_block_6 20 rfl rfl)
theorem dX5_block_162 : decode cX5_block 162 = .ok (.goto 4, 3) := dk_167 0 4 (dk_at dksX5_block_6 21 rfl rfl)
theorem dX5_block_165 : decode cX5_block 165 = .ok (.iconst (-1), 1) := dk_2 (dk_at dksX5_block_7 0 rfl rfl)
theorem dX5_block_166 : decode cX5_block 166 = .ok (.ireturn, 1) := dk_172 (dk_at dksX5_block_7 1 rfl rfl)
abbrev cX5_laysParts : ByteArray := prog_9_method_74_code
def yX5_laysParts : MethodName := ⟨RX5, "laysParts", "()V"⟩
def dkwX5_laysParts_6 : List UInt8 := [167, 255, 150, 132, 1, 1, 167, 255, 131, 177]
abbrev dktX5_laysParts_6 : List UInt8 := dkwX5_laysParts_6 ++ []
def dkwX5_laysParts_5 : List UInt8 := [21, 4, 160, 0, 11, 42, 180, 0, 53, 21, 5, 29, 79, 132, 5, 1, 167, 255, 226, 132, 2, 1]
abbrev dktX5_laysParts_5 : List UInt8 := dkwX5_laysParts_5 ++ dktX5_laysParts_6
def dkwX5_laysParts_4 : List UInt8 := [46, 154, 0, 6, 167, 0, 39, 3, 54, 5, 21, 5, 16, 12, 162, 0, 29, 42, 180, 0, 53, 21, 5, 46]
abbrev dktX5_laysParts_4 : List UInt8 := dkwX5_laysParts_4 ++ dktX5_laysParts_5
def dkwX5_laysParts_3 : List UInt8 := [42, 180, 0, 53, 16, 6, 28, 96, 46, 184, 1, 48, 54, 4, 42, 180, 0, 13, 16, 6, 27, 104, 28, 96]
abbrev dktX5_laysParts_3 : List UInt8 := dkwX5_laysParts_3 ++ dktX5_laysParts_4
def dkwX5_laysParts_2 : List UInt8 := [180, 0, 53, 27, 46, 42, 180, 0, 53, 16, 6, 28, 96, 46, 184, 0, 223, 62, 42, 180, 0, 53, 27, 46]
abbrev dktX5_laysParts_2 : List UInt8 := dkwX5_laysParts_2 ++ dktX5_laysParts_3
def dkwX5_laysParts_1 : List UInt8 := [42, 180, 0, 13, 16, 36, 46, 162, 0, 120, 3, 61, 28, 42, 180, 0, 13, 16, 37, 46, 162, 0, 101, 42]
abbrev dktX5_laysParts_1 : List UInt8 := dkwX5_laysParts_1 ++ dktX5_laysParts_2
def dkwX5_laysParts_0 : List UInt8 := [3, 60, 27, 16, 12, 162, 0, 16, 42, 180, 0, 53, 27, 27, 79, 132, 1, 1, 167, 255, 240, 3, 60, 27]
abbrev dktX5_laysParts_0 : List UInt8 := dkwX5_laysParts_0 ++ dktX5_laysParts_1
theorem dksX5_laysParts_0 : cX5_laysParts.data.toList.drop 0 = dktX5_laysParts_0 := by decide +kernel
theorem dksX5_laysParts_1 : cX5_laysParts.data.toList.drop 24 = dktX5_laysParts_1 := dk_seg dksX5_laysParts_0 24 rfl rfl
theorem dksX5_laysParts_2 : cX5_laysParts.data.toList.drop 48 = dktX5_laysParts_2 := dk_seg dksX5_laysParts_1 24 rfl rfl
theorem dksX5_laysParts_3 : cX5_laysParts.data.toList.drop 72 = dktX5_laysParts_3 := dk_seg dksX5_laysParts_2 24 rfl rfl
theorem dksX5_laysParts_4 : cX5_laysParts.data.toList.drop 96 = dktX5_laysParts_4 := dk_seg dksX5_laysParts_3 24 rfl rfl
theorem dksX5_laysParts_5 : cX5_laysParts.data.toList.drop 120 = dktX5_laysParts_5 := dk_seg dksX5_laysParts_4 24 rfl rfl
theorem dksX5_laysParts_6 : cX5_laysParts.data.toList.drop 142 = dktX5_laysParts_6 := dk_seg dksX5_laysParts_5 22 rfl rfl
theorem dX5_laysParts_0 : decode cX5_laysParts 0 = .ok (.iconst 0, 1) := dk_3 (dk_at dksX5_laysParts_0 0 rfl rfl)
theorem dX5_laysParts_1 : decode cX5_laysParts 1 = .ok (.istore_n 1, 1) := dk_60 (dk_at dksX5_laysParts_0 1 rfl rfl)
theorem dX5_laysParts_2 : decode cX5_laysParts 2 = .ok (.iload_n 1, 1) := dk_27 (dk_at dksX5_laysParts_0 2 rfl rfl)
theorem dX5_laysParts_3 : decode cX5_laysParts 3 = .ok (.bipush 12, 2) := dk_16 12 (dk_at dksX5_laysParts_0 3 rfl rfl)
theorem dX5_laysParts_5 : decode cX5_laysParts 5 = .ok (.if_icmp .ge 16, 3) := dk_162 0 16 (dk_at dksX5_laysParts_0 5 rfl rfl)
theorem dX5_laysParts_8 : decode cX5_laysParts 8 = .ok (.aload_n 0, 1) := dk_42 (dk_at dksX5_laysParts_0 8 rfl rfl)
theorem dX5_laysParts_9 : decode cX5_laysParts 9 = .ok (.getfield 53, 3) := dk_180 0 53 (dk_at dksX5_laysParts_0 9 rfl rfl)
theorem dX5_laysParts_12 : decode cX5_laysParts 12 = .ok (.iload_n 1, 1) := dk_27 (dk_at dksX5_laysParts_0 12 rfl rfl)
theorem dX5_laysParts_13 : decode cX5_laysParts 13 = .ok (.iload_n 1, 1) := dk_27 (dk_at dksX5_laysParts_0 13 rfl rfl)
theorem dX5_laysParts_14 : decode cX5_laysParts 14 = .ok (.iastore, 1) := dk_79 (dk_at dksX5_laysParts_0 14 rfl rfl)
theorem dX5_laysParts_15 : decode cX5_laysParts 15 = .ok (.iinc 1 1, 3) := dk_132 1 1 (dk_at dksX5_laysParts_0 15 rfl rfl)
theorem dX5_laysParts_18 : decode cX5_laysParts 18 = .ok (.goto (-16), 3) := dk_167 255 240 (dk_at dksX5_laysParts_0 18 rfl rfl)
theorem dX5_laysParts_21 : decode cX5_laysParts 21 = .ok (.iconst 0, 1) := dk_3 (dk_at dksX5_laysParts_0 21 rfl rfl)
theorem dX5_laysParts_22 : decode cX5_laysParts 22 = .ok (.istore_n 1, 1) := dk_60 (dk_at dksX5_laysParts_0 22 rfl rfl)
theorem dX5_laysParts_23 : decode cX5_laysParts 23 = .ok (.iload_n 1, 1) := dk_27 (dk_at dksX5_laysParts_0 23 rfl rfl)
theorem dX5_laysParts_24 : decode cX5_laysParts 24 = .ok (.aload_n 0, 1) := dk_42 (dk_at dksX5_laysParts_1 0 rfl rfl)
theorem dX5_laysParts_25 : decode cX5_laysParts 25 = .ok (.getfield 13, 3) := dk_180 0 13 (dk_at dksX5_laysParts_1 1 rfl rfl)
theorem dX5_laysParts_28 : decode cX5_laysParts 28 = .ok (.bipush 36, 2) := dk_16 36 (dk_at dksX5_laysParts_1 4 rfl rfl)
theorem dX5_laysParts_30 : decode cX5_laysParts 30 = .ok (.iaload, 1) := dk_46 (dk_at dksX5_laysParts_1 6 rfl rfl)
theorem dX5_laysParts_31 : decode cX5_laysParts 31 = .ok (.if_icmp .ge 120, 3) := dk_162 0 120 (dk_at dksX5_laysParts_1 7 rfl rfl)
theorem dX5_laysParts_34 : decode cX5_laysParts 34 = .ok (.iconst 0, 1) := dk_3 (dk_at dksX5_laysParts_1 10 rfl rfl)
theorem dX5_laysParts_35 : decode cX5_laysParts 35 = .ok (.istore_n 2, 1) := dk_61 (dk_at dksX5_laysParts_1 11 rfl rfl)
theorem dX5_laysParts_36 : decode cX5_laysParts 36 = .ok (.iload_n 2, 1) := dk_28 (dk_at dksX5_laysParts_1 12 rfl rfl)
theorem dX5_laysParts_37 : decode cX5_laysParts 37 = .ok (.aload_n 0, 1) := dk_42 (dk_at dksX5_laysParts_1 13 rfl rfl)
theorem dX5_laysParts_38 : decode cX5_laysParts 38 = .ok (.getfield 13, 3) := dk_180 0 13 (dk_at dksX5_laysParts_1 14 rfl rfl)
theorem dX5_laysParts_41 : decode cX5_laysParts 41 = .ok (.bipush 37, 2) := dk_16 37 (dk_at dksX5_laysParts_1 17 rfl rfl)
theorem dX5_laysParts_43 : decode cX5_laysParts 43 = .ok (.iaload, 1) := dk_46 (dk_at dksX5_laysParts_1 19 rfl rfl)
theorem dX5_laysParts_44 : decode cX5_laysParts 44 = .ok (.if_icmp .ge 101, 3) := dk_162 0 101 (dk_at dksX5_laysParts_1 20 rfl rfl)
theorem dX5_laysParts_47 : decode cX5_laysParts 47 = .ok (.aload_n 0, 1) := dk_42 (dk_at dksX5_laysParts_1 23 rfl rfl)
theorem dX5_laysParts_48 : decode cX5_laysParts 48 = .ok (.getfield 53, 3) := dk_180 0 53 (dk_at dksX5_laysParts_2 0 rfl rfl)
theorem dX5_laysParts_51 : decode cX5_laysParts 51 = .ok (.iload_n 1, 1) := dk_27 (dk_at dksX5_laysParts_2 3 rfl rfl)
theorem dX5_laysParts_52 : decode cX5_laysParts 52 = .ok (.iaload, 1) := dk_46 (dk_at dksX5_laysParts_2 4 rfl rfl)
theorem dX5_laysParts_53 : decode cX5_laysParts 53 = .ok (.aload_n 0, 1) := dk_42 (dk_at dksX5_laysParts_2 5 rfl rfl)
theorem dX5_laysParts_54 : decode cX5_laysParts 54 = .ok (.getfield 53, 3) := dk_180 0 53 (dk_at dksX5_laysParts_2 6 rfl rfl)
theorem dX5_laysParts_57 : decode cX5_laysParts 57 = .ok (.bipush 6, 2) := dk_16 6 (dk_at dksX5_laysParts_2 9 rfl rfl)
theorem dX5_laysParts_59 : decode cX5_laysParts 59 = .ok (.iload_n 2, 1) := dk_28 (dk_at dksX5_laysParts_2 11 rfl rfl)
theorem dX5_laysParts_60 : decode cX5_laysParts 60 = .ok (.iadd, 1) := dk_96 (dk_at dksX5_laysParts_2 12 rfl rfl)
theorem dX5_laysParts_61 : decode cX5_laysParts 61 = .ok (.iaload, 1) := dk_46 (dk_at dksX5_laysParts_2 13 rfl rfl)
theorem dX5_laysParts_62 : decode cX5_laysParts 62 = .ok (.invokestatic 223, 3) := dk_184 0 223 (dk_at dksX5_laysParts_2 14 rfl rfl)
theorem dX5_laysParts_65 : decode cX5_laysParts 65 = .ok (.istore_n 3, 1) := dk_62 (dk_at dksX5_laysParts_2 17 rfl rfl)
theorem dX5_laysParts_66 : decode cX5_laysParts 66 = .ok (.aload_n 0, 1) := dk_42 (dk_at dksX5_laysParts_2 18 rfl rfl)
theorem dX5_laysParts_67 : decode cX5_laysParts 67 = .ok (.getfield 53, 3) := dk_180 0 53 (dk_at dksX5_laysParts_2 19 rfl rfl)
theorem dX5_laysParts_70 : decode cX5_laysParts 70 = .ok (.iload_n 1, 1) := dk_27 (dk_at dksX5_laysParts_2 22 rfl rfl)
theorem dX5_laysParts_71 : decode cX5_laysParts 71 = .ok (.iaload, 1) := dk_46 (dk_at dksX5_laysParts_2 23 rfl rfl)
theorem dX5_laysParts_72 : decode cX5_laysParts 72 = .ok (.aload_n 0, 1) := dk_42 (dk_at dksX5_laysParts_3 0 rfl rfl)
theorem dX5_laysParts_73 : decode cX5_laysParts 73 = .ok (.getfield 53, 3) := dk_180 0 53 (dk_at dksX5_laysParts_3 1 rfl rfl)
theorem dX5_laysParts_76 : decode cX5_laysParts 76 = .ok (.bipush 6, 2) := dk_16 6 (dk_at dksX5_laysParts_3 4 rfl rfl)
theorem dX5_laysParts_78 : decode cX5_laysParts 78 = .ok (.iload_n 2, 1) := dk_28 (dk_at dksX5_laysParts_3 6 rfl rfl)
theorem dX5_laysParts_79 : decode cX5_laysParts 79 = .ok (.iadd, 1) := dk_96 (dk_at dksX5_laysParts_3 7 rfl rfl)
theorem dX5_laysParts_80 : decode cX5_laysParts 80 = .ok (.iaload, 1) := dk_46 (dk_at dksX5_laysParts_3 8 rfl rfl)
theorem dX5_laysParts_81 : decode cX5_laysParts 81 = .ok (.invokestatic 304, 3) := dk_184 1 48 (dk_at dksX5_laysParts_3 9 rfl rfl)
theorem dX5_laysParts_84 : decode cX5_laysParts 84 = .ok (.istore 4, 2) := dk_54 4 (dk_at dksX5_laysParts_3 12 rfl rfl)
theorem dX5_laysParts_86 : decode cX5_laysParts 86 = .ok (.aload_n 0, 1) := dk_42 (dk_at dksX5_laysParts_3 14 rfl rfl)
theorem dX5_laysParts_87 : decode cX5_laysParts 87 = .ok (.getfield 13, 3) := dk_180 0 13 (dk_at dksX5_laysParts_3 15 rfl rfl)
theorem dX5_laysParts_90 : decode cX5_laysParts 90 = .ok (.bipush 6, 2) := dk_16 6 (dk_at dksX5_laysParts_3 18 rfl rfl)
theorem dX5_laysParts_92 : decode cX5_laysParts 92 = .ok (.iload_n 1, 1) := dk_27 (dk_at dksX5_laysParts_3 20 rfl rfl)
theorem dX5_laysParts_93 : decode cX5_laysParts 93 = .ok (.imul, 1) := dk_104 (dk_at dksX5_laysParts_3 21 rfl rfl)
theorem dX5_laysParts_94 : decode cX5_laysParts 94 = .ok (.iload_n 2, 1) := dk_28 (dk_at dksX5_laysParts_3 22 rfl rfl)
theorem dX5_laysParts_95 : decode cX5_laysParts 95 = .ok (.iadd, 1) := dk_96 (dk_at dksX5_laysParts_3 23 rfl rfl)
theorem dX5_laysParts_96 : decode cX5_laysParts 96 = .ok (.iaload, 1) := dk_46 (dk_at dksX5_laysParts_4 0 rfl rfl)
theorem dX5_laysParts_97 : decode cX5_laysParts 97 = .ok (.ifCond .ne 6, 3) := dk_154 0 6 (dk_at dksX5_laysParts_4 1 rfl rfl)
theorem dX5_laysParts_100 : decode cX5_laysParts 100 = .ok (.goto 39, 3) := dk_167 0 39 (dk_at dksX5_laysParts_4 4 rfl rfl)
theorem dX5_laysParts_103 : decode cX5_laysParts 103 = .ok (.iconst 0, 1) := dk_3 (dk_at dksX5_laysParts_4 7 rfl rfl)
theorem dX5_laysParts_104 : decode cX5_laysParts 104 = .ok (.istore 5, 2) := dk_54 5 (dk_at dksX5_laysParts_4 8 rfl rfl)
theorem dX5_laysParts_106 : decode cX5_laysParts 106 = .ok (.iload 5, 2) := dk_21 5 (dk_at dksX5_laysParts_4 10 rfl rfl)
theorem dX5_laysParts_108 : decode cX5_laysParts 108 = .ok (.bipush 12, 2) := dk_16 12 (dk_at dksX5_laysParts_4 12 rfl rfl)
theorem dX5_laysParts_110 : decode cX5_laysParts 110 = .ok (.if_icmp .ge 29, 3) := dk_162 0 29 (dk_at dksX5_laysParts_4 14 rfl rfl)
theorem dX5_laysParts_113 : decode cX5_laysParts 113 = .ok (.aload_n 0, 1) := dk_42 (dk_at dksX5_laysParts_4 17 rfl rfl)
theorem dX5_laysParts_114 : decode cX5_laysParts 114 = .ok (.getfield 53, 3) := dk_180 0 53 (dk_at dksX5_laysParts_4 18 rfl rfl)
theorem dX5_laysParts_117 : decode cX5_laysParts 117 = .ok (.iload 5, 2) := dk_21 5 (dk_at dksX5_laysParts_4 21 rfl rfl)
theorem dX5_laysParts_119 : decode cX5_laysParts 119 = .ok (.iaload, 1) := dk_46 (dk_at dksX5_laysParts_4 23 rfl rfl)
theorem dX5_laysParts_120 : decode cX5_laysParts 120 = .ok (.iload 4, 2) := dk_21 4 (dk_at dksX5_laysParts_5 0 rfl rfl)
theorem dX5_laysParts_122 : decode cX5_laysParts 122 = .ok (.if_icmp .ne 11, 3) := dk_160 0 11 (dk_at dksX5_laysParts_5 2 rfl rfl)
theorem dX5_laysParts_125 : decode cX5_laysParts 125 = .ok (.aload_n 0, 1) := dk_42 (dk_at dksX5_laysParts_5 5 rfl rfl)
theorem dX5_laysParts_126 : decode cX5_laysParts 126 = .ok (.getfield 53, 3) := dk_180 0 53 (dk_at dksX5_laysParts_5 6 rfl rfl)
theorem dX5_laysParts_129 : decode cX5_laysParts 129 = .ok (.iload 5, 2) := dk_21 5 (dk_at dksX5_laysParts_5 9 rfl rfl)
theorem dX5_laysParts_131 : decode cX5_laysParts 131 = .ok (.iload_n 3, 1) := dk_29 (dk_at dksX5_laysParts_5 11 rfl rfl)
theorem dX5_laysParts_132 : decode cX5_laysParts 132 = .ok (.iastore, 1) := dk_79 (dk_at dksX5_laysParts_5 12 rfl rfl)
theorem dX5_laysParts_133 : decode cX5_laysParts 133 = .ok (.iinc 5 1, 3) := dk_132 5 1 (dk_at dksX5_laysParts_5 13 rfl rfl)
theorem dX5_laysParts_136 : decode cX5_laysParts 136 = .ok (.goto (-30), 3) := dk_167 255 226 (dk_at dksX5_laysParts_5 16 rfl rfl)
theorem dX5_laysParts_139 : decode cX5_laysParts 139 = .ok (.iinc 2 1, 3) := dk_132 2 1 (dk_at dksX5_laysParts_5 19 rfl rfl)
theorem dX5_laysParts_142 : decode cX5_laysParts 142 = .ok (.goto (-106), 3) := dk_167 255 150 (dk_at dksX5_laysParts_6 0 rfl rfl)
theorem dX5_laysParts_145 : decode cX5_laysParts 145 = .ok (.iinc 1 1, 3) := dk_132 1 1 (dk_at dksX5_laysParts_6 3 rfl rfl)
theorem dX5_laysParts_148 : decode cX5_laysParts 148 = .ok (.goto (-125), 3) := dk_167 255 131 (dk_at dksX5_laysParts_6 6 rfl rfl)
theorem dX5_laysParts_151 : decode cX5_laysParts 151 = .ok (.return_, 1) := dk_177 (dk_at dksX5_laysParts_6 9 rfl rfl)
abbrev cX5_isThere : ByteArray := prog_9_method_75_code
def yX5_isThere : MethodName := ⟨RX5, "isThere", "(I)Z"⟩
def dkwX5_isThere_1 : List UInt8 := [167, 0, 22, 27, 16, 6, 100, 42, 180, 0, 13, 16, 37, 46, 162, 0, 7, 4, 167, 0, 4, 3, 172]
abbrev dktX5_isThere_1 : List UInt8 := dkwX5_isThere_1 ++ []
def dkwX5_isThere_0 : List UInt8 := [27, 16, 6, 162, 0, 22, 27, 42, 180, 0, 13, 16, 36, 46, 162, 0, 7, 4, 167, 0, 26, 3]
abbrev dktX5_isThere_0 : List UInt8 := dkwX5_isThere_0 ++ dktX5_isThere_1
theorem dksX5_isThere_0 : cX5_isThere.data.toList.drop 0 = dktX5_isThere_0 := by decide +kernel
theorem dksX5_isThere_1 : cX5_isThere.data.toList.drop 22 = dktX5_isThere_1 := dk_seg dksX5_isThere_0 22 rfl rfl
theorem dX5_isThere_0 : decode cX5_isThere 0 = .ok (.iload_n 1, 1) := dk_27 (dk_at dksX5_isThere_0 0 rfl rfl)
theorem dX5_isThere_1 : decode cX5_isThere 1 = .ok (.bipush 6, 2) := dk_16 6 (dk_at dksX5_isThere_0 1 rfl rfl)
theorem dX5_isThere_3 : decode cX5_isThere 3 = .ok (.if_icmp .ge 22, 3) := dk_162 0 22 (dk_at dksX5_isThere_0 3 rfl rfl)
theorem dX5_isThere_6 : decode cX5_isThere 6 = .ok (.iload_n 1, 1) := dk_27 (dk_at dksX5_isThere_0 6 rfl rfl)
theorem dX5_isThere_7 : decode cX5_isThere 7 = .ok (.aload_n 0, 1) := dk_42 (dk_at dksX5_isThere_0 7 rfl rfl)
theorem dX5_isThere_8 : decode cX5_isThere 8 = .ok (.getfield 13, 3) := dk_180 0 13 (dk_at dksX5_isThere_0 8 rfl rfl)
theorem dX5_isThere_11 : decode cX5_isThere 11 = .ok (.bipush 36, 2) := dk_16 36 (dk_at dksX5_isThere_0 11 rfl rfl)
theorem dX5_isThere_13 : decode cX5_isThere 13 = .ok (.iaload, 1) := dk_46 (dk_at dksX5_isThere_0 13 rfl rfl)
theorem dX5_isThere_14 : decode cX5_isThere 14 = .ok (.if_icmp .ge 7, 3) := dk_162 0 7 (dk_at dksX5_isThere_0 14 rfl rfl)
theorem dX5_isThere_17 : decode cX5_isThere 17 = .ok (.iconst 1, 1) := dk_4 (dk_at dksX5_isThere_0 17 rfl rfl)
theorem dX5_isThere_18 : decode cX5_isThere 18 = .ok (.goto 26, 3) := dk_167 0 26 (dk_at dksX5_isThere_0 18 rfl rfl)
theorem dX5_isThere_21 : decode cX5_isThere 21 = .ok (.iconst 0, 1) := dk_3 (dk_at dksX5_isThere_0 21 rfl rfl)
theorem dX5_isThere_22 : decode cX5_isThere 22 = .ok (.goto 22, 3) := dk_167 0 22 (dk_at dksX5_isThere_1 0 rfl rfl)
theorem dX5_isThere_25 : decode cX5_isThere 25 = .ok (.iload_n 1, 1) := dk_27 (dk_at dksX5_isThere_1 3 rfl rfl)
theorem dX5_isThere_26 : decode cX5_isThere 26 = .ok (.bipush 6, 2) := dk_16 6 (dk_at dksX5_isThere_1 4 rfl rfl)
theorem dX5_isThere_28 : decode cX5_isThere 28 = .ok (.isub, 1) := dk_100 (dk_at dksX5_isThere_1 6 rfl rfl)
theorem dX5_isThere_29 : decode cX5_isThere 29 = .ok (.aload_n 0, 1) := dk_42 (dk_at dksX5_isThere_1 7 rfl rfl)
theorem dX5_isThere_30 : decode cX5_isThere 30 = .ok (.getfield 13, 3) := dk_180 0 13 (dk_at dksX5_isThere_1 8 rfl rfl)
theorem dX5_isThere_33 : decode cX5_isThere 33 = .ok (.bipush 37, 2) := dk_16 37 (dk_at dksX5_isThere_1 11 rfl rfl)
theorem dX5_isThere_35 : decode cX5_isThere 35 = .ok (.iaload, 1) := dk_46 (dk_at dksX5_isThere_1 13 rfl rfl)
theorem dX5_isThere_36 : decode cX5_isThere 36 = .ok (.if_icmp .ge 7, 3) := dk_162 0 7 (dk_at dksX5_isThere_1 14 rfl rfl)
theorem dX5_isThere_39 : decode cX5_isThere 39 = .ok (.iconst 1, 1) := dk_4 (dk_at dksX5_isThere_1 17 rfl rfl)
theorem dX5_isThere_40 : decode cX5_isThere 40 = .ok (.goto 4, 3) := dk_167 0 4 (dk_at dksX5_isThere_1 18 rfl rfl)
theorem dX5_isThere_43 : decode cX5_isThere 43 = .ok (.iconst 0, 1) := dk_3 (dk_at dksX5_isThere_1 21 rfl rfl)
theorem dX5_isThere_44 : decode cX5_isThere 44 = .ok (.ireturn, 1) := dk_172 (dk_at dksX5_isThere_1 22 rfl rfl)
abbrev cX5_rank : ByteArray := prog_9_method_77_code
def yX5_rank : MethodName := ⟨RX5, "rank", "(I)I"⟩
def dkwX5_rank_6 : List UInt8 := [28, 172]
abbrev dktX5_rank_6 : List UInt8 := dkwX5_rank_6 ++ []
def dkwX5_rank_5 : List UInt8 := [153, 0, 12, 28, 29, 184, 0, 204, 184, 1, 48, 61, 132, 4, 1, 167, 255, 182, 132, 3, 1, 167, 255, 160]
abbrev dktX5_rank_5 : List UInt8 := dkwX5_rank_5 ++ dktX5_rank_6
def dkwX5_rank_4 : List UInt8 := [29, 104, 21, 4, 96, 46, 54, 5, 27, 154, 0, 11, 21, 5, 153, 0, 22, 167, 0, 10, 21, 5, 27, 112]
abbrev dktX5_rank_4 : List UInt8 := dkwX5_rank_4 ++ dktX5_rank_5
def dkwX5_rank_3 : List UInt8 := [162, 0, 66, 29, 184, 0, 204, 21, 4, 184, 0, 204, 159, 0, 6, 167, 0, 45, 42, 180, 0, 38, 16, 64]
abbrev dktX5_rank_3 : List UInt8 := dkwX5_rank_3 ++ dktX5_rank_4
def dkwX5_rank_2 : List UInt8 := [180, 0, 13, 16, 36, 46, 120, 162, 0, 89, 4, 54, 4, 21, 4, 4, 42, 180, 0, 13, 16, 37, 46, 120]
abbrev dktX5_rank_2 : List UInt8 := dkwX5_rank_2 ++ dktX5_rank_3
def dkwX5_rank_1 : List UInt8 := [27, 6, 159, 0, 5, 2, 172, 42, 42, 180, 0, 13, 182, 0, 207, 3, 61, 4, 62, 29, 4, 42]
abbrev dktX5_rank_1 : List UInt8 := dkwX5_rank_1 ++ dktX5_rank_2
def dkwX5_rank_0 : List UInt8 := [42, 3, 181, 0, 83, 42, 180, 0, 13, 16, 36, 46, 153, 0, 17, 27, 153, 0, 15, 27, 5, 159, 0, 10]
abbrev dktX5_rank_0 : List UInt8 := dkwX5_rank_0 ++ dktX5_rank_1
theorem dksX5_rank_0 : cX5_rank.data.toList.drop 0 = dktX5_rank_0 := by decide +kernel
theorem dksX5_rank_1 : cX5_rank.data.toList.drop 24 = dktX5_rank_1 := dk_seg dksX5_rank_0 24 rfl rfl
theorem dksX5_rank_2 : cX5_rank.data.toList.drop 46 = dktX5_rank_2 := dk_seg dksX5_rank_1 22 rfl rfl
theorem dksX5_rank_3 : cX5_rank.data.toList.drop 70 = dktX5_rank_3 := dk_seg dksX5_rank_2 24 rfl rfl
theorem dksX5_rank_4 : cX5_rank.data.toList.drop 94 = dktX5_rank_4 := dk_seg dksX5_rank_3 24 rfl rfl
theorem dksX5_rank_5 : cX5_rank.data.toList.drop 118 = dktX5_rank_5 := dk_seg dksX5_rank_4 24 rfl rfl
theorem dksX5_rank_6 : cX5_rank.data.toList.drop 142 = dktX5_rank_6 := dk_seg dksX5_rank_5 24 rfl rfl
theorem dX5_rank_0 : decode cX5_rank 0 = .ok (.aload_n 0, 1) := dk_42 (dk_at dksX5_rank_0 0 rfl rfl)
theorem dX5_rank_1 : decode cX5_rank 1 = .ok (.iconst 0, 1) := dk_3 (dk_at dksX5_rank_0 1 rfl rfl)
theorem dX5_rank_2 : decode cX5_rank 2 = .ok (.putfield 83, 3) := dk_181 0 83 (dk_at dksX5_rank_0 2 rfl rfl)
theorem dX5_rank_5 : decode cX5_rank 5 = .ok (.aload_n 0, 1) := dk_42 (dk_at dksX5_rank_0 5 rfl rfl)
theorem dX5_rank_6 : decode cX5_rank 6 = .ok (.getfield 13, 3) := dk_180 0 13 (dk_at dksX5_rank_0 6 rfl rfl)
theorem dX5_rank_9 : decode cX5_rank 9 = .ok (.bipush 36, 2) := dk_16 36 (dk_at dksX5_rank_0 9 rfl rfl)
theorem dX5_rank_11 : decode cX5_rank 11 = .ok (.iaload, 1) := dk_46 (dk_at dksX5_rank_0 11 rfl rfl)
theorem dX5_rank_12 : decode cX5_rank 12 = .ok (.ifCond .eq 17, 3) := dk_153 0 17 (dk_at dksX5_rank_0 12 rfl rfl)
theorem dX5_rank_15 : decode cX5_rank 15 = .ok (.iload_n 1, 1) := dk_27 (dk_at dksX5_rank_0 15 rfl rfl)
theorem dX5_rank_16 : decode cX5_rank 16 = .ok (.ifCond .eq 15, 3) := dk_153 0 15 (dk_at dksX5_rank_0 16 rfl rfl)
theorem dX5_rank_19 : decode cX5_rank 19 = .ok (.iload_n 1, 1) := dk_27 (dk_at dksX5_rank_0 19 rfl rfl)
theorem dX5_rank_20 : decode cX5_rank 20 = .ok (.iconst 2, 1) := dk_5 (dk_at dksX5_rank_0 20 rfl rfl)
theorem dX5_rank_21 : decode cX5_rank 21 = .ok (.if_icmp .eq 10, 3) := dk_159 0 10 (dk_at dksX5_rank_0 21 rfl rfl)
theorem dX5_rank_24 : decode cX5_rank 24 = .ok (.iload_n 1, 1) := dk_27 (dk_at dksX5_rank_1 0 rfl rfl)
theorem dX5_rank_25 : decode cX5_rank 25 = .ok (.iconst 3, 1) := dk_6 (dk_at dksX5_rank_1 1 rfl rfl)
theorem dX5_rank_26 : decode cX5_rank 26 = .ok (.if_icmp .eq 5, 3) := dk_159 0 5 (dk_at dksX5_rank_1 2 rfl rfl)
theorem dX5_rank_29 : decode cX5_rank 29 = .ok (.iconst (-1), 1) := dk_2 (dk_at dksX5_rank_1 5 rfl rfl)
theorem dX5_rank_30 : decode cX5_rank 30 = .ok (.ireturn, 1) := dk_172 (dk_at dksX5_rank_1 6 rfl rfl)
theorem dX5_rank_31 : decode cX5_rank 31 = .ok (.aload_n 0, 1) := dk_42 (dk_at dksX5_rank_1 7 rfl rfl)
theorem dX5_rank_32 : decode cX5_rank 32 = .ok (.aload_n 0, 1) := dk_42 (dk_at dksX5_rank_1 8 rfl rfl)
theorem dX5_rank_33 : decode cX5_rank 33 = .ok (.getfield 13, 3) := dk_180 0 13 (dk_at dksX5_rank_1 9 rfl rfl)
theorem dX5_rank_36 : decode cX5_rank 36 = .ok (.invokevirtual 207, 3) := dk_182 0 207 (dk_at dksX5_rank_1 12 rfl rfl)
theorem dX5_rank_39 : decode cX5_rank 39 = .ok (.iconst 0, 1) := dk_3 (dk_at dksX5_rank_1 15 rfl rfl)
theorem dX5_rank_40 : decode cX5_rank 40 = .ok (.istore_n 2, 1) := dk_61 (dk_at dksX5_rank_1 16 rfl rfl)
theorem dX5_rank_41 : decode cX5_rank 41 = .ok (.iconst 1, 1) := dk_4 (dk_at dksX5_rank_1 17 rfl rfl)
theorem dX5_rank_42 : decode cX5_rank 42 = .ok (.istore_n 3, 1) := dk_62 (dk_at dksX5_rank_1 18 rfl rfl)
theorem dX5_rank_43 : decode cX5_rank 43 = .ok (.iload_n 3, 1) := dk_29 (dk_at dksX5_rank_1 19 rfl rfl)
theorem dX5_rank_44 : decode cX5_rank 44 = .ok (.iconst 1, 1) := dk_4 (dk_at dksX5_rank_1 20 rfl rfl)
theorem dX5_rank_45 : decode cX5_rank 45 = .ok (.aload_n 0, 1) := dk_42 (dk_at dksX5_rank_1 21 rfl rfl)
theorem dX5_rank_46 : decode cX5_rank 46 = .ok (.getfield 13, 3) := dk_180 0 13 (dk_at dksX5_rank_2 0 rfl rfl)
theorem dX5_rank_49 : decode cX5_rank 49 = .ok (.bipush 36, 2) := dk_16 36 (dk_at dksX5_rank_2 3 rfl rfl)
theorem dX5_rank_51 : decode cX5_rank 51 = .ok (.iaload, 1) := dk_46 (dk_at dksX5_rank_2 5 rfl rfl)
theorem dX5_rank_52 : decode cX5_rank 52 = .ok (.ishl, 1) := dk_120 (dk_at dksX5_rank_2 6 rfl rfl)
theorem dX5_rank_53 : decode cX5_rank 53 = .ok (.if_icmp .ge 89, 3) := dk_162 0 89 (dk_at dksX5_rank_2 7 rfl rfl)
theorem dX5_rank_56 : decode cX5_rank 56 = .ok (.iconst 1, 1) := dk_4 (dk_at dksX5_rank_2 10 rfl rfl)
theorem dX5_rank_57 : decode cX5_rank 57 = .ok (.istore 4, 2) := dk_54 4 (dk_at dksX5_rank_2 11 rfl rfl)
theorem dX5_rank_59 : decode cX5_rank 59 = .ok (.iload 4, 2) := dk_21 4 (dk_at dksX5_rank_2 13 rfl rfl)
theorem dX5_rank_61 : decode cX5_rank 61 = .ok (.iconst 1, 1) := dk_4 (dk_at dksX5_rank_2 15 rfl rfl)
theorem dX5_rank_62 : decode cX5_rank 62 = .ok (.aload_n 0, 1) := dk_42 (dk_at dksX5_rank_2 16 rfl rfl)
theorem dX5_rank_63 : decode cX5_rank 63 = .ok (.getfield 13, 3) := dk_180 0 13 (dk_at dksX5_rank_2 17 rfl rfl)
theorem dX5_rank_66 : decode cX5_rank 66 = .ok (.bipush 37, 2) := dk_16 37 (dk_at dksX5_rank_2 20 rfl rfl)
theorem dX5_rank_68 : decode cX5_rank 68 = .ok (.iaload, 1) := dk_46 (dk_at dksX5_rank_2 22 rfl rfl)
theorem dX5_rank_69 : decode cX5_rank 69 = .ok (.ishl, 1) := dk_120 (dk_at dksX5_rank_2 23 rfl rfl)
theorem dX5_rank_70 : decode cX5_rank 70 = .ok (.if_icmp .ge 66, 3) := dk_162 0 66 (dk_at dksX5_rank_3 0 rfl rfl)
theorem dX5_rank_73 : decode cX5_rank 73 = .ok (.iload_n 3, 1) := dk_29 (dk_at dksX5_rank_3 3 rfl rfl)
theorem dX5_rank_74 : decode cX5_rank 74 = .ok (.invokestatic 204, 3) := dk_184 0 204 (dk_at dksX5_rank_3 4 rfl rfl)
theorem dX5_rank_77 : decode cX5_rank 77 = .ok (.iload 4, 2) := dk_21 4 (dk_at dksX5_rank_3 7 rfl rfl)
theorem dX5_rank_79 : decode cX5_rank 79 = .ok (.invokestatic 204, 3) := dk_184 0 204 (dk_at dksX5_rank_3 9 rfl rfl)
theorem dX5_rank_82 : decode cX5_rank 82 = .ok (.if_icmp .eq 6, 3) := dk_159 0 6 (dk_at dksX5_rank_3 12 rfl rfl)
theorem dX5_rank_85 : decode cX5_rank 85 = .ok (.goto 45, 3) := dk_167 0 45 (dk_at dksX5_rank_3 15 rfl rfl)
theorem dX5_rank_88 : decode cX5_rank 88 = .ok (.aload_n 0, 1) := dk_42 (dk_at dksX5_rank_3 18 rfl rfl)
theorem dX5_rank_89 : decode cX5_rank 89 = .ok (.getfield 38, 3) := dk_180 0 38 (dk_at dksX5_rank_3 19 rfl rfl)
theorem dX5_rank_92 : decode cX5_rank 92 = .ok (.bipush 64, 2) := dk_16 64 (dk_at dksX5_rank_3 22 rfl rfl)
theorem dX5_rank_94 : decode cX5_rank 94 = .ok (.iload_n 3, 1) := dk_29 (dk_at dksX5_rank_4 0 rfl rfl)
theorem dX5_rank_95 : decode cX5_rank 95 = .ok (.imul, 1) := dk_104 (dk_at dksX5_rank_4 1 rfl rfl)
theorem dX5_rank_96 : decode cX5_rank 96 = .ok (.iload 4, 2) := dk_21 4 (dk_at dksX5_rank_4 2 rfl rfl)
theorem dX5_rank_98 : decode cX5_rank 98 = .ok (.iadd, 1) := dk_96 (dk_at dksX5_rank_4 4 rfl rfl)
theorem dX5_rank_99 : decode cX5_rank 99 = .ok (.iaload, 1) := dk_46 (dk_at dksX5_rank_4 5 rfl rfl)
theorem dX5_rank_100 : decode cX5_rank 100 = .ok (.istore 5, 2) := dk_54 5 (dk_at dksX5_rank_4 6 rfl rfl)
theorem dX5_rank_102 : decode cX5_rank 102 = .ok (.iload_n 1, 1) := dk_27 (dk_at dksX5_rank_4 8 rfl rfl)
theorem dX5_rank_103 : decode cX5_rank 103 = .ok (.ifCond .ne 11, 3) := dk_154 0 11 (dk_at dksX5_rank_4 9 rfl rfl)
theorem dX5_rank_106 : decode cX5_rank 106 = .ok (.iload 5, 2) := dk_21 5 (dk_at dksX5_rank_4 12 rfl rfl)
theorem dX5_rank_108 : decode cX5_rank 108 = .ok (.ifCond .eq 22, 3) := dk_153 0 22 (dk_at dksX5_rank_4 14 rfl rfl)
theorem dX5_rank_111 : decode cX5_rank 111 = .ok (.goto 10, 3) := dk_167 0 10 (dk_at dksX5_rank_4 17 rfl rfl)
theorem dX5_rank_114 : decode cX5_rank 114 = .ok (.iload 5, 2) := dk_21 5 (dk_at dksX5_rank_4 20 rfl rfl)
theorem dX5_rank_116 : decode cX5_rank 116 = .ok (.iload_n 1, 1) := dk_27 (dk_at dksX5_rank_4 22 rfl rfl)
theorem dX5_rank_117 : decode cX5_rank 117 = .ok (.irem, 1) := dk_112 (dk_at dksX5_rank_4 23 rfl rfl)
theorem dX5_rank_118 : decode cX5_rank 118 = .ok (.ifCond .eq 12, 3) := dk_153 0 12 (dk_at dksX5_rank_5 0 rfl rfl)
theorem dX5_rank_121 : decode cX5_rank 121 = .ok (.iload_n 2, 1) := dk_28 (dk_at dksX5_rank_5 3 rfl rfl)
theorem dX5_rank_122 : decode cX5_rank 122 = .ok (.iload_n 3, 1) := dk_29 (dk_at dksX5_rank_5 4 rfl rfl)
theorem dX5_rank_123 : decode cX5_rank 123 = .ok (.invokestatic 204, 3) := dk_184 0 204 (dk_at dksX5_rank_5 5 rfl rfl)
theorem dX5_rank_126 : decode cX5_rank 126 = .ok (.invokestatic 304, 3) := dk_184 1 48 (dk_at dksX5_rank_5 8 rfl rfl)
theorem dX5_rank_129 : decode cX5_rank 129 = .ok (.istore_n 2, 1) := dk_61 (dk_at dksX5_rank_5 11 rfl rfl)
theorem dX5_rank_130 : decode cX5_rank 130 = .ok (.iinc 4 1, 3) := dk_132 4 1 (dk_at dksX5_rank_5 12 rfl rfl)
theorem dX5_rank_133 : decode cX5_rank 133 = .ok (.goto (-74), 3) := dk_167 255 182 (dk_at dksX5_rank_5 15 rfl rfl)
theorem dX5_rank_136 : decode cX5_rank 136 = .ok (.iinc 3 1, 3) := dk_132 3 1 (dk_at dksX5_rank_5 18 rfl rfl)
theorem dX5_rank_139 : decode cX5_rank 139 = .ok (.goto (-96), 3) := dk_167 255 160 (dk_at dksX5_rank_5 21 rfl rfl)
theorem dX5_rank_142 : decode cX5_rank 142 = .ok (.iload_n 2, 1) := dk_28 (dk_at dksX5_rank_6 0 rfl rfl)
theorem dX5_rank_143 : decode cX5_rank 143 = .ok (.ireturn, 1) := dk_172 (dk_at dksX5_rank_6 1 rfl rfl)
abbrev cX5_bases : ByteArray := prog_9_method_78_code
def yX5_bases : MethodName := ⟨RX5, "bases", "()I"⟩
def dkwX5_bases_4 : List UInt8 := [60, 132, 3, 1, 167, 255, 204, 132, 2, 1, 167, 255, 183, 27, 172]
abbrev dktX5_bases_4 : List UInt8 := dkwX5_bases_4 ++ []
def dkwX5_bases_3 : List UInt8 := [167, 0, 25, 27, 42, 180, 0, 38, 16, 64, 28, 104, 29, 96, 46, 154, 0, 7, 3, 167, 0, 4, 4, 96]
abbrev dktX5_bases_3 : List UInt8 := dkwX5_bases_3 ++ dktX5_bases_4
def dkwX5_bases_2 : List UInt8 := [42, 180, 0, 13, 16, 37, 46, 120, 162, 0, 45, 28, 184, 0, 204, 29, 184, 0, 204, 159, 0, 6]
abbrev dktX5_bases_2 : List UInt8 := dkwX5_bases_2 ++ dktX5_bases_3
def dkwX5_bases_1 : List UInt8 := [182, 0, 207, 4, 60, 4, 61, 28, 4, 42, 180, 0, 13, 16, 36, 46, 120, 162, 0, 66, 4, 62, 29, 4]
abbrev dktX5_bases_1 : List UInt8 := dkwX5_bases_1 ++ dktX5_bases_2
def dkwX5_bases_0 : List UInt8 := [42, 3, 181, 0, 83, 42, 180, 0, 13, 16, 36, 46, 154, 0, 5, 2, 172, 42, 42, 180, 0, 13]
abbrev dktX5_bases_0 : List UInt8 := dkwX5_bases_0 ++ dktX5_bases_1
theorem dksX5_bases_0 : cX5_bases.data.toList.drop 0 = dktX5_bases_0 := by decide +kernel
theorem dksX5_bases_1 : cX5_bases.data.toList.drop 22 = dktX5_bases_1 := dk_seg dksX5_bases_0 22 rfl rfl
theorem dksX5_bases_2 : cX5_bases.data.toList.drop 46 = dktX5_bases_2 := dk_seg dksX5_bases_1 24 rfl rfl
theorem dksX5_bases_3 : cX5_bases.data.toList.drop 68 = dktX5_bases_3 := dk_seg dksX5_bases_2 22 rfl rfl
theorem dksX5_bases_4 : cX5_bases.data.toList.drop 92 = dktX5_bases_4 := dk_seg dksX5_bases_3 24 rfl rfl
theorem dX5_bases_0 : decode cX5_bases 0 = .ok (.aload_n 0, 1) := dk_42 (dk_at dksX5_bases_0 0 rfl rfl)
theorem dX5_bases_1 : decode cX5_bases 1 = .ok (.iconst 0, 1) := dk_3 (dk_at dksX5_bases_0 1 rfl rfl)
theorem dX5_bases_2 : decode cX5_bases 2 = .ok (.putfield 83, 3) := dk_181 0 83 (dk_at dksX5_bases_0 2 rfl rfl)
theorem dX5_bases_5 : decode cX5_bases 5 = .ok (.aload_n 0, 1) := dk_42 (dk_at dksX5_bases_0 5 rfl rfl)
theorem dX5_bases_6 : decode cX5_bases 6 = .ok (.getfield 13, 3) := dk_180 0 13 (dk_at dksX5_bases_0 6 rfl rfl)
theorem dX5_bases_9 : decode cX5_bases 9 = .ok (.bipush 36, 2) := dk_16 36 (dk_at dksX5_bases_0 9 rfl rfl)
theorem dX5_bases_11 : decode cX5_bases 11 = .ok (.iaload, 1) := dk_46 (dk_at dksX5_bases_0 11 rfl rfl)
theorem dX5_bases_12 : decode cX5_bases 12 = .ok (.ifCond .ne 5, 3) := dk_154 0 5 (dk_at dksX5_bases_0 12 rfl rfl)
theorem dX5_bases_15 : decode cX5_bases 15 = .ok (.iconst (-1), 1) := dk_2 (dk_at dksX5_bases_0 15 rfl rfl)
theorem dX5_bases_16 : decode cX5_bases 16 = .ok (.ireturn, 1) := dk_172 (dk_at dksX5_bases_0 16 rfl rfl)
theorem dX5_bases_17 : decode cX5_bases 17 = .ok (.aload_n 0, 1) := dk_42 (dk_at dksX5_bases_0 17 rfl rfl)
theorem dX5_bases_18 : decode cX5_bases 18 = .ok (.aload_n 0, 1) := dk_42 (dk_at dksX5_bases_0 18 rfl rfl)
theorem dX5_bases_19 : decode cX5_bases 19 = .ok (.getfield 13, 3) := dk_180 0 13 (dk_at dksX5_bases_0 19 rfl rfl)
theorem dX5_bases_22 : decode cX5_bases 22 = .ok (.invokevirtual 207, 3) := dk_182 0 207 (dk_at dksX5_bases_1 0 rfl rfl)
theorem dX5_bases_25 : decode cX5_bases 25 = .ok (.iconst 1, 1) := dk_4 (dk_at dksX5_bases_1 3 rfl rfl)
theorem dX5_bases_26 : decode cX5_bases 26 = .ok (.istore_n 1, 1) := dk_60 (dk_at dksX5_bases_1 4 rfl rfl)
theorem dX5_bases_27 : decode cX5_bases 27 = .ok (.iconst 1, 1) := dk_4 (dk_at dksX5_bases_1 5 rfl rfl)
theorem dX5_bases_28 : decode cX5_bases 28 = .ok (.istore_n 2, 1) := dk_61 (dk_at dksX5_bases_1 6 rfl rfl)
theorem dX5_bases_29 : decode cX5_bases 29 = .ok (.iload_n 2, 1) := dk_28 (dk_at dksX5_bases_1 7 rfl rfl)
theorem dX5_bases_30 : decode cX5_bases 30 = .ok (.iconst 1, 1) := dk_4 (dk_at dksX5_bases_1 8 rfl rfl)
theorem dX5_bases_31 : decode cX5_bases 31 = .ok (.aload_n 0, 1) := dk_42 (dk_at dksX5_bases_1 9 rfl rfl)
theorem dX5_bases_32 : decode cX5_bases 32 = .ok (.getfield 13, 3) := dk_180 0 13 (dk_at dksX5_bases_1 10 rfl rfl)
theorem dX5_bases_35 : decode cX5_bases 35 = .ok (.bipush 36, 2) := dk_16 36 (dk_at dksX5_bases_1 13 rfl rfl)
theorem dX5_bases_37 : decode cX5_bases 37 = .ok (.iaload, 1) := dk_46 (dk_at dksX5_bases_1 15 rfl rfl)
theorem dX5_bases_38 : decode cX5_bases 38 = .ok (.ishl, 1) := dk_120 (dk_at dksX5_bases_1 16 rfl rfl)
theorem dX5_bases_39 : decode cX5_bases 39 = .ok (.if_icmp .ge 66, 3) := dk_162 0 66 (dk_at dksX5_bases_1 17 rfl rfl)
theorem dX5_bases_42 : decode cX5_bases 42 = .ok (.iconst 1, 1) := dk_4 (dk_at dksX5_bases_1 20 rfl rfl)
theorem dX5_bases_43 : decode cX5_bases 43 = .ok (.istore_n 3, 1) := dk_62 (dk_at dksX5_bases_1 21 rfl rfl)
theorem dX5_bases_44 : decode cX5_bases 44 = .ok (.iload_n 3, 1) := dk_29 (dk_at dksX5_bases_1 22 rfl rfl)
theorem dX5_bases_45 : decode cX5_bases 45 = .ok (.iconst 1, 1) := dk_4 (dk_at dksX5_bases_1 23 rfl rfl)
theorem dX5_bases_46 : decode cX5_bases 46 = .ok (.aload_n 0, 1) := dk_42 (dk_at dksX5_bases_2 0 rfl rfl)
theorem dX5_bases_47 : decode cX5_bases 47 = .ok (.getfield 13, 3) := dk_180 0 13 (dk_at dksX5_bases_2 1 rfl rfl)
theorem dX5_bases_50 : decode cX5_bases 50 = .ok (.bipush 37, 2) := dk_16 37 (dk_at dksX5_bases_2 4 rfl rfl)
theorem dX5_bases_52 : decode cX5_bases 52 = .ok (.iaload, 1) := dk_46 (dk_at dksX5_bases_2 6 rfl rfl)
theorem dX5_bases_53 : decode cX5_bases 53 = .ok (.ishl, 1) := dk_120 (dk_at dksX5_bases_2 7 rfl rfl)
theorem dX5_bases_54 : decode cX5_bases 54 = .ok (.if_icmp .ge 45, 3) := dk_162 0 45 (dk_at dksX5_bases_2 8 rfl rfl)
theorem dX5_bases_57 : decode cX5_bases 57 = .ok (.iload_n 2, 1) := dk_28 (dk_at dksX5_bases_2 11 rfl rfl)
theorem dX5_bases_58 : decode cX5_bases 58 = .ok (.invokestatic 204, 3) := dk_184 0 204 (dk_at dksX5_bases_2 12 rfl rfl)
theorem dX5_bases_61 : decode cX5_bases 61 = .ok (.iload_n 3, 1) := dk_29 (dk_at dksX5_bases_2 15 rfl rfl)
theorem dX5_bases_62 : decode cX5_bases 62 = .ok (.invokestatic 204, 3) := dk_184 0 204 (dk_at dksX5_bases_2 16 rfl rfl)
theorem dX5_bases_65 : decode cX5_bases 65 = .ok (.if_icmp .eq 6, 3) := dk_159 0 6 (dk_at dksX5_bases_2 19 rfl rfl)
theorem dX5_bases_68 : decode cX5_bases 68 = .ok (.goto 25, 3) := dk_167 0 25 (dk_at dksX5_bases_3 0 rfl rfl)
theorem dX5_bases_71 : decode cX5_bases 71 = .ok (.iload_n 1, 1) := dk_27 (dk_at dksX5_bases_3 3 rfl rfl)
theorem dX5_bases_72 : decode cX5_bases 72 = .ok (.aload_n 0, 1) := dk_42 (dk_at dksX5_bases_3 4 rfl rfl)
theorem dX5_bases_73 : decode cX5_bases 73 = .ok (.getfield 38, 3) := dk_180 0 38 (dk_at dksX5_bases_3 5 rfl rfl)
theorem dX5_bases_76 : decode cX5_bases 76 = .ok (.bipush 64, 2) := dk_16 64 (dk_at dksX5_bases_3 8 rfl rfl)
theorem dX5_bases_78 : decode cX5_bases 78 = .ok (.iload_n 2, 1) := dk_28 (dk_at dksX5_bases_3 10 rfl rfl)
theorem dX5_bases_79 : decode cX5_bases 79 = .ok (.imul, 1) := dk_104 (dk_at dksX5_bases_3 11 rfl rfl)
theorem dX5_bases_80 : decode cX5_bases 80 = .ok (.iload_n 3, 1) := dk_29 (dk_at dksX5_bases_3 12 rfl rfl)
theorem dX5_bases_81 : decode cX5_bases 81 = .ok (.iadd, 1) := dk_96 (dk_at dksX5_bases_3 13 rfl rfl)
theorem dX5_bases_82 : decode cX5_bases 82 = .ok (.iaload, 1) := dk_46 (dk_at dksX5_bases_3 14 rfl rfl)
theorem dX5_bases_83 : decode cX5_bases 83 = .ok (.ifCond .ne 7, 3) := dk_154 0 7 (dk_at dksX5_bases_3 15 rfl rfl)
theorem dX5_bases_86 : decode cX5_bases 86 = .ok (.iconst 0, 1) := dk_3 (dk_at dksX5_bases_3 18 rfl rfl)
theorem dX5_bases_87 : decode cX5_bases 87 = .ok (.goto 4, 3) := dk_167 0 4 (dk_at dksX5_bases_3 19 rfl rfl)
theorem dX5_bases_90 : decode cX5_bases 90 = .ok (.iconst 1, 1) := dk_4 (dk_at dksX5_bases_3 22 rfl rfl)
theorem dX5_bases_91 : decode cX5_bases 91 = .ok (.iadd, 1) := dk_96 (dk_at dksX5_bases_3 23 rfl rfl)
theorem dX5_bases_92 : decode cX5_bases 92 = .ok (.istore_n 1, 1) := dk_60 (dk_at dksX5_bases_4 0 rfl rfl)
theorem dX5_bases_93 : decode cX5_bases 93 = .ok (.iinc 3 1, 3) := dk_132 3 1 (dk_at dksX5_bases_4 1 rfl rfl)
theorem dX5_bases_96 : decode cX5_bases 96 = .ok (.goto (-52), 3) := dk_167 255 204 (dk_at dksX5_bases_4 4 rfl rfl)
theorem dX5_bases_99 : decode cX5_bases 99 = .ok (.iinc 2 1, 3) := dk_132 2 1 (dk_at dksX5_bases_4 7 rfl rfl)
theorem dX5_bases_102 : decode cX5_bases 102 = .ok (.goto (-73), 3) := dk_167 255 183 (dk_at dksX5_bases_4 10 rfl rfl)
theorem dX5_bases_105 : decode cX5_bases 105 = .ok (.iload_n 1, 1) := dk_27 (dk_at dksX5_bases_4 13 rfl rfl)
theorem dX5_bases_106 : decode cX5_bases 106 = .ok (.ireturn, 1) := dk_172 (dk_at dksX5_bases_4 14 rfl rfl)
abbrev cX5_mends : ByteArray := prog_9_method_80_code
def yX5_mends : MethodName := ⟨RX5, "mends", "()I"⟩
def dkwX5_mends_5 : List UInt8 := [132, 2, 1, 167, 255, 183, 132, 1, 1, 167, 255, 164, 2, 172]
abbrev dktX5_mends_5 : List UInt8 := dkwX5_mends_5 ++ []
def dkwX5_mends_4 : List UInt8 := [153, 0, 17, 16, 100, 27, 104, 16, 10, 28, 104, 96, 29, 96, 4, 96, 172, 132, 3, 1, 167, 255, 202]
abbrev dktX5_mends_4 : List UInt8 := dkwX5_mends_4 ++ dktX5_mends_5
def dkwX5_mends_3 : List UInt8 := [16, 6, 27, 104, 28, 96, 46, 160, 0, 6, 167, 0, 31, 42, 16, 6, 27, 104, 28, 96, 29, 182, 1, 57]
abbrev dktX5_mends_3 : List UInt8 := dkwX5_mends_3 ++ dktX5_mends_4
def dkwX5_mends_2 : List UInt8 := [28, 42, 180, 0, 13, 16, 37, 46, 162, 0, 68, 2, 62, 29, 4, 163, 0, 55, 29, 42, 180, 0, 13]
abbrev dktX5_mends_2 : List UInt8 := dkwX5_mends_2 ++ dktX5_mends_3
def dkwX5_mends_1 : List UInt8 := [182, 0, 227, 153, 0, 6, 18, 133, 172, 3, 60, 27, 42, 180, 0, 13, 16, 36, 46, 162, 0, 87, 3, 61]
abbrev dktX5_mends_1 : List UInt8 := dkwX5_mends_1 ++ dktX5_mends_2
def dkwX5_mends_0 : List UInt8 := [42, 3, 181, 0, 83, 42, 180, 0, 13, 16, 36, 46, 154, 0, 5, 2, 172, 42, 42, 180, 0, 13]
abbrev dktX5_mends_0 : List UInt8 := dkwX5_mends_0 ++ dktX5_mends_1
theorem dksX5_mends_0 : cX5_mends.data.toList.drop 0 = dktX5_mends_0 := by decide +kernel
theorem dksX5_mends_1 : cX5_mends.data.toList.drop 22 = dktX5_mends_1 := dk_seg dksX5_mends_0 22 rfl rfl
theorem dksX5_mends_2 : cX5_mends.data.toList.drop 46 = dktX5_mends_2 := dk_seg dksX5_mends_1 24 rfl rfl
theorem dksX5_mends_3 : cX5_mends.data.toList.drop 69 = dktX5_mends_3 := dk_seg dksX5_mends_2 23 rfl rfl
theorem dksX5_mends_4 : cX5_mends.data.toList.drop 93 = dktX5_mends_4 := dk_seg dksX5_mends_3 24 rfl rfl
theorem dksX5_mends_5 : cX5_mends.data.toList.drop 116 = dktX5_mends_5 := dk_seg dksX5_mends_4 23 rfl rfl
theorem dX5_mends_0 : decode cX5_mends 0 = .ok (.aload_n 0, 1) := dk_42 (dk_at dksX5_mends_0 0 rfl rfl)
theorem dX5_mends_1 : decode cX5_mends 1 = .ok (.iconst 0, 1) := dk_3 (dk_at dksX5_mends_0 1 rfl rfl)
theorem dX5_mends_2 : decode cX5_mends 2 = .ok (.putfield 83, 3) := dk_181 0 83 (dk_at dksX5_mends_0 2 rfl rfl)
theorem dX5_mends_5 : decode cX5_mends 5 = .ok (.aload_n 0, 1) := dk_42 (dk_at dksX5_mends_0 5 rfl rfl)
theorem dX5_mends_6 : decode cX5_mends 6 = .ok (.getfield 13, 3) := dk_180 0 13 (dk_at dksX5_mends_0 6 rfl rfl)
theorem dX5_mends_9 : decode cX5_mends 9 = .ok (.bipush 36, 2) := dk_16 36 (dk_at dksX5_mends_0 9 rfl rfl)
theorem dX5_mends_11 : decode cX5_mends 11 = .ok (.iaload, 1) := dk_46 (dk_at dksX5_mends_0 11 rfl rfl)
theorem dX5_mends_12 : decode cX5_mends 12 = .ok (.ifCond .ne 5, 3) := dk_154 0 5 (dk_at dksX5_mends_0 12 rfl rfl)
theorem dX5_mends_15 : decode cX5_mends 15 = .ok (.iconst (-1), 1) := dk_2 (dk_at dksX5_mends_0 15 rfl rfl)
theorem dX5_mends_16 : decode cX5_mends 16 = .ok (.ireturn, 1) := dk_172 (dk_at dksX5_mends_0 16 rfl rfl)
theorem dX5_mends_17 : decode cX5_mends 17 = .ok (.aload_n 0, 1) := dk_42 (dk_at dksX5_mends_0 17 rfl rfl)
theorem dX5_mends_18 : decode cX5_mends 18 = .ok (.aload_n 0, 1) := dk_42 (dk_at dksX5_mends_0 18 rfl rfl)
theorem dX5_mends_19 : decode cX5_mends 19 = .ok (.getfield 13, 3) := dk_180 0 13 (dk_at dksX5_mends_0 19 rfl rfl)
theorem dX5_mends_22 : decode cX5_mends 22 = .ok (.invokevirtual 227, 3) := dk_182 0 227 (dk_at dksX5_mends_1 0 rfl rfl)
theorem dX5_mends_25 : decode cX5_mends 25 = .ok (.ifCond .eq 6, 3) := dk_153 0 6 (dk_at dksX5_mends_1 3 rfl rfl)
theorem dX5_mends_28 : decode cX5_mends 28 = .ok (.ldc 133, 2) := dk_18 133 (dk_at dksX5_mends_1 6 rfl rfl)
theorem dX5_mends_30 : decode cX5_mends 30 = .ok (.ireturn, 1) := dk_172 (dk_at dksX5_mends_1 8 rfl rfl)
theorem dX5_mends_31 : decode cX5_mends 31 = .ok (.iconst 0, 1) := dk_3 (dk_at dksX5_mends_1 9 rfl rfl)
theorem dX5_mends_32 : decode cX5_mends 32 = .ok (.istore_n 1, 1) := dk_60 (dk_at dksX5_mends_1 10 rfl rfl)
theorem dX5_mends_33 : decode cX5_mends 33 = .ok (.iload_n 1, 1) := dk_27 (dk_at dksX5_mends_1 11 rfl rfl)
theorem dX5_mends_34 : decode cX5_mends 34 = .ok (.aload_n 0, 1) := dk_42 (dk_at dksX5_mends_1 12 rfl rfl)
theorem dX5_mends_35 : decode cX5_mends 35 = .ok (.getfield 13, 3) := dk_180 0 13 (dk_at dksX5_mends_1 13 rfl rfl)
theorem dX5_mends_38 : decode cX5_mends 38 = .ok (.bipush 36, 2) := dk_16 36 (dk_at dksX5_mends_1 16 rfl rfl)
theorem dX5_mends_40 : decode cX5_mends 40 = .ok (.iaload, 1) := dk_46 (dk_at dksX5_mends_1 18 rfl rfl)
theorem dX5_mends_41 : decode cX5_mends 41 = .ok (.if_icmp .ge 87, 3) := dk_162 0 87 (dk_at dksX5_mends_1 19 rfl rfl)
theorem dX5_mends_44 : decode cX5_mends 44 = .ok (.iconst 0, 1) := dk_3 (dk_at dksX5_mends_1 22 rfl rfl)
theorem dX5_mends_45 : decode cX5_mends 45 = .ok (.istore_n 2, 1) := dk_61 (dk_at dksX5_mends_1 23 rfl rfl)
theorem dX5_mends_46 : decode cX5_mends 46 = .ok (.iload_n 2, 1) := dk_28 (dk_at dksX5_mends_2 0 rfl rfl)
theorem dX5_mends_47 : decode cX5_mends 47 = .ok (.aload_n 0, 1) := dk_42 (dk_at dksX5_mends_2 1 rfl rfl)
theorem dX5_mends_48 : decode cX5_mends 48 = .ok (.getfield 13, 3) := dk_180 0 13 (dk_at dksX5_mends_2 2 rfl rfl)
theorem dX5_mends_51 : decode cX5_mends 51 = .ok (.bipush 37, 2) := dk_16 37 (dk_at dksX5_mends_2 5 rfl rfl)
theorem dX5_mends_53 : decode cX5_mends 53 = .ok (.iaload, 1) := dk_46 (dk_at dksX5_mends_2 7 rfl rfl)
theorem dX5_mends_54 : decode cX5_mends 54 = .ok (.if_icmp .ge 68, 3) := dk_162 0 68 (dk_at dksX5_mends_2 8 rfl rfl)
theorem dX5_mends_57 : decode cX5_mends 57 = .ok (.iconst (-1), 1) := dk_2 (dk_at dksX5_mends_2 11 rfl rfl)
theorem dX5_mends_58 : decode cX5_mends 58 = .ok (.istore_n 3, 1) := dk_62 (dk_at dksX5_mends_2 12 rfl rfl)
theorem dX5_mends_59 : decode cX5_mends 59 = .ok (.iload_n 3, 1) := dk_29 (dk_at dksX5_mends_2 13 rfl rfl)
theorem dX5_mends_60 : decode cX5_mends 60 = .ok (.iconst 1, 1) := dk_4 (dk_at dksX5_mends_2 14 rfl rfl)
theorem dX5_mends_61 : decode cX5_mends 61 = .ok (.if_icmp .gt 55, 3) := dk_163 0 55 (dk_at dksX5_mends_2 15 rfl rfl)
theorem dX5_mends_64 : decode cX5_mends 64 = .ok (.iload_n 3, 1) := dk_29 (dk_at dksX5_mends_2 18 rfl rfl)
theorem dX5_mends_65 : decode cX5_mends 65 = .ok (.aload_n 0, 1) := dk_42 (dk_at dksX5_mends_2 19 rfl rfl)
theorem dX5_mends_66 : decode cX5_mends 66 = .ok (.getfield 13, 3) := dk_180 0 13 (dk_at dksX5_mends_2 20 rfl rfl)
theorem dX5_mends_69 : decode cX5_mends 69 = .ok (.bipush 6, 2) := dk_16 6 (dk_at dksX5_mends_3 0 rfl rfl)
theorem dX5_mends_71 : decode cX5_mends 71 = .ok (.iload_n 1, 1) := dk_27 (dk_at dksX5_mends_3 2 rfl rfl)
theorem dX5_mends_72 : decode cX5_mends 72 = .ok (.imul, 1) := dk_104 (dk_at dksX5_mends_3 3 rfl rfl)
theorem dX5_mends_73 : decode cX5_mends 73 = .ok (.iload_n 2, 1) := dk_28 (dk_at dksX5_mends_3 4 rfl rfl)
theorem dX5_mends_74 : decode cX5_mends 74 = .ok (.iadd, 1) := dk_96 (dk_at dksX5_mends_3 5 rfl rfl)
theorem dX5_mends_75 : decode cX5_mends 75 = .ok (.iaload, 1) := dk_46 (dk_at dksX5_mends_3 6 rfl rfl)
theorem dX5_mends_76 : decode cX5_mends 76 = .ok (.if_icmp .ne 6, 3) := dk_160 0 6 (dk_at dksX5_mends_3 7 rfl rfl)
theorem dX5_mends_79 : decode cX5_mends 79 = .ok (.goto 31, 3) := dk_167 0 31 (dk_at dksX5_mends_3 10 rfl rfl)
theorem dX5_mends_82 : decode cX5_mends 82 = .ok (.aload_n 0, 1) := dk_42 (dk_at dksX5_mends_3 13 rfl rfl)
theorem dX5_mends_83 : decode cX5_mends 83 = .ok (.bipush 6, 2) := dk_16 6 (dk_at dksX5_mends_3 14 rfl rfl)
theorem dX5_mends_85 : decode cX5_mends 85 = .ok (.iload_n 1, 1) := dk_27 (dk_at dksX5_mends_3 16 rfl rfl)
theorem dX5_mends_86 : decode cX5_mends 86 = .ok (.imul, 1) := dk_104 (dk_at dksX5_mends_3 17 rfl rfl)
theorem dX5_mends_87 : decode cX5_mends 87 = .ok (.iload_n 2, 1) := dk_28 (dk_at dksX5_mends_3 18 rfl rfl)
theorem dX5_mends_88 : decode cX5_mends 88 = .ok (.iadd, 1) := dk_96 (dk_at dksX5_mends_3 19 rfl rfl)
theorem dX5_mends_89 : decode cX5_mends 89 = .ok (.iload_n 3, 1) := dk_29 (dk_at dksX5_mends_3 20 rfl rfl)
theorem dX5_mends_90 : decode cX5_mends 90 = .ok (.invokevirtual 313, 3) := dk_182 1 57 (dk_at dksX5_mends_3 21 rfl rfl)
theorem dX5_mends_93 : decode cX5_mends 93 = .ok (.ifCond .eq 17, 3) := dk_153 0 17 (dk_at dksX5_mends_4 0 rfl rfl)
theorem dX5_mends_96 : decode cX5_mends 96 = .ok (.bipush 100, 2) := dk_16 100 (dk_at dksX5_mends_4 3 rfl rfl)
theorem dX5_mends_98 : decode cX5_mends 98 = .ok (.iload_n 1, 1) := dk_27 (dk_at dksX5_mends_4 5 rfl rfl)
theorem dX5_mends_99 : decode cX5_mends 99 = .ok (.imul, 1) := dk_104 (dk_at dksX5_mends_4 6 rfl rfl)
theorem dX5_mends_100 : decode cX5_mends 100 = .ok (.bipush 10, 2) := dk_16 10 (dk_at dksX5_mends_4 7 rfl rfl)
theorem dX5_mends_102 : decode cX5_mends 102 = .ok (.iload_n 2, 1) := dk_28 (dk_at dksX5_mends_4 9 rfl rfl)
theorem dX5_mends_103 : decode cX5_mends 103 = .ok (.imul, 1) := dk_104 (dk_at dksX5_mends_4 10 rfl rfl)
theorem dX5_mends_104 : decode cX5_mends 104 = .ok (.iadd, 1) := dk_96 (dk_at dksX5_mends_4 11 rfl rfl)
theorem dX5_mends_105 : decode cX5_mends 105 = .ok (.iload_n 3, 1) := dk_29 (dk_at dksX5_mends_4 12 rfl rfl)
theorem dX5_mends_106 : decode cX5_mends 106 = .ok (.iadd, 1) := dk_96 (dk_at dksX5_mends_4 13 rfl rfl)
theorem dX5_mends_107 : decode cX5_mends 107 = .ok (.iconst 1, 1) := dk_4 (dk_at dksX5_mends_4 14 rfl rfl)
theorem dX5_mends_108 : decode cX5_mends 108 = .ok (.iadd, 1) := dk_96 (dk_at dksX5_mends_4 15 rfl rfl)
theorem dX5_mends_109 : decode cX5_mends 109 = .ok (.ireturn, 1) := dk_172 (dk_at dksX5_mends_4 16 rfl rfl)
theorem dX5_mends_110 : decode cX5_mends 110 = .ok (.iinc 3 1, 3) := dk_132 3 1 (dk_at dksX5_mends_4 17 rfl rfl)
theorem dX5_mends_113 : decode cX5_mends 113 = .ok (.goto (-54), 3) := dk_167 255 202 (dk_at dksX5_mends_4 20 rfl rfl)
theorem dX5_mends_116 : decode cX5_mends 116 = .ok (.iinc 2 1, 3) := dk_132 2 1 (dk_at dksX5_mends_5 0 rfl rfl)
theorem dX5_mends_119 : decode cX5_mends 119 = .ok (.goto (-73), 3) := dk_167 255 183 (dk_at dksX5_mends_5 3 rfl rfl)
theorem dX5_mends_122 : decode cX5_mends 122 = .ok (.iinc 1 1, 3) := dk_132 1 1 (dk_at dksX5_mends_5 6 rfl rfl)
theorem dX5_mends_125 : decode cX5_mends 125 = .ok (.goto (-92), 3) := dk_167 255 164 (dk_at dksX5_mends_5 9 rfl rfl)
theorem dX5_mends_128 : decode cX5_mends 128 = .ok (.iconst (-1), 1) := dk_2 (dk_at dksX5_mends_5 12 rfl rfl)
theorem dX5_mends_129 : decode cX5_mends 129 = .ok (.ireturn, 1) := dk_172 (dk_at dksX5_mends_5 13 rfl rfl)
abbrev cX5_isTotalWith : ByteArray := prog_9_method_79_code
def yX5_isTotalWith : MethodName := ⟨RX5, "isTotalWith", "(II)Z"⟩
def dkwX5_isTotalWith_1 : List UInt8 := [182, 0, 227, 172]
abbrev dktX5_isTotalWith_1 : List UInt8 := dkwX5_isTotalWith_1 ++ []
def dkwX5_isTotalWith_0 : List UInt8 := [42, 180, 0, 13, 42, 180, 0, 20, 184, 0, 170, 42, 180, 0, 20, 27, 28, 79, 42, 42, 180, 0, 20]
abbrev dktX5_isTotalWith_0 : List UInt8 := dkwX5_isTotalWith_0 ++ dktX5_isTotalWith_1
theorem dksX5_isTotalWith_0 : cX5_isTotalWith.data.toList.drop 0 = dktX5_isTotalWith_0 := by decide +kernel
theorem dksX5_isTotalWith_1 : cX5_isTotalWith.data.toList.drop 23 = dktX5_isTotalWith_1 := dk_seg dksX5_isTotalWith_0 23 rfl rfl
theorem dX5_isTotalWith_0 : decode cX5_isTotalWith 0 = .ok (.aload_n 0, 1) := dk_42 (dk_at dksX5_isTotalWith_0 0 rfl rfl)
theorem dX5_isTotalWith_1 : decode cX5_isTotalWith 1 = .ok (.getfield 13, 3) := dk_180 0 13 (dk_at dksX5_isTotalWith_0 1 rfl rfl)
theorem dX5_isTotalWith_4 : decode cX5_isTotalWith 4 = .ok (.aload_n 0, 1) := dk_42 (dk_at dksX5_isTotalWith_0 4 rfl rfl)
theorem dX5_isTotalWith_5 : decode cX5_isTotalWith 5 = .ok (.getfield 20, 3) := dk_180 0 20 (dk_at dksX5_isTotalWith_0 5 rfl rfl)
theorem dX5_isTotalWith_8 : decode cX5_isTotalWith 8 = .ok (.invokestatic 170, 3) := dk_184 0 170 (dk_at dksX5_isTotalWith_0 8 rfl rfl)
theorem dX5_isTotalWith_11 : decode cX5_isTotalWith 11 = .ok (.aload_n 0, 1) := dk_42 (dk_at dksX5_isTotalWith_0 11 rfl rfl)
theorem dX5_isTotalWith_12 : decode cX5_isTotalWith 12 = .ok (.getfield 20, 3) := dk_180 0 20 (dk_at dksX5_isTotalWith_0 12 rfl rfl)
theorem dX5_isTotalWith_15 : decode cX5_isTotalWith 15 = .ok (.iload_n 1, 1) := dk_27 (dk_at dksX5_isTotalWith_0 15 rfl rfl)
theorem dX5_isTotalWith_16 : decode cX5_isTotalWith 16 = .ok (.iload_n 2, 1) := dk_28 (dk_at dksX5_isTotalWith_0 16 rfl rfl)
theorem dX5_isTotalWith_17 : decode cX5_isTotalWith 17 = .ok (.iastore, 1) := dk_79 (dk_at dksX5_isTotalWith_0 17 rfl rfl)
theorem dX5_isTotalWith_18 : decode cX5_isTotalWith 18 = .ok (.aload_n 0, 1) := dk_42 (dk_at dksX5_isTotalWith_0 18 rfl rfl)
theorem dX5_isTotalWith_19 : decode cX5_isTotalWith 19 = .ok (.aload_n 0, 1) := dk_42 (dk_at dksX5_isTotalWith_0 19 rfl rfl)
theorem dX5_isTotalWith_20 : decode cX5_isTotalWith 20 = .ok (.getfield 20, 3) := dk_180 0 20 (dk_at dksX5_isTotalWith_0 20 rfl rfl)
theorem dX5_isTotalWith_23 : decode cX5_isTotalWith 23 = .ok (.invokevirtual 227, 3) := dk_182 0 227 (dk_at dksX5_isTotalWith_1 0 rfl rfl)
theorem dX5_isTotalWith_26 : decode cX5_isTotalWith 26 = .ok (.ireturn, 1) := dk_172 (dk_at dksX5_isTotalWith_1 3 rfl rfl)
abbrev cX5_fragile : ByteArray := prog_9_method_81_code
def yX5_fragile : MethodName := ⟨RX5, "fragile", "()I"⟩
def dkwX5_fragile_4 : List UInt8 := [167, 0, 4, 4, 96, 60, 132, 3, 1, 167, 255, 197, 132, 2, 1, 167, 255, 178, 27, 172]
abbrev dktX5_fragile_4 : List UInt8 := dkwX5_fragile_4 ++ []
def dkwX5_fragile_3 : List UInt8 := [154, 0, 6, 167, 0, 27, 27, 42, 16, 6, 28, 104, 29, 96, 21, 4, 116, 182, 1, 57, 153, 0, 7, 3]
abbrev dktX5_fragile_3 : List UInt8 := dkwX5_fragile_3 ++ dktX5_fragile_4
def dkwX5_fragile_2 : List UInt8 := [180, 0, 13, 16, 37, 46, 162, 0, 54, 42, 180, 0, 13, 16, 6, 28, 104, 29, 96, 46, 54, 4, 21, 4]
abbrev dktX5_fragile_2 : List UInt8 := dkwX5_fragile_2 ++ dktX5_fragile_3
def dkwX5_fragile_1 : List UInt8 := [154, 0, 5, 2, 172, 3, 60, 3, 61, 28, 42, 180, 0, 13, 16, 36, 46, 162, 0, 73, 3, 62, 29, 42]
abbrev dktX5_fragile_1 : List UInt8 := dkwX5_fragile_1 ++ dktX5_fragile_2
def dkwX5_fragile_0 : List UInt8 := [42, 3, 181, 0, 83, 42, 180, 0, 13, 16, 36, 46, 153, 0, 14, 42, 42, 180, 0, 13, 182, 0, 227]
abbrev dktX5_fragile_0 : List UInt8 := dkwX5_fragile_0 ++ dktX5_fragile_1
theorem dksX5_fragile_0 : cX5_fragile.data.toList.drop 0 = dktX5_fragile_0 := by decide +kernel
theorem dksX5_fragile_1 : cX5_fragile.data.toList.drop 23 = dktX5_fragile_1 := dk_seg dksX5_fragile_0 23 rfl rfl
theorem dksX5_fragile_2 : cX5_fragile.data.toList.drop 47 = dktX5_fragile_2 := dk_seg dksX5_fragile_1 24 rfl rfl
theorem dksX5_fragile_3 : cX5_fragile.data.toList.drop 71 = dktX5_fragile_3 := dk_seg dksX5_fragile_2 24 rfl rfl
theorem dksX5_fragile_4 : cX5_fragile.data.toList.drop 95 = dktX5_fragile_4 := dk_seg dksX5_fragile_3 24 rfl rfl
theorem dX5_fragile_0 : decode cX5_fragile 0 = .ok (.aload_n 0, 1) := dk_42 (dk_at dksX5_fragile_0 0 rfl rfl)
theorem dX5_fragile_1 : decode cX5_fragile 1 = .ok (.iconst 0, 1) := dk_3 (dk_at dksX5_fragile_0 1 rfl rfl)
theorem dX5_fragile_2 : decode cX5_fragile 2 = .ok (.putfield 83, 3) := dk_181 0 83 (dk_at dksX5_fragile_0 2 rfl rfl)
theorem dX5_fragile_5 : decode cX5_fragile 5 = .ok (.aload_n 0, 1) := dk_42 (dk_at dksX5_fragile_0 5 rfl rfl)
theorem dX5_fragile_6 : decode cX5_fragile 6 = .ok (.getfield 13, 3) := dk_180 0 13 (dk_at dksX5_fragile_0 6 rfl rfl)
theorem dX5_fragile_9 : decode cX5_fragile 9 = .ok (.bipush 36, 2) := dk_16 36 (dk_at dksX5_fragile_0 9 rfl rfl)
theorem dX5_fragile_11 : decode cX5_fragile 11 = .ok (.iaload, 1) := dk_46 (dk_at dksX5_fragile_0 11 rfl rfl)
theorem dX5_fragile_12 : decode cX5_fragile 12 = .ok (.ifCond .eq 14, 3) := dk_153 0 14 (dk_at dksX5_fragile_0 12 rfl rfl)
theorem dX5_fragile_15 : decode cX5_fragile 15 = .ok (.aload_n 0, 1) := dk_42 (dk_at dksX5_fragile_0 15 rfl rfl)
theorem dX5_fragile_16 : decode cX5_fragile 16 = .ok (.aload_n 0, 1) := dk_42 (dk_at dksX5_fragile_0 16 rfl rfl)
theorem dX5_fragile_17 : decode cX5_fragile 17 = .ok (.getfield 13, 3) := dk_180 0 13 (dk_at dksX5_fragile_0 17 rfl rfl)
theorem dX5_fragile_20 : decode cX5_fragile 20 = .ok (.invokevirtual 227, 3) := dk_182 0 227 (dk_at dksX5_fragile_0 20 rfl rfl)
theorem dX5_fragile_23 : decode cX5_fragile 23 = .ok (.ifCond .ne 5, 3) := dk_154 0 5 (dk_at dksX5_fragile_1 0 rfl rfl)
theorem dX5_fragile_26 : decode cX5_fragile 26 = .ok (.iconst (-1), 1) := dk_2 (dk_at dksX5_fragile_1 3 rfl rfl)
theorem dX5_fragile_27 : decode cX5_fragile 27 = .ok (.ireturn, 1) := dk_172 (dk_at dksX5_fragile_1 4 rfl rfl)
theorem dX5_fragile_28 : decode cX5_fragile 28 = .ok (.iconst 0, 1) := dk_3 (dk_at dksX5_fragile_1 5 rfl rfl)
theorem dX5_fragile_29 : decode cX5_fragile 29 = .ok (.istore_n 1, 1) := dk_60 (dk_at dksX5_fragile_1 6 rfl rfl)
theorem dX5_fragile_30 : decode cX5_fragile 30 = .ok (.iconst 0, 1) := dk_3 (dk_at dksX5_fragile_1 7 rfl rfl)
theorem dX5_fragile_31 : decode cX5_fragile 31 = .ok (.istore_n 2, 1) := dk_61 (dk_at dksX5_fragile_1 8 rfl rfl)
theorem dX5_fragile_32 : decode cX5_fragile 32 = .ok (.iload_n 2, 1) := dk_28 (dk_at dksX5_fragile_1 9 rfl rfl)
theorem dX5_fragile_33 : decode cX5_fragile 33 = .ok (.aload_n 0, 1) := dk_42 (dk_at dksX5_fragile_1 10 rfl rfl)
theorem dX5_fragile_34 : decode cX5_fragile 34 = .ok (.getfield 13, 3) := dk_180 0 13 (dk_at dksX5_fragile_1 11 rfl rfl)
theorem dX5_fragile_37 : decode cX5_fragile 37 = .ok (.bipush 36, 2) := dk_16 36 (dk_at dksX5_fragile_1 14 rfl rfl)
theorem dX5_fragile_39 : decode cX5_fragile 39 = .ok (.iaload, 1) := dk_46 (dk_at dksX5_fragile_1 16 rfl rfl)
theorem dX5_fragile_40 : decode cX5_fragile 40 = .ok (.if_icmp .ge 73, 3) := dk_162 0 73 (dk_at dksX5_fragile_1 17 rfl rfl)
theorem dX5_fragile_43 : decode cX5_fragile 43 = .ok (.iconst 0, 1) := dk_3 (dk_at dksX5_fragile_1 20 rfl rfl)
theorem dX5_fragile_44 : decode cX5_fragile 44 = .ok (.istore_n 3, 1) := dk_62 (dk_at dksX5_fragile_1 21 rfl rfl)
theorem dX5_fragile_45 : decode cX5_fragile 45 = .ok (.iload_n 3, 1) := dk_29 (dk_at dksX5_fragile_1 22 rfl rfl)
theorem dX5_fragile_46 : decode cX5_fragile 46 = .ok (.aload_n 0, 1) := dk_42 (dk_at dksX5_fragile_1 23 rfl rfl)
theorem dX5_fragile_47 : decode cX5_fragile 47 = .ok (.getfield 13, 3) := dk_180 0 13 (dk_at dksX5_fragile_2 0 rfl rfl)
theorem dX5_fragile_50 : decode cX5_fragile 50 = .ok (.bipush 37, 2) := dk_16 37 (dk_at dksX5_fragile_2 3 rfl rfl)
theorem dX5_fragile_52 : decode cX5_fragile 52 = .ok (.iaload, 1) := dk_46 (dk_at dksX5_fragile_2 5 rfl rfl)
theorem dX5_fragile_53 : decode cX5_fragile 53 = .ok (.if_icmp .ge 54, 3) := dk_162 0 54 (dk_at dksX5_fragile_2 6 rfl rfl)
theorem dX5_fragile_56 : decode cX5_fragile 56 = .ok (.aload_n 0, 1) := dk_42 (dk_at dksX5_fragile_2 9 rfl rfl)
theorem dX5_fragile_57 : decode cX5_fragile 57 = .ok (.getfield 13, 3) := dk_180 0 13 (dk_at dksX5_fragile_2 10 rfl rfl)
theorem dX5_fragile_60 : decode cX5_fragile 60 = .ok (.bipush 6, 2) := dk_16 6 (dk_at dksX5_fragile_2 13 rfl rfl)
theorem dX5_fragile_62 : decode cX5_fragile 62 = .ok (.iload_n 2, 1) := dk_28 (dk_at dksX5_fragile_2 15 rfl rfl)
theorem dX5_fragile_63 : decode cX5_fragile 63 = .ok (.imul, 1) := dk_104 (dk_at dksX5_fragile_2 16 rfl rfl)
theorem dX5_fragile_64 : decode cX5_fragile 64 = .ok (.iload_n 3, 1) := dk_29 (dk_at dksX5_fragile_2 17 rfl rfl)
theorem dX5_fragile_65 : decode cX5_fragile 65 = .ok (.iadd, 1) := dk_96 (dk_at dksX5_fragile_2 18 rfl rfl)
theorem dX5_fragile_66 : decode cX5_fragile 66 = .ok (.iaload, 1) := dk_46 (dk_at dksX5_fragile_2 19 rfl rfl)
theorem dX5_fragile_67 : decode cX5_fragile 67 = .ok (.istore 4, 2) := dk_54 4 (dk_at dksX5_fragile_2 20 rfl rfl)
theorem dX5_fragile_69 : decode cX5_fragile 69 = .ok (.iload 4, 2) := dk_21 4 (dk_at dksX5_fragile_2 22 rfl rfl)
theorem dX5_fragile_71 : decode cX5_fragile 71 = .ok (.ifCond .ne 6, 3) := dk_154 0 6 (dk_at dksX5_fragile_3 0 rfl rfl)
theorem dX5_fragile_74 : decode cX5_fragile 74 = .ok (.goto 27, 3) := dk_167 0 27 (dk_at dksX5_fragile_3 3 rfl rfl)
theorem dX5_fragile_77 : decode cX5_fragile 77 = .ok (.iload_n 1, 1) := dk_27 (dk_at dksX5_fragile_3 6 rfl rfl)
theorem dX5_fragile_78 : decode cX5_fragile 78 = .ok (.aload_n 0, 1) := dk_42 (dk_at dksX5_fragile_3 7 rfl rfl)
theorem dX5_fragile_79 : decode cX5_fragile 79 = .ok (.bipush 6, 2) := dk_16 6 (dk_at dksX5_fragile_3 8 rfl rfl)
theorem dX5_fragile_81 : decode cX5_fragile 81 = .ok (.iload_n 2, 1) := dk_28 (dk_at dksX5_fragile_3 10 rfl rfl)
theorem dX5_fragile_82 : decode cX5_fragile 82 = .ok (.imul, 1) := dk_104 (dk_at dksX5_fragile_3 11 rfl rfl)
theorem dX5_fragile_83 : decode cX5_fragile 83 = .ok (.iload_n 3, 1) := dk_29 (dk_at dksX5_fragile_3 12 rfl rfl)
theorem dX5_fragile_84 : decode cX5_fragile 84 = .ok (.iadd, 1) := dk_96 (dk_at dksX5_fragile_3 13 rfl rfl)
theorem dX5_fragile_85 : decode cX5_fragile 85 = .ok (.iload 4, 2) := dk_21 4 (dk_at dksX5_fragile_3 14 rfl rfl)
theorem dX5_fragile_87 : decode cX5_fragile 87 = .ok (.ineg, 1) := dk_116 (dk_at dksX5_fragile_3 16 rfl rfl)
theorem dX5_fragile_88 : decode cX5_fragile 88 = .ok (.invokevirtual 313, 3) := dk_182 1 57 (dk_at dksX5_fragile_3 17 rfl rfl)
theorem dX5_fragile_91 : decode cX5_fragile 91 = .ok (.ifCond .eq 7, 3) := dk_153 0 7 (dk_at dksX5_fragile_3 20 rfl rfl)
theorem dX5_fragile_94 : decode cX5_fragile 94 = .ok (.iconst 0, 1) := dk_3 (dk_at dksX5_fragile_3 23 rfl rfl)
theorem dX5_fragile_95 : decode cX5_fragile 95 = .ok (.goto 4, 3) := dk_167 0 4 (dk_at dksX5_fragile_4 0 rfl rfl)
theorem dX5_fragile_98 : decode cX5_fragile 98 = .ok (.iconst 1, 1) := dk_4 (dk_at dksX5_fragile_4 3 rfl rfl)
theorem dX5_fragile_99 : decode cX5_fragile 99 = .ok (.iadd, 1) := dk_96 (dk_at dksX5_fragile_4 4 rfl rfl)
theorem dX5_fragile_100 : decode cX5_fragile 100 = .ok (.istore_n 1, 1) := dk_60 (dk_at dksX5_fragile_4 5 rfl rfl)
theorem dX5_fragile_101 : decode cX5_fragile 101 = .ok (.iinc 3 1, 3) := dk_132 3 1 (dk_at dksX5_fragile_4 6 rfl rfl)
theorem dX5_fragile_104 : decode cX5_fragile 104 = .ok (.goto (-59), 3) := dk_167 255 197 (dk_at dksX5_fragile_4 9 rfl rfl)
theorem dX5_fragile_107 : decode cX5_fragile 107 = .ok (.iinc 2 1, 3) := dk_132 2 1 (dk_at dksX5_fragile_4 12 rfl rfl)
theorem dX5_fragile_110 : decode cX5_fragile 110 = .ok (.goto (-78), 3) := dk_167 255 178 (dk_at dksX5_fragile_4 15 rfl rfl)
theorem dX5_fragile_113 : decode cX5_fragile 113 = .ok (.iload_n 1, 1) := dk_27 (dk_at dksX5_fragile_4 18 rfl rfl)
theorem dX5_fragile_114 : decode cX5_fragile 114 = .ok (.ireturn, 1) := dk_172 (dk_at dksX5_fragile_4 19 rfl rfl)
abbrev cX5_fills : ByteArray := prog_9_method_82_code
def yX5_fills : MethodName := ⟨RX5, "fills", "(II)I"⟩
def dkwX5_fills_2 : List UInt8 := [4, 21, 4, 4, 96, 120, 167, 0, 4, 3, 128, 62, 132, 4, 1, 167, 255, 219, 29, 172]
abbrev dktX5_fills_2 : List UInt8 := dkwX5_fills_2 ++ []
def dkwX5_fills_1 : List UInt8 := [54, 4, 21, 4, 4, 163, 0, 37, 29, 42, 16, 6, 27, 104, 28, 96, 21, 4, 182, 1, 57, 153, 0, 12]
abbrev dktX5_fills_1 : List UInt8 := dkwX5_fills_1 ++ dktX5_fills_2
def dkwX5_fills_0 : List UInt8 := [42, 3, 181, 0, 83, 42, 42, 180, 0, 13, 27, 28, 182, 0, 158, 154, 0, 5, 2, 172, 3, 62, 2]
abbrev dktX5_fills_0 : List UInt8 := dkwX5_fills_0 ++ dktX5_fills_1
theorem dksX5_fills_0 : cX5_fills.data.toList.drop 0 = dktX5_fills_0 := by decide +kernel
theorem dksX5_fills_1 : cX5_fills.data.toList.drop 23 = dktX5_fills_1 := dk_seg dksX5_fills_0 23 rfl rfl
theorem dksX5_fills_2 : cX5_fills.data.toList.drop 47 = dktX5_fills_2 := dk_seg dksX5_fills_1 24 rfl rfl
theorem dX5_fills_0 : decode cX5_fills 0 = .ok (.aload_n 0, 1) := dk_42 (dk_at dksX5_fills_0 0 rfl rfl)
theorem dX5_fills_1 : decode cX5_fills 1 = .ok (.iconst 0, 1) := dk_3 (dk_at dksX5_fills_0 1 rfl rfl)
theorem dX5_fills_2 : decode cX5_fills 2 = .ok (.putfield 83, 3) := dk_181 0 83 (dk_at dksX5_fills_0 2 rfl rfl)
theorem dX5_fills_5 : decode cX5_fills 5 = .ok (.aload_n 0, 1) := dk_42 (dk_at dksX5_fills_0 5 rfl rfl)
theorem dX5_fills_6 : decode cX5_fills 6 = .ok (.aload_n 0, 1) := dk_42 (dk_at dksX5_fills_0 6 rfl rfl)
theorem dX5_fills_7 : decode cX5_fills 7 = .ok (.getfield 13, 3) := dk_180 0 13 (dk_at dksX5_fills_0 7 rfl rfl)
theorem dX5_fills_10 : decode cX5_fills 10 = .ok (.iload_n 1, 1) := dk_27 (dk_at dksX5_fills_0 10 rfl rfl)
theorem dX5_fills_11 : decode cX5_fills 11 = .ok (.iload_n 2, 1) := dk_28 (dk_at dksX5_fills_0 11 rfl rfl)
theorem dX5_fills_12 : decode cX5_fills 12 = .ok (.invokevirtual 158, 3) := dk_182 0 158 (dk_at dksX5_fills_0 12 rfl rfl)
theorem dX5_fills_15 : decode cX5_fills 15 = .ok (.ifCond .ne 5, 3) := dk_154 0 5 (dk_at dksX5_fills_0 15 rfl rfl)
theorem dX5_fills_18 : decode cX5_fills 18 = .ok (.iconst (-1), 1) := dk_2 (dk_at dksX5_fills_0 18 rfl rfl)
theorem dX5_fills_19 : decode cX5_fills 19 = .ok (.ireturn, 1) := dk_172 (dk_at dksX5_fills_0 19 rfl rfl)
theorem dX5_fills_20 : decode cX5_fills 20 = .ok (.iconst 0, 1) := dk_3 (dk_at dksX5_fills_0 20 rfl rfl)
theorem dX5_fills_21 : decode cX5_fills 21 = .ok (.istore_n 3, 1) := dk_62 (dk_at dksX5_fills_0 21 rfl rfl)
theorem dX5_fills_22 : decode cX5_fills 22 = .ok (.iconst (-1), 1) := dk_2 (dk_at dksX5_fills_0 22 rfl rfl)
theorem dX5_fills_23 : decode cX5_fills 23 = .ok (.istore 4, 2) := dk_54 4 (dk_at dksX5_fills_1 0 rfl rfl)
theorem dX5_fills_25 : decode cX5_fills 25 = .ok (.iload 4, 2) := dk_21 4 (dk_at dksX5_fills_1 2 rfl rfl)
theorem dX5_fills_27 : decode cX5_fills 27 = .ok (.iconst 1, 1) := dk_4 (dk_at dksX5_fills_1 4 rfl rfl)
theorem dX5_fills_28 : decode cX5_fills 28 = .ok (.if_icmp .gt 37, 3) := dk_163 0 37 (dk_at dksX5_fills_1 5 rfl rfl)
theorem dX5_fills_31 : decode cX5_fills 31 = .ok (.iload_n 3, 1) := dk_29 (dk_at dksX5_fills_1 8 rfl rfl)
theorem dX5_fills_32 : decode cX5_fills 32 = .ok (.aload_n 0, 1) := dk_42 (dk_at dksX5_fills_1 9 rfl rfl)
theorem dX5_fills_33 : decode cX5_fills 33 = .ok (.bipush 6, 2) := dk_16 6 (dk_at dksX5_fills_1 10 rfl rfl)
theorem dX5_fills_35 : decode cX5_fills 35 = .ok (.iload_n 1, 1) := dk_27 (dk_at dksX5_fills_1 12 rfl rfl)
theorem dX5_fills_36 : decode cX5_fills 36 = .ok (.imul, 1) := dk_104 (dk_at dksX5_fills_1 13 rfl rfl)
theorem dX5_fills_37 : decode cX5_fills 37 = .ok (.iload_n 2, 1) := dk_28 (dk_at dksX5_fills_1 14 rfl rfl)
theorem dX5_fills_38 : decode cX5_fills 38 = .ok (.iadd, 1) := dk_96 (dk_at dksX5_fills_1 15 rfl rfl)
theorem dX5_fills_39 : decode cX5_fills 39 = .ok (.iload 4, 2) := dk_21 4 (dk_at dksX5_fills_1 16 rfl rfl)
theorem dX5_fills_41 : decode cX5_fills 41 = .ok (.invokevirtual 313, 3) := dk_182 1 57 (dk_at dksX5_fills_1 18 rfl rfl)
theorem dX5_fills_44 : decode cX5_fills 44 = .ok (.ifCond .eq 12, 3) := dk_153 0 12 (dk_at dksX5_fills_1 21 rfl rfl)
theorem dX5_fills_47 : decode cX5_fills 47 = .ok (.iconst 1, 1) := dk_4 (dk_at dksX5_fills_2 0 rfl rfl)
theorem dX5_fills_48 : decode cX5_fills 48 = .ok (.iload 4, 2) := dk_21 4 (dk_at dksX5_fills_2 1 rfl rfl)
theorem dX5_fills_50 : decode cX5_fills 50 = .ok (.iconst 1, 1) := dk_4 (dk_at dksX5_fills_2 3 rfl rfl)
theorem dX5_fills_51 : decode cX5_fills 51 = .ok (.iadd, 1) := dk_96 (dk_at dksX5_fills_2 4 rfl rfl)
theorem dX5_fills_52 : decode cX5_fills 52 = .ok (.ishl, 1) := dk_120 (dk_at dksX5_fills_2 5 rfl rfl)
theorem dX5_fills_53 : decode cX5_fills 53 = .ok (.goto 4, 3) := dk_167 0 4 (dk_at dksX5_fills_2 6 rfl rfl)
theorem dX5_fills_56 : decode cX5_fills 56 = .ok (.iconst 0, 1) := dk_3 (dk_at dksX5_fills_2 9 rfl rfl)
theorem dX5_fills_57 : decode cX5_fills 57 = .ok (.ior, 1) := dk_128 (dk_at dksX5_fills_2 10 rfl rfl)
theorem dX5_fills_58 : decode cX5_fills 58 = .ok (.istore_n 3, 1) := dk_62 (dk_at dksX5_fills_2 11 rfl rfl)
theorem dX5_fills_59 : decode cX5_fills 59 = .ok (.iinc 4 1, 3) := dk_132 4 1 (dk_at dksX5_fills_2 12 rfl rfl)
theorem dX5_fills_62 : decode cX5_fills 62 = .ok (.goto (-37), 3) := dk_167 255 219 (dk_at dksX5_fills_2 15 rfl rfl)
theorem dX5_fills_65 : decode cX5_fills 65 = .ok (.iload_n 3, 1) := dk_29 (dk_at dksX5_fills_2 18 rfl rfl)
theorem dX5_fills_66 : decode cX5_fills 66 = .ok (.ireturn, 1) := dk_172 (dk_at dksX5_fills_2 19 rfl rfl)
abbrev cX5_pack : ByteArray := prog_9_method_86_code
def yX5_pack : MethodName := ⟨RX5, "pack", "(I)I"⟩
def dkwX5_pack_5 : List UInt8 := [132, 3, 1, 167, 255, 169, 28, 172]
abbrev dktX5_pack_5 : List UInt8 := dkwX5_pack_5 ++ []
def dkwX5_pack_4 : List UInt8 := [184, 0, 204, 164, 0, 19, 167, 0, 14, 29, 184, 0, 204, 28, 184, 0, 204, 162, 0, 5, 29, 61]
abbrev dktX5_pack_4 : List UInt8 := dkwX5_pack_4 ++ dktX5_pack_5
def dkwX5_pack_3 : List UInt8 := [182, 1, 66, 154, 0, 6, 167, 0, 39, 28, 2, 159, 0, 32, 27, 154, 0, 17, 29, 184, 0, 204, 28]
abbrev dktX5_pack_3 : List UInt8 := dkwX5_pack_3 ++ dktX5_pack_4
def dkwX5_pack_2 : List UInt8 := [16, 36, 46, 120, 162, 0, 71, 27, 154, 0, 14, 42, 29, 182, 1, 63, 153, 0, 53, 167, 0, 14, 42, 29]
abbrev dktX5_pack_2 : List UInt8 := dkwX5_pack_2 ++ dktX5_pack_3
def dkwX5_pack_1 : List UInt8 := [154, 0, 5, 2, 172, 2, 61, 3, 62, 29, 4, 42, 180, 0, 13, 27, 154, 0, 8, 16, 37, 167, 0, 5]
abbrev dktX5_pack_1 : List UInt8 := dkwX5_pack_1 ++ dktX5_pack_2
def dkwX5_pack_0 : List UInt8 := [42, 3, 181, 0, 83, 42, 180, 0, 13, 16, 36, 46, 153, 0, 13, 27, 133, 9, 10, 184, 0, 140]
abbrev dktX5_pack_0 : List UInt8 := dkwX5_pack_0 ++ dktX5_pack_1
theorem dksX5_pack_0 : cX5_pack.data.toList.drop 0 = dktX5_pack_0 := by decide +kernel
theorem dksX5_pack_1 : cX5_pack.data.toList.drop 22 = dktX5_pack_1 := dk_seg dksX5_pack_0 22 rfl rfl
theorem dksX5_pack_2 : cX5_pack.data.toList.drop 46 = dktX5_pack_2 := dk_seg dksX5_pack_1 24 rfl rfl
theorem dksX5_pack_3 : cX5_pack.data.toList.drop 70 = dktX5_pack_3 := dk_seg dksX5_pack_2 24 rfl rfl
theorem dksX5_pack_4 : cX5_pack.data.toList.drop 93 = dktX5_pack_4 := dk_seg dksX5_pack_3 23 rfl rfl
theorem dksX5_pack_5 : cX5_pack.data.toList.drop 115 = dktX5_pack_5 := dk_seg dksX5_pack_4 22 rfl rfl
theorem dX5_pack_0 : decode cX5_pack 0 = .ok (.aload_n 0, 1) := dk_42 (dk_at dksX5_pack_0 0 rfl rfl)
theorem dX5_pack_1 : decode cX5_pack 1 = .ok (.iconst 0, 1) := dk_3 (dk_at dksX5_pack_0 1 rfl rfl)
theorem dX5_pack_2 : decode cX5_pack 2 = .ok (.putfield 83, 3) := dk_181 0 83 (dk_at dksX5_pack_0 2 rfl rfl)
theorem dX5_pack_5 : decode cX5_pack 5 = .ok (.aload_n 0, 1) := dk_42 (dk_at dksX5_pack_0 5 rfl rfl)
theorem dX5_pack_6 : decode cX5_pack 6 = .ok (.getfield 13, 3) := dk_180 0 13 (dk_at dksX5_pack_0 6 rfl rfl)
theorem dX5_pack_9 : decode cX5_pack 9 = .ok (.bipush 36, 2) := dk_16 36 (dk_at dksX5_pack_0 9 rfl rfl)
theorem dX5_pack_11 : decode cX5_pack 11 = .ok (.iaload, 1) := dk_46 (dk_at dksX5_pack_0 11 rfl rfl)
theorem dX5_pack_12 : decode cX5_pack 12 = .ok (.ifCond .eq 13, 3) := dk_153 0 13 (dk_at dksX5_pack_0 12 rfl rfl)
theorem dX5_pack_15 : decode cX5_pack 15 = .ok (.iload_n 1, 1) := dk_27 (dk_at dksX5_pack_0 15 rfl rfl)
theorem dX5_pack_16 : decode cX5_pack 16 = .ok (.i2l, 1) := dk_133 (dk_at dksX5_pack_0 16 rfl rfl)
theorem dX5_pack_17 : decode cX5_pack 17 = .ok (.lconst 0, 1) := dk_9 (dk_at dksX5_pack_0 17 rfl rfl)
theorem dX5_pack_18 : decode cX5_pack 18 = .ok (.lconst 1, 1) := dk_10 (dk_at dksX5_pack_0 18 rfl rfl)
theorem dX5_pack_19 : decode cX5_pack 19 = .ok (.invokestatic 140, 3) := dk_184 0 140 (dk_at dksX5_pack_0 19 rfl rfl)
theorem dX5_pack_22 : decode cX5_pack 22 = .ok (.ifCond .ne 5, 3) := dk_154 0 5 (dk_at dksX5_pack_1 0 rfl rfl)
theorem dX5_pack_25 : decode cX5_pack 25 = .ok (.iconst (-1), 1) := dk_2 (dk_at dksX5_pack_1 3 rfl rfl)
theorem dX5_pack_26 : decode cX5_pack 26 = .ok (.ireturn, 1) := dk_172 (dk_at dksX5_pack_1 4 rfl rfl)
theorem dX5_pack_27 : decode cX5_pack 27 = .ok (.iconst (-1), 1) := dk_2 (dk_at dksX5_pack_1 5 rfl rfl)
theorem dX5_pack_28 : decode cX5_pack 28 = .ok (.istore_n 2, 1) := dk_61 (dk_at dksX5_pack_1 6 rfl rfl)
theorem dX5_pack_29 : decode cX5_pack 29 = .ok (.iconst 0, 1) := dk_3 (dk_at dksX5_pack_1 7 rfl rfl)
theorem dX5_pack_30 : decode cX5_pack 30 = .ok (.istore_n 3, 1) := dk_62 (dk_at dksX5_pack_1 8 rfl rfl)
theorem dX5_pack_31 : decode cX5_pack 31 = .ok (.iload_n 3, 1) := dk_29 (dk_at dksX5_pack_1 9 rfl rfl)
theorem dX5_pack_32 : decode cX5_pack 32 = .ok (.iconst 1, 1) := dk_4 (dk_at dksX5_pack_1 10 rfl rfl)
theorem dX5_pack_33 : decode cX5_pack 33 = .ok (.aload_n 0, 1) := dk_42 (dk_at dksX5_pack_1 11 rfl rfl)
theorem dX5_pack_34 : decode cX5_pack 34 = .ok (.getfield 13, 3) := dk_180 0 13 (dk_at dksX5_pack_1 12 rfl rfl)
theorem dX5_pack_37 : decode cX5_pack 37 = .ok (.iload_n 1, 1) := dk_27 (dk_at dksX5_pack_1 15 rfl rfl)
theorem dX5_pack_38 : decode cX5_pack 38 = .ok (.ifCond .ne 8, 3) := dk_154 0 8 (dk_at dksX5_pack_1 16 rfl rfl)
theorem dX5_pack_41 : decode cX5_pack 41 = .ok (.bipush 37, 2) := dk_16 37 (dk_at dksX5_pack_1 19 rfl rfl)
theorem dX5_pack_43 : decode cX5_pack 43 = .ok (.goto 5, 3) := dk_167 0 5 (dk_at dksX5_pack_1 21 rfl rfl)
theorem dX5_pack_46 : decode cX5_pack 46 = .ok (.bipush 36, 2) := dk_16 36 (dk_at dksX5_pack_2 0 rfl rfl)
theorem dX5_pack_48 : decode cX5_pack 48 = .ok (.iaload, 1) := dk_46 (dk_at dksX5_pack_2 2 rfl rfl)
theorem dX5_pack_49 : decode cX5_pack 49 = .ok (.ishl, 1) := dk_120 (dk_at dksX5_pack_2 3 rfl rfl)
theorem dX5_pack_50 : decode cX5_pack 50 = .ok (.if_icmp .ge 71, 3) := dk_162 0 71 (dk_at dksX5_pack_2 4 rfl rfl)
theorem dX5_pack_53 : decode cX5_pack 53 = .ok (.iload_n 1, 1) := dk_27 (dk_at dksX5_pack_2 7 rfl rfl)
theorem dX5_pack_54 : decode cX5_pack 54 = .ok (.ifCond .ne 14, 3) := dk_154 0 14 (dk_at dksX5_pack_2 8 rfl rfl)
theorem dX5_pack_57 : decode cX5_pack 57 = .ok (.aload_n 0, 1) := dk_42 (dk_at dksX5_pack_2 11 rfl rfl)
theorem dX5_pack_58 : decode cX5_pack 58 = .ok (.iload_n 3, 1) := dk_29 (dk_at dksX5_pack_2 12 rfl rfl)
theorem dX5_pack_59 : decode cX5_pack 59 = .ok (.invokevirtual 319, 3) := dk_182 1 63 (dk_at dksX5_pack_2 13 rfl rfl)
theorem dX5_pack_62 : decode cX5_pack 62 = .ok (.ifCond .eq 53, 3) := dk_153 0 53 (dk_at dksX5_pack_2 16 rfl rfl)
theorem dX5_pack_65 : decode cX5_pack 65 = .ok (.goto 14, 3) := dk_167 0 14 (dk_at dksX5_pack_2 19 rfl rfl)
theorem dX5_pack_68 : decode cX5_pack 68 = .ok (.aload_n 0, 1) := dk_42 (dk_at dksX5_pack_2 22 rfl rfl)
theorem dX5_pack_69 : decode cX5_pack 69 = .ok (.iload_n 3, 1) := dk_29 (dk_at dksX5_pack_2 23 rfl rfl)
theorem dX5_pack_70 : decode cX5_pack 70 = .ok (.invokevirtual 322, 3) := dk_182 1 66 (dk_at dksX5_pack_3 0 rfl rfl)
theorem dX5_pack_73 : decode cX5_pack 73 = .ok (.ifCond .ne 6, 3) := dk_154 0 6 (dk_at dksX5_pack_3 3 rfl rfl)
theorem dX5_pack_76 : decode cX5_pack 76 = .ok (.goto 39, 3) := dk_167 0 39 (dk_at dksX5_pack_3 6 rfl rfl)
theorem dX5_pack_79 : decode cX5_pack 79 = .ok (.iload_n 2, 1) := dk_28 (dk_at dksX5_pack_3 9 rfl rfl)
theorem dX5_pack_80 : decode cX5_pack 80 = .ok (.iconst (-1), 1) := dk_2 (dk_at dksX5_pack_3 10 rfl rfl)
theorem dX5_pack_81 : decode cX5_pack 81 = .ok (.if_icmp .eq 32, 3) := dk_159 0 32 (dk_at dksX5_pack_3 11 rfl rfl)
theorem dX5_pack_84 : decode cX5_pack 84 = .ok (.iload_n 1, 1) := dk_27 (dk_at dksX5_pack_3 14 rfl rfl)
theorem dX5_pack_85 : decode cX5_pack 85 = .ok (.ifCond .ne 17, 3) := dk_154 0 17 (dk_at dksX5_pack_3 15 rfl rfl)
theorem dX5_pack_88 : decode cX5_pack 88 = .ok (.iload_n 3, 1) := dk_29 (dk_at dksX5_pack_3 18 rfl rfl)
theorem dX5_pack_89 : decode cX5_pack 89 = .ok (.invokestatic 204, 3) := dk_184 0 204 (dk_at dksX5_pack_3 19 rfl rfl)
theorem dX5_pack_92 : decode cX5_pack 92 = .ok (.iload_n 2, 1) := dk_28 (dk_at dksX5_pack_3 22 rfl rfl)
theorem dX5_pack_93 : decode cX5_pack 93 = .ok (.invokestatic 204, 3) := dk_184 0 204 (dk_at dksX5_pack_4 0 rfl rfl)
theorem dX5_pack_96 : decode cX5_pack 96 = .ok (.if_icmp .le 19, 3) := dk_164 0 19 (dk_at dksX5_pack_4 3 rfl rfl)
theorem dX5_pack_99 : decode cX5_pack 99 = .ok (.goto 14, 3) := dk_167 0 14 (dk_at dksX5_pack_4 6 rfl rfl)
theorem dX5_pack_102 : decode cX5_pack 102 = .ok (.iload_n 3, 1) := dk_29 (dk_at dksX5_pack_4 9 rfl rfl)
theorem dX5_pack_103 : decode cX5_pack 103 = .ok (.invokestatic 204, 3) := dk_184 0 204 (dk_at dksX5_pack_4 10 rfl rfl)
theorem dX5_pack_106 : decode cX5_pack 106 = .ok (.iload_n 2, 1) := dk_28 (dk_at dksX5_pack_4 13 rfl rfl)
theorem dX5_pack_107 : decode cX5_pack 107 = .ok (.invokestatic 204, 3) := dk_184 0 204 (dk_at dksX5_pack_4 14 rfl rfl)
theorem dX5_pack_110 : decode cX5_pack 110 = .ok (.if_icmp .ge 5, 3) := dk_162 0 5 (dk_at dksX5_pack_4 17 rfl rfl)
theorem dX5_pack_113 : decode cX5_pack 113 = .ok (.iload_n 3, 1) := dk_29 (dk_at dksX5_pack_4 20 rfl rfl)
theorem dX5_pack_114 : decode cX5_pack 114 = .ok (.istore_n 2, 1) := dk_61 (dk_at dksX5_pack_4 21 rfl rfl)
theorem dX5_pack_115 : decode cX5_pack 115 = .ok (.iinc 3 1, 3) := dk_132 3 1 (dk_at dksX5_pack_5 0 rfl rfl)
theorem dX5_pack_118 : decode cX5_pack 118 = .ok (.goto (-87), 3) := dk_167 255 169 (dk_at dksX5_pack_5 3 rfl rfl)
theorem dX5_pack_121 : decode cX5_pack 121 = .ok (.iload_n 2, 1) := dk_28 (dk_at dksX5_pack_5 6 rfl rfl)
theorem dX5_pack_122 : decode cX5_pack 122 = .ok (.ireturn, 1) := dk_172 (dk_at dksX5_pack_5 7 rfl rfl)
abbrev cX5_doPack : ByteArray := prog_9_method_84_code
def yX5_doPack : MethodName := ⟨RX5, "doPack", "(I)Z"⟩
def dkwX5_doPack_2 : List UInt8 := [132, 3, 1, 167, 255, 211, 4, 172]
abbrev dktX5_doPack_2 : List UInt8 := dkwX5_doPack_2 ++ []
def dkwX5_doPack_1 : List UInt8 := [167, 0, 23, 28, 42, 29, 182, 1, 60, 126, 153, 0, 5, 3, 172, 28, 42, 29, 182, 1, 60, 128, 61]
abbrev dktX5_doPack_1 : List UInt8 := dkwX5_doPack_1 ++ dktX5_doPack_2
def dkwX5_doPack_0 : List UInt8 := [3, 61, 3, 62, 29, 42, 180, 0, 13, 16, 37, 46, 162, 0, 40, 27, 29, 184, 0, 200, 154, 0, 6]
abbrev dktX5_doPack_0 : List UInt8 := dkwX5_doPack_0 ++ dktX5_doPack_1
theorem dksX5_doPack_0 : cX5_doPack.data.toList.drop 0 = dktX5_doPack_0 := by decide +kernel
theorem dksX5_doPack_1 : cX5_doPack.data.toList.drop 23 = dktX5_doPack_1 := dk_seg dksX5_doPack_0 23 rfl rfl
theorem dksX5_doPack_2 : cX5_doPack.data.toList.drop 46 = dktX5_doPack_2 := dk_seg dksX5_doPack_1 23 rfl rfl
theorem dX5_doPack_0 : decode cX5_doPack 0 = .ok (.iconst 0, 1) := dk_3 (dk_at dksX5_doPack_0 0 rfl rfl)
theorem dX5_doPack_1 : decode cX5_doPack 1 = .ok (.istore_n 2, 1) := dk_61 (dk_at dksX5_doPack_0 1 rfl rfl)
theorem dX5_doPack_2 : decode cX5_doPack 2 = .ok (.iconst 0, 1) := dk_3 (dk_at dksX5_doPack_0 2 rfl rfl)
theorem dX5_doPack_3 : decode cX5_doPack 3 = .ok (.istore_n 3, 1) := dk_62 (dk_at dksX5_doPack_0 3 rfl rfl)
theorem dX5_doPack_4 : decode cX5_doPack 4 = .ok (.iload_n 3, 1) := dk_29 (dk_at dksX5_doPack_0 4 rfl rfl)
theorem dX5_doPack_5 : decode cX5_doPack 5 = .ok (.aload_n 0, 1) := dk_42 (dk_at dksX5_doPack_0 5 rfl rfl)
theorem dX5_doPack_6 : decode cX5_doPack 6 = .ok (.getfield 13, 3) := dk_180 0 13 (dk_at dksX5_doPack_0 6 rfl rfl)
theorem dX5_doPack_9 : decode cX5_doPack 9 = .ok (.bipush 37, 2) := dk_16 37 (dk_at dksX5_doPack_0 9 rfl rfl)
theorem dX5_doPack_11 : decode cX5_doPack 11 = .ok (.iaload, 1) := dk_46 (dk_at dksX5_doPack_0 11 rfl rfl)
theorem dX5_doPack_12 : decode cX5_doPack 12 = .ok (.if_icmp .ge 40, 3) := dk_162 0 40 (dk_at dksX5_doPack_0 12 rfl rfl)
theorem dX5_doPack_15 : decode cX5_doPack 15 = .ok (.iload_n 1, 1) := dk_27 (dk_at dksX5_doPack_0 15 rfl rfl)
theorem dX5_doPack_16 : decode cX5_doPack 16 = .ok (.iload_n 3, 1) := dk_29 (dk_at dksX5_doPack_0 16 rfl rfl)
theorem dX5_doPack_17 : decode cX5_doPack 17 = .ok (.invokestatic 200, 3) := dk_184 0 200 (dk_at dksX5_doPack_0 17 rfl rfl)
theorem dX5_doPack_20 : decode cX5_doPack 20 = .ok (.ifCond .ne 6, 3) := dk_154 0 6 (dk_at dksX5_doPack_0 20 rfl rfl)
theorem dX5_doPack_23 : decode cX5_doPack 23 = .ok (.goto 23, 3) := dk_167 0 23 (dk_at dksX5_doPack_1 0 rfl rfl)
theorem dX5_doPack_26 : decode cX5_doPack 26 = .ok (.iload_n 2, 1) := dk_28 (dk_at dksX5_doPack_1 3 rfl rfl)
theorem dX5_doPack_27 : decode cX5_doPack 27 = .ok (.aload_n 0, 1) := dk_42 (dk_at dksX5_doPack_1 4 rfl rfl)
theorem dX5_doPack_28 : decode cX5_doPack 28 = .ok (.iload_n 3, 1) := dk_29 (dk_at dksX5_doPack_1 5 rfl rfl)
theorem dX5_doPack_29 : decode cX5_doPack 29 = .ok (.invokevirtual 316, 3) := dk_182 1 60 (dk_at dksX5_doPack_1 6 rfl rfl)
theorem dX5_doPack_32 : decode cX5_doPack 32 = .ok (.iand, 1) := dk_126 (dk_at dksX5_doPack_1 9 rfl rfl)
theorem dX5_doPack_33 : decode cX5_doPack 33 = .ok (.ifCond .eq 5, 3) := dk_153 0 5 (dk_at dksX5_doPack_1 10 rfl rfl)
theorem dX5_doPack_36 : decode cX5_doPack 36 = .ok (.iconst 0, 1) := dk_3 (dk_at dksX5_doPack_1 13 rfl rfl)
theorem dX5_doPack_37 : decode cX5_doPack 37 = .ok (.ireturn, 1) := dk_172 (dk_at dksX5_doPack_1 14 rfl rfl)
theorem dX5_doPack_38 : decode cX5_doPack 38 = .ok (.iload_n 2, 1) := dk_28 (dk_at dksX5_doPack_1 15 rfl rfl)
theorem dX5_doPack_39 : decode cX5_doPack 39 = .ok (.aload_n 0, 1) := dk_42 (dk_at dksX5_doPack_1 16 rfl rfl)
theorem dX5_doPack_40 : decode cX5_doPack 40 = .ok (.iload_n 3, 1) := dk_29 (dk_at dksX5_doPack_1 17 rfl rfl)
theorem dX5_doPack_41 : decode cX5_doPack 41 = .ok (.invokevirtual 316, 3) := dk_182 1 60 (dk_at dksX5_doPack_1 18 rfl rfl)
theorem dX5_doPack_44 : decode cX5_doPack 44 = .ok (.ior, 1) := dk_128 (dk_at dksX5_doPack_1 21 rfl rfl)
theorem dX5_doPack_45 : decode cX5_doPack 45 = .ok (.istore_n 2, 1) := dk_61 (dk_at dksX5_doPack_1 22 rfl rfl)
theorem dX5_doPack_46 : decode cX5_doPack 46 = .ok (.iinc 3 1, 3) := dk_132 3 1 (dk_at dksX5_doPack_2 0 rfl rfl)
theorem dX5_doPack_49 : decode cX5_doPack 49 = .ok (.goto (-45), 3) := dk_167 255 211 (dk_at dksX5_doPack_2 3 rfl rfl)
theorem dX5_doPack_52 : decode cX5_doPack 52 = .ok (.iconst 1, 1) := dk_4 (dk_at dksX5_doPack_2 6 rfl rfl)
theorem dX5_doPack_53 : decode cX5_doPack 53 = .ok (.ireturn, 1) := dk_172 (dk_at dksX5_doPack_2 7 rfl rfl)
abbrev cX5_rowsOf : ByteArray := prog_9_method_83_code
def yX5_rowsOf : MethodName := ⟨RX5, "rowsOf", "(I)I"⟩
def dkwX5_rowsOf_1 : List UInt8 := [27, 96, 46, 154, 0, 7, 3, 167, 0, 6, 4, 29, 120, 128, 61, 132, 3, 1, 167, 255, 218, 28, 172]
abbrev dktX5_rowsOf_1 : List UInt8 := dkwX5_rowsOf_1 ++ []
def dkwX5_rowsOf_0 : List UInt8 := [3, 61, 3, 62, 29, 42, 180, 0, 13, 16, 36, 46, 162, 0, 33, 28, 42, 180, 0, 13, 16, 6, 29, 104]
abbrev dktX5_rowsOf_0 : List UInt8 := dkwX5_rowsOf_0 ++ dktX5_rowsOf_1
theorem dksX5_rowsOf_0 : cX5_rowsOf.data.toList.drop 0 = dktX5_rowsOf_0 := by decide +kernel
theorem dksX5_rowsOf_1 : cX5_rowsOf.data.toList.drop 24 = dktX5_rowsOf_1 := dk_seg dksX5_rowsOf_0 24 rfl rfl
theorem dX5_rowsOf_0 : decode cX5_rowsOf 0 = .ok (.iconst 0, 1) := dk_3 (dk_at dksX5_rowsOf_0 0 rfl rfl)
theorem dX5_rowsOf_1 : decode cX5_rowsOf 1 = .ok (.istore_n 2, 1) := dk_61 (dk_at dksX5_rowsOf_0 1 rfl rfl)
theorem dX5_rowsOf_2 : decode cX5_rowsOf 2 = .ok (.iconst 0, 1) := dk_3 (dk_at dksX5_rowsOf_0 2 rfl rfl)
theorem dX5_rowsOf_3 : decode cX5_rowsOf 3 = .ok (.istore_n 3, 1) := dk_62 (dk_at dksX5_rowsOf_0 3 rfl rfl)
theorem dX5_rowsOf_4 : decode cX5_rowsOf 4 = .ok (.iload_n 3, 1) := dk_29 (dk_at dksX5_rowsOf_0 4 rfl rfl)
theorem dX5_rowsOf_5 : decode cX5_rowsOf 5 = .ok (.aload_n 0, 1) := dk_42 (dk_at dksX5_rowsOf_0 5 rfl rfl)
theorem dX5_rowsOf_6 : decode cX5_rowsOf 6 = .ok (.getfield 13, 3) := dk_180 0 13 (dk_at dksX5_rowsOf_0 6 rfl rfl)
theorem dX5_rowsOf_9 : decode cX5_rowsOf 9 = .ok (.bipush 36, 2) := dk_16 36 (dk_at dksX5_rowsOf_0 9 rfl rfl)
theorem dX5_rowsOf_11 : decode cX5_rowsOf 11 = .ok (.iaload, 1) := dk_46 (dk_at dksX5_rowsOf_0 11 rfl rfl)
theorem dX5_rowsOf_12 : decode cX5_rowsOf 12 = .ok (.if_icmp .ge 33, 3) := dk_162 0 33 (dk_at dksX5_rowsOf_0 12 rfl rfl)
theorem dX5_rowsOf_15 : decode cX5_rowsOf 15 = .ok (.iload_n 2, 1) := dk_28 (dk_at dksX5_rowsOf_0 15 rfl rfl)
theorem dX5_rowsOf_16 : decode cX5_rowsOf 16 = .ok (.aload_n 0, 1) := dk_42 (dk_at dksX5_rowsOf_0 16 rfl rfl)
theorem dX5_rowsOf_17 : decode cX5_rowsOf 17 = .ok (.getfield 13, 3) := dk_180 0 13 (dk_at dksX5_rowsOf_0 17 rfl rfl)
theorem dX5_rowsOf_20 : decode cX5_rowsOf 20 = .ok (.bipush 6, 2) := dk_16 6 (dk_at dksX5_rowsOf_0 20 rfl rfl)
theorem dX5_rowsOf_22 : decode cX5_rowsOf 22 = .ok (.iload_n 3, 1) := dk_29 (dk_at dksX5_rowsOf_0 22 rfl rfl)
theorem dX5_rowsOf_23 : decode cX5_rowsOf 23 = .ok (.imul, 1) := dk_104 (dk_at dksX5_rowsOf_0 23 rfl rfl)
theorem dX5_rowsOf_24 : decode cX5_rowsOf 24 = .ok (.iload_n 1, 1) := dk_27 (dk_at dksX5_rowsOf_1 0 rfl rfl)
theorem dX5_rowsOf_25 : decode cX5_rowsOf 25 = .ok (.iadd, 1) := dk_96 (dk_at dksX5_rowsOf_1 1 rfl rfl)
theorem dX5_rowsOf_26 : decode cX5_rowsOf 26 = .ok (.iaload, 1) := dk_46 (dk_at dksX5_rowsOf_1 2 rfl rfl)
theorem dX5_rowsOf_27 : decode cX5_rowsOf 27 = .ok (.ifCond .ne 7, 3) := dk_154 0 7 (dk_at dksX5_rowsOf_1 3 rfl rfl)
theorem dX5_rowsOf_30 : decode cX5_rowsOf 30 = .ok (.iconst 0, 1) := dk_3 (dk_at dksX5_rowsOf_1 6 rfl rfl)
theorem dX5_rowsOf_31 : decode cX5_rowsOf 31 = .ok (.goto 6, 3) := dk_167 0 6 (dk_at dksX5_rowsOf_1 7 rfl rfl)
theorem dX5_rowsOf_34 : decode cX5_rowsOf 34 = .ok (.iconst 1, 1) := dk_4 (dk_at dksX5_rowsOf_1 10 rfl rfl)
theorem dX5_rowsOf_35 : decode cX5_rowsOf 35 = .ok (.iload_n 3, 1) := dk_29 (dk_at dksX5_rowsOf_1 11 rfl rfl)
theorem dX5_rowsOf_36 : decode cX5_rowsOf 36 = .ok (.ishl, 1) := dk_120 (dk_at dksX5_rowsOf_1 12 rfl rfl)
theorem dX5_rowsOf_37 : decode cX5_rowsOf 37 = .ok (.ior, 1) := dk_128 (dk_at dksX5_rowsOf_1 13 rfl rfl)
theorem dX5_rowsOf_38 : decode cX5_rowsOf 38 = .ok (.istore_n 2, 1) := dk_61 (dk_at dksX5_rowsOf_1 14 rfl rfl)
theorem dX5_rowsOf_39 : decode cX5_rowsOf 39 = .ok (.iinc 3 1, 3) := dk_132 3 1 (dk_at dksX5_rowsOf_1 15 rfl rfl)
theorem dX5_rowsOf_42 : decode cX5_rowsOf 42 = .ok (.goto (-38), 3) := dk_167 255 218 (dk_at dksX5_rowsOf_1 18 rfl rfl)
theorem dX5_rowsOf_45 : decode cX5_rowsOf 45 = .ok (.iload_n 2, 1) := dk_28 (dk_at dksX5_rowsOf_1 21 rfl rfl)
theorem dX5_rowsOf_46 : decode cX5_rowsOf 46 = .ok (.ireturn, 1) := dk_172 (dk_at dksX5_rowsOf_1 22 rfl rfl)
abbrev cX5_doCover : ByteArray := prog_9_method_85_code
def yX5_doCover : MethodName := ⟨RX5, "doCover", "(I)Z"⟩
def dkwX5_doCover_1 : List UInt8 := [182, 1, 60, 27, 126, 154, 0, 5, 3, 172, 132, 2, 1, 167, 255, 222, 4, 172]
abbrev dktX5_doCover_1 : List UInt8 := dkwX5_doCover_1 ++ []
def dkwX5_doCover_0 : List UInt8 := [3, 61, 28, 42, 180, 0, 13, 16, 37, 46, 162, 0, 29, 42, 28, 182, 1, 60, 153, 0, 15, 42, 28]
abbrev dktX5_doCover_0 : List UInt8 := dkwX5_doCover_0 ++ dktX5_doCover_1
theorem dksX5_doCover_0 : cX5_doCover.data.toList.drop 0 = dktX5_doCover_0 := by decide +kernel
theorem dksX5_doCover_1 : cX5_doCover.data.toList.drop 23 = dktX5_doCover_1 := dk_seg dksX5_doCover_0 23 rfl rfl
theorem dX5_doCover_0 : decode cX5_doCover 0 = .ok (.iconst 0, 1) := dk_3 (dk_at dksX5_doCover_0 0 rfl rfl)
theorem dX5_doCover_1 : decode cX5_doCover 1 = .ok (.istore_n 2, 1) := dk_61 (dk_at dksX5_doCover_0 1 rfl rfl)
theorem dX5_doCover_2 : decode cX5_doCover 2 = .ok (.iload_n 2, 1) := dk_28 (dk_at dksX5_doCover_0 2 rfl rfl)
theorem dX5_doCover_3 : decode cX5_doCover 3 = .ok (.aload_n 0, 1) := dk_42 (dk_at dksX5_doCover_0 3 rfl rfl)
theorem dX5_doCover_4 : decode cX5_doCover 4 = .ok (.getfield 13, 3) := dk_180 0 13 (dk_at dksX5_doCover_0 4 rfl rfl)
theorem dX5_doCover_7 : decode cX5_doCover 7 = .ok (.bipush 37, 2) := dk_16 37 (dk_at dksX5_doCover_0 7 rfl rfl)
theorem dX5_doCover_9 : decode cX5_doCover 9 = .ok (.iaload, 1) := dk_46 (dk_at dksX5_doCover_0 9 rfl rfl)
theorem dX5_doCover_10 : decode cX5_doCover 10 = .ok (.if_icmp .ge 29, 3) := dk_162 0 29 (dk_at dksX5_doCover_0 10 rfl rfl)
theorem dX5_doCover_13 : decode cX5_doCover 13 = .ok (.aload_n 0, 1) := dk_42 (dk_at dksX5_doCover_0 13 rfl rfl)
theorem dX5_doCover_14 : decode cX5_doCover 14 = .ok (.iload_n 2, 1) := dk_28 (dk_at dksX5_doCover_0 14 rfl rfl)
theorem dX5_doCover_15 : decode cX5_doCover 15 = .ok (.invokevirtual 316, 3) := dk_182 1 60 (dk_at dksX5_doCover_0 15 rfl rfl)
theorem dX5_doCover_18 : decode cX5_doCover 18 = .ok (.ifCond .eq 15, 3) := dk_153 0 15 (dk_at dksX5_doCover_0 18 rfl rfl)
theorem dX5_doCover_21 : decode cX5_doCover 21 = .ok (.aload_n 0, 1) := dk_42 (dk_at dksX5_doCover_0 21 rfl rfl)
theorem dX5_doCover_22 : decode cX5_doCover 22 = .ok (.iload_n 2, 1) := dk_28 (dk_at dksX5_doCover_0 22 rfl rfl)
theorem dX5_doCover_23 : decode cX5_doCover 23 = .ok (.invokevirtual 316, 3) := dk_182 1 60 (dk_at dksX5_doCover_1 0 rfl rfl)
theorem dX5_doCover_26 : decode cX5_doCover 26 = .ok (.iload_n 1, 1) := dk_27 (dk_at dksX5_doCover_1 3 rfl rfl)
theorem dX5_doCover_27 : decode cX5_doCover 27 = .ok (.iand, 1) := dk_126 (dk_at dksX5_doCover_1 4 rfl rfl)
theorem dX5_doCover_28 : decode cX5_doCover 28 = .ok (.ifCond .ne 5, 3) := dk_154 0 5 (dk_at dksX5_doCover_1 5 rfl rfl)
theorem dX5_doCover_31 : decode cX5_doCover 31 = .ok (.iconst 0, 1) := dk_3 (dk_at dksX5_doCover_1 8 rfl rfl)
theorem dX5_doCover_32 : decode cX5_doCover 32 = .ok (.ireturn, 1) := dk_172 (dk_at dksX5_doCover_1 9 rfl rfl)
theorem dX5_doCover_33 : decode cX5_doCover 33 = .ok (.iinc 2 1, 3) := dk_132 2 1 (dk_at dksX5_doCover_1 10 rfl rfl)
theorem dX5_doCover_36 : decode cX5_doCover 36 = .ok (.goto (-34), 3) := dk_167 255 222 (dk_at dksX5_doCover_1 13 rfl rfl)
theorem dX5_doCover_39 : decode cX5_doCover 39 = .ok (.iconst 1, 1) := dk_4 (dk_at dksX5_doCover_1 16 rfl rfl)
theorem dX5_doCover_40 : decode cX5_doCover 40 = .ok (.ireturn, 1) := dk_172 (dk_at dksX5_doCover_1 17 rfl rfl)
abbrev cX5_adjoint : ByteArray := prog_9_method_87_code
def yX5_adjoint : MethodName := ⟨RX5, "adjoint", "(II)I"⟩
def dkwX5_adjoint_4 : List UInt8 := [21, 4, 116, 172]
abbrev dktX5_adjoint_4 : List UInt8 := dkwX5_adjoint_4 ++ []
def dkwX5_adjoint_3 : List UInt8 := [29, 4, 27, 120, 2, 130, 126, 96, 46, 54, 4, 27, 28, 96, 5, 112, 154, 0, 8, 21, 4, 167, 0, 6]
abbrev dktX5_adjoint_3 : List UInt8 := dkwX5_adjoint_3 ++ dktX5_adjoint_4
def dkwX5_adjoint_2 : List UInt8 := [180, 0, 13, 16, 36, 46, 120, 4, 100, 62, 42, 180, 0, 38, 16, 64, 29, 4, 28, 120, 2, 130, 126, 104]
abbrev dktX5_adjoint_2 : List UInt8 := dkwX5_adjoint_2 ++ dktX5_adjoint_3
def dkwX5_adjoint_1 : List UInt8 := [46, 42, 180, 0, 13, 16, 37, 46, 159, 0, 6, 18, 133, 172, 42, 42, 180, 0, 13, 182, 0, 207, 4, 42]
abbrev dktX5_adjoint_1 : List UInt8 := dkwX5_adjoint_1 ++ dktX5_adjoint_2
def dkwX5_adjoint_0 : List UInt8 := [42, 3, 181, 0, 83, 42, 42, 180, 0, 13, 27, 28, 182, 0, 158, 153, 0, 20, 42, 180, 0, 13, 16, 36]
abbrev dktX5_adjoint_0 : List UInt8 := dkwX5_adjoint_0 ++ dktX5_adjoint_1
theorem dksX5_adjoint_0 : cX5_adjoint.data.toList.drop 0 = dktX5_adjoint_0 := by decide +kernel
theorem dksX5_adjoint_1 : cX5_adjoint.data.toList.drop 24 = dktX5_adjoint_1 := dk_seg dksX5_adjoint_0 24 rfl rfl
theorem dksX5_adjoint_2 : cX5_adjoint.data.toList.drop 48 = dktX5_adjoint_2 := dk_seg dksX5_adjoint_1 24 rfl rfl
theorem dksX5_adjoint_3 : cX5_adjoint.data.toList.drop 72 = dktX5_adjoint_3 := dk_seg dksX5_adjoint_2 24 rfl rfl
theorem dksX5_adjoint_4 : cX5_adjoint.data.toList.drop 96 = dktX5_adjoint_4 := dk_seg dksX5_adjoint_3 24 rfl rfl
theorem dX5_adjoint_0 : decode cX5_adjoint 0 = .ok (.aload_n 0, 1) := dk_42 (dk_at dksX5_adjoint_0 0 rfl rfl)
theorem dX5_adjoint_1 : decode cX5_adjoint 1 = .ok (.iconst 0, 1) := dk_3 (dk_at dksX5_adjoint_0 1 rfl rfl)
theorem dX5_adjoint_2 : decode cX5_adjoint 2 = .ok (.putfield 83, 3) := dk_181 0 83 (dk_at dksX5_adjoint_0 2 rfl rfl)
theorem dX5_adjoint_5 : decode cX5_adjoint 5 = .ok (.aload_n 0, 1) := dk_42 (dk_at dksX5_adjoint_0 5 rfl rfl)
theorem dX5_adjoint_6 : decode cX5_adjoint 6 = .ok (.aload_n 0, 1) := dk_42 (dk_at dksX5_adjoint_0 6 rfl rfl)
theorem dX5_adjoint_7 : decode cX5_adjoint 7 = .ok (.getfield 13, 3) := dk_180 0 13 (dk_at dksX5_adjoint_0 7 rfl rfl)
theorem dX5_adjoint_10 : decode cX5_adjoint 10 = .ok (.iload_n 1, 1) := dk_27 (dk_at dksX5_adjoint_0 10 rfl rfl)
theorem dX5_adjoint_11 : decode cX5_adjoint 11 = .ok (.iload_n 2, 1) := dk_28 (dk_at dksX5_adjoint_0 11 rfl rfl)
theorem dX5_adjoint_12 : decode cX5_adjoint 12 = .ok (.invokevirtual 158, 3) := dk_182 0 158 (dk_at dksX5_adjoint_0 12 rfl rfl)
theorem dX5_adjoint_15 : decode cX5_adjoint 15 = .ok (.ifCond .eq 20, 3) := dk_153 0 20 (dk_at dksX5_adjoint_0 15 rfl rfl)
theorem dX5_adjoint_18 : decode cX5_adjoint 18 = .ok (.aload_n 0, 1) := dk_42 (dk_at dksX5_adjoint_0 18 rfl rfl)
theorem dX5_adjoint_19 : decode cX5_adjoint 19 = .ok (.getfield 13, 3) := dk_180 0 13 (dk_at dksX5_adjoint_0 19 rfl rfl)
theorem dX5_adjoint_22 : decode cX5_adjoint 22 = .ok (.bipush 36, 2) := dk_16 36 (dk_at dksX5_adjoint_0 22 rfl rfl)
theorem dX5_adjoint_24 : decode cX5_adjoint 24 = .ok (.iaload, 1) := dk_46 (dk_at dksX5_adjoint_1 0 rfl rfl)
theorem dX5_adjoint_25 : decode cX5_adjoint 25 = .ok (.aload_n 0, 1) := dk_42 (dk_at dksX5_adjoint_1 1 rfl rfl)
theorem dX5_adjoint_26 : decode cX5_adjoint 26 = .ok (.getfield 13, 3) := dk_180 0 13 (dk_at dksX5_adjoint_1 2 rfl rfl)
theorem dX5_adjoint_29 : decode cX5_adjoint 29 = .ok (.bipush 37, 2) := dk_16 37 (dk_at dksX5_adjoint_1 5 rfl rfl)
theorem dX5_adjoint_31 : decode cX5_adjoint 31 = .ok (.iaload, 1) := dk_46 (dk_at dksX5_adjoint_1 7 rfl rfl)
theorem dX5_adjoint_32 : decode cX5_adjoint 32 = .ok (.if_icmp .eq 6, 3) := dk_159 0 6 (dk_at dksX5_adjoint_1 8 rfl rfl)
theorem dX5_adjoint_35 : decode cX5_adjoint 35 = .ok (.ldc 133, 2) := dk_18 133 (dk_at dksX5_adjoint_1 11 rfl rfl)
theorem dX5_adjoint_37 : decode cX5_adjoint 37 = .ok (.ireturn, 1) := dk_172 (dk_at dksX5_adjoint_1 13 rfl rfl)
theorem dX5_adjoint_38 : decode cX5_adjoint 38 = .ok (.aload_n 0, 1) := dk_42 (dk_at dksX5_adjoint_1 14 rfl rfl)
theorem dX5_adjoint_39 : decode cX5_adjoint 39 = .ok (.aload_n 0, 1) := dk_42 (dk_at dksX5_adjoint_1 15 rfl rfl)
theorem dX5_adjoint_40 : decode cX5_adjoint 40 = .ok (.getfield 13, 3) := dk_180 0 13 (dk_at dksX5_adjoint_1 16 rfl rfl)
theorem dX5_adjoint_43 : decode cX5_adjoint 43 = .ok (.invokevirtual 207, 3) := dk_182 0 207 (dk_at dksX5_adjoint_1 19 rfl rfl)
theorem dX5_adjoint_46 : decode cX5_adjoint 46 = .ok (.iconst 1, 1) := dk_4 (dk_at dksX5_adjoint_1 22 rfl rfl)
theorem dX5_adjoint_47 : decode cX5_adjoint 47 = .ok (.aload_n 0, 1) := dk_42 (dk_at dksX5_adjoint_1 23 rfl rfl)
theorem dX5_adjoint_48 : decode cX5_adjoint 48 = .ok (.getfield 13, 3) := dk_180 0 13 (dk_at dksX5_adjoint_2 0 rfl rfl)
theorem dX5_adjoint_51 : decode cX5_adjoint 51 = .ok (.bipush 36, 2) := dk_16 36 (dk_at dksX5_adjoint_2 3 rfl rfl)
theorem dX5_adjoint_53 : decode cX5_adjoint 53 = .ok (.iaload, 1) := dk_46 (dk_at dksX5_adjoint_2 5 rfl rfl)
theorem dX5_adjoint_54 : decode cX5_adjoint 54 = .ok (.ishl, 1) := dk_120 (dk_at dksX5_adjoint_2 6 rfl rfl)
theorem dX5_adjoint_55 : decode cX5_adjoint 55 = .ok (.iconst 1, 1) := dk_4 (dk_at dksX5_adjoint_2 7 rfl rfl)
theorem dX5_adjoint_56 : decode cX5_adjoint 56 = .ok (.isub, 1) := dk_100 (dk_at dksX5_adjoint_2 8 rfl rfl)
theorem dX5_adjoint_57 : decode cX5_adjoint 57 = .ok (.istore_n 3, 1) := dk_62 (dk_at dksX5_adjoint_2 9 rfl rfl)
theorem dX5_adjoint_58 : decode cX5_adjoint 58 = .ok (.aload_n 0, 1) := dk_42 (dk_at dksX5_adjoint_2 10 rfl rfl)
theorem dX5_adjoint_59 : decode cX5_adjoint 59 = .ok (.getfield 38, 3) := dk_180 0 38 (dk_at dksX5_adjoint_2 11 rfl rfl)
theorem dX5_adjoint_62 : decode cX5_adjoint 62 = .ok (.bipush 64, 2) := dk_16 64 (dk_at dksX5_adjoint_2 14 rfl rfl)
theorem dX5_adjoint_64 : decode cX5_adjoint 64 = .ok (.iload_n 3, 1) := dk_29 (dk_at dksX5_adjoint_2 16 rfl rfl)
theorem dX5_adjoint_65 : decode cX5_adjoint 65 = .ok (.iconst 1, 1) := dk_4 (dk_at dksX5_adjoint_2 17 rfl rfl)
theorem dX5_adjoint_66 : decode cX5_adjoint 66 = .ok (.iload_n 2, 1) := dk_28 (dk_at dksX5_adjoint_2 18 rfl rfl)
theorem dX5_adjoint_67 : decode cX5_adjoint 67 = .ok (.ishl, 1) := dk_120 (dk_at dksX5_adjoint_2 19 rfl rfl)
theorem dX5_adjoint_68 : decode cX5_adjoint 68 = .ok (.iconst (-1), 1) := dk_2 (dk_at dksX5_adjoint_2 20 rfl rfl)
theorem dX5_adjoint_69 : decode cX5_adjoint 69 = .ok (.ixor, 1) := dk_130 (dk_at dksX5_adjoint_2 21 rfl rfl)
theorem dX5_adjoint_70 : decode cX5_adjoint 70 = .ok (.iand, 1) := dk_126 (dk_at dksX5_adjoint_2 22 rfl rfl)
theorem dX5_adjoint_71 : decode cX5_adjoint 71 = .ok (.imul, 1) := dk_104 (dk_at dksX5_adjoint_2 23 rfl rfl)
theorem dX5_adjoint_72 : decode cX5_adjoint 72 = .ok (.iload_n 3, 1) := dk_29 (dk_at dksX5_adjoint_3 0 rfl rfl)
theorem dX5_adjoint_73 : decode cX5_adjoint 73 = .ok (.iconst 1, 1) := dk_4 (dk_at dksX5_adjoint_3 1 rfl rfl)
theorem dX5_adjoint_74 : decode cX5_adjoint 74 = .ok (.iload_n 1, 1) := dk_27 (dk_at dksX5_adjoint_3 2 rfl rfl)
theorem dX5_adjoint_75 : decode cX5_adjoint 75 = .ok (.ishl, 1) := dk_120 (dk_at dksX5_adjoint_3 3 rfl rfl)
theorem dX5_adjoint_76 : decode cX5_adjoint 76 = .ok (.iconst (-1), 1) := dk_2 (dk_at dksX5_adjoint_3 4 rfl rfl)
theorem dX5_adjoint_77 : decode cX5_adjoint 77 = .ok (.ixor, 1) := dk_130 (dk_at dksX5_adjoint_3 5 rfl rfl)
theorem dX5_adjoint_78 : decode cX5_adjoint 78 = .ok (.iand, 1) := dk_126 (dk_at dksX5_adjoint_3 6 rfl rfl)
theorem dX5_adjoint_79 : decode cX5_adjoint 79 = .ok (.iadd, 1) := dk_96 (dk_at dksX5_adjoint_3 7 rfl rfl)
theorem dX5_adjoint_80 : decode cX5_adjoint 80 = .ok (.iaload, 1) := dk_46 (dk_at dksX5_adjoint_3 8 rfl rfl)
theorem dX5_adjoint_81 : decode cX5_adjoint 81 = .ok (.istore 4, 2) := dk_54 4 (dk_at dksX5_adjoint_3 9 rfl rfl)
theorem dX5_adjoint_83 : decode cX5_adjoint 83 = .ok (.iload_n 1, 1) := dk_27 (dk_at dksX5_adjoint_3 11 rfl rfl)
theorem dX5_adjoint_84 : decode cX5_adjoint 84 = .ok (.iload_n 2, 1) := dk_28 (dk_at dksX5_adjoint_3 12 rfl rfl)
theorem dX5_adjoint_85 : decode cX5_adjoint 85 = .ok (.iadd, 1) := dk_96 (dk_at dksX5_adjoint_3 13 rfl rfl)
theorem dX5_adjoint_86 : decode cX5_adjoint 86 = .ok (.iconst 2, 1) := dk_5 (dk_at dksX5_adjoint_3 14 rfl rfl)
theorem dX5_adjoint_87 : decode cX5_adjoint 87 = .ok (.irem, 1) := dk_112 (dk_at dksX5_adjoint_3 15 rfl rfl)
theorem dX5_adjoint_88 : decode cX5_adjoint 88 = .ok (.ifCond .ne 8, 3) := dk_154 0 8 (dk_at dksX5_adjoint_3 16 rfl rfl)
theorem dX5_adjoint_91 : decode cX5_adjoint 91 = .ok (.iload 4, 2) := dk_21 4 (dk_at dksX5_adjoint_3 19 rfl rfl)
theorem dX5_adjoint_93 : decode cX5_adjoint 93 = .ok (.goto 6, 3) := dk_167 0 6 (dk_at dksX5_adjoint_3 21 rfl rfl)
theorem dX5_adjoint_96 : decode cX5_adjoint 96 = .ok (.iload 4, 2) := dk_21 4 (dk_at dksX5_adjoint_4 0 rfl rfl)
theorem dX5_adjoint_98 : decode cX5_adjoint 98 = .ok (.ineg, 1) := dk_116 (dk_at dksX5_adjoint_4 2 rfl rfl)
theorem dX5_adjoint_99 : decode cX5_adjoint 99 = .ok (.ireturn, 1) := dk_172 (dk_at dksX5_adjoint_4 3 rfl rfl)
abbrev cX5_cycle : ByteArray := prog_9_method_88_code
def yX5_cycle : MethodName := ⟨RX5, "cycle", "()I"⟩
def dkwX5_cycle_6 : List UInt8 := [167, 255, 148, 132, 2, 1, 167, 255, 129, 27, 172]
abbrev dktX5_cycle_6 : List UInt8 := dkwX5_cycle_6 ++ []
def dkwX5_cycle_5 : List UInt8 := [29, 96, 46, 4, 96, 27, 162, 0, 15, 42, 180, 0, 56, 16, 6, 29, 96, 46, 4, 96, 60, 132, 3, 1]
abbrev dktX5_cycle_5 : List UInt8 := dkwX5_cycle_5 ++ dktX5_cycle_6
def dkwX5_cycle_4 : List UInt8 := [42, 180, 0, 56, 16, 6, 29, 96, 46, 2, 159, 0, 35, 27, 2, 159, 0, 18, 42, 180, 0, 56, 16, 6]
abbrev dktX5_cycle_4 : List UInt8 := dkwX5_cycle_4 ++ dktX5_cycle_5
def dkwX5_cycle_3 : List UInt8 := [42, 180, 0, 59, 184, 0, 170, 42, 180, 0, 59, 16, 6, 28, 104, 29, 96, 3, 79, 42, 28, 182, 1, 21]
abbrev dktX5_cycle_3 : List UInt8 := dkwX5_cycle_3 ++ dktX5_cycle_4
def dkwX5_cycle_2 : List UInt8 := [180, 0, 13, 16, 6, 28, 104, 29, 96, 46, 54, 4, 21, 4, 154, 0, 6, 167, 0, 76, 42, 180, 0, 13]
abbrev dktX5_cycle_2 : List UInt8 := dkwX5_cycle_2 ++ dktX5_cycle_3
def dkwX5_cycle_1 : List UInt8 := [180, 0, 13, 16, 36, 46, 162, 0, 122, 3, 62, 29, 42, 180, 0, 13, 16, 37, 46, 162, 0, 103, 42]
abbrev dktX5_cycle_1 : List UInt8 := dkwX5_cycle_1 ++ dktX5_cycle_2
def dkwX5_cycle_0 : List UInt8 := [42, 3, 181, 0, 83, 42, 180, 0, 13, 16, 36, 46, 154, 0, 5, 2, 172, 2, 60, 3, 61, 28, 42]
abbrev dktX5_cycle_0 : List UInt8 := dkwX5_cycle_0 ++ dktX5_cycle_1
theorem dksX5_cycle_0 : cX5_cycle.data.toList.drop 0 = dktX5_cycle_0 := by decide +kernel
theorem dksX5_cycle_1 : cX5_cycle.data.toList.drop 23 = dktX5_cycle_1 := dk_seg dksX5_cycle_0 23 rfl rfl
theorem dksX5_cycle_2 : cX5_cycle.data.toList.drop 46 = dktX5_cycle_2 := dk_seg dksX5_cycle_1 23 rfl rfl
theorem dksX5_cycle_3 : cX5_cycle.data.toList.drop 70 = dktX5_cycle_3 := dk_seg dksX5_cycle_2 24 rfl rfl
theorem dksX5_cycle_4 : cX5_cycle.data.toList.drop 94 = dktX5_cycle_4 := dk_seg dksX5_cycle_3 24 rfl rfl
theorem dksX5_cycle_5 : cX5_cycle.data.toList.drop 118 = dktX5_cycle_5 := dk_seg dksX5_cycle_4 24 rfl rfl
theorem dksX5_cycle_6 : cX5_cycle.data.toList.drop 142 = dktX5_cycle_6 := dk_seg dksX5_cycle_5 24 rfl rfl
theorem dX5_cycle_0 : decode cX5_cycle 0 = .ok (.aload_n 0, 1) := dk_42 (dk_at dksX5_cycle_0 0 rfl rfl)
theorem dX5_cycle_1 : decode cX5_cycle 1 = .ok (.iconst 0, 1) := dk_3 (dk_at dksX5_cycle_0 1 rfl rfl)
theorem dX5_cycle_2 : decode cX5_cycle 2 = .ok (.putfield 83, 3) := dk_181 0 83 (dk_at dksX5_cycle_0 2 rfl rfl)
theorem dX5_cycle_5 : decode cX5_cycle 5 = .ok (.aload_n 0, 1) := dk_42 (dk_at dksX5_cycle_0 5 rfl rfl)
theorem dX5_cycle_6 : decode cX5_cycle 6 = .ok (.getfield 13, 3) := dk_180 0 13 (dk_at dksX5_cycle_0 6 rfl rfl)
theorem dX5_cycle_9 : decode cX5_cycle 9 = .ok (.bipush 36, 2) := dk_16 36 (dk_at dksX5_cycle_0 9 rfl rfl)
theorem dX5_cycle_11 : decode cX5_cycle 11 = .ok (.iaload, 1) := dk_46 (dk_at dksX5_cycle_0 11 rfl rfl)
theorem dX5_cycle_12 : decode cX5_cycle 12 = .ok (.ifCond .ne 5, 3) := dk_154 0 5 (dk_at dksX5_cycle_0 12 rfl rfl)
theorem dX5_cycle_15 : decode cX5_cycle 15 = .ok (.iconst (-1), 1) := dk_2 (dk_at dksX5_cycle_0 15 rfl rfl)
theorem dX5_cycle_16 : decode cX5_cycle 16 = .ok (.ireturn, 1) := dk_172 (dk_at dksX5_cycle_0 16 rfl rfl)
theorem dX5_cycle_17 : decode cX5_cycle 17 = .ok (.iconst (-1), 1) := dk_2 (dk_at dksX5_cycle_0 17 rfl rfl)
theorem dX5_cycle_18 : decode cX5_cycle 18 = .ok (.istore_n 1, 1) := dk_60 (dk_at dksX5_cycle_0 18 rfl rfl)
theorem dX5_cycle_19 : decode cX5_cycle 19 = .ok (.iconst 0, 1) := dk_3 (dk_at dksX5_cycle_0 19 rfl rfl)
theorem dX5_cycle_20 : decode cX5_cycle 20 = .ok (.istore_n 2, 1) := dk_61 (dk_at dksX5_cycle_0 20 rfl rfl)
theorem dX5_cycle_21 : decode cX5_cycle 21 = .ok (.iload_n 2, 1) := dk_28 (dk_at dksX5_cycle_0 21 rfl rfl)
theorem dX5_cycle_22 : decode cX5_cycle 22 = .ok (.aload_n 0, 1) := dk_42 (dk_at dksX5_cycle_0 22 rfl rfl)
theorem dX5_cycle_23 : decode cX5_cycle 23 = .ok (.getfield 13, 3) := dk_180 0 13 (dk_at dksX5_cycle_1 0 rfl rfl)
theorem dX5_cycle_26 : decode cX5_cycle 26 = .ok (.bipush 36, 2) := dk_16 36 (dk_at dksX5_cycle_1 3 rfl rfl)
theorem dX5_cycle_28 : decode cX5_cycle 28 = .ok (.iaload, 1) := dk_46 (dk_at dksX5_cycle_1 5 rfl rfl)
theorem dX5_cycle_29 : decode cX5_cycle 29 = .ok (.if_icmp .ge 122, 3) := dk_162 0 122 (dk_at dksX5_cycle_1 6 rfl rfl)
theorem dX5_cycle_32 : decode cX5_cycle 32 = .ok (.iconst 0, 1) := dk_3 (dk_at dksX5_cycle_1 9 rfl rfl)
theorem dX5_cycle_33 : decode cX5_cycle 33 = .ok (.istore_n 3, 1) := dk_62 (dk_at dksX5_cycle_1 10 rfl rfl)
theorem dX5_cycle_34 : decode cX5_cycle 34 = .ok (.iload_n 3, 1) := dk_29 (dk_at dksX5_cycle_1 11 rfl rfl)
theorem dX5_cycle_35 : decode cX5_cycle 35 = .ok (.aload_n 0, 1) := dk_42 (dk_at dksX5_cycle_1 12 rfl rfl)
theorem dX5_cycle_36 : decode cX5_cycle 36 = .ok (.getfield 13, 3) := dk_180 0 13 (dk_at dksX5_cycle_1 13 rfl rfl)
theorem dX5_cycle_39 : decode cX5_cycle 39 = .ok (.bipush 37, 2) := dk_16 37 (dk_at dksX5_cycle_1 16 rfl rfl)
theorem dX5_cycle_41 : decode cX5_cycle 41 = .ok (.iaload, 1) := dk_46 (dk_at dksX5_cycle_1 18 rfl rfl)
theorem dX5_cycle_42 : decode cX5_cycle 42 = .ok (.if_icmp .ge 103, 3) := dk_162 0 103 (dk_at dksX5_cycle_1 19 rfl rfl)
theorem dX5_cycle_45 : decode cX5_cycle 45 = .ok (.aload_n 0, 1) := dk_42 (dk_at dksX5_cycle_1 22 rfl rfl)
theorem dX5_cycle_46 : decode cX5_cycle 46 = .ok (.getfield 13, 3) := dk_180 0 13 (dk_at dksX5_cycle_2 0 rfl rfl)
theorem dX5_cycle_49 : decode cX5_cycle 49 = .ok (.bipush 6, 2) := dk_16 6 (dk_at dksX5_cycle_2 3 rfl rfl)
theorem dX5_cycle_51 : decode cX5_cycle 51 = .ok (.iload_n 2, 1) := dk_28 (dk_at dksX5_cycle_2 5 rfl rfl)
theorem dX5_cycle_52 : decode cX5_cycle 52 = .ok (.imul, 1) := dk_104 (dk_at dksX5_cycle_2 6 rfl rfl)
theorem dX5_cycle_53 : decode cX5_cycle 53 = .ok (.iload_n 3, 1) := dk_29 (dk_at dksX5_cycle_2 7 rfl rfl)
theorem dX5_cycle_54 : decode cX5_cycle 54 = .ok (.iadd, 1) := dk_96 (dk_at dksX5_cycle_2 8 rfl rfl)
theorem dX5_cycle_55 : decode cX5_cycle 55 = .ok (.iaload, 1) := dk_46 (dk_at dksX5_cycle_2 9 rfl rfl)
theorem dX5_cycle_56 : decode cX5_cycle 56 = .ok (.istore 4, 2) := dk_54 4 (dk_at dksX5_cycle_2 10 rfl rfl)
theorem dX5_cycle_58 : decode cX5_cycle 58 = .ok (.iload 4, 2) := dk_21 4 (dk_at dksX5_cycle_2 12 rfl rfl)
theorem dX5_cycle_60 : decode cX5_cycle 60 = .ok (.ifCond .ne 6, 3) := dk_154 0 6 (dk_at dksX5_cycle_2 14 rfl rfl)
theorem dX5_cycle_63 : decode cX5_cycle 63 = .ok (.goto 76, 3) := dk_167 0 76 (dk_at dksX5_cycle_2 17 rfl rfl)
theorem dX5_cycle_66 : decode cX5_cycle 66 = .ok (.aload_n 0, 1) := dk_42 (dk_at dksX5_cycle_2 20 rfl rfl)
theorem dX5_cycle_67 : decode cX5_cycle 67 = .ok (.getfield 13, 3) := dk_180 0 13 (dk_at dksX5_cycle_2 21 rfl rfl)
theorem dX5_cycle_70 : decode cX5_cycle 70 = .ok (.aload_n 0, 1) := dk_42 (dk_at dksX5_cycle_3 0 rfl rfl)
theorem dX5_cycle_71 : decode cX5_cycle 71 = .ok (.getfield 59, 3) := dk_180 0 59 (dk_at dksX5_cycle_3 1 rfl rfl)
theorem dX5_cycle_74 : decode cX5_cycle 74 = .ok (.invokestatic 170, 3) := dk_184 0 170 (dk_at dksX5_cycle_3 4 rfl rfl)
theorem dX5_cycle_77 : decode cX5_cycle 77 = .ok (.aload_n 0, 1) := dk_42 (dk_at dksX5_cycle_3 7 rfl rfl)
theorem dX5_cycle_78 : decode cX5_cycle 78 = .ok (.getfield 59, 3) := dk_180 0 59 (dk_at dksX5_cycle_3 8 rfl rfl)
theorem dX5_cycle_81 : decode cX5_cycle 81 = .ok (.bipush 6, 2) := dk_16 6 (dk_at dksX5_cycle_3 11 rfl rfl)
theorem dX5_cycle_83 : decode cX5_cycle 83 = .ok (.iload_n 2, 1) := dk_28 (dk_at dksX5_cycle_3 13 rfl rfl)
theorem dX5_cycle_84 : decode cX5_cycle 84 = .ok (.imul, 1) := dk_104 (dk_at dksX5_cycle_3 14 rfl rfl)
theorem dX5_cycle_85 : decode cX5_cycle 85 = .ok (.iload_n 3, 1) := dk_29 (dk_at dksX5_cycle_3 15 rfl rfl)
theorem dX5_cycle_86 : decode cX5_cycle 86 = .ok (.iadd, 1) := dk_96 (dk_at dksX5_cycle_3 16 rfl rfl)
theorem dX5_cycle_87 : decode cX5_cycle 87 = .ok (.iconst 0, 1) := dk_3 (dk_at dksX5_cycle_3 17 rfl rfl)
theorem dX5_cycle_88 : decode cX5_cycle 88 = .ok (.iastore, 1) := dk_79 (dk_at dksX5_cycle_3 18 rfl rfl)
theorem dX5_cycle_89 : decode cX5_cycle 89 = .ok (.aload_n 0, 1) := dk_42 (dk_at dksX5_cycle_3 19 rfl rfl)
theorem dX5_cycle_90 : decode cX5_cycle 90 = .ok (.iload_n 2, 1) := dk_28 (dk_at dksX5_cycle_3 20 rfl rfl)
theorem dX5_cycle_91 : decode cX5_cycle 91 = .ok (.invokevirtual 277, 3) := dk_182 1 21 (dk_at dksX5_cycle_3 21 rfl rfl)
theorem dX5_cycle_94 : decode cX5_cycle 94 = .ok (.aload_n 0, 1) := dk_42 (dk_at dksX5_cycle_4 0 rfl rfl)
theorem dX5_cycle_95 : decode cX5_cycle 95 = .ok (.getfield 56, 3) := dk_180 0 56 (dk_at dksX5_cycle_4 1 rfl rfl)
theorem dX5_cycle_98 : decode cX5_cycle 98 = .ok (.bipush 6, 2) := dk_16 6 (dk_at dksX5_cycle_4 4 rfl rfl)
theorem dX5_cycle_100 : decode cX5_cycle 100 = .ok (.iload_n 3, 1) := dk_29 (dk_at dksX5_cycle_4 6 rfl rfl)
theorem dX5_cycle_101 : decode cX5_cycle 101 = .ok (.iadd, 1) := dk_96 (dk_at dksX5_cycle_4 7 rfl rfl)
theorem dX5_cycle_102 : decode cX5_cycle 102 = .ok (.iaload, 1) := dk_46 (dk_at dksX5_cycle_4 8 rfl rfl)
theorem dX5_cycle_103 : decode cX5_cycle 103 = .ok (.iconst (-1), 1) := dk_2 (dk_at dksX5_cycle_4 9 rfl rfl)
theorem dX5_cycle_104 : decode cX5_cycle 104 = .ok (.if_icmp .eq 35, 3) := dk_159 0 35 (dk_at dksX5_cycle_4 10 rfl rfl)
theorem dX5_cycle_107 : decode cX5_cycle 107 = .ok (.iload_n 1, 1) := dk_27 (dk_at dksX5_cycle_4 13 rfl rfl)
theorem dX5_cycle_108 : decode cX5_cycle 108 = .ok (.iconst (-1), 1) := dk_2 (dk_at dksX5_cycle_4 14 rfl rfl)
theorem dX5_cycle_109 : decode cX5_cycle 109 = .ok (.if_icmp .eq 18, 3) := dk_159 0 18 (dk_at dksX5_cycle_4 15 rfl rfl)
theorem dX5_cycle_112 : decode cX5_cycle 112 = .ok (.aload_n 0, 1) := dk_42 (dk_at dksX5_cycle_4 18 rfl rfl)
theorem dX5_cycle_113 : decode cX5_cycle 113 = .ok (.getfield 56, 3) := dk_180 0 56 (dk_at dksX5_cycle_4 19 rfl rfl)
theorem dX5_cycle_116 : decode cX5_cycle 116 = .ok (.bipush 6, 2) := dk_16 6 (dk_at dksX5_cycle_4 22 rfl rfl)
theorem dX5_cycle_118 : decode cX5_cycle 118 = .ok (.iload_n 3, 1) := dk_29 (dk_at dksX5_cycle_5 0 rfl rfl)
theorem dX5_cycle_119 : decode cX5_cycle 119 = .ok (.iadd, 1) := dk_96 (dk_at dksX5_cycle_5 1 rfl rfl)
theorem dX5_cycle_120 : decode cX5_cycle 120 = .ok (.iaload, 1) := dk_46 (dk_at dksX5_cycle_5 2 rfl rfl)
theorem dX5_cycle_121 : decode cX5_cycle 121 = .ok (.iconst 1, 1) := dk_4 (dk_at dksX5_cycle_5 3 rfl rfl)
theorem dX5_cycle_122 : decode cX5_cycle 122 = .ok (.iadd, 1) := dk_96 (dk_at dksX5_cycle_5 4 rfl rfl)
theorem dX5_cycle_123 : decode cX5_cycle 123 = .ok (.iload_n 1, 1) := dk_27 (dk_at dksX5_cycle_5 5 rfl rfl)
theorem dX5_cycle_124 : decode cX5_cycle 124 = .ok (.if_icmp .ge 15, 3) := dk_162 0 15 (dk_at dksX5_cycle_5 6 rfl rfl)
theorem dX5_cycle_127 : decode cX5_cycle 127 = .ok (.aload_n 0, 1) := dk_42 (dk_at dksX5_cycle_5 9 rfl rfl)
theorem dX5_cycle_128 : decode cX5_cycle 128 = .ok (.getfield 56, 3) := dk_180 0 56 (dk_at dksX5_cycle_5 10 rfl rfl)
theorem dX5_cycle_131 : decode cX5_cycle 131 = .ok (.bipush 6, 2) := dk_16 6 (dk_at dksX5_cycle_5 13 rfl rfl)
theorem dX5_cycle_133 : decode cX5_cycle 133 = .ok (.iload_n 3, 1) := dk_29 (dk_at dksX5_cycle_5 15 rfl rfl)
theorem dX5_cycle_134 : decode cX5_cycle 134 = .ok (.iadd, 1) := dk_96 (dk_at dksX5_cycle_5 16 rfl rfl)
theorem dX5_cycle_135 : decode cX5_cycle 135 = .ok (.iaload, 1) := dk_46 (dk_at dksX5_cycle_5 17 rfl rfl)
theorem dX5_cycle_136 : decode cX5_cycle 136 = .ok (.iconst 1, 1) := dk_4 (dk_at dksX5_cycle_5 18 rfl rfl)
theorem dX5_cycle_137 : decode cX5_cycle 137 = .ok (.iadd, 1) := dk_96 (dk_at dksX5_cycle_5 19 rfl rfl)
theorem dX5_cycle_138 : decode cX5_cycle 138 = .ok (.istore_n 1, 1) := dk_60 (dk_at dksX5_cycle_5 20 rfl rfl)
theorem dX5_cycle_139 : decode cX5_cycle 139 = .ok (.iinc 3 1, 3) := dk_132 3 1 (dk_at dksX5_cycle_5 21 rfl rfl)
theorem dX5_cycle_142 : decode cX5_cycle 142 = .ok (.goto (-108), 3) := dk_167 255 148 (dk_at dksX5_cycle_6 0 rfl rfl)
theorem dX5_cycle_145 : decode cX5_cycle 145 = .ok (.iinc 2 1, 3) := dk_132 2 1 (dk_at dksX5_cycle_6 3 rfl rfl)
theorem dX5_cycle_148 : decode cX5_cycle 148 = .ok (.goto (-127), 3) := dk_167 255 129 (dk_at dksX5_cycle_6 6 rfl rfl)
theorem dX5_cycle_151 : decode cX5_cycle 151 = .ok (.iload_n 1, 1) := dk_27 (dk_at dksX5_cycle_6 9 rfl rfl)
theorem dX5_cycle_152 : decode cX5_cycle 152 = .ok (.ireturn, 1) := dk_172 (dk_at dksX5_cycle_6 10 rfl rfl)
abbrev cX5_step : ByteArray := prog_9_method_90_code
def yX5_step : MethodName := ⟨RX5, "step", "(III)I"⟩
def dkwX5_step_2 : List UInt8 := [16, 12, 27, 104, 28, 96, 104, 29, 96, 46, 167, 0, 5, 18, 133, 172]
abbrev dktX5_step_2 : List UInt8 := dkwX5_step_2 ++ []
def dkwX5_step_1 : List UInt8 := [133, 184, 0, 140, 153, 0, 33, 29, 133, 9, 20, 0, 231, 184, 0, 140, 153, 0, 21, 42, 180, 0, 26, 7]
abbrev dktX5_step_1 : List UInt8 := dkwX5_step_1 ++ dktX5_step_2
def dkwX5_step_0 : List UInt8 := [42, 3, 181, 0, 83, 42, 27, 182, 1, 69, 153, 0, 51, 28, 133, 9, 42, 180, 0, 29, 27, 46, 4, 100]
abbrev dktX5_step_0 : List UInt8 := dkwX5_step_0 ++ dktX5_step_1
theorem dksX5_step_0 : cX5_step.data.toList.drop 0 = dktX5_step_0 := by decide +kernel
theorem dksX5_step_1 : cX5_step.data.toList.drop 24 = dktX5_step_1 := dk_seg dksX5_step_0 24 rfl rfl
theorem dksX5_step_2 : cX5_step.data.toList.drop 48 = dktX5_step_2 := dk_seg dksX5_step_1 24 rfl rfl
theorem dX5_step_0 : decode cX5_step 0 = .ok (.aload_n 0, 1) := dk_42 (dk_at dksX5_step_0 0 rfl rfl)
theorem dX5_step_1 : decode cX5_step 1 = .ok (.iconst 0, 1) := dk_3 (dk_at dksX5_step_0 1 rfl rfl)
theorem dX5_step_2 : decode cX5_step 2 = .ok (.putfield 83, 3) := dk_181 0 83 (dk_at dksX5_step_0 2 rfl rfl)
theorem dX5_step_5 : decode cX5_step 5 = .ok (.aload_n 0, 1) := dk_42 (dk_at dksX5_step_0 5 rfl rfl)
theorem dX5_step_6 : decode cX5_step 6 = .ok (.iload_n 1, 1) := dk_27 (dk_at dksX5_step_0 6 rfl rfl)
theorem dX5_step_7 : decode cX5_step 7 = .ok (.invokevirtual 325, 3) := dk_182 1 69 (dk_at dksX5_step_0 7 rfl rfl)
theorem dX5_step_10 : decode cX5_step 10 = .ok (.ifCond .eq 51, 3) := dk_153 0 51 (dk_at dksX5_step_0 10 rfl rfl)
theorem dX5_step_13 : decode cX5_step 13 = .ok (.iload_n 2, 1) := dk_28 (dk_at dksX5_step_0 13 rfl rfl)
theorem dX5_step_14 : decode cX5_step 14 = .ok (.i2l, 1) := dk_133 (dk_at dksX5_step_0 14 rfl rfl)
theorem dX5_step_15 : decode cX5_step 15 = .ok (.lconst 0, 1) := dk_9 (dk_at dksX5_step_0 15 rfl rfl)
theorem dX5_step_16 : decode cX5_step 16 = .ok (.aload_n 0, 1) := dk_42 (dk_at dksX5_step_0 16 rfl rfl)
theorem dX5_step_17 : decode cX5_step 17 = .ok (.getfield 29, 3) := dk_180 0 29 (dk_at dksX5_step_0 17 rfl rfl)
theorem dX5_step_20 : decode cX5_step 20 = .ok (.iload_n 1, 1) := dk_27 (dk_at dksX5_step_0 20 rfl rfl)
theorem dX5_step_21 : decode cX5_step 21 = .ok (.iaload, 1) := dk_46 (dk_at dksX5_step_0 21 rfl rfl)
theorem dX5_step_22 : decode cX5_step 22 = .ok (.iconst 1, 1) := dk_4 (dk_at dksX5_step_0 22 rfl rfl)
theorem dX5_step_23 : decode cX5_step 23 = .ok (.isub, 1) := dk_100 (dk_at dksX5_step_0 23 rfl rfl)
theorem dX5_step_24 : decode cX5_step 24 = .ok (.i2l, 1) := dk_133 (dk_at dksX5_step_1 0 rfl rfl)
theorem dX5_step_25 : decode cX5_step 25 = .ok (.invokestatic 140, 3) := dk_184 0 140 (dk_at dksX5_step_1 1 rfl rfl)
theorem dX5_step_28 : decode cX5_step 28 = .ok (.ifCond .eq 33, 3) := dk_153 0 33 (dk_at dksX5_step_1 4 rfl rfl)
theorem dX5_step_31 : decode cX5_step 31 = .ok (.iload_n 3, 1) := dk_29 (dk_at dksX5_step_1 7 rfl rfl)
theorem dX5_step_32 : decode cX5_step 32 = .ok (.i2l, 1) := dk_133 (dk_at dksX5_step_1 8 rfl rfl)
theorem dX5_step_33 : decode cX5_step 33 = .ok (.lconst 0, 1) := dk_9 (dk_at dksX5_step_1 9 rfl rfl)
theorem dX5_step_34 : decode cX5_step 34 = .ok (.ldc2_w 231, 3) := dk_20 0 231 (dk_at dksX5_step_1 10 rfl rfl)
theorem dX5_step_37 : decode cX5_step 37 = .ok (.invokestatic 140, 3) := dk_184 0 140 (dk_at dksX5_step_1 13 rfl rfl)
theorem dX5_step_40 : decode cX5_step 40 = .ok (.ifCond .eq 21, 3) := dk_153 0 21 (dk_at dksX5_step_1 16 rfl rfl)
theorem dX5_step_43 : decode cX5_step 43 = .ok (.aload_n 0, 1) := dk_42 (dk_at dksX5_step_1 19 rfl rfl)
theorem dX5_step_44 : decode cX5_step 44 = .ok (.getfield 26, 3) := dk_180 0 26 (dk_at dksX5_step_1 20 rfl rfl)
theorem dX5_step_47 : decode cX5_step 47 = .ok (.iconst 4, 1) := dk_7 (dk_at dksX5_step_1 23 rfl rfl)
theorem dX5_step_48 : decode cX5_step 48 = .ok (.bipush 12, 2) := dk_16 12 (dk_at dksX5_step_2 0 rfl rfl)
theorem dX5_step_50 : decode cX5_step 50 = .ok (.iload_n 1, 1) := dk_27 (dk_at dksX5_step_2 2 rfl rfl)
theorem dX5_step_51 : decode cX5_step 51 = .ok (.imul, 1) := dk_104 (dk_at dksX5_step_2 3 rfl rfl)
theorem dX5_step_52 : decode cX5_step 52 = .ok (.iload_n 2, 1) := dk_28 (dk_at dksX5_step_2 4 rfl rfl)
theorem dX5_step_53 : decode cX5_step 53 = .ok (.iadd, 1) := dk_96 (dk_at dksX5_step_2 5 rfl rfl)
theorem dX5_step_54 : decode cX5_step 54 = .ok (.imul, 1) := dk_104 (dk_at dksX5_step_2 6 rfl rfl)
theorem dX5_step_55 : decode cX5_step 55 = .ok (.iload_n 3, 1) := dk_29 (dk_at dksX5_step_2 7 rfl rfl)
theorem dX5_step_56 : decode cX5_step 56 = .ok (.iadd, 1) := dk_96 (dk_at dksX5_step_2 8 rfl rfl)
theorem dX5_step_57 : decode cX5_step 57 = .ok (.iaload, 1) := dk_46 (dk_at dksX5_step_2 9 rfl rfl)
theorem dX5_step_58 : decode cX5_step 58 = .ok (.goto 5, 3) := dk_167 0 5 (dk_at dksX5_step_2 10 rfl rfl)
theorem dX5_step_61 : decode cX5_step 61 = .ok (.ldc 133, 2) := dk_18 133 (dk_at dksX5_step_2 13 rfl rfl)
theorem dX5_step_63 : decode cX5_step 63 = .ok (.ireturn, 1) := dk_172 (dk_at dksX5_step_2 15 rfl rfl)
abbrev cX5_isPlan : ByteArray := prog_9_method_89_code
def yX5_isPlan : MethodName := ⟨RX5, "isPlan", "(I)Z"⟩
def dkwX5_isPlan_0 : List UInt8 := [27, 155, 0, 15, 27, 42, 180, 0, 150, 162, 0, 7, 4, 167, 0, 4, 3, 172]
abbrev dktX5_isPlan_0 : List UInt8 := dkwX5_isPlan_0 ++ []
theorem dksX5_isPlan_0 : cX5_isPlan.data.toList.drop 0 = dktX5_isPlan_0 := by decide +kernel
theorem dX5_isPlan_0 : decode cX5_isPlan 0 = .ok (.iload_n 1, 1) := dk_27 (dk_at dksX5_isPlan_0 0 rfl rfl)
theorem dX5_isPlan_1 : decode cX5_isPlan 1 = .ok (.ifCond .lt 15, 3) := dk_155 0 15 (dk_at dksX5_isPlan_0 1 rfl rfl)
theorem dX5_isPlan_4 : decode cX5_isPlan 4 = .ok (.iload_n 1, 1) := dk_27 (dk_at dksX5_isPlan_0 4 rfl rfl)
theorem dX5_isPlan_5 : decode cX5_isPlan 5 = .ok (.aload_n 0, 1) := dk_42 (dk_at dksX5_isPlan_0 5 rfl rfl)
theorem dX5_isPlan_6 : decode cX5_isPlan 6 = .ok (.getfield 150, 3) := dk_180 0 150 (dk_at dksX5_isPlan_0 6 rfl rfl)
theorem dX5_isPlan_9 : decode cX5_isPlan 9 = .ok (.if_icmp .ge 7, 3) := dk_162 0 7 (dk_at dksX5_isPlan_0 9 rfl rfl)
theorem dX5_isPlan_12 : decode cX5_isPlan 12 = .ok (.iconst 1, 1) := dk_4 (dk_at dksX5_isPlan_0 12 rfl rfl)
theorem dX5_isPlan_13 : decode cX5_isPlan 13 = .ok (.goto 4, 3) := dk_167 0 4 (dk_at dksX5_isPlan_0 13 rfl rfl)
theorem dX5_isPlan_16 : decode cX5_isPlan 16 = .ok (.iconst 0, 1) := dk_3 (dk_at dksX5_isPlan_0 16 rfl rfl)
theorem dX5_isPlan_17 : decode cX5_isPlan 17 = .ok (.ireturn, 1) := dk_172 (dk_at dksX5_isPlan_0 17 rfl rfl)
abbrev cX5_run : ByteArray := prog_9_method_93_code
def yX5_run : MethodName := ⟨RX5, "run", "(II)I"⟩
def dkwX5_run_5 : List UInt8 := [167, 0, 4, 3, 172, 29, 42, 180, 0, 29, 27, 46, 160, 0, 7, 2, 167, 0, 4, 29, 172]
abbrev dktX5_run_5 : List UInt8 := dkwX5_run_5 ++ []
def dkwX5_run_4 : List UInt8 := [132, 3, 1, 167, 255, 208, 28, 4, 160, 0, 20, 42, 42, 180, 0, 77, 182, 0, 227, 153, 0, 7, 4]
abbrev dktX5_run_4 : List UInt8 := dkwX5_run_4 ++ dktX5_run_5
def dkwX5_run_3 : List UInt8 := [182, 1, 72, 153, 0, 25, 42, 42, 180, 0, 77, 7, 16, 12, 27, 104, 29, 96, 104, 182, 1, 76]
abbrev dktX5_run_3 : List UInt8 := dkwX5_run_3 ++ dktX5_run_4
def dkwX5_run_2 : List UInt8 := [62, 29, 42, 180, 0, 29, 27, 46, 162, 0, 44, 42, 42, 180, 0, 77, 7, 16, 12, 27, 104, 29, 96, 104]
abbrev dktX5_run_2 : List UInt8 := dkwX5_run_2 ++ dktX5_run_3
def dkwX5_run_1 : List UInt8 := [133, 9, 10, 184, 0, 140, 154, 0, 6, 18, 133, 172, 42, 180, 0, 13, 42, 180, 0, 77, 184, 0, 170, 3]
abbrev dktX5_run_1 : List UInt8 := dkwX5_run_1 ++ dktX5_run_2
def dkwX5_run_0 : List UInt8 := [42, 3, 181, 0, 83, 42, 180, 0, 13, 16, 36, 46, 153, 0, 21, 42, 27, 182, 1, 69, 153, 0, 13, 28]
abbrev dktX5_run_0 : List UInt8 := dkwX5_run_0 ++ dktX5_run_1
theorem dksX5_run_0 : cX5_run.data.toList.drop 0 = dktX5_run_0 := by decide +kernel
theorem dksX5_run_1 : cX5_run.data.toList.drop 24 = dktX5_run_1 := dk_seg dksX5_run_0 24 rfl rfl
theorem dksX5_run_2 : cX5_run.data.toList.drop 48 = dktX5_run_2 := dk_seg dksX5_run_1 24 rfl rfl
theorem dksX5_run_3 : cX5_run.data.toList.drop 72 = dktX5_run_3 := dk_seg dksX5_run_2 24 rfl rfl
theorem dksX5_run_4 : cX5_run.data.toList.drop 94 = dktX5_run_4 := dk_seg dksX5_run_3 22 rfl rfl
theorem dksX5_run_5 : cX5_run.data.toList.drop 117 = dktX5_run_5 := dk_seg dksX5_run_4 23 rfl rfl
theorem dX5_run_0 : decode cX5_run 0 = .ok (.aload_n 0, 1) := dk_42 (dk_at dksX5_run_0 0 rfl rfl)
theorem dX5_run_1 : decode cX5_run 1 = .ok (.iconst 0, 1) := dk_3 (dk_at dksX5_run_0 1 rfl rfl)
theorem dX5_run_2 : decode cX5_run 2 = .ok (.putfield 83, 3) := dk_181 0 83 (dk_at dksX5_run_0 2 rfl rfl)
theorem dX5_run_5 : decode cX5_run 5 = .ok (.aload_n 0, 1) := dk_42 (dk_at dksX5_run_0 5 rfl rfl)
theorem dX5_run_6 : decode cX5_run 6 = .ok (.getfield 13, 3) := dk_180 0 13 (dk_at dksX5_run_0 6 rfl rfl)
theorem dX5_run_9 : decode cX5_run 9 = .ok (.bipush 36, 2) := dk_16 36 (dk_at dksX5_run_0 9 rfl rfl)
theorem dX5_run_11 : decode cX5_run 11 = .ok (.iaload, 1) := dk_46 (dk_at dksX5_run_0 11 rfl rfl)
theorem dX5_run_12 : decode cX5_run 12 = .ok (.ifCond .eq 21, 3) := dk_153 0 21 (dk_at dksX5_run_0 12 rfl rfl)
theorem dX5_run_15 : decode cX5_run 15 = .ok (.aload_n 0, 1) := dk_42 (dk_at dksX5_run_0 15 rfl rfl)
theorem dX5_run_16 : decode cX5_run 16 = .ok (.iload_n 1, 1) := dk_27 (dk_at dksX5_run_0 16 rfl rfl)
theorem dX5_run_17 : decode cX5_run 17 = .ok (.invokevirtual 325, 3) := dk_182 1 69 (dk_at dksX5_run_0 17 rfl rfl)
theorem dX5_run_20 : decode cX5_run 20 = .ok (.ifCond .eq 13, 3) := dk_153 0 13 (dk_at dksX5_run_0 20 rfl rfl)
theorem dX5_run_23 : decode cX5_run 23 = .ok (.iload_n 2, 1) := dk_28 (dk_at dksX5_run_0 23 rfl rfl)
theorem dX5_run_24 : decode cX5_run 24 = .ok (.i2l, 1) := dk_133 (dk_at dksX5_run_1 0 rfl rfl)
theorem dX5_run_25 : decode cX5_run 25 = .ok (.lconst 0, 1) := dk_9 (dk_at dksX5_run_1 1 rfl rfl)
theorem dX5_run_26 : decode cX5_run 26 = .ok (.lconst 1, 1) := dk_10 (dk_at dksX5_run_1 2 rfl rfl)
theorem dX5_run_27 : decode cX5_run 27 = .ok (.invokestatic 140, 3) := dk_184 0 140 (dk_at dksX5_run_1 3 rfl rfl)
theorem dX5_run_30 : decode cX5_run 30 = .ok (.ifCond .ne 6, 3) := dk_154 0 6 (dk_at dksX5_run_1 6 rfl rfl)
theorem dX5_run_33 : decode cX5_run 33 = .ok (.ldc 133, 2) := dk_18 133 (dk_at dksX5_run_1 9 rfl rfl)
theorem dX5_run_35 : decode cX5_run 35 = .ok (.ireturn, 1) := dk_172 (dk_at dksX5_run_1 11 rfl rfl)
theorem dX5_run_36 : decode cX5_run 36 = .ok (.aload_n 0, 1) := dk_42 (dk_at dksX5_run_1 12 rfl rfl)
theorem dX5_run_37 : decode cX5_run 37 = .ok (.getfield 13, 3) := dk_180 0 13 (dk_at dksX5_run_1 13 rfl rfl)
theorem dX5_run_40 : decode cX5_run 40 = .ok (.aload_n 0, 1) := dk_42 (dk_at dksX5_run_1 16 rfl rfl)
theorem dX5_run_41 : decode cX5_run 41 = .ok (.getfield 77, 3) := dk_180 0 77 (dk_at dksX5_run_1 17 rfl rfl)
theorem dX5_run_44 : decode cX5_run 44 = .ok (.invokestatic 170, 3) := dk_184 0 170 (dk_at dksX5_run_1 20 rfl rfl)
theorem dX5_run_47 : decode cX5_run 47 = .ok (.iconst 0, 1) := dk_3 (dk_at dksX5_run_1 23 rfl rfl)
theorem dX5_run_48 : decode cX5_run 48 = .ok (.istore_n 3, 1) := dk_62 (dk_at dksX5_run_2 0 rfl rfl)
theorem dX5_run_49 : decode cX5_run 49 = .ok (.iload_n 3, 1) := dk_29 (dk_at dksX5_run_2 1 rfl rfl)
theorem dX5_run_50 : decode cX5_run 50 = .ok (.aload_n 0, 1) := dk_42 (dk_at dksX5_run_2 2 rfl rfl)
theorem dX5_run_51 : decode cX5_run 51 = .ok (.getfield 29, 3) := dk_180 0 29 (dk_at dksX5_run_2 3 rfl rfl)
theorem dX5_run_54 : decode cX5_run 54 = .ok (.iload_n 1, 1) := dk_27 (dk_at dksX5_run_2 6 rfl rfl)
theorem dX5_run_55 : decode cX5_run 55 = .ok (.iaload, 1) := dk_46 (dk_at dksX5_run_2 7 rfl rfl)
theorem dX5_run_56 : decode cX5_run 56 = .ok (.if_icmp .ge 44, 3) := dk_162 0 44 (dk_at dksX5_run_2 8 rfl rfl)
theorem dX5_run_59 : decode cX5_run 59 = .ok (.aload_n 0, 1) := dk_42 (dk_at dksX5_run_2 11 rfl rfl)
theorem dX5_run_60 : decode cX5_run 60 = .ok (.aload_n 0, 1) := dk_42 (dk_at dksX5_run_2 12 rfl rfl)
theorem dX5_run_61 : decode cX5_run 61 = .ok (.getfield 77, 3) := dk_180 0 77 (dk_at dksX5_run_2 13 rfl rfl)
theorem dX5_run_64 : decode cX5_run 64 = .ok (.iconst 4, 1) := dk_7 (dk_at dksX5_run_2 16 rfl rfl)
theorem dX5_run_65 : decode cX5_run 65 = .ok (.bipush 12, 2) := dk_16 12 (dk_at dksX5_run_2 17 rfl rfl)
theorem dX5_run_67 : decode cX5_run 67 = .ok (.iload_n 1, 1) := dk_27 (dk_at dksX5_run_2 19 rfl rfl)
theorem dX5_run_68 : decode cX5_run 68 = .ok (.imul, 1) := dk_104 (dk_at dksX5_run_2 20 rfl rfl)
theorem dX5_run_69 : decode cX5_run 69 = .ok (.iload_n 3, 1) := dk_29 (dk_at dksX5_run_2 21 rfl rfl)
theorem dX5_run_70 : decode cX5_run 70 = .ok (.iadd, 1) := dk_96 (dk_at dksX5_run_2 22 rfl rfl)
theorem dX5_run_71 : decode cX5_run 71 = .ok (.imul, 1) := dk_104 (dk_at dksX5_run_2 23 rfl rfl)
theorem dX5_run_72 : decode cX5_run 72 = .ok (.invokevirtual 328, 3) := dk_182 1 72 (dk_at dksX5_run_3 0 rfl rfl)
theorem dX5_run_75 : decode cX5_run 75 = .ok (.ifCond .eq 25, 3) := dk_153 0 25 (dk_at dksX5_run_3 3 rfl rfl)
theorem dX5_run_78 : decode cX5_run 78 = .ok (.aload_n 0, 1) := dk_42 (dk_at dksX5_run_3 6 rfl rfl)
theorem dX5_run_79 : decode cX5_run 79 = .ok (.aload_n 0, 1) := dk_42 (dk_at dksX5_run_3 7 rfl rfl)
theorem dX5_run_80 : decode cX5_run 80 = .ok (.getfield 77, 3) := dk_180 0 77 (dk_at dksX5_run_3 8 rfl rfl)
theorem dX5_run_83 : decode cX5_run 83 = .ok (.iconst 4, 1) := dk_7 (dk_at dksX5_run_3 11 rfl rfl)
theorem dX5_run_84 : decode cX5_run 84 = .ok (.bipush 12, 2) := dk_16 12 (dk_at dksX5_run_3 12 rfl rfl)
theorem dX5_run_86 : decode cX5_run 86 = .ok (.iload_n 1, 1) := dk_27 (dk_at dksX5_run_3 14 rfl rfl)
theorem dX5_run_87 : decode cX5_run 87 = .ok (.imul, 1) := dk_104 (dk_at dksX5_run_3 15 rfl rfl)
theorem dX5_run_88 : decode cX5_run 88 = .ok (.iload_n 3, 1) := dk_29 (dk_at dksX5_run_3 16 rfl rfl)
theorem dX5_run_89 : decode cX5_run 89 = .ok (.iadd, 1) := dk_96 (dk_at dksX5_run_3 17 rfl rfl)
theorem dX5_run_90 : decode cX5_run 90 = .ok (.imul, 1) := dk_104 (dk_at dksX5_run_3 18 rfl rfl)
theorem dX5_run_91 : decode cX5_run 91 = .ok (.invokevirtual 332, 3) := dk_182 1 76 (dk_at dksX5_run_3 19 rfl rfl)
theorem dX5_run_94 : decode cX5_run 94 = .ok (.iinc 3 1, 3) := dk_132 3 1 (dk_at dksX5_run_4 0 rfl rfl)
theorem dX5_run_97 : decode cX5_run 97 = .ok (.goto (-48), 3) := dk_167 255 208 (dk_at dksX5_run_4 3 rfl rfl)
theorem dX5_run_100 : decode cX5_run 100 = .ok (.iload_n 2, 1) := dk_28 (dk_at dksX5_run_4 6 rfl rfl)
theorem dX5_run_101 : decode cX5_run 101 = .ok (.iconst 1, 1) := dk_4 (dk_at dksX5_run_4 7 rfl rfl)
theorem dX5_run_102 : decode cX5_run 102 = .ok (.if_icmp .ne 20, 3) := dk_160 0 20 (dk_at dksX5_run_4 8 rfl rfl)
theorem dX5_run_105 : decode cX5_run 105 = .ok (.aload_n 0, 1) := dk_42 (dk_at dksX5_run_4 11 rfl rfl)
theorem dX5_run_106 : decode cX5_run 106 = .ok (.aload_n 0, 1) := dk_42 (dk_at dksX5_run_4 12 rfl rfl)
theorem dX5_run_107 : decode cX5_run 107 = .ok (.getfield 77, 3) := dk_180 0 77 (dk_at dksX5_run_4 13 rfl rfl)
theorem dX5_run_110 : decode cX5_run 110 = .ok (.invokevirtual 227, 3) := dk_182 0 227 (dk_at dksX5_run_4 16 rfl rfl)
theorem dX5_run_113 : decode cX5_run 113 = .ok (.ifCond .eq 7, 3) := dk_153 0 7 (dk_at dksX5_run_4 19 rfl rfl)
theorem dX5_run_116 : decode cX5_run 116 = .ok (.iconst 1, 1) := dk_4 (dk_at dksX5_run_4 22 rfl rfl)
theorem dX5_run_117 : decode cX5_run 117 = .ok (.goto 4, 3) := dk_167 0 4 (dk_at dksX5_run_5 0 rfl rfl)
theorem dX5_run_120 : decode cX5_run 120 = .ok (.iconst 0, 1) := dk_3 (dk_at dksX5_run_5 3 rfl rfl)
theorem dX5_run_121 : decode cX5_run 121 = .ok (.ireturn, 1) := dk_172 (dk_at dksX5_run_5 4 rfl rfl)
theorem dX5_run_122 : decode cX5_run 122 = .ok (.iload_n 3, 1) := dk_29 (dk_at dksX5_run_5 5 rfl rfl)
theorem dX5_run_123 : decode cX5_run 123 = .ok (.aload_n 0, 1) := dk_42 (dk_at dksX5_run_5 6 rfl rfl)
theorem dX5_run_124 : decode cX5_run 124 = .ok (.getfield 29, 3) := dk_180 0 29 (dk_at dksX5_run_5 7 rfl rfl)
theorem dX5_run_127 : decode cX5_run 127 = .ok (.iload_n 1, 1) := dk_27 (dk_at dksX5_run_5 10 rfl rfl)
theorem dX5_run_128 : decode cX5_run 128 = .ok (.iaload, 1) := dk_46 (dk_at dksX5_run_5 11 rfl rfl)
theorem dX5_run_129 : decode cX5_run 129 = .ok (.if_icmp .ne 7, 3) := dk_160 0 7 (dk_at dksX5_run_5 12 rfl rfl)
theorem dX5_run_132 : decode cX5_run 132 = .ok (.iconst (-1), 1) := dk_2 (dk_at dksX5_run_5 15 rfl rfl)
theorem dX5_run_133 : decode cX5_run 133 = .ok (.goto 4, 3) := dk_167 0 4 (dk_at dksX5_run_5 16 rfl rfl)
theorem dX5_run_136 : decode cX5_run 136 = .ok (.iload_n 3, 1) := dk_29 (dk_at dksX5_run_5 19 rfl rfl)
theorem dX5_run_137 : decode cX5_run 137 = .ok (.ireturn, 1) := dk_172 (dk_at dksX5_run_5 20 rfl rfl)
abbrev cX5_canStep : ByteArray := prog_9_method_91_code
def yX5_canStep : MethodName := ⟨RX5, "canStep", "([II)Z"⟩
def dkwX5_canStep_4 : List UInt8 := [180, 0, 26, 28, 6, 96, 46, 159, 0, 7, 4, 167, 0, 4, 3, 172]
abbrev dktX5_canStep_4 : List UInt8 := dkwX5_canStep_4 ++ []
def dkwX5_canStep_3 : List UInt8 := [43, 16, 6, 42, 180, 0, 26, 28, 4, 96, 46, 104, 42, 180, 0, 26, 28, 5, 96, 46, 96, 46, 42]
abbrev dktX5_canStep_3 : List UInt8 := dkwX5_canStep_3 ++ dktX5_canStep_4
def dkwX5_canStep_2 : List UInt8 := [42, 43, 42, 180, 0, 26, 28, 4, 96, 46, 42, 180, 0, 26, 28, 5, 96, 46, 182, 0, 158, 153, 0, 40]
abbrev dktX5_canStep_2 : List UInt8 := dkwX5_canStep_2 ++ dktX5_canStep_3
def dkwX5_canStep_1 : List UInt8 := [4, 96, 46, 42, 180, 0, 26, 28, 5, 96, 46, 182, 0, 181, 2, 160, 0, 7, 4, 167, 0, 4, 3, 172]
abbrev dktX5_canStep_1 : List UInt8 := dkwX5_canStep_1 ++ dktX5_canStep_2
def dkwX5_canStep_0 : List UInt8 := [42, 180, 0, 26, 28, 46, 16, 6, 162, 0, 40, 42, 43, 42, 180, 0, 26, 28, 46, 42, 180, 0, 26, 28]
abbrev dktX5_canStep_0 : List UInt8 := dkwX5_canStep_0 ++ dktX5_canStep_1
theorem dksX5_canStep_0 : cX5_canStep.data.toList.drop 0 = dktX5_canStep_0 := by decide +kernel
theorem dksX5_canStep_1 : cX5_canStep.data.toList.drop 24 = dktX5_canStep_1 := dk_seg dksX5_canStep_0 24 rfl rfl
theorem dksX5_canStep_2 : cX5_canStep.data.toList.drop 48 = dktX5_canStep_2 := dk_seg dksX5_canStep_1 24 rfl rfl
theorem dksX5_canStep_3 : cX5_canStep.data.toList.drop 72 = dktX5_canStep_3 := dk_seg dksX5_canStep_2 24 rfl rfl
theorem dksX5_canStep_4 : cX5_canStep.data.toList.drop 95 = dktX5_canStep_4 := dk_seg dksX5_canStep_3 23 rfl rfl
theorem dX5_canStep_0 : decode cX5_canStep 0 = .ok (.aload_n 0, 1) := dk_42 (dk_at dksX5_canStep_0 0 rfl rfl)
theorem dX5_canStep_1 : decode cX5_canStep 1 = .ok (.getfield 26, 3) := dk_180 0 26 (dk_at dksX5_canStep_0 1 rfl rfl)
theorem dX5_canStep_4 : decode cX5_canStep 4 = .ok (.iload_n 2, 1) := dk_28 (dk_at dksX5_canStep_0 4 rfl rfl)
theorem dX5_canStep_5 : decode cX5_canStep 5 = .ok (.iaload, 1) := dk_46 (dk_at dksX5_canStep_0 5 rfl rfl)
theorem dX5_canStep_6 : decode cX5_canStep 6 = .ok (.bipush 6, 2) := dk_16 6 (dk_at dksX5_canStep_0 6 rfl rfl)
theorem dX5_canStep_8 : decode cX5_canStep 8 = .ok (.if_icmp .ge 40, 3) := dk_162 0 40 (dk_at dksX5_canStep_0 8 rfl rfl)
theorem dX5_canStep_11 : decode cX5_canStep 11 = .ok (.aload_n 0, 1) := dk_42 (dk_at dksX5_canStep_0 11 rfl rfl)
theorem dX5_canStep_12 : decode cX5_canStep 12 = .ok (.aload_n 1, 1) := dk_43 (dk_at dksX5_canStep_0 12 rfl rfl)
theorem dX5_canStep_13 : decode cX5_canStep 13 = .ok (.aload_n 0, 1) := dk_42 (dk_at dksX5_canStep_0 13 rfl rfl)
theorem dX5_canStep_14 : decode cX5_canStep 14 = .ok (.getfield 26, 3) := dk_180 0 26 (dk_at dksX5_canStep_0 14 rfl rfl)
theorem dX5_canStep_17 : decode cX5_canStep 17 = .ok (.iload_n 2, 1) := dk_28 (dk_at dksX5_canStep_0 17 rfl rfl)
theorem dX5_canStep_18 : decode cX5_canStep 18 = .ok (.iaload, 1) := dk_46 (dk_at dksX5_canStep_0 18 rfl rfl)
theorem dX5_canStep_19 : decode cX5_canStep 19 = .ok (.aload_n 0, 1) := dk_42 (dk_at dksX5_canStep_0 19 rfl rfl)
theorem dX5_canStep_20 : decode cX5_canStep 20 = .ok (.getfield 26, 3) := dk_180 0 26 (dk_at dksX5_canStep_0 20 rfl rfl)
theorem dX5_canStep_23 : decode cX5_canStep 23 = .ok (.iload_n 2, 1) := dk_28 (dk_at dksX5_canStep_0 23 rfl rfl)
theorem dX5_canStep_24 : decode cX5_canStep 24 = .ok (.iconst 1, 1) := dk_4 (dk_at dksX5_canStep_1 0 rfl rfl)
theorem dX5_canStep_25 : decode cX5_canStep 25 = .ok (.iadd, 1) := dk_96 (dk_at dksX5_canStep_1 1 rfl rfl)
theorem dX5_canStep_26 : decode cX5_canStep 26 = .ok (.iaload, 1) := dk_46 (dk_at dksX5_canStep_1 2 rfl rfl)
theorem dX5_canStep_27 : decode cX5_canStep 27 = .ok (.aload_n 0, 1) := dk_42 (dk_at dksX5_canStep_1 3 rfl rfl)
theorem dX5_canStep_28 : decode cX5_canStep 28 = .ok (.getfield 26, 3) := dk_180 0 26 (dk_at dksX5_canStep_1 4 rfl rfl)
theorem dX5_canStep_31 : decode cX5_canStep 31 = .ok (.iload_n 2, 1) := dk_28 (dk_at dksX5_canStep_1 7 rfl rfl)
theorem dX5_canStep_32 : decode cX5_canStep 32 = .ok (.iconst 2, 1) := dk_5 (dk_at dksX5_canStep_1 8 rfl rfl)
theorem dX5_canStep_33 : decode cX5_canStep 33 = .ok (.iadd, 1) := dk_96 (dk_at dksX5_canStep_1 9 rfl rfl)
theorem dX5_canStep_34 : decode cX5_canStep 34 = .ok (.iaload, 1) := dk_46 (dk_at dksX5_canStep_1 10 rfl rfl)
theorem dX5_canStep_35 : decode cX5_canStep 35 = .ok (.invokevirtual 181, 3) := dk_182 0 181 (dk_at dksX5_canStep_1 11 rfl rfl)
theorem dX5_canStep_38 : decode cX5_canStep 38 = .ok (.iconst (-1), 1) := dk_2 (dk_at dksX5_canStep_1 14 rfl rfl)
theorem dX5_canStep_39 : decode cX5_canStep 39 = .ok (.if_icmp .ne 7, 3) := dk_160 0 7 (dk_at dksX5_canStep_1 15 rfl rfl)
theorem dX5_canStep_42 : decode cX5_canStep 42 = .ok (.iconst 1, 1) := dk_4 (dk_at dksX5_canStep_1 18 rfl rfl)
theorem dX5_canStep_43 : decode cX5_canStep 43 = .ok (.goto 4, 3) := dk_167 0 4 (dk_at dksX5_canStep_1 19 rfl rfl)
theorem dX5_canStep_46 : decode cX5_canStep 46 = .ok (.iconst 0, 1) := dk_3 (dk_at dksX5_canStep_1 22 rfl rfl)
theorem dX5_canStep_47 : decode cX5_canStep 47 = .ok (.ireturn, 1) := dk_172 (dk_at dksX5_canStep_1 23 rfl rfl)
theorem dX5_canStep_48 : decode cX5_canStep 48 = .ok (.aload_n 0, 1) := dk_42 (dk_at dksX5_canStep_2 0 rfl rfl)
theorem dX5_canStep_49 : decode cX5_canStep 49 = .ok (.aload_n 1, 1) := dk_43 (dk_at dksX5_canStep_2 1 rfl rfl)
theorem dX5_canStep_50 : decode cX5_canStep 50 = .ok (.aload_n 0, 1) := dk_42 (dk_at dksX5_canStep_2 2 rfl rfl)
theorem dX5_canStep_51 : decode cX5_canStep 51 = .ok (.getfield 26, 3) := dk_180 0 26 (dk_at dksX5_canStep_2 3 rfl rfl)
theorem dX5_canStep_54 : decode cX5_canStep 54 = .ok (.iload_n 2, 1) := dk_28 (dk_at dksX5_canStep_2 6 rfl rfl)
theorem dX5_canStep_55 : decode cX5_canStep 55 = .ok (.iconst 1, 1) := dk_4 (dk_at dksX5_canStep_2 7 rfl rfl)
theorem dX5_canStep_56 : decode cX5_canStep 56 = .ok (.iadd, 1) := dk_96 (dk_at dksX5_canStep_2 8 rfl rfl)
theorem dX5_canStep_57 : decode cX5_canStep 57 = .ok (.iaload, 1) := dk_46 (dk_at dksX5_canStep_2 9 rfl rfl)
theorem dX5_canStep_58 : decode cX5_canStep 58 = .ok (.aload_n 0, 1) := dk_42 (dk_at dksX5_canStep_2 10 rfl rfl)
theorem dX5_canStep_59 : decode cX5_canStep 59 = .ok (.getfield 26, 3) := dk_180 0 26 (dk_at dksX5_canStep_2 11 rfl rfl)
theorem dX5_canStep_62 : decode cX5_canStep 62 = .ok (.iload_n 2, 1) := dk_28 (dk_at dksX5_canStep_2 14 rfl rfl)
theorem dX5_canStep_63 : decode cX5_canStep 63 = .ok (.iconst 2, 1) := dk_5 (dk_at dksX5_canStep_2 15 rfl rfl)
theorem dX5_canStep_64 : decode cX5_canStep 64 = .ok (.iadd, 1) := dk_96 (dk_at dksX5_canStep_2 16 rfl rfl)
theorem dX5_canStep_65 : decode cX5_canStep 65 = .ok (.iaload, 1) := dk_46 (dk_at dksX5_canStep_2 17 rfl rfl)
theorem dX5_canStep_66 : decode cX5_canStep 66 = .ok (.invokevirtual 158, 3) := dk_182 0 158 (dk_at dksX5_canStep_2 18 rfl rfl)
theorem dX5_canStep_69 : decode cX5_canStep 69 = .ok (.ifCond .eq 40, 3) := dk_153 0 40 (dk_at dksX5_canStep_2 21 rfl rfl)
theorem dX5_canStep_72 : decode cX5_canStep 72 = .ok (.aload_n 1, 1) := dk_43 (dk_at dksX5_canStep_3 0 rfl rfl)
theorem dX5_canStep_73 : decode cX5_canStep 73 = .ok (.bipush 6, 2) := dk_16 6 (dk_at dksX5_canStep_3 1 rfl rfl)
theorem dX5_canStep_75 : decode cX5_canStep 75 = .ok (.aload_n 0, 1) := dk_42 (dk_at dksX5_canStep_3 3 rfl rfl)
theorem dX5_canStep_76 : decode cX5_canStep 76 = .ok (.getfield 26, 3) := dk_180 0 26 (dk_at dksX5_canStep_3 4 rfl rfl)
theorem dX5_canStep_79 : decode cX5_canStep 79 = .ok (.iload_n 2, 1) := dk_28 (dk_at dksX5_canStep_3 7 rfl rfl)
theorem dX5_canStep_80 : decode cX5_canStep 80 = .ok (.iconst 1, 1) := dk_4 (dk_at dksX5_canStep_3 8 rfl rfl)
theorem dX5_canStep_81 : decode cX5_canStep 81 = .ok (.iadd, 1) := dk_96 (dk_at dksX5_canStep_3 9 rfl rfl)
theorem dX5_canStep_82 : decode cX5_canStep 82 = .ok (.iaload, 1) := dk_46 (dk_at dksX5_canStep_3 10 rfl rfl)
theorem dX5_canStep_83 : decode cX5_canStep 83 = .ok (.imul, 1) := dk_104 (dk_at dksX5_canStep_3 11 rfl rfl)
theorem dX5_canStep_84 : decode cX5_canStep 84 = .ok (.aload_n 0, 1) := dk_42 (dk_at dksX5_canStep_3 12 rfl rfl)
theorem dX5_canStep_85 : decode cX5_canStep 85 = .ok (.getfield 26, 3) := dk_180 0 26 (dk_at dksX5_canStep_3 13 rfl rfl)
theorem dX5_canStep_88 : decode cX5_canStep 88 = .ok (.iload_n 2, 1) := dk_28 (dk_at dksX5_canStep_3 16 rfl rfl)
theorem dX5_canStep_89 : decode cX5_canStep 89 = .ok (.iconst 2, 1) := dk_5 (dk_at dksX5_canStep_3 17 rfl rfl)
theorem dX5_canStep_90 : decode cX5_canStep 90 = .ok (.iadd, 1) := dk_96 (dk_at dksX5_canStep_3 18 rfl rfl)
theorem dX5_canStep_91 : decode cX5_canStep 91 = .ok (.iaload, 1) := dk_46 (dk_at dksX5_canStep_3 19 rfl rfl)
theorem dX5_canStep_92 : decode cX5_canStep 92 = .ok (.iadd, 1) := dk_96 (dk_at dksX5_canStep_3 20 rfl rfl)
theorem dX5_canStep_93 : decode cX5_canStep 93 = .ok (.iaload, 1) := dk_46 (dk_at dksX5_canStep_3 21 rfl rfl)
theorem dX5_canStep_94 : decode cX5_canStep 94 = .ok (.aload_n 0, 1) := dk_42 (dk_at dksX5_canStep_3 22 rfl rfl)
theorem dX5_canStep_95 : decode cX5_canStep 95 = .ok (.getfield 26, 3) := dk_180 0 26 (dk_at dksX5_canStep_4 0 rfl rfl)
theorem dX5_canStep_98 : decode cX5_canStep 98 = .ok (.iload_n 2, 1) := dk_28 (dk_at dksX5_canStep_4 3 rfl rfl)
theorem dX5_canStep_99 : decode cX5_canStep 99 = .ok (.iconst 3, 1) := dk_6 (dk_at dksX5_canStep_4 4 rfl rfl)
theorem dX5_canStep_100 : decode cX5_canStep 100 = .ok (.iadd, 1) := dk_96 (dk_at dksX5_canStep_4 5 rfl rfl)
theorem dX5_canStep_101 : decode cX5_canStep 101 = .ok (.iaload, 1) := dk_46 (dk_at dksX5_canStep_4 6 rfl rfl)
theorem dX5_canStep_102 : decode cX5_canStep 102 = .ok (.if_icmp .eq 7, 3) := dk_159 0 7 (dk_at dksX5_canStep_4 7 rfl rfl)
theorem dX5_canStep_105 : decode cX5_canStep 105 = .ok (.iconst 1, 1) := dk_4 (dk_at dksX5_canStep_4 10 rfl rfl)
theorem dX5_canStep_106 : decode cX5_canStep 106 = .ok (.goto 4, 3) := dk_167 0 4 (dk_at dksX5_canStep_4 11 rfl rfl)
theorem dX5_canStep_109 : decode cX5_canStep 109 = .ok (.iconst 0, 1) := dk_3 (dk_at dksX5_canStep_4 14 rfl rfl)
theorem dX5_canStep_110 : decode cX5_canStep 110 = .ok (.ireturn, 1) := dk_172 (dk_at dksX5_canStep_4 15 rfl rfl)
abbrev cX5_doesStep : ByteArray := prog_9_method_92_code
def yX5_doesStep : MethodName := ⟨RX5, "doesStep", "([II)V"⟩
def dkwX5_doesStep_2 : List UInt8 := [28, 4, 96, 46, 104, 42, 180, 0, 26, 28, 5, 96, 46, 96, 42, 180, 0, 26, 28, 6, 96, 46, 79, 177]
abbrev dktX5_doesStep_2 : List UInt8 := dkwX5_doesStep_2 ++ []
def dkwX5_doesStep_1 : List UInt8 := [4, 96, 46, 42, 180, 0, 26, 28, 5, 96, 46, 182, 0, 185, 167, 0, 33, 43, 16, 6, 42, 180, 0, 26]
abbrev dktX5_doesStep_1 : List UInt8 := dkwX5_doesStep_1 ++ dktX5_doesStep_2
def dkwX5_doesStep_0 : List UInt8 := [42, 180, 0, 26, 28, 46, 16, 6, 162, 0, 33, 42, 43, 42, 180, 0, 26, 28, 46, 42, 180, 0, 26, 28]
abbrev dktX5_doesStep_0 : List UInt8 := dkwX5_doesStep_0 ++ dktX5_doesStep_1
theorem dksX5_doesStep_0 : cX5_doesStep.data.toList.drop 0 = dktX5_doesStep_0 := by decide +kernel
theorem dksX5_doesStep_1 : cX5_doesStep.data.toList.drop 24 = dktX5_doesStep_1 := dk_seg dksX5_doesStep_0 24 rfl rfl
theorem dksX5_doesStep_2 : cX5_doesStep.data.toList.drop 48 = dktX5_doesStep_2 := dk_seg dksX5_doesStep_1 24 rfl rfl
theorem dX5_doesStep_0 : decode cX5_doesStep 0 = .ok (.aload_n 0, 1) := dk_42 (dk_at dksX5_doesStep_0 0 rfl rfl)
theorem dX5_doesStep_1 : decode cX5_doesStep 1 = .ok (.getfield 26, 3) := dk_180 0 26 (dk_at dksX5_doesStep_0 1 rfl rfl)
theorem dX5_doesStep_4 : decode cX5_doesStep 4 = .ok (.iload_n 2, 1) := dk_28 (dk_at dksX5_doesStep_0 4 rfl rfl)
theorem dX5_doesStep_5 : decode cX5_doesStep 5 = .ok (.iaload, 1) := dk_46 (dk_at dksX5_doesStep_0 5 rfl rfl)
theorem dX5_doesStep_6 : decode cX5_doesStep 6 = .ok (.bipush 6, 2) := dk_16 6 (dk_at dksX5_doesStep_0 6 rfl rfl)
theorem dX5_doesStep_8 : decode cX5_doesStep 8 = .ok (.if_icmp .ge 33, 3) := dk_162 0 33 (dk_at dksX5_doesStep_0 8 rfl rfl)
theorem dX5_doesStep_11 : decode cX5_doesStep 11 = .ok (.aload_n 0, 1) := dk_42 (dk_at dksX5_doesStep_0 11 rfl rfl)
theorem dX5_doesStep_12 : decode cX5_doesStep 12 = .ok (.aload_n 1, 1) := dk_43 (dk_at dksX5_doesStep_0 12 rfl rfl)
theorem dX5_doesStep_13 : decode cX5_doesStep 13 = .ok (.aload_n 0, 1) := dk_42 (dk_at dksX5_doesStep_0 13 rfl rfl)
theorem dX5_doesStep_14 : decode cX5_doesStep 14 = .ok (.getfield 26, 3) := dk_180 0 26 (dk_at dksX5_doesStep_0 14 rfl rfl)
theorem dX5_doesStep_17 : decode cX5_doesStep 17 = .ok (.iload_n 2, 1) := dk_28 (dk_at dksX5_doesStep_0 17 rfl rfl)
theorem dX5_doesStep_18 : decode cX5_doesStep 18 = .ok (.iaload, 1) := dk_46 (dk_at dksX5_doesStep_0 18 rfl rfl)
theorem dX5_doesStep_19 : decode cX5_doesStep 19 = .ok (.aload_n 0, 1) := dk_42 (dk_at dksX5_doesStep_0 19 rfl rfl)
theorem dX5_doesStep_20 : decode cX5_doesStep 20 = .ok (.getfield 26, 3) := dk_180 0 26 (dk_at dksX5_doesStep_0 20 rfl rfl)
theorem dX5_doesStep_23 : decode cX5_doesStep 23 = .ok (.iload_n 2, 1) := dk_28 (dk_at dksX5_doesStep_0 23 rfl rfl)
theorem dX5_doesStep_24 : decode cX5_doesStep 24 = .ok (.iconst 1, 1) := dk_4 (dk_at dksX5_doesStep_1 0 rfl rfl)
theorem dX5_doesStep_25 : decode cX5_doesStep 25 = .ok (.iadd, 1) := dk_96 (dk_at dksX5_doesStep_1 1 rfl rfl)
theorem dX5_doesStep_26 : decode cX5_doesStep 26 = .ok (.iaload, 1) := dk_46 (dk_at dksX5_doesStep_1 2 rfl rfl)
theorem dX5_doesStep_27 : decode cX5_doesStep 27 = .ok (.aload_n 0, 1) := dk_42 (dk_at dksX5_doesStep_1 3 rfl rfl)
theorem dX5_doesStep_28 : decode cX5_doesStep 28 = .ok (.getfield 26, 3) := dk_180 0 26 (dk_at dksX5_doesStep_1 4 rfl rfl)
theorem dX5_doesStep_31 : decode cX5_doesStep 31 = .ok (.iload_n 2, 1) := dk_28 (dk_at dksX5_doesStep_1 7 rfl rfl)
theorem dX5_doesStep_32 : decode cX5_doesStep 32 = .ok (.iconst 2, 1) := dk_5 (dk_at dksX5_doesStep_1 8 rfl rfl)
theorem dX5_doesStep_33 : decode cX5_doesStep 33 = .ok (.iadd, 1) := dk_96 (dk_at dksX5_doesStep_1 9 rfl rfl)
theorem dX5_doesStep_34 : decode cX5_doesStep 34 = .ok (.iaload, 1) := dk_46 (dk_at dksX5_doesStep_1 10 rfl rfl)
theorem dX5_doesStep_35 : decode cX5_doesStep 35 = .ok (.invokevirtual 185, 3) := dk_182 0 185 (dk_at dksX5_doesStep_1 11 rfl rfl)
theorem dX5_doesStep_38 : decode cX5_doesStep 38 = .ok (.goto 33, 3) := dk_167 0 33 (dk_at dksX5_doesStep_1 14 rfl rfl)
theorem dX5_doesStep_41 : decode cX5_doesStep 41 = .ok (.aload_n 1, 1) := dk_43 (dk_at dksX5_doesStep_1 17 rfl rfl)
theorem dX5_doesStep_42 : decode cX5_doesStep 42 = .ok (.bipush 6, 2) := dk_16 6 (dk_at dksX5_doesStep_1 18 rfl rfl)
theorem dX5_doesStep_44 : decode cX5_doesStep 44 = .ok (.aload_n 0, 1) := dk_42 (dk_at dksX5_doesStep_1 20 rfl rfl)
theorem dX5_doesStep_45 : decode cX5_doesStep 45 = .ok (.getfield 26, 3) := dk_180 0 26 (dk_at dksX5_doesStep_1 21 rfl rfl)
theorem dX5_doesStep_48 : decode cX5_doesStep 48 = .ok (.iload_n 2, 1) := dk_28 (dk_at dksX5_doesStep_2 0 rfl rfl)
theorem dX5_doesStep_49 : decode cX5_doesStep 49 = .ok (.iconst 1, 1) := dk_4 (dk_at dksX5_doesStep_2 1 rfl rfl)
theorem dX5_doesStep_50 : decode cX5_doesStep 50 = .ok (.iadd, 1) := dk_96 (dk_at dksX5_doesStep_2 2 rfl rfl)
theorem dX5_doesStep_51 : decode cX5_doesStep 51 = .ok (.iaload, 1) := dk_46 (dk_at dksX5_doesStep_2 3 rfl rfl)
theorem dX5_doesStep_52 : decode cX5_doesStep 52 = .ok (.imul, 1) := dk_104 (dk_at dksX5_doesStep_2 4 rfl rfl)
theorem dX5_doesStep_53 : decode cX5_doesStep 53 = .ok (.aload_n 0, 1) := dk_42 (dk_at dksX5_doesStep_2 5 rfl rfl)
theorem dX5_doesStep_54 : decode cX5_doesStep 54 = .ok (.getfield 26, 3) := dk_180 0 26 (dk_at dksX5_doesStep_2 6 rfl rfl)
theorem dX5_doesStep_57 : decode cX5_doesStep 57 = .ok (.iload_n 2, 1) := dk_28 (dk_at dksX5_doesStep_2 9 rfl rfl)
theorem dX5_doesStep_58 : decode cX5_doesStep 58 = .ok (.iconst 2, 1) := dk_5 (dk_at dksX5_doesStep_2 10 rfl rfl)
theorem dX5_doesStep_59 : decode cX5_doesStep 59 = .ok (.iadd, 1) := dk_96 (dk_at dksX5_doesStep_2 11 rfl rfl)
theorem dX5_doesStep_60 : decode cX5_doesStep 60 = .ok (.iaload, 1) := dk_46 (dk_at dksX5_doesStep_2 12 rfl rfl)
theorem dX5_doesStep_61 : decode cX5_doesStep 61 = .ok (.iadd, 1) := dk_96 (dk_at dksX5_doesStep_2 13 rfl rfl)
theorem dX5_doesStep_62 : decode cX5_doesStep 62 = .ok (.aload_n 0, 1) := dk_42 (dk_at dksX5_doesStep_2 14 rfl rfl)
theorem dX5_doesStep_63 : decode cX5_doesStep 63 = .ok (.getfield 26, 3) := dk_180 0 26 (dk_at dksX5_doesStep_2 15 rfl rfl)
theorem dX5_doesStep_66 : decode cX5_doesStep 66 = .ok (.iload_n 2, 1) := dk_28 (dk_at dksX5_doesStep_2 18 rfl rfl)
theorem dX5_doesStep_67 : decode cX5_doesStep 67 = .ok (.iconst 3, 1) := dk_6 (dk_at dksX5_doesStep_2 19 rfl rfl)
theorem dX5_doesStep_68 : decode cX5_doesStep 68 = .ok (.iadd, 1) := dk_96 (dk_at dksX5_doesStep_2 20 rfl rfl)
theorem dX5_doesStep_69 : decode cX5_doesStep 69 = .ok (.iaload, 1) := dk_46 (dk_at dksX5_doesStep_2 21 rfl rfl)
theorem dX5_doesStep_70 : decode cX5_doesStep 70 = .ok (.iastore, 1) := dk_79 (dk_at dksX5_doesStep_2 22 rfl rfl)
theorem dX5_doesStep_71 : decode cX5_doesStep 71 = .ok (.return_, 1) := dk_177 (dk_at dksX5_doesStep_2 23 rfl rfl)
abbrev cX5_perform : ByteArray := prog_9_method_94_code
def yX5_perform : MethodName := ⟨RX5, "perform", "(I)I"⟩
def dkwX5_perform_3 : List UInt8 := [104, 182, 1, 76, 132, 2, 1, 167, 255, 204, 28, 172]
abbrev dktX5_perform_3 : List UInt8 := dkwX5_perform_3 ++ []
def dkwX5_perform_2 : List UInt8 := [96, 104, 182, 1, 72, 153, 0, 29, 42, 182, 0, 167, 42, 42, 180, 0, 13, 7, 16, 12, 27, 104, 28, 96]
abbrev dktX5_perform_2 : List UInt8 := dkwX5_perform_2 ++ dktX5_perform_3
def dkwX5_perform_1 : List UInt8 := [172, 3, 61, 28, 42, 180, 0, 29, 27, 46, 162, 0, 48, 42, 42, 180, 0, 13, 7, 16, 12, 27, 104, 28]
abbrev dktX5_perform_1 : List UInt8 := dkwX5_perform_1 ++ dktX5_perform_2
def dkwX5_perform_0 : List UInt8 := [42, 3, 181, 0, 83, 42, 180, 0, 13, 16, 36, 46, 153, 0, 11, 42, 27, 182, 1, 69, 154, 0, 5, 2]
abbrev dktX5_perform_0 : List UInt8 := dkwX5_perform_0 ++ dktX5_perform_1
theorem dksX5_perform_0 : cX5_perform.data.toList.drop 0 = dktX5_perform_0 := by decide +kernel
theorem dksX5_perform_1 : cX5_perform.data.toList.drop 24 = dktX5_perform_1 := dk_seg dksX5_perform_0 24 rfl rfl
theorem dksX5_perform_2 : cX5_perform.data.toList.drop 48 = dktX5_perform_2 := dk_seg dksX5_perform_1 24 rfl rfl
theorem dksX5_perform_3 : cX5_perform.data.toList.drop 72 = dktX5_perform_3 := dk_seg dksX5_perform_2 24 rfl rfl
theorem dX5_perform_0 : decode cX5_perform 0 = .ok (.aload_n 0, 1) := dk_42 (dk_at dksX5_perform_0 0 rfl rfl)
theorem dX5_perform_1 : decode cX5_perform 1 = .ok (.iconst 0, 1) := dk_3 (dk_at dksX5_perform_0 1 rfl rfl)
theorem dX5_perform_2 : decode cX5_perform 2 = .ok (.putfield 83, 3) := dk_181 0 83 (dk_at dksX5_perform_0 2 rfl rfl)
theorem dX5_perform_5 : decode cX5_perform 5 = .ok (.aload_n 0, 1) := dk_42 (dk_at dksX5_perform_0 5 rfl rfl)
theorem dX5_perform_6 : decode cX5_perform 6 = .ok (.getfield 13, 3) := dk_180 0 13 (dk_at dksX5_perform_0 6 rfl rfl)
theorem dX5_perform_9 : decode cX5_perform 9 = .ok (.bipush 36, 2) := dk_16 36 (dk_at dksX5_perform_0 9 rfl rfl)
theorem dX5_perform_11 : decode cX5_perform 11 = .ok (.iaload, 1) := dk_46 (dk_at dksX5_perform_0 11 rfl rfl)
theorem dX5_perform_12 : decode cX5_perform 12 = .ok (.ifCond .eq 11, 3) := dk_153 0 11 (dk_at dksX5_perform_0 12 rfl rfl)
theorem dX5_perform_15 : decode cX5_perform 15 = .ok (.aload_n 0, 1) := dk_42 (dk_at dksX5_perform_0 15 rfl rfl)
theorem dX5_perform_16 : decode cX5_perform 16 = .ok (.iload_n 1, 1) := dk_27 (dk_at dksX5_perform_0 16 rfl rfl)
theorem dX5_perform_17 : decode cX5_perform 17 = .ok (.invokevirtual 325, 3) := dk_182 1 69 (dk_at dksX5_perform_0 17 rfl rfl)
theorem dX5_perform_20 : decode cX5_perform 20 = .ok (.ifCond .ne 5, 3) := dk_154 0 5 (dk_at dksX5_perform_0 20 rfl rfl)
theorem dX5_perform_23 : decode cX5_perform 23 = .ok (.iconst (-1), 1) := dk_2 (dk_at dksX5_perform_0 23 rfl rfl)
theorem dX5_perform_24 : decode cX5_perform 24 = .ok (.ireturn, 1) := dk_172 (dk_at dksX5_perform_1 0 rfl rfl)
theorem dX5_perform_25 : decode cX5_perform 25 = .ok (.iconst 0, 1) := dk_3 (dk_at dksX5_perform_1 1 rfl rfl)
theorem dX5_perform_26 : decode cX5_perform 26 = .ok (.istore_n 2, 1) := dk_61 (dk_at dksX5_perform_1 2 rfl rfl)
theorem dX5_perform_27 : decode cX5_perform 27 = .ok (.iload_n 2, 1) := dk_28 (dk_at dksX5_perform_1 3 rfl rfl)
theorem dX5_perform_28 : decode cX5_perform 28 = .ok (.aload_n 0, 1) := dk_42 (dk_at dksX5_perform_1 4 rfl rfl)
theorem dX5_perform_29 : decode cX5_perform 29 = .ok (.getfield 29, 3) := dk_180 0 29 (dk_at dksX5_perform_1 5 rfl rfl)
theorem dX5_perform_32 : decode cX5_perform 32 = .ok (.iload_n 1, 1) := dk_27 (dk_at dksX5_perform_1 8 rfl rfl)
theorem dX5_perform_33 : decode cX5_perform 33 = .ok (.iaload, 1) := dk_46 (dk_at dksX5_perform_1 9 rfl rfl)
theorem dX5_perform_34 : decode cX5_perform 34 = .ok (.if_icmp .ge 48, 3) := dk_162 0 48 (dk_at dksX5_perform_1 10 rfl rfl)
theorem dX5_perform_37 : decode cX5_perform 37 = .ok (.aload_n 0, 1) := dk_42 (dk_at dksX5_perform_1 13 rfl rfl)
theorem dX5_perform_38 : decode cX5_perform 38 = .ok (.aload_n 0, 1) := dk_42 (dk_at dksX5_perform_1 14 rfl rfl)
theorem dX5_perform_39 : decode cX5_perform 39 = .ok (.getfield 13, 3) := dk_180 0 13 (dk_at dksX5_perform_1 15 rfl rfl)
theorem dX5_perform_42 : decode cX5_perform 42 = .ok (.iconst 4, 1) := dk_7 (dk_at dksX5_perform_1 18 rfl rfl)
theorem dX5_perform_43 : decode cX5_perform 43 = .ok (.bipush 12, 2) := dk_16 12 (dk_at dksX5_perform_1 19 rfl rfl)
theorem dX5_perform_45 : decode cX5_perform 45 = .ok (.iload_n 1, 1) := dk_27 (dk_at dksX5_perform_1 21 rfl rfl)
theorem dX5_perform_46 : decode cX5_perform 46 = .ok (.imul, 1) := dk_104 (dk_at dksX5_perform_1 22 rfl rfl)
theorem dX5_perform_47 : decode cX5_perform 47 = .ok (.iload_n 2, 1) := dk_28 (dk_at dksX5_perform_1 23 rfl rfl)
theorem dX5_perform_48 : decode cX5_perform 48 = .ok (.iadd, 1) := dk_96 (dk_at dksX5_perform_2 0 rfl rfl)
theorem dX5_perform_49 : decode cX5_perform 49 = .ok (.imul, 1) := dk_104 (dk_at dksX5_perform_2 1 rfl rfl)
theorem dX5_perform_50 : decode cX5_perform 50 = .ok (.invokevirtual 328, 3) := dk_182 1 72 (dk_at dksX5_perform_2 2 rfl rfl)
theorem dX5_perform_53 : decode cX5_perform 53 = .ok (.ifCond .eq 29, 3) := dk_153 0 29 (dk_at dksX5_perform_2 5 rfl rfl)
theorem dX5_perform_56 : decode cX5_perform 56 = .ok (.aload_n 0, 1) := dk_42 (dk_at dksX5_perform_2 8 rfl rfl)
theorem dX5_perform_57 : decode cX5_perform 57 = .ok (.invokevirtual 167, 3) := dk_182 0 167 (dk_at dksX5_perform_2 9 rfl rfl)
theorem dX5_perform_60 : decode cX5_perform 60 = .ok (.aload_n 0, 1) := dk_42 (dk_at dksX5_perform_2 12 rfl rfl)
theorem dX5_perform_61 : decode cX5_perform 61 = .ok (.aload_n 0, 1) := dk_42 (dk_at dksX5_perform_2 13 rfl rfl)
theorem dX5_perform_62 : decode cX5_perform 62 = .ok (.getfield 13, 3) := dk_180 0 13 (dk_at dksX5_perform_2 14 rfl rfl)
theorem dX5_perform_65 : decode cX5_perform 65 = .ok (.iconst 4, 1) := dk_7 (dk_at dksX5_perform_2 17 rfl rfl)
theorem dX5_perform_66 : decode cX5_perform 66 = .ok (.bipush 12, 2) := dk_16 12 (dk_at dksX5_perform_2 18 rfl rfl)
theorem dX5_perform_68 : decode cX5_perform 68 = .ok (.iload_n 1, 1) := dk_27 (dk_at dksX5_perform_2 20 rfl rfl)
theorem dX5_perform_69 : decode cX5_perform 69 = .ok (.imul, 1) := dk_104 (dk_at dksX5_perform_2 21 rfl rfl)
theorem dX5_perform_70 : decode cX5_perform 70 = .ok (.iload_n 2, 1) := dk_28 (dk_at dksX5_perform_2 22 rfl rfl)
theorem dX5_perform_71 : decode cX5_perform 71 = .ok (.iadd, 1) := dk_96 (dk_at dksX5_perform_2 23 rfl rfl)
theorem dX5_perform_72 : decode cX5_perform 72 = .ok (.imul, 1) := dk_104 (dk_at dksX5_perform_3 0 rfl rfl)
theorem dX5_perform_73 : decode cX5_perform 73 = .ok (.invokevirtual 332, 3) := dk_182 1 76 (dk_at dksX5_perform_3 1 rfl rfl)
theorem dX5_perform_76 : decode cX5_perform 76 = .ok (.iinc 2 1, 3) := dk_132 2 1 (dk_at dksX5_perform_3 4 rfl rfl)
theorem dX5_perform_79 : decode cX5_perform 79 = .ok (.goto (-52), 3) := dk_167 255 204 (dk_at dksX5_perform_3 7 rfl rfl)
theorem dX5_perform_82 : decode cX5_perform 82 = .ok (.iload_n 2, 1) := dk_28 (dk_at dksX5_perform_3 10 rfl rfl)
theorem dX5_perform_83 : decode cX5_perform 83 = .ok (.ireturn, 1) := dk_172 (dk_at dksX5_perform_3 11 rfl rfl)
abbrev cX5_draws : ByteArray := prog_9_method_96_code
def yX5_draws : MethodName := ⟨RX5, "draws", "(IJ)I"⟩
def dkwX5_draws_10 : List UInt8 := [167, 255, 63, 21, 4, 172]
abbrev dktX5_draws_10 : List UInt8 := dkwX5_draws_10 ++ []
def dkwX5_draws_9 : List UInt8 := [167, 0, 17, 42, 42, 180, 0, 13, 21, 6, 21, 7, 21, 8, 182, 0, 185, 132, 4, 1, 132, 5, 1]
abbrev dktX5_draws_9 : List UInt8 := dkwX5_draws_9 ++ dktX5_draws_10
def dkwX5_draws_8 : List UInt8 := [182, 0, 167, 21, 6, 8, 160, 0, 21, 42, 180, 0, 13, 16, 6, 21, 7, 104, 21, 8, 96, 21, 9, 79]
abbrev dktX5_draws_8 : List UInt8 := dkwX5_draws_8 ++ dktX5_draws_9
def dkwX5_draws_7 : List UInt8 := [42, 42, 180, 0, 13, 21, 6, 21, 7, 21, 8, 182, 0, 181, 2, 159, 0, 6, 167, 0, 48, 42]
abbrev dktX5_draws_7 : List UInt8 := dkwX5_draws_7 ++ dktX5_draws_8
def dkwX5_draws_6 : List UInt8 := [160, 0, 24, 42, 180, 0, 13, 16, 6, 21, 7, 104, 21, 8, 96, 46, 21, 9, 160, 0, 27, 167, 0, 69]
abbrev dktX5_draws_6 : List UInt8 := dkwX5_draws_6 ++ dktX5_draws_7
def dkwX5_draws_5 : List UInt8 := [21, 6, 8, 160, 0, 13, 42, 6, 182, 1, 90, 4, 100, 167, 0, 4, 3, 54, 9, 21, 6, 8]
abbrev dktX5_draws_5 : List UInt8 := dkwX5_draws_5 ++ dktX5_draws_6
def dkwX5_draws_4 : List UInt8 := [42, 180, 0, 13, 21, 6, 5, 160, 0, 8, 16, 36, 167, 0, 5, 16, 37, 46, 182, 1, 90, 54, 8]
abbrev dktX5_draws_4 : List UInt8 := dkwX5_draws_4 ++ dktX5_draws_5
def dkwX5_draws_3 : List UInt8 := [16, 37, 167, 0, 5, 16, 36, 46, 182, 1, 90, 54, 7, 21, 6, 5, 162, 0, 7, 3, 167, 0, 25, 42]
abbrev dktX5_draws_3 : List UInt8 := dkwX5_draws_3 ++ dktX5_draws_4
def dkwX5_draws_2 : List UInt8 := [16, 6, 182, 1, 90, 54, 6, 42, 42, 180, 0, 13, 21, 6, 4, 159, 0, 9, 21, 6, 6, 160, 0, 8]
abbrev dktX5_draws_2 : List UInt8 := dkwX5_draws_2 ++ dktX5_draws_3
def dkwX5_draws_1 : List UInt8 := [154, 0, 5, 2, 172, 42, 32, 181, 1, 80, 3, 54, 4, 3, 54, 5, 21, 5, 27, 162, 0, 193, 42]
abbrev dktX5_draws_1 : List UInt8 := dkwX5_draws_1 ++ dktX5_draws_2
def dkwX5_draws_0 : List UInt8 := [42, 3, 181, 0, 83, 42, 180, 0, 13, 16, 36, 46, 153, 0, 15, 27, 133, 10, 20, 1, 88, 184, 0, 140]
abbrev dktX5_draws_0 : List UInt8 := dkwX5_draws_0 ++ dktX5_draws_1
theorem dksX5_draws_0 : cX5_draws.data.toList.drop 0 = dktX5_draws_0 := by decide +kernel
theorem dksX5_draws_1 : cX5_draws.data.toList.drop 24 = dktX5_draws_1 := dk_seg dksX5_draws_0 24 rfl rfl
theorem dksX5_draws_2 : cX5_draws.data.toList.drop 47 = dktX5_draws_2 := dk_seg dksX5_draws_1 23 rfl rfl
theorem dksX5_draws_3 : cX5_draws.data.toList.drop 71 = dktX5_draws_3 := dk_seg dksX5_draws_2 24 rfl rfl
theorem dksX5_draws_4 : cX5_draws.data.toList.drop 95 = dktX5_draws_4 := dk_seg dksX5_draws_3 24 rfl rfl
theorem dksX5_draws_5 : cX5_draws.data.toList.drop 118 = dktX5_draws_5 := dk_seg dksX5_draws_4 23 rfl rfl
theorem dksX5_draws_6 : cX5_draws.data.toList.drop 140 = dktX5_draws_6 := dk_seg dksX5_draws_5 22 rfl rfl
theorem dksX5_draws_7 : cX5_draws.data.toList.drop 164 = dktX5_draws_7 := dk_seg dksX5_draws_6 24 rfl rfl
theorem dksX5_draws_8 : cX5_draws.data.toList.drop 186 = dktX5_draws_8 := dk_seg dksX5_draws_7 22 rfl rfl
theorem dksX5_draws_9 : cX5_draws.data.toList.drop 210 = dktX5_draws_9 := dk_seg dksX5_draws_8 24 rfl rfl
theorem dksX5_draws_10 : cX5_draws.data.toList.drop 233 = dktX5_draws_10 := dk_seg dksX5_draws_9 23 rfl rfl
theorem dX5_draws_0 : decode cX5_draws 0 = .ok (.aload_n 0, 1) := dk_42 (dk_at dksX5_draws_0 0 rfl rfl)
theorem dX5_draws_1 : decode cX5_draws 1 = .ok (.iconst 0, 1) := dk_3 (dk_at dksX5_draws_0 1 rfl rfl)
theorem dX5_draws_2 : decode cX5_draws 2 = .ok (.putfield 83, 3) := dk_181 0 83 (dk_at dksX5_draws_0 2 rfl rfl)
theorem dX5_draws_5 : decode cX5_draws 5 = .ok (.aload_n 0, 1) := dk_42 (dk_at dksX5_draws_0 5 rfl rfl)
theorem dX5_draws_6 : decode cX5_draws 6 = .ok (.getfield 13, 3) := dk_180 0 13 (dk_at dksX5_draws_0 6 rfl rfl)
theorem dX5_draws_9 : decode cX5_draws 9 = .ok (.bipush 36, 2) := dk_16 36 (dk_at dksX5_draws_0 9 rfl rfl)
theorem dX5_draws_11 : decode cX5_draws 11 = .ok (.iaload, 1) := dk_46 (dk_at dksX5_draws_0 11 rfl rfl)
theorem dX5_draws_12 : decode cX5_draws 12 = .ok (.ifCond .eq 15, 3) := dk_153 0 15 (dk_at dksX5_draws_0 12 rfl rfl)
theorem dX5_draws_15 : decode cX5_draws 15 = .ok (.iload_n 1, 1) := dk_27 (dk_at dksX5_draws_0 15 rfl rfl)
theorem dX5_draws_16 : decode cX5_draws 16 = .ok (.i2l, 1) := dk_133 (dk_at dksX5_draws_0 16 rfl rfl)
theorem dX5_draws_17 : decode cX5_draws 17 = .ok (.lconst 1, 1) := dk_10 (dk_at dksX5_draws_0 17 rfl rfl)
theorem dX5_draws_18 : decode cX5_draws 18 = .ok (.ldc2_w 344, 3) := dk_20 1 88 (dk_at dksX5_draws_0 18 rfl rfl)
theorem dX5_draws_21 : decode cX5_draws 21 = .ok (.invokestatic 140, 3) := dk_184 0 140 (dk_at dksX5_draws_0 21 rfl rfl)
theorem dX5_draws_24 : decode cX5_draws 24 = .ok (.ifCond .ne 5, 3) := dk_154 0 5 (dk_at dksX5_draws_1 0 rfl rfl)
theorem dX5_draws_27 : decode cX5_draws 27 = .ok (.iconst (-1), 1) := dk_2 (dk_at dksX5_draws_1 3 rfl rfl)
theorem dX5_draws_28 : decode cX5_draws 28 = .ok (.ireturn, 1) := dk_172 (dk_at dksX5_draws_1 4 rfl rfl)
theorem dX5_draws_29 : decode cX5_draws 29 = .ok (.aload_n 0, 1) := dk_42 (dk_at dksX5_draws_1 5 rfl rfl)
theorem dX5_draws_30 : decode cX5_draws 30 = .ok (.lload_n 2, 1) := dk_32 (dk_at dksX5_draws_1 6 rfl rfl)
theorem dX5_draws_31 : decode cX5_draws 31 = .ok (.putfield 336, 3) := dk_181 1 80 (dk_at dksX5_draws_1 7 rfl rfl)
theorem dX5_draws_34 : decode cX5_draws 34 = .ok (.iconst 0, 1) := dk_3 (dk_at dksX5_draws_1 10 rfl rfl)
theorem dX5_draws_35 : decode cX5_draws 35 = .ok (.istore 4, 2) := dk_54 4 (dk_at dksX5_draws_1 11 rfl rfl)
theorem dX5_draws_37 : decode cX5_draws 37 = .ok (.iconst 0, 1) := dk_3 (dk_at dksX5_draws_1 13 rfl rfl)
theorem dX5_draws_38 : decode cX5_draws 38 = .ok (.istore 5, 2) := dk_54 5 (dk_at dksX5_draws_1 14 rfl rfl)
theorem dX5_draws_40 : decode cX5_draws 40 = .ok (.iload 5, 2) := dk_21 5 (dk_at dksX5_draws_1 16 rfl rfl)
theorem dX5_draws_42 : decode cX5_draws 42 = .ok (.iload_n 1, 1) := dk_27 (dk_at dksX5_draws_1 18 rfl rfl)
theorem dX5_draws_43 : decode cX5_draws 43 = .ok (.if_icmp .ge 193, 3) := dk_162 0 193 (dk_at dksX5_draws_1 19 rfl rfl)
theorem dX5_draws_46 : decode cX5_draws 46 = .ok (.aload_n 0, 1) := dk_42 (dk_at dksX5_draws_1 22 rfl rfl)
theorem dX5_draws_47 : decode cX5_draws 47 = .ok (.bipush 6, 2) := dk_16 6 (dk_at dksX5_draws_2 0 rfl rfl)
theorem dX5_draws_49 : decode cX5_draws 49 = .ok (.invokevirtual 346, 3) := dk_182 1 90 (dk_at dksX5_draws_2 2 rfl rfl)
theorem dX5_draws_52 : decode cX5_draws 52 = .ok (.istore 6, 2) := dk_54 6 (dk_at dksX5_draws_2 5 rfl rfl)
theorem dX5_draws_54 : decode cX5_draws 54 = .ok (.aload_n 0, 1) := dk_42 (dk_at dksX5_draws_2 7 rfl rfl)
theorem dX5_draws_55 : decode cX5_draws 55 = .ok (.aload_n 0, 1) := dk_42 (dk_at dksX5_draws_2 8 rfl rfl)
theorem dX5_draws_56 : decode cX5_draws 56 = .ok (.getfield 13, 3) := dk_180 0 13 (dk_at dksX5_draws_2 9 rfl rfl)
theorem dX5_draws_59 : decode cX5_draws 59 = .ok (.iload 6, 2) := dk_21 6 (dk_at dksX5_draws_2 12 rfl rfl)
theorem dX5_draws_61 : decode cX5_draws 61 = .ok (.iconst 1, 1) := dk_4 (dk_at dksX5_draws_2 14 rfl rfl)
theorem dX5_draws_62 : decode cX5_draws 62 = .ok (.if_icmp .eq 9, 3) := dk_159 0 9 (dk_at dksX5_draws_2 15 rfl rfl)
theorem dX5_draws_65 : decode cX5_draws 65 = .ok (.iload 6, 2) := dk_21 6 (dk_at dksX5_draws_2 18 rfl rfl)
theorem dX5_draws_67 : decode cX5_draws 67 = .ok (.iconst 3, 1) := dk_6 (dk_at dksX5_draws_2 20 rfl rfl)
theorem dX5_draws_68 : decode cX5_draws 68 = .ok (.if_icmp .ne 8, 3) := dk_160 0 8 (dk_at dksX5_draws_2 21 rfl rfl)
theorem dX5_draws_71 : decode cX5_draws 71 = .ok (.bipush 37, 2) := dk_16 37 (dk_at dksX5_draws_3 0 rfl rfl)
theorem dX5_draws_73 : decode cX5_draws 73 = .ok (.goto 5, 3) := dk_167 0 5 (dk_at dksX5_draws_3 2 rfl rfl)
theorem dX5_draws_76 : decode cX5_draws 76 = .ok (.bipush 36, 2) := dk_16 36 (dk_at dksX5_draws_3 5 rfl rfl)
theorem dX5_draws_78 : decode cX5_draws 78 = .ok (.iaload, 1) := dk_46 (dk_at dksX5_draws_3 7 rfl rfl)
theorem dX5_draws_79 : decode cX5_draws 79 = .ok (.invokevirtual 346, 3) := dk_182 1 90 (dk_at dksX5_draws_3 8 rfl rfl)
theorem dX5_draws_82 : decode cX5_draws 82 = .ok (.istore 7, 2) := dk_54 7 (dk_at dksX5_draws_3 11 rfl rfl)
theorem dX5_draws_84 : decode cX5_draws 84 = .ok (.iload 6, 2) := dk_21 6 (dk_at dksX5_draws_3 13 rfl rfl)
theorem dX5_draws_86 : decode cX5_draws 86 = .ok (.iconst 2, 1) := dk_5 (dk_at dksX5_draws_3 15 rfl rfl)
theorem dX5_draws_87 : decode cX5_draws 87 = .ok (.if_icmp .ge 7, 3) := dk_162 0 7 (dk_at dksX5_draws_3 16 rfl rfl)
theorem dX5_draws_90 : decode cX5_draws 90 = .ok (.iconst 0, 1) := dk_3 (dk_at dksX5_draws_3 19 rfl rfl)
theorem dX5_draws_91 : decode cX5_draws 91 = .ok (.goto 25, 3) := dk_167 0 25 (dk_at dksX5_draws_3 20 rfl rfl)
theorem dX5_draws_94 : decode cX5_draws 94 = .ok (.aload_n 0, 1) := dk_42 (dk_at dksX5_draws_3 23 rfl rfl)
theorem dX5_draws_95 : decode cX5_draws 95 = .ok (.aload_n 0, 1) := dk_42 (dk_at dksX5_draws_4 0 rfl rfl)
theorem dX5_draws_96 : decode cX5_draws 96 = .ok (.getfield 13, 3) := dk_180 0 13 (dk_at dksX5_draws_4 1 rfl rfl)
theorem dX5_draws_99 : decode cX5_draws 99 = .ok (.iload 6, 2) := dk_21 6 (dk_at dksX5_draws_4 4 rfl rfl)
theorem dX5_draws_101 : decode cX5_draws 101 = .ok (.iconst 2, 1) := dk_5 (dk_at dksX5_draws_4 6 rfl rfl)
theorem dX5_draws_102 : decode cX5_draws 102 = .ok (.if_icmp .ne 8, 3) := dk_160 0 8 (dk_at dksX5_draws_4 7 rfl rfl)
theorem dX5_draws_105 : decode cX5_draws 105 = .ok (.bipush 36, 2) := dk_16 36 (dk_at dksX5_draws_4 10 rfl rfl)
theorem dX5_draws_107 : decode cX5_draws 107 = .ok (.goto 5, 3) := dk_167 0 5 (dk_at dksX5_draws_4 12 rfl rfl)
theorem dX5_draws_110 : decode cX5_draws 110 = .ok (.bipush 37, 2) := dk_16 37 (dk_at dksX5_draws_4 15 rfl rfl)
theorem dX5_draws_112 : decode cX5_draws 112 = .ok (.iaload, 1) := dk_46 (dk_at dksX5_draws_4 17 rfl rfl)
theorem dX5_draws_113 : decode cX5_draws 113 = .ok (.invokevirtual 346, 3) := dk_182 1 90 (dk_at dksX5_draws_4 18 rfl rfl)
theorem dX5_draws_116 : decode cX5_draws 116 = .ok (.istore 8, 2) := dk_54 8 (dk_at dksX5_draws_4 21 rfl rfl)
theorem dX5_draws_118 : decode cX5_draws 118 = .ok (.iload 6, 2) := dk_21 6 (dk_at dksX5_draws_5 0 rfl rfl)
theorem dX5_draws_120 : decode cX5_draws 120 = .ok (.iconst 5, 1) := dk_8 (dk_at dksX5_draws_5 2 rfl rfl)
theorem dX5_draws_121 : decode cX5_draws 121 = .ok (.if_icmp .ne 13, 3) := dk_160 0 13 (dk_at dksX5_draws_5 3 rfl rfl)
theorem dX5_draws_124 : decode cX5_draws 124 = .ok (.aload_n 0, 1) := dk_42 (dk_at dksX5_draws_5 6 rfl rfl)
theorem dX5_draws_125 : decode cX5_draws 125 = .ok (.iconst 3, 1) := dk_6 (dk_at dksX5_draws_5 7 rfl rfl)
theorem dX5_draws_126 : decode cX5_draws 126 = .ok (.invokevirtual 346, 3) := dk_182 1 90 (dk_at dksX5_draws_5 8 rfl rfl)
theorem dX5_draws_129 : decode cX5_draws 129 = .ok (.iconst 1, 1) := dk_4 (dk_at dksX5_draws_5 11 rfl rfl)
theorem dX5_draws_130 : decode cX5_draws 130 = .ok (.isub, 1) := dk_100 (dk_at dksX5_draws_5 12 rfl rfl)
theorem dX5_draws_131 : decode cX5_draws 131 = .ok (.goto 4, 3) := dk_167 0 4 (dk_at dksX5_draws_5 13 rfl rfl)
theorem dX5_draws_134 : decode cX5_draws 134 = .ok (.iconst 0, 1) := dk_3 (dk_at dksX5_draws_5 16 rfl rfl)
theorem dX5_draws_135 : decode cX5_draws 135 = .ok (.istore 9, 2) := dk_54 9 (dk_at dksX5_draws_5 17 rfl rfl)
theorem dX5_draws_137 : decode cX5_draws 137 = .ok (.iload 6, 2) := dk_21 6 (dk_at dksX5_draws_5 19 rfl rfl)
theorem dX5_draws_139 : decode cX5_draws 139 = .ok (.iconst 5, 1) := dk_8 (dk_at dksX5_draws_5 21 rfl rfl)
theorem dX5_draws_140 : decode cX5_draws 140 = .ok (.if_icmp .ne 24, 3) := dk_160 0 24 (dk_at dksX5_draws_6 0 rfl rfl)
theorem dX5_draws_143 : decode cX5_draws 143 = .ok (.aload_n 0, 1) := dk_42 (dk_at dksX5_draws_6 3 rfl rfl)
theorem dX5_draws_144 : decode cX5_draws 144 = .ok (.getfield 13, 3) := dk_180 0 13 (dk_at dksX5_draws_6 4 rfl rfl)
theorem dX5_draws_147 : decode cX5_draws 147 = .ok (.bipush 6, 2) := dk_16 6 (dk_at dksX5_draws_6 7 rfl rfl)
theorem dX5_draws_149 : decode cX5_draws 149 = .ok (.iload 7, 2) := dk_21 7 (dk_at dksX5_draws_6 9 rfl rfl)
theorem dX5_draws_151 : decode cX5_draws 151 = .ok (.imul, 1) := dk_104 (dk_at dksX5_draws_6 11 rfl rfl)
theorem dX5_draws_152 : decode cX5_draws 152 = .ok (.iload 8, 2) := dk_21 8 (dk_at dksX5_draws_6 12 rfl rfl)
theorem dX5_draws_154 : decode cX5_draws 154 = .ok (.iadd, 1) := dk_96 (dk_at dksX5_draws_6 14 rfl rfl)
theorem dX5_draws_155 : decode cX5_draws 155 = .ok (.iaload, 1) := dk_46 (dk_at dksX5_draws_6 15 rfl rfl)
theorem dX5_draws_156 : decode cX5_draws 156 = .ok (.iload 9, 2) := dk_21 9 (dk_at dksX5_draws_6 16 rfl rfl)
theorem dX5_draws_158 : decode cX5_draws 158 = .ok (.if_icmp .ne 27, 3) := dk_160 0 27 (dk_at dksX5_draws_6 18 rfl rfl)
theorem dX5_draws_161 : decode cX5_draws 161 = .ok (.goto 69, 3) := dk_167 0 69 (dk_at dksX5_draws_6 21 rfl rfl)
theorem dX5_draws_164 : decode cX5_draws 164 = .ok (.aload_n 0, 1) := dk_42 (dk_at dksX5_draws_7 0 rfl rfl)
theorem dX5_draws_165 : decode cX5_draws 165 = .ok (.aload_n 0, 1) := dk_42 (dk_at dksX5_draws_7 1 rfl rfl)
theorem dX5_draws_166 : decode cX5_draws 166 = .ok (.getfield 13, 3) := dk_180 0 13 (dk_at dksX5_draws_7 2 rfl rfl)
theorem dX5_draws_169 : decode cX5_draws 169 = .ok (.iload 6, 2) := dk_21 6 (dk_at dksX5_draws_7 5 rfl rfl)
theorem dX5_draws_171 : decode cX5_draws 171 = .ok (.iload 7, 2) := dk_21 7 (dk_at dksX5_draws_7 7 rfl rfl)
theorem dX5_draws_173 : decode cX5_draws 173 = .ok (.iload 8, 2) := dk_21 8 (dk_at dksX5_draws_7 9 rfl rfl)
theorem dX5_draws_175 : decode cX5_draws 175 = .ok (.invokevirtual 181, 3) := dk_182 0 181 (dk_at dksX5_draws_7 11 rfl rfl)
theorem dX5_draws_178 : decode cX5_draws 178 = .ok (.iconst (-1), 1) := dk_2 (dk_at dksX5_draws_7 14 rfl rfl)
theorem dX5_draws_179 : decode cX5_draws 179 = .ok (.if_icmp .eq 6, 3) := dk_159 0 6 (dk_at dksX5_draws_7 15 rfl rfl)
theorem dX5_draws_182 : decode cX5_draws 182 = .ok (.goto 48, 3) := dk_167 0 48 (dk_at dksX5_draws_7 18 rfl rfl)
theorem dX5_draws_185 : decode cX5_draws 185 = .ok (.aload_n 0, 1) := dk_42 (dk_at dksX5_draws_7 21 rfl rfl)
theorem dX5_draws_186 : decode cX5_draws 186 = .ok (.invokevirtual 167, 3) := dk_182 0 167 (dk_at dksX5_draws_8 0 rfl rfl)
theorem dX5_draws_189 : decode cX5_draws 189 = .ok (.iload 6, 2) := dk_21 6 (dk_at dksX5_draws_8 3 rfl rfl)
theorem dX5_draws_191 : decode cX5_draws 191 = .ok (.iconst 5, 1) := dk_8 (dk_at dksX5_draws_8 5 rfl rfl)
theorem dX5_draws_192 : decode cX5_draws 192 = .ok (.if_icmp .ne 21, 3) := dk_160 0 21 (dk_at dksX5_draws_8 6 rfl rfl)
theorem dX5_draws_195 : decode cX5_draws 195 = .ok (.aload_n 0, 1) := dk_42 (dk_at dksX5_draws_8 9 rfl rfl)
theorem dX5_draws_196 : decode cX5_draws 196 = .ok (.getfield 13, 3) := dk_180 0 13 (dk_at dksX5_draws_8 10 rfl rfl)
theorem dX5_draws_199 : decode cX5_draws 199 = .ok (.bipush 6, 2) := dk_16 6 (dk_at dksX5_draws_8 13 rfl rfl)
theorem dX5_draws_201 : decode cX5_draws 201 = .ok (.iload 7, 2) := dk_21 7 (dk_at dksX5_draws_8 15 rfl rfl)
theorem dX5_draws_203 : decode cX5_draws 203 = .ok (.imul, 1) := dk_104 (dk_at dksX5_draws_8 17 rfl rfl)
theorem dX5_draws_204 : decode cX5_draws 204 = .ok (.iload 8, 2) := dk_21 8 (dk_at dksX5_draws_8 18 rfl rfl)
theorem dX5_draws_206 : decode cX5_draws 206 = .ok (.iadd, 1) := dk_96 (dk_at dksX5_draws_8 20 rfl rfl)
theorem dX5_draws_207 : decode cX5_draws 207 = .ok (.iload 9, 2) := dk_21 9 (dk_at dksX5_draws_8 21 rfl rfl)
theorem dX5_draws_209 : decode cX5_draws 209 = .ok (.iastore, 1) := dk_79 (dk_at dksX5_draws_8 23 rfl rfl)
theorem dX5_draws_210 : decode cX5_draws 210 = .ok (.goto 17, 3) := dk_167 0 17 (dk_at dksX5_draws_9 0 rfl rfl)
theorem dX5_draws_213 : decode cX5_draws 213 = .ok (.aload_n 0, 1) := dk_42 (dk_at dksX5_draws_9 3 rfl rfl)
theorem dX5_draws_214 : decode cX5_draws 214 = .ok (.aload_n 0, 1) := dk_42 (dk_at dksX5_draws_9 4 rfl rfl)
theorem dX5_draws_215 : decode cX5_draws 215 = .ok (.getfield 13, 3) := dk_180 0 13 (dk_at dksX5_draws_9 5 rfl rfl)
theorem dX5_draws_218 : decode cX5_draws 218 = .ok (.iload 6, 2) := dk_21 6 (dk_at dksX5_draws_9 8 rfl rfl)
theorem dX5_draws_220 : decode cX5_draws 220 = .ok (.iload 7, 2) := dk_21 7 (dk_at dksX5_draws_9 10 rfl rfl)
theorem dX5_draws_222 : decode cX5_draws 222 = .ok (.iload 8, 2) := dk_21 8 (dk_at dksX5_draws_9 12 rfl rfl)
theorem dX5_draws_224 : decode cX5_draws 224 = .ok (.invokevirtual 185, 3) := dk_182 0 185 (dk_at dksX5_draws_9 14 rfl rfl)
theorem dX5_draws_227 : decode cX5_draws 227 = .ok (.iinc 4 1, 3) := dk_132 4 1 (dk_at dksX5_draws_9 17 rfl rfl)
theorem dX5_draws_230 : decode cX5_draws 230 = .ok (.iinc 5 1, 3) := dk_132 5 1 (dk_at dksX5_draws_9 20 rfl rfl)
theorem dX5_draws_233 : decode cX5_draws 233 = .ok (.goto (-193), 3) := dk_167 255 63 (dk_at dksX5_draws_10 0 rfl rfl)
theorem dX5_draws_236 : decode cX5_draws 236 = .ok (.iload 4, 2) := dk_21 4 (dk_at dksX5_draws_10 3 rfl rfl)
theorem dX5_draws_238 : decode cX5_draws 238 = .ok (.ireturn, 1) := dk_172 (dk_at dksX5_draws_10 5 rfl rfl)
abbrev cX5_draw : ByteArray := prog_9_method_95_code
def yX5_draw : MethodName := ⟨RX5, "draw", "(I)I"⟩
def dkwX5_draw_1 : List UInt8 := [133, 113, 136, 172]
abbrev dktX5_draw_1 : List UInt8 := dkwX5_draw_1 ++ []
def dkwX5_draw_0 : List UInt8 := [42, 42, 180, 1, 80, 20, 1, 84, 105, 20, 1, 86, 97, 181, 1, 80, 42, 180, 1, 80, 16, 33, 125, 27]
abbrev dktX5_draw_0 : List UInt8 := dkwX5_draw_0 ++ dktX5_draw_1
theorem dksX5_draw_0 : cX5_draw.data.toList.drop 0 = dktX5_draw_0 := by decide +kernel
theorem dksX5_draw_1 : cX5_draw.data.toList.drop 24 = dktX5_draw_1 := dk_seg dksX5_draw_0 24 rfl rfl
theorem dX5_draw_0 : decode cX5_draw 0 = .ok (.aload_n 0, 1) := dk_42 (dk_at dksX5_draw_0 0 rfl rfl)
theorem dX5_draw_1 : decode cX5_draw 1 = .ok (.aload_n 0, 1) := dk_42 (dk_at dksX5_draw_0 1 rfl rfl)
theorem dX5_draw_2 : decode cX5_draw 2 = .ok (.getfield 336, 3) := dk_180 1 80 (dk_at dksX5_draw_0 2 rfl rfl)
theorem dX5_draw_5 : decode cX5_draw 5 = .ok (.ldc2_w 340, 3) := dk_20 1 84 (dk_at dksX5_draw_0 5 rfl rfl)
theorem dX5_draw_8 : decode cX5_draw 8 = .ok (.lmul, 1) := dk_105 (dk_at dksX5_draw_0 8 rfl rfl)
theorem dX5_draw_9 : decode cX5_draw 9 = .ok (.ldc2_w 342, 3) := dk_20 1 86 (dk_at dksX5_draw_0 9 rfl rfl)
theorem dX5_draw_12 : decode cX5_draw 12 = .ok (.ladd, 1) := dk_97 (dk_at dksX5_draw_0 12 rfl rfl)
theorem dX5_draw_13 : decode cX5_draw 13 = .ok (.putfield 336, 3) := dk_181 1 80 (dk_at dksX5_draw_0 13 rfl rfl)
theorem dX5_draw_16 : decode cX5_draw 16 = .ok (.aload_n 0, 1) := dk_42 (dk_at dksX5_draw_0 16 rfl rfl)
theorem dX5_draw_17 : decode cX5_draw 17 = .ok (.getfield 336, 3) := dk_180 1 80 (dk_at dksX5_draw_0 17 rfl rfl)
theorem dX5_draw_20 : decode cX5_draw 20 = .ok (.bipush 33, 2) := dk_16 33 (dk_at dksX5_draw_0 20 rfl rfl)
theorem dX5_draw_22 : decode cX5_draw 22 = .ok (.lushr, 1) := dk_125 (dk_at dksX5_draw_0 22 rfl rfl)
theorem dX5_draw_23 : decode cX5_draw 23 = .ok (.iload_n 1, 1) := dk_27 (dk_at dksX5_draw_0 23 rfl rfl)
theorem dX5_draw_24 : decode cX5_draw 24 = .ok (.i2l, 1) := dk_133 (dk_at dksX5_draw_1 0 rfl rfl)
theorem dX5_draw_25 : decode cX5_draw 25 = .ok (.lrem, 1) := dk_113 (dk_at dksX5_draw_1 1 rfl rfl)
theorem dX5_draw_26 : decode cX5_draw 26 = .ok (.l2i, 1) := dk_136 (dk_at dksX5_draw_1 2 rfl rfl)
theorem dX5_draw_27 : decode cX5_draw 27 = .ok (.ireturn, 1) := dk_172 (dk_at dksX5_draw_1 3 rfl rfl)
abbrev cX5_status : ByteArray := prog_9_method_97_code
def yX5_status : MethodName := ⟨RX5, "status", "(I)I"⟩
def dkwX5_status_1 : List UInt8 := [167, 0, 4, 2, 172]
abbrev dktX5_status_1 : List UInt8 := dkwX5_status_1 ++ []
def dkwX5_status_0 : List UInt8 := [42, 3, 181, 0, 83, 27, 133, 9, 20, 0, 231, 184, 0, 140, 153, 0, 12, 42, 180, 0, 32, 27, 46]
abbrev dktX5_status_0 : List UInt8 := dkwX5_status_0 ++ dktX5_status_1
theorem dksX5_status_0 : cX5_status.data.toList.drop 0 = dktX5_status_0 := by decide +kernel
theorem dksX5_status_1 : cX5_status.data.toList.drop 23 = dktX5_status_1 := dk_seg dksX5_status_0 23 rfl rfl
theorem dX5_status_0 : decode cX5_status 0 = .ok (.aload_n 0, 1) := dk_42 (dk_at dksX5_status_0 0 rfl rfl)
theorem dX5_status_1 : decode cX5_status 1 = .ok (.iconst 0, 1) := dk_3 (dk_at dksX5_status_0 1 rfl rfl)
theorem dX5_status_2 : decode cX5_status 2 = .ok (.putfield 83, 3) := dk_181 0 83 (dk_at dksX5_status_0 2 rfl rfl)
theorem dX5_status_5 : decode cX5_status 5 = .ok (.iload_n 1, 1) := dk_27 (dk_at dksX5_status_0 5 rfl rfl)
theorem dX5_status_6 : decode cX5_status 6 = .ok (.i2l, 1) := dk_133 (dk_at dksX5_status_0 6 rfl rfl)
theorem dX5_status_7 : decode cX5_status 7 = .ok (.lconst 0, 1) := dk_9 (dk_at dksX5_status_0 7 rfl rfl)
theorem dX5_status_8 : decode cX5_status 8 = .ok (.ldc2_w 231, 3) := dk_20 0 231 (dk_at dksX5_status_0 8 rfl rfl)
theorem dX5_status_11 : decode cX5_status 11 = .ok (.invokestatic 140, 3) := dk_184 0 140 (dk_at dksX5_status_0 11 rfl rfl)
theorem dX5_status_14 : decode cX5_status 14 = .ok (.ifCond .eq 12, 3) := dk_153 0 12 (dk_at dksX5_status_0 14 rfl rfl)
theorem dX5_status_17 : decode cX5_status 17 = .ok (.aload_n 0, 1) := dk_42 (dk_at dksX5_status_0 17 rfl rfl)
theorem dX5_status_18 : decode cX5_status 18 = .ok (.getfield 32, 3) := dk_180 0 32 (dk_at dksX5_status_0 18 rfl rfl)
theorem dX5_status_21 : decode cX5_status 21 = .ok (.iload_n 1, 1) := dk_27 (dk_at dksX5_status_0 21 rfl rfl)
theorem dX5_status_22 : decode cX5_status 22 = .ok (.iaload, 1) := dk_46 (dk_at dksX5_status_0 22 rfl rfl)
theorem dX5_status_23 : decode cX5_status 23 = .ok (.goto 4, 3) := dk_167 0 4 (dk_at dksX5_status_1 0 rfl rfl)
theorem dX5_status_26 : decode cX5_status 26 = .ok (.iconst (-1), 1) := dk_2 (dk_at dksX5_status_1 3 rfl rfl)
theorem dX5_status_27 : decode cX5_status 27 = .ok (.ireturn, 1) := dk_172 (dk_at dksX5_status_1 4 rfl rfl)
abbrev cX5_image : ByteArray := prog_9_method_98_code
def yX5_image : MethodName := ⟨RX5, "image", "()I"⟩
def dkwX5_image_1 : List UInt8 := [180, 0, 80, 184, 0, 170, 42, 42, 180, 0, 189, 181, 1, 93, 42, 4, 181, 1, 96, 42, 180, 0, 189, 172]
abbrev dktX5_image_1 : List UInt8 := dkwX5_image_1 ++ []
def dkwX5_image_0 : List UInt8 := [42, 3, 181, 0, 83, 42, 180, 0, 13, 16, 36, 46, 154, 0, 5, 2, 172, 42, 180, 0, 13, 42]
abbrev dktX5_image_0 : List UInt8 := dkwX5_image_0 ++ dktX5_image_1
theorem dksX5_image_0 : cX5_image.data.toList.drop 0 = dktX5_image_0 := by decide +kernel
theorem dksX5_image_1 : cX5_image.data.toList.drop 22 = dktX5_image_1 := dk_seg dksX5_image_0 22 rfl rfl
theorem dX5_image_0 : decode cX5_image 0 = .ok (.aload_n 0, 1) := dk_42 (dk_at dksX5_image_0 0 rfl rfl)
theorem dX5_image_1 : decode cX5_image 1 = .ok (.iconst 0, 1) := dk_3 (dk_at dksX5_image_0 1 rfl rfl)
theorem dX5_image_2 : decode cX5_image 2 = .ok (.putfield 83, 3) := dk_181 0 83 (dk_at dksX5_image_0 2 rfl rfl)
theorem dX5_image_5 : decode cX5_image 5 = .ok (.aload_n 0, 1) := dk_42 (dk_at dksX5_image_0 5 rfl rfl)
theorem dX5_image_6 : decode cX5_image 6 = .ok (.getfield 13, 3) := dk_180 0 13 (dk_at dksX5_image_0 6 rfl rfl)
theorem dX5_image_9 : decode cX5_image 9 = .ok (.bipush 36, 2) := dk_16 36 (dk_at dksX5_image_0 9 rfl rfl)
theorem dX5_image_11 : decode cX5_image 11 = .ok (.iaload, 1) := dk_46 (dk_at dksX5_image_0 11 rfl rfl)
theorem dX5_image_12 : decode cX5_image 12 = .ok (.ifCond .ne 5, 3) := dk_154 0 5 (dk_at dksX5_image_0 12 rfl rfl)
theorem dX5_image_15 : decode cX5_image 15 = .ok (.iconst (-1), 1) := dk_2 (dk_at dksX5_image_0 15 rfl rfl)
theorem dX5_image_16 : decode cX5_image 16 = .ok (.ireturn, 1) := dk_172 (dk_at dksX5_image_0 16 rfl rfl)
theorem dX5_image_17 : decode cX5_image 17 = .ok (.aload_n 0, 1) := dk_42 (dk_at dksX5_image_0 17 rfl rfl)
theorem dX5_image_18 : decode cX5_image 18 = .ok (.getfield 13, 3) := dk_180 0 13 (dk_at dksX5_image_0 18 rfl rfl)
theorem dX5_image_21 : decode cX5_image 21 = .ok (.aload_n 0, 1) := dk_42 (dk_at dksX5_image_0 21 rfl rfl)
theorem dX5_image_22 : decode cX5_image 22 = .ok (.getfield 80, 3) := dk_180 0 80 (dk_at dksX5_image_1 0 rfl rfl)
theorem dX5_image_25 : decode cX5_image 25 = .ok (.invokestatic 170, 3) := dk_184 0 170 (dk_at dksX5_image_1 3 rfl rfl)
theorem dX5_image_28 : decode cX5_image 28 = .ok (.aload_n 0, 1) := dk_42 (dk_at dksX5_image_1 6 rfl rfl)
theorem dX5_image_29 : decode cX5_image 29 = .ok (.aload_n 0, 1) := dk_42 (dk_at dksX5_image_1 7 rfl rfl)
theorem dX5_image_30 : decode cX5_image 30 = .ok (.getfield 189, 3) := dk_180 0 189 (dk_at dksX5_image_1 8 rfl rfl)
theorem dX5_image_33 : decode cX5_image 33 = .ok (.putfield 349, 3) := dk_181 1 93 (dk_at dksX5_image_1 11 rfl rfl)
theorem dX5_image_36 : decode cX5_image 36 = .ok (.aload_n 0, 1) := dk_42 (dk_at dksX5_image_1 14 rfl rfl)
theorem dX5_image_37 : decode cX5_image 37 = .ok (.iconst 1, 1) := dk_4 (dk_at dksX5_image_1 15 rfl rfl)
theorem dX5_image_38 : decode cX5_image 38 = .ok (.putfield 352, 3) := dk_181 1 96 (dk_at dksX5_image_1 16 rfl rfl)
theorem dX5_image_41 : decode cX5_image 41 = .ok (.aload_n 0, 1) := dk_42 (dk_at dksX5_image_1 19 rfl rfl)
theorem dX5_image_42 : decode cX5_image 42 = .ok (.getfield 189, 3) := dk_180 0 189 (dk_at dksX5_image_1 20 rfl rfl)
theorem dX5_image_45 : decode cX5_image 45 = .ok (.ireturn, 1) := dk_172 (dk_at dksX5_image_1 23 rfl rfl)
abbrev cX5_back : ByteArray := prog_9_method_99_code
def yX5_back : MethodName := ⟨RX5, "back", "()I"⟩
def dkwX5_back_1 : List UInt8 := [184, 0, 170, 42, 42, 180, 1, 93, 181, 0, 189, 42, 3, 181, 0, 155, 42, 180, 0, 189, 172]
abbrev dktX5_back_1 : List UInt8 := dkwX5_back_1 ++ []
def dkwX5_back_0 : List UInt8 := [42, 3, 181, 0, 83, 42, 180, 1, 96, 154, 0, 5, 2, 172, 42, 180, 0, 80, 42, 180, 0, 13]
abbrev dktX5_back_0 : List UInt8 := dkwX5_back_0 ++ dktX5_back_1
theorem dksX5_back_0 : cX5_back.data.toList.drop 0 = dktX5_back_0 := by decide +kernel
theorem dksX5_back_1 : cX5_back.data.toList.drop 22 = dktX5_back_1 := dk_seg dksX5_back_0 22 rfl rfl
theorem dX5_back_0 : decode cX5_back 0 = .ok (.aload_n 0, 1) := dk_42 (dk_at dksX5_back_0 0 rfl rfl)
theorem dX5_back_1 : decode cX5_back 1 = .ok (.iconst 0, 1) := dk_3 (dk_at dksX5_back_0 1 rfl rfl)
theorem dX5_back_2 : decode cX5_back 2 = .ok (.putfield 83, 3) := dk_181 0 83 (dk_at dksX5_back_0 2 rfl rfl)
theorem dX5_back_5 : decode cX5_back 5 = .ok (.aload_n 0, 1) := dk_42 (dk_at dksX5_back_0 5 rfl rfl)
theorem dX5_back_6 : decode cX5_back 6 = .ok (.getfield 352, 3) := dk_180 1 96 (dk_at dksX5_back_0 6 rfl rfl)
theorem dX5_back_9 : decode cX5_back 9 = .ok (.ifCond .ne 5, 3) := dk_154 0 5 (dk_at dksX5_back_0 9 rfl rfl)
theorem dX5_back_12 : decode cX5_back 12 = .ok (.iconst (-1), 1) := dk_2 (dk_at dksX5_back_0 12 rfl rfl)
theorem dX5_back_13 : decode cX5_back 13 = .ok (.ireturn, 1) := dk_172 (dk_at dksX5_back_0 13 rfl rfl)
theorem dX5_back_14 : decode cX5_back 14 = .ok (.aload_n 0, 1) := dk_42 (dk_at dksX5_back_0 14 rfl rfl)
theorem dX5_back_15 : decode cX5_back 15 = .ok (.getfield 80, 3) := dk_180 0 80 (dk_at dksX5_back_0 15 rfl rfl)
theorem dX5_back_18 : decode cX5_back 18 = .ok (.aload_n 0, 1) := dk_42 (dk_at dksX5_back_0 18 rfl rfl)
theorem dX5_back_19 : decode cX5_back 19 = .ok (.getfield 13, 3) := dk_180 0 13 (dk_at dksX5_back_0 19 rfl rfl)
theorem dX5_back_22 : decode cX5_back 22 = .ok (.invokestatic 170, 3) := dk_184 0 170 (dk_at dksX5_back_1 0 rfl rfl)
theorem dX5_back_25 : decode cX5_back 25 = .ok (.aload_n 0, 1) := dk_42 (dk_at dksX5_back_1 3 rfl rfl)
theorem dX5_back_26 : decode cX5_back 26 = .ok (.aload_n 0, 1) := dk_42 (dk_at dksX5_back_1 4 rfl rfl)
theorem dX5_back_27 : decode cX5_back 27 = .ok (.getfield 349, 3) := dk_180 1 93 (dk_at dksX5_back_1 5 rfl rfl)
theorem dX5_back_30 : decode cX5_back 30 = .ok (.putfield 189, 3) := dk_181 0 189 (dk_at dksX5_back_1 8 rfl rfl)
theorem dX5_back_33 : decode cX5_back 33 = .ok (.aload_n 0, 1) := dk_42 (dk_at dksX5_back_1 11 rfl rfl)
theorem dX5_back_34 : decode cX5_back 34 = .ok (.iconst 0, 1) := dk_3 (dk_at dksX5_back_1 12 rfl rfl)
theorem dX5_back_35 : decode cX5_back 35 = .ok (.putfield 155, 3) := dk_181 0 155 (dk_at dksX5_back_1 13 rfl rfl)
theorem dX5_back_38 : decode cX5_back 38 = .ok (.aload_n 0, 1) := dk_42 (dk_at dksX5_back_1 16 rfl rfl)
theorem dX5_back_39 : decode cX5_back 39 = .ok (.getfield 189, 3) := dk_180 0 189 (dk_at dksX5_back_1 17 rfl rfl)
theorem dX5_back_42 : decode cX5_back 42 = .ok (.ireturn, 1) := dk_172 (dk_at dksX5_back_1 20 rfl rfl)
abbrev cX5_count : ByteArray := prog_9_method_100_code
def yX5_count : MethodName := ⟨RX5, "count", "(I)I"⟩
def dkwX5_count_5 : List UInt8 := [180, 0, 150, 172, 42, 180, 0, 87, 172, 42, 180, 0, 155, 172, 28, 172, 18, 133, 172]
abbrev dktX5_count_5 : List UInt8 := dkwX5_count_5 ++ []
def dkwX5_count_4 : List UInt8 := [42, 180, 0, 13, 16, 36, 46, 172, 42, 180, 0, 13, 16, 37, 46, 172, 42, 180, 0, 189, 172, 42]
abbrev dktX5_count_4 : List UInt8 := dkwX5_count_4 ++ dktX5_count_5
def dkwX5_count_3 : List UInt8 := [170, 0, 0, 0, 0, 80, 0, 0, 0, 0, 0, 0, 0, 6, 0, 0, 0, 42, 0, 0, 0, 50, 0, 0, 0, 58, 0, 0, 0, 63, 0, 0, 0, 68, 0, 0, 0, 73, 0, 0, 0, 78]
abbrev dktX5_count_3 : List UInt8 := dkwX5_count_3 ++ dktX5_count_4
def dkwX5_count_2 : List UInt8 := [3, 96, 61, 132, 3, 1, 167, 255, 211, 27]
abbrev dktX5_count_2 : List UInt8 := dkwX5_count_2 ++ dktX5_count_3
def dkwX5_count_1 : List UInt8 := [108, 29, 16, 6, 112, 182, 0, 158, 153, 0, 16, 42, 180, 0, 13, 29, 46, 153, 0, 7, 4, 167, 0, 4]
abbrev dktX5_count_1 : List UInt8 := dkwX5_count_1 ++ dktX5_count_2
def dkwX5_count_0 : List UInt8 := [42, 3, 181, 0, 83, 3, 61, 3, 62, 29, 16, 36, 162, 0, 45, 28, 42, 42, 180, 0, 13, 29, 16, 6]
abbrev dktX5_count_0 : List UInt8 := dkwX5_count_0 ++ dktX5_count_1
theorem dksX5_count_0 : cX5_count.data.toList.drop 0 = dktX5_count_0 := by decide +kernel
theorem dksX5_count_1 : cX5_count.data.toList.drop 24 = dktX5_count_1 := dk_seg dksX5_count_0 24 rfl rfl
theorem dksX5_count_2 : cX5_count.data.toList.drop 48 = dktX5_count_2 := dk_seg dksX5_count_1 24 rfl rfl
theorem dksX5_count_3 : cX5_count.data.toList.drop 58 = dktX5_count_3 := dk_seg dksX5_count_2 10 rfl rfl
theorem dksX5_count_4 : cX5_count.data.toList.drop 100 = dktX5_count_4 := dk_seg dksX5_count_3 42 rfl rfl
theorem dksX5_count_5 : cX5_count.data.toList.drop 122 = dktX5_count_5 := dk_seg dksX5_count_4 22 rfl rfl
theorem dX5_count_0 : decode cX5_count 0 = .ok (.aload_n 0, 1) := dk_42 (dk_at dksX5_count_0 0 rfl rfl)
theorem dX5_count_1 : decode cX5_count 1 = .ok (.iconst 0, 1) := dk_3 (dk_at dksX5_count_0 1 rfl rfl)
theorem dX5_count_2 : decode cX5_count 2 = .ok (.putfield 83, 3) := dk_181 0 83 (dk_at dksX5_count_0 2 rfl rfl)
theorem dX5_count_5 : decode cX5_count 5 = .ok (.iconst 0, 1) := dk_3 (dk_at dksX5_count_0 5 rfl rfl)
theorem dX5_count_6 : decode cX5_count 6 = .ok (.istore_n 2, 1) := dk_61 (dk_at dksX5_count_0 6 rfl rfl)
theorem dX5_count_7 : decode cX5_count 7 = .ok (.iconst 0, 1) := dk_3 (dk_at dksX5_count_0 7 rfl rfl)
theorem dX5_count_8 : decode cX5_count 8 = .ok (.istore_n 3, 1) := dk_62 (dk_at dksX5_count_0 8 rfl rfl)
theorem dX5_count_9 : decode cX5_count 9 = .ok (.iload_n 3, 1) := dk_29 (dk_at dksX5_count_0 9 rfl rfl)
theorem dX5_count_10 : decode cX5_count 10 = .ok (.bipush 36, 2) := dk_16 36 (dk_at dksX5_count_0 10 rfl rfl)
theorem dX5_count_12 : decode cX5_count 12 = .ok (.if_icmp .ge 45, 3) := dk_162 0 45 (dk_at dksX5_count_0 12 rfl rfl)
theorem dX5_count_15 : decode cX5_count 15 = .ok (.iload_n 2, 1) := dk_28 (dk_at dksX5_count_0 15 rfl rfl)
theorem dX5_count_16 : decode cX5_count 16 = .ok (.aload_n 0, 1) := dk_42 (dk_at dksX5_count_0 16 rfl rfl)
theorem dX5_count_17 : decode cX5_count 17 = .ok (.aload_n 0, 1) := dk_42 (dk_at dksX5_count_0 17 rfl rfl)
theorem dX5_count_18 : decode cX5_count 18 = .ok (.getfield 13, 3) := dk_180 0 13 (dk_at dksX5_count_0 18 rfl rfl)
theorem dX5_count_21 : decode cX5_count 21 = .ok (.iload_n 3, 1) := dk_29 (dk_at dksX5_count_0 21 rfl rfl)
theorem dX5_count_22 : decode cX5_count 22 = .ok (.bipush 6, 2) := dk_16 6 (dk_at dksX5_count_0 22 rfl rfl)
theorem dX5_count_24 : decode cX5_count 24 = .ok (.idiv, 1) := dk_108 (dk_at dksX5_count_1 0 rfl rfl)
theorem dX5_count_25 : decode cX5_count 25 = .ok (.iload_n 3, 1) := dk_29 (dk_at dksX5_count_1 1 rfl rfl)
theorem dX5_count_26 : decode cX5_count 26 = .ok (.bipush 6, 2) := dk_16 6 (dk_at dksX5_count_1 2 rfl rfl)
theorem dX5_count_28 : decode cX5_count 28 = .ok (.irem, 1) := dk_112 (dk_at dksX5_count_1 4 rfl rfl)
theorem dX5_count_29 : decode cX5_count 29 = .ok (.invokevirtual 158, 3) := dk_182 0 158 (dk_at dksX5_count_1 5 rfl rfl)
theorem dX5_count_32 : decode cX5_count 32 = .ok (.ifCond .eq 16, 3) := dk_153 0 16 (dk_at dksX5_count_1 8 rfl rfl)
theorem dX5_count_35 : decode cX5_count 35 = .ok (.aload_n 0, 1) := dk_42 (dk_at dksX5_count_1 11 rfl rfl)
theorem dX5_count_36 : decode cX5_count 36 = .ok (.getfield 13, 3) := dk_180 0 13 (dk_at dksX5_count_1 12 rfl rfl)
theorem dX5_count_39 : decode cX5_count 39 = .ok (.iload_n 3, 1) := dk_29 (dk_at dksX5_count_1 15 rfl rfl)
theorem dX5_count_40 : decode cX5_count 40 = .ok (.iaload, 1) := dk_46 (dk_at dksX5_count_1 16 rfl rfl)
theorem dX5_count_41 : decode cX5_count 41 = .ok (.ifCond .eq 7, 3) := dk_153 0 7 (dk_at dksX5_count_1 17 rfl rfl)
theorem dX5_count_44 : decode cX5_count 44 = .ok (.iconst 1, 1) := dk_4 (dk_at dksX5_count_1 20 rfl rfl)
theorem dX5_count_45 : decode cX5_count 45 = .ok (.goto 4, 3) := dk_167 0 4 (dk_at dksX5_count_1 21 rfl rfl)
theorem dX5_count_48 : decode cX5_count 48 = .ok (.iconst 0, 1) := dk_3 (dk_at dksX5_count_2 0 rfl rfl)
theorem dX5_count_49 : decode cX5_count 49 = .ok (.iadd, 1) := dk_96 (dk_at dksX5_count_2 1 rfl rfl)
theorem dX5_count_50 : decode cX5_count 50 = .ok (.istore_n 2, 1) := dk_61 (dk_at dksX5_count_2 2 rfl rfl)
theorem dX5_count_51 : decode cX5_count 51 = .ok (.iinc 3 1, 3) := dk_132 3 1 (dk_at dksX5_count_2 3 rfl rfl)
theorem dX5_count_54 : decode cX5_count 54 = .ok (.goto (-45), 3) := dk_167 255 211 (dk_at dksX5_count_2 6 rfl rfl)
theorem dX5_count_57 : decode cX5_count 57 = .ok (.iload_n 1, 1) := dk_27 (dk_at dksX5_count_2 9 rfl rfl)
theorem dX5_count_58 : decode cX5_count 58 = .ok (.tableswitch 80 0 6 #[42, 50, 58, 63, 68, 73, 78], 42) := by decide +kernel
theorem dX5_count_100 : decode cX5_count 100 = .ok (.aload_n 0, 1) := dk_42 (dk_at dksX5_count_4 0 rfl rfl)
theorem dX5_count_101 : decode cX5_count 101 = .ok (.getfield 13, 3) := dk_180 0 13 (dk_at dksX5_count_4 1 rfl rfl)
theorem dX5_count_104 : decode cX5_count 104 = .ok (.bipush 36, 2) := dk_16 36 (dk_at dksX5_count_4 4 rfl rfl)
theorem dX5_count_106 : decode cX5_count 106 = .ok (.iaload, 1) := dk_46 (dk_at dksX5_count_4 6 rfl rfl)
theorem dX5_count_107 : decode cX5_count 107 = .ok (.ireturn, 1) := dk_172 (dk_at dksX5_count_4 7 rfl rfl)
theorem dX5_count_108 : decode cX5_count 108 = .ok (.aload_n 0, 1) := dk_42 (dk_at dksX5_count_4 8 rfl rfl)
theorem dX5_count_109 : decode cX5_count 109 = .ok (.getfield 13, 3) := dk_180 0 13 (dk_at dksX5_count_4 9 rfl rfl)
theorem dX5_count_112 : decode cX5_count 112 = .ok (.bipush 37, 2) := dk_16 37 (dk_at dksX5_count_4 12 rfl rfl)
theorem dX5_count_114 : decode cX5_count 114 = .ok (.iaload, 1) := dk_46 (dk_at dksX5_count_4 14 rfl rfl)
theorem dX5_count_115 : decode cX5_count 115 = .ok (.ireturn, 1) := dk_172 (dk_at dksX5_count_4 15 rfl rfl)
theorem dX5_count_116 : decode cX5_count 116 = .ok (.aload_n 0, 1) := dk_42 (dk_at dksX5_count_4 16 rfl rfl)
theorem dX5_count_117 : decode cX5_count 117 = .ok (.getfield 189, 3) := dk_180 0 189 (dk_at dksX5_count_4 17 rfl rfl)
theorem dX5_count_120 : decode cX5_count 120 = .ok (.ireturn, 1) := dk_172 (dk_at dksX5_count_4 20 rfl rfl)
theorem dX5_count_121 : decode cX5_count 121 = .ok (.aload_n 0, 1) := dk_42 (dk_at dksX5_count_4 21 rfl rfl)
theorem dX5_count_122 : decode cX5_count 122 = .ok (.getfield 150, 3) := dk_180 0 150 (dk_at dksX5_count_5 0 rfl rfl)
theorem dX5_count_125 : decode cX5_count 125 = .ok (.ireturn, 1) := dk_172 (dk_at dksX5_count_5 3 rfl rfl)
theorem dX5_count_126 : decode cX5_count 126 = .ok (.aload_n 0, 1) := dk_42 (dk_at dksX5_count_5 4 rfl rfl)
theorem dX5_count_127 : decode cX5_count 127 = .ok (.getfield 87, 3) := dk_180 0 87 (dk_at dksX5_count_5 5 rfl rfl)
theorem dX5_count_130 : decode cX5_count 130 = .ok (.ireturn, 1) := dk_172 (dk_at dksX5_count_5 8 rfl rfl)
theorem dX5_count_131 : decode cX5_count 131 = .ok (.aload_n 0, 1) := dk_42 (dk_at dksX5_count_5 9 rfl rfl)
theorem dX5_count_132 : decode cX5_count 132 = .ok (.getfield 155, 3) := dk_180 0 155 (dk_at dksX5_count_5 10 rfl rfl)
theorem dX5_count_135 : decode cX5_count 135 = .ok (.ireturn, 1) := dk_172 (dk_at dksX5_count_5 13 rfl rfl)
theorem dX5_count_136 : decode cX5_count 136 = .ok (.iload_n 2, 1) := dk_28 (dk_at dksX5_count_5 14 rfl rfl)
theorem dX5_count_137 : decode cX5_count 137 = .ok (.ireturn, 1) := dk_172 (dk_at dksX5_count_5 15 rfl rfl)
theorem dX5_count_138 : decode cX5_count 138 = .ok (.ldc 133, 2) := dk_18 133 (dk_at dksX5_count_5 16 rfl rfl)
theorem dX5_count_140 : decode cX5_count 140 = .ok (.ireturn, 1) := dk_172 (dk_at dksX5_count_5 18 rfl rfl)
theorem q134 : (Jvm.Cond.initialized "UnimodularTablesModel") ∈ lw_all := lw_g (lw_at lw_m1 17 rfl) rfl
theorem q1175 : (Jvm.Cond.selects "UnimodularTablesModel" ({ cls := "java/lang/Object", name := "getClass", desc := "()Ljava/lang/Class;" } : Jvm.MethodName) ({ cls := "java/lang/Object", name := "getClass", desc := "()Ljava/lang/Class;" } : Jvm.MethodName)) ∈ lw_all := lw_g (lw_at lw_m5 98 rfl) rfl
theorem q1812 : (Jvm.Cond.instantiable "UnimodularTablesModel" (35 : Nat)) ∈ lw_all := lw_g (lw_at lw_m8 15 rfl) rfl
theorem q1814 : (Jvm.Cond.instanceMethod ({ cls := "UnimodularTablesModel", name := "<init>", desc := "()V" } : Jvm.MethodName)) ∈ lw_all := lw_g (lw_at lw_m8 17 rfl) rfl
theorem q1815 : (Jvm.Cond.code ({ cls := "UnimodularTablesModel", name := "<init>", desc := "()V" } : Jvm.MethodName) prog_9_method_1_code (1 : Nat) (Option.none : Option Jvm.ClassFile.FieldType)) ∈ lw_all := lw_g (lw_at lw_m8 18 rfl) rfl
theorem q1816 : (Jvm.Cond.methodLink "UnimodularTablesModel" (3 : Nat) ({ cls := "java/lang/Object", name := "<init>", desc := "()V" } : Jvm.MethodName)) ∈ lw_all := lw_g (lw_at lw_m8 19 rfl) rfl
theorem q1817 : (Jvm.Cond.fieldLink "UnimodularTablesModel" (83 : Nat) "UnimodularTablesModel" "thrown" "I") ∈ lw_all := lw_g (lw_at lw_m8 20 rfl) rfl
theorem q1818 : (Jvm.Cond.fieldLink "UnimodularTablesModel" (9 : Nat) "UnimodularTablesModel" "tape" "[B") ∈ lw_all := lw_g (lw_at lw_m8 21 rfl) rfl
theorem q1819 : (Jvm.Cond.fieldLink "UnimodularTablesModel" (87 : Nat) "UnimodularTablesModel" "length" "I") ∈ lw_all := lw_g (lw_at lw_m8 22 rfl) rfl
theorem q1820 : (Jvm.Cond.fieldLink "UnimodularTablesModel" (98 : Nat) "UnimodularTablesModel" "at" "I") ∈ lw_all := lw_g (lw_at lw_m8 23 rfl) rfl
theorem q1821 : (Jvm.Cond.fieldLink "UnimodularTablesModel" (105 : Nat) "UnimodularTablesModel" "fault" "I") ∈ lw_all := lw_g (lw_at lw_m8 24 rfl) rfl
theorem q1822 : (Jvm.Cond.fieldLink "UnimodularTablesModel" (13 : Nat) "UnimodularTablesModel" "now" "[I") ∈ lw_all := lw_g (lw_at lw_m8 25 rfl) rfl
theorem q1823 : (Jvm.Cond.fieldLink "UnimodularTablesModel" (17 : Nat) "UnimodularTablesModel" "read" "[I") ∈ lw_all := lw_g (lw_at lw_m8 26 rfl) rfl
theorem q1824 : (Jvm.Cond.fieldLink "UnimodularTablesModel" (20 : Nat) "UnimodularTablesModel" "trial" "[I") ∈ lw_all := lw_g (lw_at lw_m8 27 rfl) rfl
theorem q1825 : (Jvm.Cond.fieldLink "UnimodularTablesModel" (23 : Nat) "UnimodularTablesModel" "kept" "[I") ∈ lw_all := lw_g (lw_at lw_m8 28 rfl) rfl
theorem q1826 : (Jvm.Cond.fieldLink "UnimodularTablesModel" (26 : Nat) "UnimodularTablesModel" "plan" "[I") ∈ lw_all := lw_g (lw_at lw_m8 29 rfl) rfl
theorem q1827 : (Jvm.Cond.fieldLink "UnimodularTablesModel" (29 : Nat) "UnimodularTablesModel" "planLong" "[I") ∈ lw_all := lw_g (lw_at lw_m8 30 rfl) rfl
theorem q1828 : (Jvm.Cond.fieldLink "UnimodularTablesModel" (32 : Nat) "UnimodularTablesModel" "status" "[I") ∈ lw_all := lw_g (lw_at lw_m8 31 rfl) rfl
theorem q1829 : (Jvm.Cond.fieldLink "UnimodularTablesModel" (189 : Nat) "UnimodularTablesModel" "keptMany" "I") ∈ lw_all := lw_g (lw_at lw_m8 32 rfl) rfl
theorem q1830 : (Jvm.Cond.fieldLink "UnimodularTablesModel" (150 : Nat) "UnimodularTablesModel" "plans" "I") ∈ lw_all := lw_g (lw_at lw_m8 33 rfl) rfl
theorem q1831 : (Jvm.Cond.fieldLink "UnimodularTablesModel" (35 : Nat) "UnimodularTablesModel" "undoRow" "[I") ∈ lw_all := lw_g (lw_at lw_m8 34 rfl) rfl
theorem q1832 : (Jvm.Cond.fieldLink "UnimodularTablesModel" (155 : Nat) "UnimodularTablesModel" "acts" "I") ∈ lw_all := lw_g (lw_at lw_m8 35 rfl) rfl
theorem q1833 : (Jvm.Cond.fieldLink "UnimodularTablesModel" (38 : Nat) "UnimodularTablesModel" "dets" "[I") ∈ lw_all := lw_g (lw_at lw_m8 36 rfl) rfl
theorem q1834 : (Jvm.Cond.fieldLink "UnimodularTablesModel" (41 : Nat) "UnimodularTablesModel" "from" "[I") ∈ lw_all := lw_g (lw_at lw_m8 37 rfl) rfl
theorem q1835 : (Jvm.Cond.fieldLink "UnimodularTablesModel" (44 : Nat) "UnimodularTablesModel" "to" "[I") ∈ lw_all := lw_g (lw_at lw_m8 38 rfl) rfl
theorem q1836 : (Jvm.Cond.fieldLink "UnimodularTablesModel" (47 : Nat) "UnimodularTablesModel" "treeRow" "[I") ∈ lw_all := lw_g (lw_at lw_m8 39 rfl) rfl
theorem q1837 : (Jvm.Cond.fieldLink "UnimodularTablesModel" (50 : Nat) "UnimodularTablesModel" "walk" "[I") ∈ lw_all := lw_g (lw_at lw_m8 40 rfl) rfl
theorem q1838 : (Jvm.Cond.fieldLink "UnimodularTablesModel" (239 : Nat) "UnimodularTablesModel" "walkLong" "I") ∈ lw_all := lw_g (lw_at lw_m8 41 rfl) rfl
theorem q1839 : (Jvm.Cond.fieldLink "UnimodularTablesModel" (53 : Nat) "UnimodularTablesModel" "part" "[I") ∈ lw_all := lw_g (lw_at lw_m8 42 rfl) rfl
theorem q1840 : (Jvm.Cond.fieldLink "UnimodularTablesModel" (56 : Nat) "UnimodularTablesModel" "steps" "[I") ∈ lw_all := lw_g (lw_at lw_m8 43 rfl) rfl
theorem q1841 : (Jvm.Cond.fieldLink "UnimodularTablesModel" (59 : Nat) "UnimodularTablesModel" "sign" "[I") ∈ lw_all := lw_g (lw_at lw_m8 44 rfl) rfl
theorem q1842 : (Jvm.Cond.fieldLink "UnimodularTablesModel" (62 : Nat) "UnimodularTablesModel" "factor" "[I") ∈ lw_all := lw_g (lw_at lw_m8 45 rfl) rfl
theorem q1843 : (Jvm.Cond.fieldLink "UnimodularTablesModel" (65 : Nat) "UnimodularTablesModel" "goal" "[I") ∈ lw_all := lw_g (lw_at lw_m8 46 rfl) rfl
theorem q1844 : (Jvm.Cond.fieldLink "UnimodularTablesModel" (68 : Nat) "UnimodularTablesModel" "laid" "[I") ∈ lw_all := lw_g (lw_at lw_m8 47 rfl) rfl
theorem q1845 : (Jvm.Cond.fieldLink "UnimodularTablesModel" (71 : Nat) "UnimodularTablesModel" "rowsLaid" "[I") ∈ lw_all := lw_g (lw_at lw_m8 48 rfl) rfl
theorem q1846 : (Jvm.Cond.fieldLink "UnimodularTablesModel" (74 : Nat) "UnimodularTablesModel" "columnsLaid" "[I") ∈ lw_all := lw_g (lw_at lw_m8 49 rfl) rfl
theorem q1847 : (Jvm.Cond.fieldLink "UnimodularTablesModel" (77 : Nat) "UnimodularTablesModel" "apart" "[I") ∈ lw_all := lw_g (lw_at lw_m8 50 rfl) rfl
theorem q1848 : (Jvm.Cond.fieldLink "UnimodularTablesModel" (336 : Nat) "UnimodularTablesModel" "x" "J") ∈ lw_all := lw_g (lw_at lw_m8 51 rfl) rfl
theorem q1849 : (Jvm.Cond.fieldLink "UnimodularTablesModel" (80 : Nat) "UnimodularTablesModel" "imageRow" "[I") ∈ lw_all := lw_g (lw_at lw_m8 52 rfl) rfl
theorem q1850 : (Jvm.Cond.fieldLink "UnimodularTablesModel" (349 : Nat) "UnimodularTablesModel" "imageKept" "I") ∈ lw_all := lw_g (lw_at lw_m8 53 rfl) rfl
theorem q1851 : (Jvm.Cond.fieldLink "UnimodularTablesModel" (352 : Nat) "UnimodularTablesModel" "hasImage" "Z") ∈ lw_all := lw_g (lw_at lw_m8 54 rfl) rfl
theorem q1852 : (Jvm.Cond.lays "UnimodularTablesModel" "UnimodularTablesModel" "thrown" "I") ∈ lw_all := lw_g (lw_at lw_m8 55 rfl) rfl
theorem q1853 : (Jvm.Cond.soleField "UnimodularTablesModel" "thrown") ∈ lw_all := lw_g (lw_at lw_m8 56 rfl) rfl
theorem q1854 : (Jvm.Cond.laysFinal "UnimodularTablesModel" "UnimodularTablesModel" "tape" "[B") ∈ lw_all := lw_g (lw_at lw_m8 57 rfl) rfl
theorem q1855 : (Jvm.Cond.soleField "UnimodularTablesModel" "tape") ∈ lw_all := lw_g (lw_at lw_m8 58 rfl) rfl
theorem q1856 : (Jvm.Cond.lays "UnimodularTablesModel" "UnimodularTablesModel" "length" "I") ∈ lw_all := lw_g (lw_at lw_m8 59 rfl) rfl
theorem q1857 : (Jvm.Cond.soleField "UnimodularTablesModel" "length") ∈ lw_all := lw_g (lw_at lw_m8 60 rfl) rfl
theorem q1858 : (Jvm.Cond.lays "UnimodularTablesModel" "UnimodularTablesModel" "at" "I") ∈ lw_all := lw_g (lw_at lw_m8 61 rfl) rfl
theorem q1859 : (Jvm.Cond.soleField "UnimodularTablesModel" "at") ∈ lw_all := lw_g (lw_at lw_m8 62 rfl) rfl
theorem q1860 : (Jvm.Cond.lays "UnimodularTablesModel" "UnimodularTablesModel" "fault" "I") ∈ lw_all := lw_g (lw_at lw_m8 63 rfl) rfl
theorem q1861 : (Jvm.Cond.soleField "UnimodularTablesModel" "fault") ∈ lw_all := lw_g (lw_at lw_m8 64 rfl) rfl
theorem q1862 : (Jvm.Cond.laysFinal "UnimodularTablesModel" "UnimodularTablesModel" "now" "[I") ∈ lw_all := lw_g (lw_at lw_m8 65 rfl) rfl
theorem q1863 : (Jvm.Cond.soleField "UnimodularTablesModel" "now") ∈ lw_all := lw_g (lw_at lw_m8 66 rfl) rfl
theorem q1864 : (Jvm.Cond.laysFinal "UnimodularTablesModel" "UnimodularTablesModel" "read" "[I") ∈ lw_all := lw_g (lw_at lw_m8 67 rfl) rfl
theorem q1865 : (Jvm.Cond.soleField "UnimodularTablesModel" "read") ∈ lw_all := lw_g (lw_at lw_m8 68 rfl) rfl
theorem q1866 : (Jvm.Cond.laysFinal "UnimodularTablesModel" "UnimodularTablesModel" "trial" "[I") ∈ lw_all := lw_g (lw_at lw_m8 69 rfl) rfl
theorem q1867 : (Jvm.Cond.soleField "UnimodularTablesModel" "trial") ∈ lw_all := lw_g (lw_at lw_m8 70 rfl) rfl
theorem q1868 : (Jvm.Cond.laysFinal "UnimodularTablesModel" "UnimodularTablesModel" "kept" "[I") ∈ lw_all := lw_g (lw_at lw_m8 71 rfl) rfl
theorem q1869 : (Jvm.Cond.soleField "UnimodularTablesModel" "kept") ∈ lw_all := lw_g (lw_at lw_m8 72 rfl) rfl
theorem q1870 : (Jvm.Cond.laysFinal "UnimodularTablesModel" "UnimodularTablesModel" "plan" "[I") ∈ lw_all := lw_g (lw_at lw_m8 73 rfl) rfl
theorem q1871 : (Jvm.Cond.soleField "UnimodularTablesModel" "plan") ∈ lw_all := lw_g (lw_at lw_m8 74 rfl) rfl
theorem q1872 : (Jvm.Cond.laysFinal "UnimodularTablesModel" "UnimodularTablesModel" "planLong" "[I") ∈ lw_all := lw_g (lw_at lw_m8 75 rfl) rfl
theorem q1873 : (Jvm.Cond.soleField "UnimodularTablesModel" "planLong") ∈ lw_all := lw_g (lw_at lw_m8 76 rfl) rfl
theorem q1874 : (Jvm.Cond.laysFinal "UnimodularTablesModel" "UnimodularTablesModel" "status" "[I") ∈ lw_all := lw_g (lw_at lw_m8 77 rfl) rfl
theorem q1875 : (Jvm.Cond.soleField "UnimodularTablesModel" "status") ∈ lw_all := lw_g (lw_at lw_m8 78 rfl) rfl
theorem q1876 : (Jvm.Cond.lays "UnimodularTablesModel" "UnimodularTablesModel" "keptMany" "I") ∈ lw_all := lw_g (lw_at lw_m8 79 rfl) rfl
theorem q1877 : (Jvm.Cond.soleField "UnimodularTablesModel" "keptMany") ∈ lw_all := lw_g (lw_at lw_m8 80 rfl) rfl
theorem q1878 : (Jvm.Cond.lays "UnimodularTablesModel" "UnimodularTablesModel" "plans" "I") ∈ lw_all := lw_g (lw_at lw_m8 81 rfl) rfl
theorem q1879 : (Jvm.Cond.soleField "UnimodularTablesModel" "plans") ∈ lw_all := lw_g (lw_at lw_m8 82 rfl) rfl
theorem q1880 : (Jvm.Cond.laysFinal "UnimodularTablesModel" "UnimodularTablesModel" "undoRow" "[I") ∈ lw_all := lw_g (lw_at lw_m8 83 rfl) rfl
theorem q1881 : (Jvm.Cond.soleField "UnimodularTablesModel" "undoRow") ∈ lw_all := lw_g (lw_at lw_m8 84 rfl) rfl
theorem q1882 : (Jvm.Cond.lays "UnimodularTablesModel" "UnimodularTablesModel" "acts" "I") ∈ lw_all := lw_g (lw_at lw_m8 85 rfl) rfl
theorem q1883 : (Jvm.Cond.soleField "UnimodularTablesModel" "acts") ∈ lw_all := lw_g (lw_at lw_m8 86 rfl) rfl
theorem q1884 : (Jvm.Cond.laysFinal "UnimodularTablesModel" "UnimodularTablesModel" "dets" "[I") ∈ lw_all := lw_g (lw_at lw_m8 87 rfl) rfl
theorem q1885 : (Jvm.Cond.soleField "UnimodularTablesModel" "dets") ∈ lw_all := lw_g (lw_at lw_m8 88 rfl) rfl
theorem q1886 : (Jvm.Cond.laysFinal "UnimodularTablesModel" "UnimodularTablesModel" "from" "[I") ∈ lw_all := lw_g (lw_at lw_m8 89 rfl) rfl
theorem q1887 : (Jvm.Cond.soleField "UnimodularTablesModel" "from") ∈ lw_all := lw_g (lw_at lw_m8 90 rfl) rfl
theorem q1888 : (Jvm.Cond.laysFinal "UnimodularTablesModel" "UnimodularTablesModel" "to" "[I") ∈ lw_all := lw_g (lw_at lw_m8 91 rfl) rfl
theorem q1889 : (Jvm.Cond.soleField "UnimodularTablesModel" "to") ∈ lw_all := lw_g (lw_at lw_m8 92 rfl) rfl
theorem q1890 : (Jvm.Cond.laysFinal "UnimodularTablesModel" "UnimodularTablesModel" "treeRow" "[I") ∈ lw_all := lw_g (lw_at lw_m8 93 rfl) rfl
theorem q1891 : (Jvm.Cond.soleField "UnimodularTablesModel" "treeRow") ∈ lw_all := lw_g (lw_at lw_m8 94 rfl) rfl
theorem q1892 : (Jvm.Cond.laysFinal "UnimodularTablesModel" "UnimodularTablesModel" "walk" "[I") ∈ lw_all := lw_g (lw_at lw_m8 95 rfl) rfl
theorem q1893 : (Jvm.Cond.soleField "UnimodularTablesModel" "walk") ∈ lw_all := lw_g (lw_at lw_m8 96 rfl) rfl
theorem q1894 : (Jvm.Cond.lays "UnimodularTablesModel" "UnimodularTablesModel" "walkLong" "I") ∈ lw_all := lw_g (lw_at lw_m8 97 rfl) rfl
theorem q1895 : (Jvm.Cond.soleField "UnimodularTablesModel" "walkLong") ∈ lw_all := lw_g (lw_at lw_m8 98 rfl) rfl
theorem q1896 : (Jvm.Cond.laysFinal "UnimodularTablesModel" "UnimodularTablesModel" "part" "[I") ∈ lw_all := lw_g (lw_at lw_m8 99 rfl) rfl
theorem q1897 : (Jvm.Cond.soleField "UnimodularTablesModel" "part") ∈ lw_all := lw_g (lw_at lw_m8 100 rfl) rfl
theorem q1898 : (Jvm.Cond.laysFinal "UnimodularTablesModel" "UnimodularTablesModel" "steps" "[I") ∈ lw_all := lw_g (lw_at lw_m8 101 rfl) rfl
theorem q1899 : (Jvm.Cond.soleField "UnimodularTablesModel" "steps") ∈ lw_all := lw_g (lw_at lw_m8 102 rfl) rfl
theorem q1900 : (Jvm.Cond.laysFinal "UnimodularTablesModel" "UnimodularTablesModel" "sign" "[I") ∈ lw_all := lw_g (lw_at lw_m8 103 rfl) rfl
theorem q1901 : (Jvm.Cond.soleField "UnimodularTablesModel" "sign") ∈ lw_all := lw_g (lw_at lw_m8 104 rfl) rfl
theorem q1902 : (Jvm.Cond.laysFinal "UnimodularTablesModel" "UnimodularTablesModel" "factor" "[I") ∈ lw_all := lw_g (lw_at lw_m8 105 rfl) rfl
theorem q1903 : (Jvm.Cond.soleField "UnimodularTablesModel" "factor") ∈ lw_all := lw_g (lw_at lw_m8 106 rfl) rfl
theorem q1904 : (Jvm.Cond.laysFinal "UnimodularTablesModel" "UnimodularTablesModel" "goal" "[I") ∈ lw_all := lw_g (lw_at lw_m8 107 rfl) rfl
theorem q1905 : (Jvm.Cond.soleField "UnimodularTablesModel" "goal") ∈ lw_all := lw_g (lw_at lw_m8 108 rfl) rfl
theorem q1906 : (Jvm.Cond.laysFinal "UnimodularTablesModel" "UnimodularTablesModel" "laid" "[I") ∈ lw_all := lw_g (lw_at lw_m8 109 rfl) rfl
theorem q1907 : (Jvm.Cond.soleField "UnimodularTablesModel" "laid") ∈ lw_all := lw_g (lw_at lw_m8 110 rfl) rfl
theorem q1908 : (Jvm.Cond.laysFinal "UnimodularTablesModel" "UnimodularTablesModel" "rowsLaid" "[I") ∈ lw_all := lw_g (lw_at lw_m8 111 rfl) rfl
theorem q1909 : (Jvm.Cond.soleField "UnimodularTablesModel" "rowsLaid") ∈ lw_all := lw_g (lw_at lw_m8 112 rfl) rfl
theorem q1910 : (Jvm.Cond.laysFinal "UnimodularTablesModel" "UnimodularTablesModel" "columnsLaid" "[I") ∈ lw_all := lw_g (lw_at lw_m8 113 rfl) rfl
theorem q1911 : (Jvm.Cond.soleField "UnimodularTablesModel" "columnsLaid") ∈ lw_all := lw_g (lw_at lw_m8 114 rfl) rfl
theorem q1912 : (Jvm.Cond.laysFinal "UnimodularTablesModel" "UnimodularTablesModel" "apart" "[I") ∈ lw_all := lw_g (lw_at lw_m8 115 rfl) rfl
theorem q1913 : (Jvm.Cond.soleField "UnimodularTablesModel" "apart") ∈ lw_all := lw_g (lw_at lw_m8 116 rfl) rfl
theorem q1914 : (Jvm.Cond.lays "UnimodularTablesModel" "UnimodularTablesModel" "x" "J") ∈ lw_all := lw_g (lw_at lw_m8 117 rfl) rfl
theorem q1915 : (Jvm.Cond.soleField "UnimodularTablesModel" "x") ∈ lw_all := lw_g (lw_at lw_m8 118 rfl) rfl
theorem q1916 : (Jvm.Cond.laysFinal "UnimodularTablesModel" "UnimodularTablesModel" "imageRow" "[I") ∈ lw_all := lw_g (lw_at lw_m8 119 rfl) rfl
theorem q1917 : (Jvm.Cond.soleField "UnimodularTablesModel" "imageRow") ∈ lw_all := lw_g (lw_at lw_m8 120 rfl) rfl
theorem q1918 : (Jvm.Cond.lays "UnimodularTablesModel" "UnimodularTablesModel" "imageKept" "I") ∈ lw_all := lw_g (lw_at lw_m8 121 rfl) rfl
theorem q1919 : (Jvm.Cond.soleField "UnimodularTablesModel" "imageKept") ∈ lw_all := lw_g (lw_at lw_m8 122 rfl) rfl
theorem q1920 : (Jvm.Cond.lays "UnimodularTablesModel" "UnimodularTablesModel" "hasImage" "Z") ∈ lw_all := lw_g (lw_at lw_m8 123 rfl) rfl
theorem q1921 : (Jvm.Cond.soleField "UnimodularTablesModel" "hasImage") ∈ lw_all := lw_g (lw_at lw_m8 124 rfl) rfl
theorem q1922 : (Jvm.Cond.superclass "UnimodularTablesModel" "java/lang/Object") ∈ lw_all := lw_g (lw_at lw_m8 125 rfl) rfl
theorem q1924 : (Jvm.Cond.instanceMethod ({ cls := "UnimodularTablesModel", name := "thrown", desc := "()I" } : Jvm.MethodName)) ∈ lw_all := lw_g (lw_at lw_m8 127 rfl) rfl
theorem q1925 : (Jvm.Cond.selects "UnimodularTablesModel" ({ cls := "UnimodularTablesModel", name := "thrown", desc := "()I" } : Jvm.MethodName) ({ cls := "UnimodularTablesModel", name := "thrown", desc := "()I" } : Jvm.MethodName)) ∈ lw_all := lw_g (lw_at lw_m8 128 rfl) rfl
theorem q1926 : (Jvm.Cond.code ({ cls := "UnimodularTablesModel", name := "thrown", desc := "()I" } : Jvm.MethodName) prog_9_method_2_code (1 : Nat) (Option.some Jvm.ClassFile.FieldType.int)) ∈ lw_all := lw_g (lw_at lw_m8 129 rfl) rfl
theorem q1928 : (Jvm.Cond.instanceMethod ({ cls := "UnimodularTablesModel", name := "feed", desc := "(IIIII)I" } : Jvm.MethodName)) ∈ lw_all := lw_g (lw_at lw_m8 131 rfl) rfl
theorem q1929 : (Jvm.Cond.selects "UnimodularTablesModel" ({ cls := "UnimodularTablesModel", name := "feed", desc := "(IIIII)I" } : Jvm.MethodName) ({ cls := "UnimodularTablesModel", name := "feed", desc := "(IIIII)I" } : Jvm.MethodName)) ∈ lw_all := lw_g (lw_at lw_m8 132 rfl) rfl
theorem q1930 : (Jvm.Cond.code ({ cls := "UnimodularTablesModel", name := "feed", desc := "(IIIII)I" } : Jvm.MethodName) prog_9_method_8_code (6 : Nat) (Option.some Jvm.ClassFile.FieldType.int)) ∈ lw_all := lw_g (lw_at lw_m8 133 rfl) rfl
theorem q1931 : (Jvm.Cond.methodLink "UnimodularTablesModel" (90 : Nat) ({ cls := "UnimodularTablesModel", name := "bytesOf", desc := "(I)I" } : Jvm.MethodName)) ∈ lw_all := lw_g (lw_at lw_m8 134 rfl) rfl
theorem q1932 : (Jvm.Cond.static ({ cls := "UnimodularTablesModel", name := "bytesOf", desc := "(I)I" } : Jvm.MethodName)) ∈ lw_all := lw_g (lw_at lw_m8 135 rfl) rfl
theorem q1933 : (Jvm.Cond.code ({ cls := "UnimodularTablesModel", name := "bytesOf", desc := "(I)I" } : Jvm.MethodName) prog_9_method_6_code (3 : Nat) (Option.some Jvm.ClassFile.FieldType.int)) ∈ lw_all := lw_g (lw_at lw_m8 136 rfl) rfl
theorem q1934 : (Jvm.Cond.methodLink "UnimodularTablesModel" (94 : Nat) ({ cls := "UnimodularTablesModel", name := "brings", desc := "(I)V" } : Jvm.MethodName)) ∈ lw_all := lw_g (lw_at lw_m8 137 rfl) rfl
theorem q1935 : (Jvm.Cond.privateMethod ({ cls := "UnimodularTablesModel", name := "brings", desc := "(I)V" } : Jvm.MethodName)) ∈ lw_tbl := lw_at lw_m8 138 rfl
theorem q1936 : (Jvm.Cond.instanceMethod ({ cls := "UnimodularTablesModel", name := "brings", desc := "(I)V" } : Jvm.MethodName)) ∈ lw_all := lw_g (lw_at lw_m8 139 rfl) rfl
theorem q1937 : (Jvm.Cond.code ({ cls := "UnimodularTablesModel", name := "brings", desc := "(I)V" } : Jvm.MethodName) prog_9_method_7_code (4 : Nat) (Option.none : Option Jvm.ClassFile.FieldType)) ∈ lw_all := lw_g (lw_at lw_m8 140 rfl) rfl
theorem q1939 : (Jvm.Cond.instanceMethod ({ cls := "UnimodularTablesModel", name := "end", desc := "(I)Z" } : Jvm.MethodName)) ∈ lw_all := lw_g (lw_at lw_m8 142 rfl) rfl
theorem q1940 : (Jvm.Cond.selects "UnimodularTablesModel" ({ cls := "UnimodularTablesModel", name := "end", desc := "(I)Z" } : Jvm.MethodName) ({ cls := "UnimodularTablesModel", name := "end", desc := "(I)Z" } : Jvm.MethodName)) ∈ lw_all := lw_g (lw_at lw_m8 143 rfl) rfl
theorem q1941 : (Jvm.Cond.code ({ cls := "UnimodularTablesModel", name := "end", desc := "(I)Z" } : Jvm.MethodName) prog_9_method_9_code (2 : Nat) (Option.some Jvm.ClassFile.FieldType.boolean)) ∈ lw_all := lw_g (lw_at lw_m8 144 rfl) rfl
theorem q1943 : (Jvm.Cond.instanceMethod ({ cls := "UnimodularTablesModel", name := "fault", desc := "(I)I" } : Jvm.MethodName)) ∈ lw_all := lw_g (lw_at lw_m8 146 rfl) rfl
theorem q1944 : (Jvm.Cond.selects "UnimodularTablesModel" ({ cls := "UnimodularTablesModel", name := "fault", desc := "(I)I" } : Jvm.MethodName) ({ cls := "UnimodularTablesModel", name := "fault", desc := "(I)I" } : Jvm.MethodName)) ∈ lw_all := lw_g (lw_at lw_m8 147 rfl) rfl
theorem q1945 : (Jvm.Cond.code ({ cls := "UnimodularTablesModel", name := "fault", desc := "(I)I" } : Jvm.MethodName) prog_9_method_19_code (2 : Nat) (Option.some Jvm.ClassFile.FieldType.int)) ∈ lw_all := lw_g (lw_at lw_m8 148 rfl) rfl
theorem q1946 : (Jvm.Cond.methodLink "UnimodularTablesModel" (140 : Nat) ({ cls := "UnimodularTablesModel", name := "isIn", desc := "(JJJ)Z" } : Jvm.MethodName)) ∈ lw_all := lw_g (lw_at lw_m8 149 rfl) rfl
theorem q1947 : (Jvm.Cond.static ({ cls := "UnimodularTablesModel", name := "isIn", desc := "(JJJ)Z" } : Jvm.MethodName)) ∈ lw_all := lw_g (lw_at lw_m8 150 rfl) rfl
theorem q1948 : (Jvm.Cond.code ({ cls := "UnimodularTablesModel", name := "isIn", desc := "(JJJ)Z" } : Jvm.MethodName) prog_9_method_3_code (6 : Nat) (Option.some Jvm.ClassFile.FieldType.boolean)) ∈ lw_all := lw_g (lw_at lw_m8 151 rfl) rfl
theorem q1949 : (Jvm.Cond.methodLink "UnimodularTablesModel" (144 : Nat) ({ cls := "UnimodularTablesModel", name := "readTable", desc := "()V" } : Jvm.MethodName)) ∈ lw_all := lw_g (lw_at lw_m8 152 rfl) rfl
theorem q1950 : (Jvm.Cond.privateMethod ({ cls := "UnimodularTablesModel", name := "readTable", desc := "()V" } : Jvm.MethodName)) ∈ lw_tbl := lw_at lw_m8 153 rfl
theorem q1951 : (Jvm.Cond.instanceMethod ({ cls := "UnimodularTablesModel", name := "readTable", desc := "()V" } : Jvm.MethodName)) ∈ lw_all := lw_g (lw_at lw_m8 154 rfl) rfl
theorem q1952 : (Jvm.Cond.code ({ cls := "UnimodularTablesModel", name := "readTable", desc := "()V" } : Jvm.MethodName) prog_9_method_15_code (1 : Nat) (Option.none : Option Jvm.ClassFile.FieldType)) ∈ lw_all := lw_g (lw_at lw_m8 155 rfl) rfl
theorem q1953 : (Jvm.Cond.methodLink "UnimodularTablesModel" (128 : Nat) ({ cls := "UnimodularTablesModel", name := "readRow", desc := "()V" } : Jvm.MethodName)) ∈ lw_all := lw_g (lw_at lw_m8 156 rfl) rfl
theorem q1954 : (Jvm.Cond.privateMethod ({ cls := "UnimodularTablesModel", name := "readRow", desc := "()V" } : Jvm.MethodName)) ∈ lw_tbl := lw_at lw_m8 157 rfl
theorem q1955 : (Jvm.Cond.instanceMethod ({ cls := "UnimodularTablesModel", name := "readRow", desc := "()V" } : Jvm.MethodName)) ∈ lw_all := lw_g (lw_at lw_m8 158 rfl) rfl
theorem q1956 : (Jvm.Cond.code ({ cls := "UnimodularTablesModel", name := "readRow", desc := "()V" } : Jvm.MethodName) prog_9_method_14_code (4 : Nat) (Option.none : Option Jvm.ClassFile.FieldType)) ∈ lw_all := lw_g (lw_at lw_m8 159 rfl) rfl
theorem q1957 : (Jvm.Cond.stringRef "UnimodularTablesModel" (116 : Nat) "-0+") ∈ lw_tbl := lw_at lw_m8 160 rfl
theorem q1958 : (Jvm.Cond.methodLink "UnimodularTablesModel" (118 : Nat) ({ cls := "UnimodularTablesModel", name := "look", desc := "()I" } : Jvm.MethodName)) ∈ lw_all := lw_g (lw_at lw_m8 161 rfl) rfl
theorem q1959 : (Jvm.Cond.privateMethod ({ cls := "UnimodularTablesModel", name := "look", desc := "()I" } : Jvm.MethodName)) ∈ lw_tbl := lw_at lw_m8 162 rfl
theorem q1960 : (Jvm.Cond.instanceMethod ({ cls := "UnimodularTablesModel", name := "look", desc := "()I" } : Jvm.MethodName)) ∈ lw_all := lw_g (lw_at lw_m8 163 rfl) rfl
theorem q1961 : (Jvm.Cond.code ({ cls := "UnimodularTablesModel", name := "look", desc := "()I" } : Jvm.MethodName) prog_9_method_11_code (1 : Nat) (Option.some Jvm.ClassFile.FieldType.int)) ∈ lw_all := lw_g (lw_at lw_m8 164 rfl) rfl
theorem q1962 : (Jvm.Cond.methodLink "UnimodularTablesModel" (101 : Nat) ({ cls := "UnimodularTablesModel", name := "here", desc := "()I" } : Jvm.MethodName)) ∈ lw_all := lw_g (lw_at lw_m8 165 rfl) rfl
theorem q1963 : (Jvm.Cond.privateMethod ({ cls := "UnimodularTablesModel", name := "here", desc := "()I" } : Jvm.MethodName)) ∈ lw_tbl := lw_at lw_m8 166 rfl
theorem q1964 : (Jvm.Cond.instanceMethod ({ cls := "UnimodularTablesModel", name := "here", desc := "()I" } : Jvm.MethodName)) ∈ lw_all := lw_g (lw_at lw_m8 167 rfl) rfl
theorem q1965 : (Jvm.Cond.code ({ cls := "UnimodularTablesModel", name := "here", desc := "()I" } : Jvm.MethodName) prog_9_method_10_code (1 : Nat) (Option.some Jvm.ClassFile.FieldType.int)) ∈ lw_all := lw_g (lw_at lw_m8 168 rfl) rfl
theorem q1966 : (Jvm.Cond.methodLink "UnimodularTablesModel" (121 : Nat) ({ cls := "UnimodularTablesModel", name := "spotOf", desc := "(Ljava/lang/String;I)I" } : Jvm.MethodName)) ∈ lw_all := lw_g (lw_at lw_m8 169 rfl) rfl
theorem q1967 : (Jvm.Cond.static ({ cls := "UnimodularTablesModel", name := "spotOf", desc := "(Ljava/lang/String;I)I" } : Jvm.MethodName)) ∈ lw_all := lw_g (lw_at lw_m8 170 rfl) rfl
theorem q1968 : (Jvm.Cond.code ({ cls := "UnimodularTablesModel", name := "spotOf", desc := "(Ljava/lang/String;I)I" } : Jvm.MethodName) prog_9_method_13_code (3 : Nat) (Option.some Jvm.ClassFile.FieldType.int)) ∈ lw_all := lw_g (lw_at lw_m8 171 rfl) rfl
theorem q1969 : (Jvm.Cond.methodLink "UnimodularTablesModel" (108 : Nat) ({ cls := "java/lang/String", name := "length", desc := "()I" } : Jvm.MethodName)) ∈ lw_all := lw_g (lw_at lw_m8 172 rfl) rfl
theorem q1970 : (Jvm.Cond.methodLink "UnimodularTablesModel" (112 : Nat) ({ cls := "java/lang/String", name := "charAt", desc := "(I)C" } : Jvm.MethodName)) ∈ lw_all := lw_g (lw_at lw_m8 173 rfl) rfl
theorem q1971 : (Jvm.Cond.methodLink "UnimodularTablesModel" (125 : Nat) ({ cls := "UnimodularTablesModel", name := "fails", desc := "()V" } : Jvm.MethodName)) ∈ lw_all := lw_g (lw_at lw_m8 174 rfl) rfl
theorem q1972 : (Jvm.Cond.privateMethod ({ cls := "UnimodularTablesModel", name := "fails", desc := "()V" } : Jvm.MethodName)) ∈ lw_tbl := lw_at lw_m8 175 rfl
theorem q1973 : (Jvm.Cond.instanceMethod ({ cls := "UnimodularTablesModel", name := "fails", desc := "()V" } : Jvm.MethodName)) ∈ lw_all := lw_g (lw_at lw_m8 176 rfl) rfl
theorem q1974 : (Jvm.Cond.code ({ cls := "UnimodularTablesModel", name := "fails", desc := "()V" } : Jvm.MethodName) prog_9_method_12_code (1 : Nat) (Option.none : Option Jvm.ClassFile.FieldType)) ∈ lw_all := lw_g (lw_at lw_m8 177 rfl) rfl
theorem q1975 : (Jvm.Cond.methodLink "UnimodularTablesModel" (147 : Nat) ({ cls := "UnimodularTablesModel", name := "readPlan", desc := "()V" } : Jvm.MethodName)) ∈ lw_all := lw_g (lw_at lw_m8 178 rfl) rfl
theorem q1976 : (Jvm.Cond.privateMethod ({ cls := "UnimodularTablesModel", name := "readPlan", desc := "()V" } : Jvm.MethodName)) ∈ lw_tbl := lw_at lw_m8 179 rfl
theorem q1977 : (Jvm.Cond.instanceMethod ({ cls := "UnimodularTablesModel", name := "readPlan", desc := "()V" } : Jvm.MethodName)) ∈ lw_all := lw_g (lw_at lw_m8 180 rfl) rfl
theorem q1978 : (Jvm.Cond.code ({ cls := "UnimodularTablesModel", name := "readPlan", desc := "()V" } : Jvm.MethodName) prog_9_method_18_code (3 : Nat) (Option.none : Option Jvm.ClassFile.FieldType)) ∈ lw_all := lw_g (lw_at lw_m8 181 rfl) rfl
theorem q1979 : (Jvm.Cond.methodLink "UnimodularTablesModel" (137 : Nat) ({ cls := "UnimodularTablesModel", name := "readStep", desc := "(I)V" } : Jvm.MethodName)) ∈ lw_all := lw_g (lw_at lw_m8 182 rfl) rfl
theorem q1980 : (Jvm.Cond.privateMethod ({ cls := "UnimodularTablesModel", name := "readStep", desc := "(I)V" } : Jvm.MethodName)) ∈ lw_tbl := lw_at lw_m8 183 rfl
theorem q1981 : (Jvm.Cond.instanceMethod ({ cls := "UnimodularTablesModel", name := "readStep", desc := "(I)V" } : Jvm.MethodName)) ∈ lw_all := lw_g (lw_at lw_m8 184 rfl) rfl
theorem q1982 : (Jvm.Cond.code ({ cls := "UnimodularTablesModel", name := "readStep", desc := "(I)V" } : Jvm.MethodName) prog_9_method_17_code (4 : Nat) (Option.none : Option Jvm.ClassFile.FieldType)) ∈ lw_all := lw_g (lw_at lw_m8 185 rfl) rfl
theorem q1983 : (Jvm.Cond.stringRef "UnimodularTablesModel" (131 : Nat) "rcxypte") ∈ lw_tbl := lw_at lw_m8 186 rfl
theorem q1984 : (Jvm.Cond.constant "UnimodularTablesModel" (133 : Nat) (-1000000 : Int32)) ∈ lw_all := lw_g (lw_at lw_m8 187 rfl) rfl
theorem q1985 : (Jvm.Cond.methodLink "UnimodularTablesModel" (134 : Nat) ({ cls := "UnimodularTablesModel", name := "digit", desc := "()I" } : Jvm.MethodName)) ∈ lw_all := lw_g (lw_at lw_m8 188 rfl) rfl
theorem q1986 : (Jvm.Cond.privateMethod ({ cls := "UnimodularTablesModel", name := "digit", desc := "()I" } : Jvm.MethodName)) ∈ lw_tbl := lw_at lw_m8 189 rfl
theorem q1987 : (Jvm.Cond.instanceMethod ({ cls := "UnimodularTablesModel", name := "digit", desc := "()I" } : Jvm.MethodName)) ∈ lw_all := lw_g (lw_at lw_m8 190 rfl) rfl
theorem q1988 : (Jvm.Cond.code ({ cls := "UnimodularTablesModel", name := "digit", desc := "()I" } : Jvm.MethodName) prog_9_method_16_code (2 : Nat) (Option.some Jvm.ClassFile.FieldType.int)) ∈ lw_all := lw_g (lw_at lw_m8 191 rfl) rfl
theorem q1990 : (Jvm.Cond.instanceMethod ({ cls := "UnimodularTablesModel", name := "text", desc := "(I)I" } : Jvm.MethodName)) ∈ lw_all := lw_g (lw_at lw_m8 193 rfl) rfl
theorem q1991 : (Jvm.Cond.selects "UnimodularTablesModel" ({ cls := "UnimodularTablesModel", name := "text", desc := "(I)I" } : Jvm.MethodName) ({ cls := "UnimodularTablesModel", name := "text", desc := "(I)I" } : Jvm.MethodName)) ∈ lw_all := lw_g (lw_at lw_m8 194 rfl) rfl
theorem q1992 : (Jvm.Cond.code ({ cls := "UnimodularTablesModel", name := "text", desc := "(I)I" } : Jvm.MethodName) prog_9_method_20_code (3 : Nat) (Option.some Jvm.ClassFile.FieldType.int)) ∈ lw_all := lw_g (lw_at lw_m8 195 rfl) rfl
theorem q1993 : (Jvm.Cond.methodLink "UnimodularTablesModel" (153 : Nat) ({ cls := "UnimodularTablesModel", name := "fault", desc := "(I)I" } : Jvm.MethodName)) ∈ lw_all := lw_g (lw_at lw_m8 196 rfl) rfl
theorem q1995 : (Jvm.Cond.instanceMethod ({ cls := "UnimodularTablesModel", name := "entry", desc := "(II)I" } : Jvm.MethodName)) ∈ lw_all := lw_g (lw_at lw_m8 198 rfl) rfl
theorem q1996 : (Jvm.Cond.selects "UnimodularTablesModel" ({ cls := "UnimodularTablesModel", name := "entry", desc := "(II)I" } : Jvm.MethodName) ({ cls := "UnimodularTablesModel", name := "entry", desc := "(II)I" } : Jvm.MethodName)) ∈ lw_all := lw_g (lw_at lw_m8 199 rfl) rfl
theorem q1997 : (Jvm.Cond.code ({ cls := "UnimodularTablesModel", name := "entry", desc := "(II)I" } : Jvm.MethodName) prog_9_method_23_code (3 : Nat) (Option.some Jvm.ClassFile.FieldType.int)) ∈ lw_all := lw_g (lw_at lw_m8 200 rfl) rfl
theorem q1998 : (Jvm.Cond.methodLink "UnimodularTablesModel" (158 : Nat) ({ cls := "UnimodularTablesModel", name := "isCell", desc := "([III)Z" } : Jvm.MethodName)) ∈ lw_all := lw_g (lw_at lw_m8 201 rfl) rfl
theorem q1999 : (Jvm.Cond.privateMethod ({ cls := "UnimodularTablesModel", name := "isCell", desc := "([III)Z" } : Jvm.MethodName)) ∈ lw_tbl := lw_at lw_m8 202 rfl
theorem q2000 : (Jvm.Cond.instanceMethod ({ cls := "UnimodularTablesModel", name := "isCell", desc := "([III)Z" } : Jvm.MethodName)) ∈ lw_all := lw_g (lw_at lw_m8 203 rfl) rfl
theorem q2001 : (Jvm.Cond.code ({ cls := "UnimodularTablesModel", name := "isCell", desc := "([III)Z" } : Jvm.MethodName) prog_9_method_22_code (4 : Nat) (Option.some Jvm.ClassFile.FieldType.boolean)) ∈ lw_all := lw_g (lw_at lw_m8 204 rfl) rfl
theorem q2003 : (Jvm.Cond.instanceMethod ({ cls := "UnimodularTablesModel", name := "change", desc := "(III)I" } : Jvm.MethodName)) ∈ lw_all := lw_g (lw_at lw_m8 206 rfl) rfl
theorem q2004 : (Jvm.Cond.selects "UnimodularTablesModel" ({ cls := "UnimodularTablesModel", name := "change", desc := "(III)I" } : Jvm.MethodName) ({ cls := "UnimodularTablesModel", name := "change", desc := "(III)I" } : Jvm.MethodName)) ∈ lw_all := lw_g (lw_at lw_m8 207 rfl) rfl
theorem q2005 : (Jvm.Cond.code ({ cls := "UnimodularTablesModel", name := "change", desc := "(III)I" } : Jvm.MethodName) prog_9_method_26_code (6 : Nat) (Option.some Jvm.ClassFile.FieldType.int)) ∈ lw_all := lw_g (lw_at lw_m8 208 rfl) rfl
theorem q2006 : (Jvm.Cond.constantLong "UnimodularTablesModel" (162 : Nat) (-1 : Int64)) ∈ lw_all := lw_g (lw_at lw_m8 209 rfl) rfl
theorem q2007 : (Jvm.Cond.methodLink "UnimodularTablesModel" (164 : Nat) ({ cls := "UnimodularTablesModel", name := "refused", desc := "(I)I" } : Jvm.MethodName)) ∈ lw_all := lw_g (lw_at lw_m8 210 rfl) rfl
theorem q2008 : (Jvm.Cond.privateMethod ({ cls := "UnimodularTablesModel", name := "refused", desc := "(I)I" } : Jvm.MethodName)) ∈ lw_tbl := lw_at lw_m8 211 rfl
theorem q2009 : (Jvm.Cond.instanceMethod ({ cls := "UnimodularTablesModel", name := "refused", desc := "(I)I" } : Jvm.MethodName)) ∈ lw_all := lw_g (lw_at lw_m8 212 rfl) rfl
theorem q2010 : (Jvm.Cond.code ({ cls := "UnimodularTablesModel", name := "refused", desc := "(I)I" } : Jvm.MethodName) prog_9_method_25_code (2 : Nat) (Option.some Jvm.ClassFile.FieldType.int)) ∈ lw_all := lw_g (lw_at lw_m8 213 rfl) rfl
theorem q2011 : (Jvm.Cond.methodLink "UnimodularTablesModel" (167 : Nat) ({ cls := "UnimodularTablesModel", name := "remember", desc := "()V" } : Jvm.MethodName)) ∈ lw_all := lw_g (lw_at lw_m8 214 rfl) rfl
theorem q2012 : (Jvm.Cond.privateMethod ({ cls := "UnimodularTablesModel", name := "remember", desc := "()V" } : Jvm.MethodName)) ∈ lw_tbl := lw_at lw_m8 215 rfl
theorem q2013 : (Jvm.Cond.instanceMethod ({ cls := "UnimodularTablesModel", name := "remember", desc := "()V" } : Jvm.MethodName)) ∈ lw_all := lw_g (lw_at lw_m8 216 rfl) rfl
theorem q2014 : (Jvm.Cond.code ({ cls := "UnimodularTablesModel", name := "remember", desc := "()V" } : Jvm.MethodName) prog_9_method_24_code (2 : Nat) (Option.none : Option Jvm.ClassFile.FieldType)) ∈ lw_all := lw_g (lw_at lw_m8 217 rfl) rfl
theorem q2016 : (Jvm.Cond.instanceMethod ({ cls := "UnimodularTablesModel", name := "deal", desc := "(III)I" } : Jvm.MethodName)) ∈ lw_all := lw_g (lw_at lw_m8 219 rfl) rfl
theorem q2017 : (Jvm.Cond.selects "UnimodularTablesModel" ({ cls := "UnimodularTablesModel", name := "deal", desc := "(III)I" } : Jvm.MethodName) ({ cls := "UnimodularTablesModel", name := "deal", desc := "(III)I" } : Jvm.MethodName)) ∈ lw_all := lw_g (lw_at lw_m8 220 rfl) rfl
theorem q2018 : (Jvm.Cond.code ({ cls := "UnimodularTablesModel", name := "deal", desc := "(III)I" } : Jvm.MethodName) prog_9_method_31_code (5 : Nat) (Option.some Jvm.ClassFile.FieldType.int)) ∈ lw_all := lw_g (lw_at lw_m8 221 rfl) rfl
theorem q2019 : (Jvm.Cond.methodLink "UnimodularTablesModel" (181 : Nat) ({ cls := "UnimodularTablesModel", name := "stops", desc := "([IIII)I" } : Jvm.MethodName)) ∈ lw_all := lw_g (lw_at lw_m8 222 rfl) rfl
theorem q2020 : (Jvm.Cond.privateMethod ({ cls := "UnimodularTablesModel", name := "stops", desc := "([IIII)I" } : Jvm.MethodName)) ∈ lw_tbl := lw_at lw_m8 223 rfl
theorem q2021 : (Jvm.Cond.instanceMethod ({ cls := "UnimodularTablesModel", name := "stops", desc := "([IIII)I" } : Jvm.MethodName)) ∈ lw_all := lw_g (lw_at lw_m8 224 rfl) rfl
theorem q2022 : (Jvm.Cond.code ({ cls := "UnimodularTablesModel", name := "stops", desc := "([IIII)I" } : Jvm.MethodName) prog_9_method_28_code (7 : Nat) (Option.some Jvm.ClassFile.FieldType.int)) ∈ lw_all := lw_g (lw_at lw_m8 225 rfl) rfl
theorem q2023 : (Jvm.Cond.methodLink "UnimodularTablesModel" (174 : Nat) ({ cls := "UnimodularTablesModel", name := "canTurn", desc := "([III)Z" } : Jvm.MethodName)) ∈ lw_all := lw_g (lw_at lw_m8 226 rfl) rfl
theorem q2024 : (Jvm.Cond.privateMethod ({ cls := "UnimodularTablesModel", name := "canTurn", desc := "([III)Z" } : Jvm.MethodName)) ∈ lw_tbl := lw_at lw_m8 227 rfl
theorem q2025 : (Jvm.Cond.instanceMethod ({ cls := "UnimodularTablesModel", name := "canTurn", desc := "([III)Z" } : Jvm.MethodName)) ∈ lw_all := lw_g (lw_at lw_m8 228 rfl) rfl
theorem q2026 : (Jvm.Cond.code ({ cls := "UnimodularTablesModel", name := "canTurn", desc := "([III)Z" } : Jvm.MethodName) prog_9_method_27_code (8 : Nat) (Option.some Jvm.ClassFile.FieldType.boolean)) ∈ lw_all := lw_g (lw_at lw_m8 229 rfl) rfl
theorem q2027 : (Jvm.Cond.methodLink "UnimodularTablesModel" (170 : Nat) ({ cls := "UnimodularTablesModel", name := "copy", desc := "([I[I)V" } : Jvm.MethodName)) ∈ lw_all := lw_g (lw_at lw_m8 230 rfl) rfl
theorem q2028 : (Jvm.Cond.static ({ cls := "UnimodularTablesModel", name := "copy", desc := "([I[I)V" } : Jvm.MethodName)) ∈ lw_all := lw_g (lw_at lw_m8 231 rfl) rfl
theorem q2029 : (Jvm.Cond.code ({ cls := "UnimodularTablesModel", name := "copy", desc := "([I[I)V" } : Jvm.MethodName) prog_9_method_21_code (3 : Nat) (Option.none : Option Jvm.ClassFile.FieldType)) ∈ lw_all := lw_g (lw_at lw_m8 232 rfl) rfl
theorem q2030 : (Jvm.Cond.methodLink "UnimodularTablesModel" (185 : Nat) ({ cls := "UnimodularTablesModel", name := "does", desc := "([IIII)V" } : Jvm.MethodName)) ∈ lw_all := lw_g (lw_at lw_m8 233 rfl) rfl
theorem q2031 : (Jvm.Cond.privateMethod ({ cls := "UnimodularTablesModel", name := "does", desc := "([IIII)V" } : Jvm.MethodName)) ∈ lw_tbl := lw_at lw_m8 234 rfl
theorem q2032 : (Jvm.Cond.instanceMethod ({ cls := "UnimodularTablesModel", name := "does", desc := "([IIII)V" } : Jvm.MethodName)) ∈ lw_all := lw_g (lw_at lw_m8 235 rfl) rfl
theorem q2033 : (Jvm.Cond.code ({ cls := "UnimodularTablesModel", name := "does", desc := "([IIII)V" } : Jvm.MethodName) prog_9_method_30_code (7 : Nat) (Option.none : Option Jvm.ClassFile.FieldType)) ∈ lw_all := lw_g (lw_at lw_m8 236 rfl) rfl
theorem q2034 : (Jvm.Cond.methodLink "UnimodularTablesModel" (177 : Nat) ({ cls := "UnimodularTablesModel", name := "swaps", desc := "([III)V" } : Jvm.MethodName)) ∈ lw_all := lw_g (lw_at lw_m8 237 rfl) rfl
theorem q2035 : (Jvm.Cond.static ({ cls := "UnimodularTablesModel", name := "swaps", desc := "([III)V" } : Jvm.MethodName)) ∈ lw_all := lw_g (lw_at lw_m8 238 rfl) rfl
theorem q2036 : (Jvm.Cond.code ({ cls := "UnimodularTablesModel", name := "swaps", desc := "([III)V" } : Jvm.MethodName) prog_9_method_29_code (4 : Nat) (Option.none : Option Jvm.ClassFile.FieldType)) ∈ lw_all := lw_g (lw_at lw_m8 239 rfl) rfl
theorem q2038 : (Jvm.Cond.instanceMethod ({ cls := "UnimodularTablesModel", name := "keep", desc := "()I" } : Jvm.MethodName)) ∈ lw_all := lw_g (lw_at lw_m9 1 rfl) rfl
theorem q2039 : (Jvm.Cond.selects "UnimodularTablesModel" ({ cls := "UnimodularTablesModel", name := "keep", desc := "()I" } : Jvm.MethodName) ({ cls := "UnimodularTablesModel", name := "keep", desc := "()I" } : Jvm.MethodName)) ∈ lw_all := lw_g (lw_at lw_m9 2 rfl) rfl
theorem q2040 : (Jvm.Cond.code ({ cls := "UnimodularTablesModel", name := "keep", desc := "()I" } : Jvm.MethodName) prog_9_method_32_code (2 : Nat) (Option.some Jvm.ClassFile.FieldType.int)) ∈ lw_all := lw_g (lw_at lw_m9 3 rfl) rfl
theorem q2042 : (Jvm.Cond.instanceMethod ({ cls := "UnimodularTablesModel", name := "kept", desc := "(III)I" } : Jvm.MethodName)) ∈ lw_all := lw_g (lw_at lw_m9 5 rfl) rfl
theorem q2043 : (Jvm.Cond.selects "UnimodularTablesModel" ({ cls := "UnimodularTablesModel", name := "kept", desc := "(III)I" } : Jvm.MethodName) ({ cls := "UnimodularTablesModel", name := "kept", desc := "(III)I" } : Jvm.MethodName)) ∈ lw_all := lw_g (lw_at lw_m9 6 rfl) rfl
theorem q2044 : (Jvm.Cond.code ({ cls := "UnimodularTablesModel", name := "kept", desc := "(III)I" } : Jvm.MethodName) prog_9_method_35_code (4 : Nat) (Option.some Jvm.ClassFile.FieldType.int)) ∈ lw_all := lw_g (lw_at lw_m9 7 rfl) rfl
theorem q2045 : (Jvm.Cond.methodLink "UnimodularTablesModel" (192 : Nat) ({ cls := "UnimodularTablesModel", name := "isKept", desc := "(I)Z" } : Jvm.MethodName)) ∈ lw_all := lw_g (lw_at lw_m9 8 rfl) rfl
theorem q2046 : (Jvm.Cond.privateMethod ({ cls := "UnimodularTablesModel", name := "isKept", desc := "(I)Z" } : Jvm.MethodName)) ∈ lw_tbl := lw_at lw_m9 9 rfl
theorem q2047 : (Jvm.Cond.instanceMethod ({ cls := "UnimodularTablesModel", name := "isKept", desc := "(I)Z" } : Jvm.MethodName)) ∈ lw_all := lw_g (lw_at lw_m9 10 rfl) rfl
theorem q2048 : (Jvm.Cond.code ({ cls := "UnimodularTablesModel", name := "isKept", desc := "(I)Z" } : Jvm.MethodName) prog_9_method_33_code (2 : Nat) (Option.some Jvm.ClassFile.FieldType.boolean)) ∈ lw_all := lw_g (lw_at lw_m9 11 rfl) rfl
theorem q2049 : (Jvm.Cond.methodLink "UnimodularTablesModel" (196 : Nat) ({ cls := "UnimodularTablesModel", name := "keptAt", desc := "(III)I" } : Jvm.MethodName)) ∈ lw_all := lw_g (lw_at lw_m9 12 rfl) rfl
theorem q2050 : (Jvm.Cond.privateMethod ({ cls := "UnimodularTablesModel", name := "keptAt", desc := "(III)I" } : Jvm.MethodName)) ∈ lw_tbl := lw_at lw_m9 13 rfl
theorem q2051 : (Jvm.Cond.instanceMethod ({ cls := "UnimodularTablesModel", name := "keptAt", desc := "(III)I" } : Jvm.MethodName)) ∈ lw_all := lw_g (lw_at lw_m9 14 rfl) rfl
theorem q2052 : (Jvm.Cond.code ({ cls := "UnimodularTablesModel", name := "keptAt", desc := "(III)I" } : Jvm.MethodName) prog_9_method_34_code (4 : Nat) (Option.some Jvm.ClassFile.FieldType.int)) ∈ lw_all := lw_g (lw_at lw_m9 15 rfl) rfl
theorem q2054 : (Jvm.Cond.instanceMethod ({ cls := "UnimodularTablesModel", name := "join", desc := "(III)I" } : Jvm.MethodName)) ∈ lw_all := lw_g (lw_at lw_m9 17 rfl) rfl
theorem q2055 : (Jvm.Cond.selects "UnimodularTablesModel" ({ cls := "UnimodularTablesModel", name := "join", desc := "(III)I" } : Jvm.MethodName) ({ cls := "UnimodularTablesModel", name := "join", desc := "(III)I" } : Jvm.MethodName)) ∈ lw_all := lw_g (lw_at lw_m9 18 rfl) rfl
theorem q2056 : (Jvm.Cond.code ({ cls := "UnimodularTablesModel", name := "join", desc := "(III)I" } : Jvm.MethodName) prog_9_method_36_code (11 : Nat) (Option.some Jvm.ClassFile.FieldType.int)) ∈ lw_all := lw_g (lw_at lw_m9 19 rfl) rfl
theorem q2058 : (Jvm.Cond.instanceMethod ({ cls := "UnimodularTablesModel", name := "undo", desc := "()I" } : Jvm.MethodName)) ∈ lw_all := lw_g (lw_at lw_m9 21 rfl) rfl
theorem q2059 : (Jvm.Cond.selects "UnimodularTablesModel" ({ cls := "UnimodularTablesModel", name := "undo", desc := "()I" } : Jvm.MethodName) ({ cls := "UnimodularTablesModel", name := "undo", desc := "()I" } : Jvm.MethodName)) ∈ lw_all := lw_g (lw_at lw_m9 22 rfl) rfl
theorem q2060 : (Jvm.Cond.code ({ cls := "UnimodularTablesModel", name := "undo", desc := "()I" } : Jvm.MethodName) prog_9_method_37_code (2 : Nat) (Option.some Jvm.ClassFile.FieldType.int)) ∈ lw_all := lw_g (lw_at lw_m9 23 rfl) rfl
theorem q2062 : (Jvm.Cond.instanceMethod ({ cls := "UnimodularTablesModel", name := "det", desc := "(II)I" } : Jvm.MethodName)) ∈ lw_all := lw_g (lw_at lw_m9 25 rfl) rfl
theorem q2063 : (Jvm.Cond.selects "UnimodularTablesModel" ({ cls := "UnimodularTablesModel", name := "det", desc := "(II)I" } : Jvm.MethodName) ({ cls := "UnimodularTablesModel", name := "det", desc := "(II)I" } : Jvm.MethodName)) ∈ lw_all := lw_g (lw_at lw_m9 26 rfl) rfl
theorem q2064 : (Jvm.Cond.code ({ cls := "UnimodularTablesModel", name := "det", desc := "(II)I" } : Jvm.MethodName) prog_9_method_41_code (3 : Nat) (Option.some Jvm.ClassFile.FieldType.int)) ∈ lw_all := lw_g (lw_at lw_m9 27 rfl) rfl
theorem q2065 : (Jvm.Cond.methodLink "UnimodularTablesModel" (211 : Nat) ({ cls := "UnimodularTablesModel", name := "isSquare", desc := "([III)Z" } : Jvm.MethodName)) ∈ lw_all := lw_g (lw_at lw_m9 28 rfl) rfl
theorem q2066 : (Jvm.Cond.privateMethod ({ cls := "UnimodularTablesModel", name := "isSquare", desc := "([III)Z" } : Jvm.MethodName)) ∈ lw_tbl := lw_at lw_m9 29 rfl
theorem q2067 : (Jvm.Cond.instanceMethod ({ cls := "UnimodularTablesModel", name := "isSquare", desc := "([III)Z" } : Jvm.MethodName)) ∈ lw_all := lw_g (lw_at lw_m9 30 rfl) rfl
theorem q2068 : (Jvm.Cond.code ({ cls := "UnimodularTablesModel", name := "isSquare", desc := "([III)Z" } : Jvm.MethodName) prog_9_method_39_code (4 : Nat) (Option.some Jvm.ClassFile.FieldType.boolean)) ∈ lw_all := lw_g (lw_at lw_m9 31 rfl) rfl
theorem q2069 : (Jvm.Cond.methodLink "UnimodularTablesModel" (204 : Nat) ({ cls := "UnimodularTablesModel", name := "sizeOf", desc := "(I)I" } : Jvm.MethodName)) ∈ lw_all := lw_g (lw_at lw_m9 32 rfl) rfl
theorem q2070 : (Jvm.Cond.static ({ cls := "UnimodularTablesModel", name := "sizeOf", desc := "(I)I" } : Jvm.MethodName)) ∈ lw_all := lw_g (lw_at lw_m9 33 rfl) rfl
theorem q2071 : (Jvm.Cond.code ({ cls := "UnimodularTablesModel", name := "sizeOf", desc := "(I)I" } : Jvm.MethodName) prog_9_method_5_code (3 : Nat) (Option.some Jvm.ClassFile.FieldType.int)) ∈ lw_all := lw_g (lw_at lw_m9 34 rfl) rfl
theorem q2072 : (Jvm.Cond.methodLink "UnimodularTablesModel" (207 : Nat) ({ cls := "UnimodularTablesModel", name := "laysDets", desc := "([I)V" } : Jvm.MethodName)) ∈ lw_all := lw_g (lw_at lw_m9 35 rfl) rfl
theorem q2073 : (Jvm.Cond.privateMethod ({ cls := "UnimodularTablesModel", name := "laysDets", desc := "([I)V" } : Jvm.MethodName)) ∈ lw_tbl := lw_at lw_m9 36 rfl
theorem q2074 : (Jvm.Cond.instanceMethod ({ cls := "UnimodularTablesModel", name := "laysDets", desc := "([I)V" } : Jvm.MethodName)) ∈ lw_all := lw_g (lw_at lw_m9 37 rfl) rfl
theorem q2075 : (Jvm.Cond.code ({ cls := "UnimodularTablesModel", name := "laysDets", desc := "([I)V" } : Jvm.MethodName) prog_9_method_38_code (10 : Nat) (Option.none : Option Jvm.ClassFile.FieldType)) ∈ lw_all := lw_g (lw_at lw_m9 38 rfl) rfl
theorem q2076 : (Jvm.Cond.methodLink "UnimodularTablesModel" (200 : Nat) ({ cls := "UnimodularTablesModel", name := "has", desc := "(II)Z" } : Jvm.MethodName)) ∈ lw_all := lw_g (lw_at lw_m9 39 rfl) rfl
theorem q2077 : (Jvm.Cond.static ({ cls := "UnimodularTablesModel", name := "has", desc := "(II)Z" } : Jvm.MethodName)) ∈ lw_all := lw_g (lw_at lw_m9 40 rfl) rfl
theorem q2078 : (Jvm.Cond.code ({ cls := "UnimodularTablesModel", name := "has", desc := "(II)Z" } : Jvm.MethodName) prog_9_method_4_code (2 : Nat) (Option.some Jvm.ClassFile.FieldType.boolean)) ∈ lw_all := lw_g (lw_at lw_m9 41 rfl) rfl
theorem q2080 : (Jvm.Cond.instanceMethod ({ cls := "UnimodularTablesModel", name := "squares", desc := "(II)I" } : Jvm.MethodName)) ∈ lw_all := lw_g (lw_at lw_m9 43 rfl) rfl
theorem q2081 : (Jvm.Cond.selects "UnimodularTablesModel" ({ cls := "UnimodularTablesModel", name := "squares", desc := "(II)I" } : Jvm.MethodName) ({ cls := "UnimodularTablesModel", name := "squares", desc := "(II)I" } : Jvm.MethodName)) ∈ lw_all := lw_g (lw_at lw_m9 44 rfl) rfl
theorem q2082 : (Jvm.Cond.code ({ cls := "UnimodularTablesModel", name := "squares", desc := "(II)I" } : Jvm.MethodName) prog_9_method_42_code (7 : Nat) (Option.some Jvm.ClassFile.FieldType.int)) ∈ lw_all := lw_g (lw_at lw_m9 45 rfl) rfl
theorem q2083 : (Jvm.Cond.constantLong "UnimodularTablesModel" (214 : Nat) (6 : Int64)) ∈ lw_all := lw_g (lw_at lw_m9 46 rfl) rfl
theorem q2084 : (Jvm.Cond.constantLong "UnimodularTablesModel" (216 : Nat) (2 : Int64)) ∈ lw_all := lw_g (lw_at lw_m9 47 rfl) rfl
theorem q2085 : (Jvm.Cond.methodLink "UnimodularTablesModel" (218 : Nat) ({ cls := "java/lang/Math", name := "abs", desc := "(I)I" } : Jvm.MethodName)) ∈ lw_all := lw_g (lw_at lw_m9 48 rfl) rfl
theorem q2088 : (Jvm.Cond.methodLink "UnimodularTablesModel" (223 : Nat) ({ cls := "java/lang/Math", name := "min", desc := "(II)I" } : Jvm.MethodName)) ∈ lw_all := lw_g (lw_at lw_m9 51 rfl) rfl
theorem q2090 : (Jvm.Cond.instanceMethod ({ cls := "UnimodularTablesModel", name := "total", desc := "()I" } : Jvm.MethodName)) ∈ lw_all := lw_g (lw_at lw_m9 53 rfl) rfl
theorem q2091 : (Jvm.Cond.selects "UnimodularTablesModel" ({ cls := "UnimodularTablesModel", name := "total", desc := "()I" } : Jvm.MethodName) ({ cls := "UnimodularTablesModel", name := "total", desc := "()I" } : Jvm.MethodName)) ∈ lw_all := lw_g (lw_at lw_m9 54 rfl) rfl
theorem q2092 : (Jvm.Cond.code ({ cls := "UnimodularTablesModel", name := "total", desc := "()I" } : Jvm.MethodName) prog_9_method_43_code (1 : Nat) (Option.some Jvm.ClassFile.FieldType.int)) ∈ lw_all := lw_g (lw_at lw_m9 55 rfl) rfl
theorem q2093 : (Jvm.Cond.methodLink "UnimodularTablesModel" (227 : Nat) ({ cls := "UnimodularTablesModel", name := "isTotal", desc := "([I)Z" } : Jvm.MethodName)) ∈ lw_all := lw_g (lw_at lw_m9 56 rfl) rfl
theorem q2094 : (Jvm.Cond.privateMethod ({ cls := "UnimodularTablesModel", name := "isTotal", desc := "([I)Z" } : Jvm.MethodName)) ∈ lw_tbl := lw_at lw_m9 57 rfl
theorem q2095 : (Jvm.Cond.instanceMethod ({ cls := "UnimodularTablesModel", name := "isTotal", desc := "([I)Z" } : Jvm.MethodName)) ∈ lw_all := lw_g (lw_at lw_m9 58 rfl) rfl
theorem q2096 : (Jvm.Cond.code ({ cls := "UnimodularTablesModel", name := "isTotal", desc := "([I)Z" } : Jvm.MethodName) prog_9_method_40_code (4 : Nat) (Option.some Jvm.ClassFile.FieldType.boolean)) ∈ lw_all := lw_g (lw_at lw_m9 59 rfl) rfl
theorem q2098 : (Jvm.Cond.instanceMethod ({ cls := "UnimodularTablesModel", name := "witness", desc := "(I)I" } : Jvm.MethodName)) ∈ lw_all := lw_g (lw_at lw_m9 61 rfl) rfl
theorem q2099 : (Jvm.Cond.selects "UnimodularTablesModel" ({ cls := "UnimodularTablesModel", name := "witness", desc := "(I)I" } : Jvm.MethodName) ({ cls := "UnimodularTablesModel", name := "witness", desc := "(I)I" } : Jvm.MethodName)) ∈ lw_all := lw_g (lw_at lw_m9 62 rfl) rfl
theorem q2100 : (Jvm.Cond.code ({ cls := "UnimodularTablesModel", name := "witness", desc := "(I)I" } : Jvm.MethodName) prog_9_method_44_code (5 : Nat) (Option.some Jvm.ClassFile.FieldType.int)) ∈ lw_all := lw_g (lw_at lw_m9 63 rfl) rfl
theorem q2101 : (Jvm.Cond.constantLong "UnimodularTablesModel" (231 : Nat) (3 : Int64)) ∈ lw_all := lw_g (lw_at lw_m9 64 rfl) rfl
theorem q2103 : (Jvm.Cond.instanceMethod ({ cls := "UnimodularTablesModel", name := "halves", desc := "(I)I" } : Jvm.MethodName)) ∈ lw_all := lw_g (lw_at lw_m9 66 rfl) rfl
theorem q2104 : (Jvm.Cond.selects "UnimodularTablesModel" ({ cls := "UnimodularTablesModel", name := "halves", desc := "(I)I" } : Jvm.MethodName) ({ cls := "UnimodularTablesModel", name := "halves", desc := "(I)I" } : Jvm.MethodName)) ∈ lw_all := lw_g (lw_at lw_m9 67 rfl) rfl
theorem q2105 : (Jvm.Cond.code ({ cls := "UnimodularTablesModel", name := "halves", desc := "(I)I" } : Jvm.MethodName) prog_9_method_47_code (2 : Nat) (Option.some Jvm.ClassFile.FieldType.int)) ∈ lw_all := lw_g (lw_at lw_m9 68 rfl) rfl
theorem q2106 : (Jvm.Cond.methodLink "UnimodularTablesModel" (236 : Nat) ({ cls := "UnimodularTablesModel", name := "halfOf", desc := "(I)I" } : Jvm.MethodName)) ∈ lw_all := lw_g (lw_at lw_m9 69 rfl) rfl
theorem q2107 : (Jvm.Cond.privateMethod ({ cls := "UnimodularTablesModel", name := "halfOf", desc := "(I)I" } : Jvm.MethodName)) ∈ lw_tbl := lw_at lw_m9 70 rfl
theorem q2108 : (Jvm.Cond.instanceMethod ({ cls := "UnimodularTablesModel", name := "halfOf", desc := "(I)I" } : Jvm.MethodName)) ∈ lw_all := lw_g (lw_at lw_m9 71 rfl) rfl
theorem q2109 : (Jvm.Cond.code ({ cls := "UnimodularTablesModel", name := "halfOf", desc := "(I)I" } : Jvm.MethodName) prog_9_method_46_code (3 : Nat) (Option.some Jvm.ClassFile.FieldType.int)) ∈ lw_all := lw_g (lw_at lw_m9 72 rfl) rfl
theorem q2110 : (Jvm.Cond.methodLink "UnimodularTablesModel" (233 : Nat) ({ cls := "UnimodularTablesModel", name := "isHalf", desc := "(II)Z" } : Jvm.MethodName)) ∈ lw_all := lw_g (lw_at lw_m9 73 rfl) rfl
theorem q2111 : (Jvm.Cond.privateMethod ({ cls := "UnimodularTablesModel", name := "isHalf", desc := "(II)Z" } : Jvm.MethodName)) ∈ lw_tbl := lw_at lw_m9 74 rfl
theorem q2112 : (Jvm.Cond.instanceMethod ({ cls := "UnimodularTablesModel", name := "isHalf", desc := "(II)Z" } : Jvm.MethodName)) ∈ lw_all := lw_g (lw_at lw_m9 75 rfl) rfl
theorem q2113 : (Jvm.Cond.code ({ cls := "UnimodularTablesModel", name := "isHalf", desc := "(II)Z" } : Jvm.MethodName) prog_9_method_45_code (6 : Nat) (Option.some Jvm.ClassFile.FieldType.boolean)) ∈ lw_all := lw_g (lw_at lw_m9 76 rfl) rfl
theorem q2115 : (Jvm.Cond.instanceMethod ({ cls := "UnimodularTablesModel", name := "unhalved", desc := "()I" } : Jvm.MethodName)) ∈ lw_all := lw_g (lw_at lw_m9 78 rfl) rfl
theorem q2116 : (Jvm.Cond.selects "UnimodularTablesModel" ({ cls := "UnimodularTablesModel", name := "unhalved", desc := "()I" } : Jvm.MethodName) ({ cls := "UnimodularTablesModel", name := "unhalved", desc := "()I" } : Jvm.MethodName)) ∈ lw_all := lw_g (lw_at lw_m9 79 rfl) rfl
theorem q2117 : (Jvm.Cond.code ({ cls := "UnimodularTablesModel", name := "unhalved", desc := "()I" } : Jvm.MethodName) prog_9_method_48_code (2 : Nat) (Option.some Jvm.ClassFile.FieldType.int)) ∈ lw_all := lw_g (lw_at lw_m9 80 rfl) rfl
theorem q2119 : (Jvm.Cond.instanceMethod ({ cls := "UnimodularTablesModel", name := "network", desc := "(I)I" } : Jvm.MethodName)) ∈ lw_all := lw_g (lw_at lw_m9 82 rfl) rfl
theorem q2120 : (Jvm.Cond.selects "UnimodularTablesModel" ({ cls := "UnimodularTablesModel", name := "network", desc := "(I)I" } : Jvm.MethodName) ({ cls := "UnimodularTablesModel", name := "network", desc := "(I)I" } : Jvm.MethodName)) ∈ lw_all := lw_g (lw_at lw_m9 83 rfl) rfl
theorem q2121 : (Jvm.Cond.code ({ cls := "UnimodularTablesModel", name := "network", desc := "(I)I" } : Jvm.MethodName) prog_9_method_58_code (2 : Nat) (Option.some Jvm.ClassFile.FieldType.int)) ∈ lw_all := lw_g (lw_at lw_m9 84 rfl) rfl
theorem q2122 : (Jvm.Cond.methodLink "UnimodularTablesModel" (268 : Nat) ({ cls := "UnimodularTablesModel", name := "hasTree", desc := "(I)Z" } : Jvm.MethodName)) ∈ lw_all := lw_g (lw_at lw_m9 85 rfl) rfl
theorem q2123 : (Jvm.Cond.privateMethod ({ cls := "UnimodularTablesModel", name := "hasTree", desc := "(I)Z" } : Jvm.MethodName)) ∈ lw_tbl := lw_at lw_m9 86 rfl
theorem q2124 : (Jvm.Cond.instanceMethod ({ cls := "UnimodularTablesModel", name := "hasTree", desc := "(I)Z" } : Jvm.MethodName)) ∈ lw_all := lw_g (lw_at lw_m9 87 rfl) rfl
theorem q2125 : (Jvm.Cond.code ({ cls := "UnimodularTablesModel", name := "hasTree", desc := "(I)Z" } : Jvm.MethodName) prog_9_method_57_code (2 : Nat) (Option.some Jvm.ClassFile.FieldType.boolean)) ∈ lw_all := lw_g (lw_at lw_m9 88 rfl) rfl
theorem q2126 : (Jvm.Cond.methodLink "UnimodularTablesModel" (265 : Nat) ({ cls := "UnimodularTablesModel", name := "laysSide", desc := "(I)V" } : Jvm.MethodName)) ∈ lw_all := lw_g (lw_at lw_m9 89 rfl) rfl
theorem q2127 : (Jvm.Cond.privateMethod ({ cls := "UnimodularTablesModel", name := "laysSide", desc := "(I)V" } : Jvm.MethodName)) ∈ lw_tbl := lw_at lw_m9 90 rfl
theorem q2128 : (Jvm.Cond.instanceMethod ({ cls := "UnimodularTablesModel", name := "laysSide", desc := "(I)V" } : Jvm.MethodName)) ∈ lw_all := lw_g (lw_at lw_m9 91 rfl) rfl
theorem q2129 : (Jvm.Cond.code ({ cls := "UnimodularTablesModel", name := "laysSide", desc := "(I)V" } : Jvm.MethodName) prog_9_method_56_code (2 : Nat) (Option.none : Option Jvm.ClassFile.FieldType)) ∈ lw_all := lw_g (lw_at lw_m9 92 rfl) rfl
theorem q2130 : (Jvm.Cond.methodLink "UnimodularTablesModel" (262 : Nat) ({ cls := "UnimodularTablesModel", name := "grows", desc := "([III)Z" } : Jvm.MethodName)) ∈ lw_all := lw_g (lw_at lw_m9 93 rfl) rfl
theorem q2131 : (Jvm.Cond.privateMethod ({ cls := "UnimodularTablesModel", name := "grows", desc := "([III)Z" } : Jvm.MethodName)) ∈ lw_tbl := lw_at lw_m9 94 rfl
theorem q2132 : (Jvm.Cond.instanceMethod ({ cls := "UnimodularTablesModel", name := "grows", desc := "([III)Z" } : Jvm.MethodName)) ∈ lw_all := lw_g (lw_at lw_m9 95 rfl) rfl
theorem q2133 : (Jvm.Cond.code ({ cls := "UnimodularTablesModel", name := "grows", desc := "([III)Z" } : Jvm.MethodName) prog_9_method_55_code (9 : Nat) (Option.some Jvm.ClassFile.FieldType.boolean)) ∈ lw_all := lw_g (lw_at lw_m9 96 rfl) rfl
theorem q2134 : (Jvm.Cond.methodLink "UnimodularTablesModel" (252 : Nat) ({ cls := "UnimodularTablesModel", name := "endsAt", desc := "(III)I" } : Jvm.MethodName)) ∈ lw_all := lw_g (lw_at lw_m9 97 rfl) rfl
theorem q2135 : (Jvm.Cond.privateMethod ({ cls := "UnimodularTablesModel", name := "endsAt", desc := "(III)I" } : Jvm.MethodName)) ∈ lw_tbl := lw_at lw_m9 98 rfl
theorem q2136 : (Jvm.Cond.instanceMethod ({ cls := "UnimodularTablesModel", name := "endsAt", desc := "(III)I" } : Jvm.MethodName)) ∈ lw_all := lw_g (lw_at lw_m9 99 rfl) rfl
theorem q2137 : (Jvm.Cond.code ({ cls := "UnimodularTablesModel", name := "endsAt", desc := "(III)I" } : Jvm.MethodName) prog_9_method_53_code (6 : Nat) (Option.some Jvm.ClassFile.FieldType.int)) ∈ lw_all := lw_g (lw_at lw_m9 100 rfl) rfl
theorem q2138 : (Jvm.Cond.methodLink "UnimodularTablesModel" (255 : Nat) ({ cls := "UnimodularTablesModel", name := "bends", desc := "(IIII)V" } : Jvm.MethodName)) ∈ lw_all := lw_g (lw_at lw_m9 101 rfl) rfl
theorem q2139 : (Jvm.Cond.privateMethod ({ cls := "UnimodularTablesModel", name := "bends", desc := "(IIII)V" } : Jvm.MethodName)) ∈ lw_tbl := lw_at lw_m9 102 rfl
theorem q2140 : (Jvm.Cond.instanceMethod ({ cls := "UnimodularTablesModel", name := "bends", desc := "(IIII)V" } : Jvm.MethodName)) ∈ lw_all := lw_g (lw_at lw_m9 103 rfl) rfl
theorem q2141 : (Jvm.Cond.code ({ cls := "UnimodularTablesModel", name := "bends", desc := "(IIII)V" } : Jvm.MethodName) prog_9_method_54_code (6 : Nat) (Option.none : Option Jvm.ClassFile.FieldType)) ∈ lw_all := lw_g (lw_at lw_m9 104 rfl) rfl
theorem q2142 : (Jvm.Cond.methodLink "UnimodularTablesModel" (259 : Nat) ({ cls := "UnimodularTablesModel", name := "areWays", desc := "([III)Z" } : Jvm.MethodName)) ∈ lw_all := lw_g (lw_at lw_m9 105 rfl) rfl
theorem q2143 : (Jvm.Cond.privateMethod ({ cls := "UnimodularTablesModel", name := "areWays", desc := "([III)Z" } : Jvm.MethodName)) ∈ lw_tbl := lw_at lw_m9 106 rfl
theorem q2144 : (Jvm.Cond.instanceMethod ({ cls := "UnimodularTablesModel", name := "areWays", desc := "([III)Z" } : Jvm.MethodName)) ∈ lw_all := lw_g (lw_at lw_m9 107 rfl) rfl
theorem q2145 : (Jvm.Cond.code ({ cls := "UnimodularTablesModel", name := "areWays", desc := "([III)Z" } : Jvm.MethodName) prog_9_method_52_code (5 : Nat) (Option.some Jvm.ClassFile.FieldType.boolean)) ∈ lw_all := lw_g (lw_at lw_m9 108 rfl) rfl
theorem q2146 : (Jvm.Cond.methodLink "UnimodularTablesModel" (248 : Nat) ({ cls := "UnimodularTablesModel", name := "isWay", desc := "([IIII)Z" } : Jvm.MethodName)) ∈ lw_all := lw_g (lw_at lw_m9 109 rfl) rfl
theorem q2147 : (Jvm.Cond.privateMethod ({ cls := "UnimodularTablesModel", name := "isWay", desc := "([IIII)Z" } : Jvm.MethodName)) ∈ lw_tbl := lw_at lw_m9 110 rfl
theorem q2148 : (Jvm.Cond.instanceMethod ({ cls := "UnimodularTablesModel", name := "isWay", desc := "([IIII)Z" } : Jvm.MethodName)) ∈ lw_all := lw_g (lw_at lw_m9 111 rfl) rfl
theorem q2149 : (Jvm.Cond.code ({ cls := "UnimodularTablesModel", name := "isWay", desc := "([IIII)Z" } : Jvm.MethodName) prog_9_method_49_code (13 : Nat) (Option.some Jvm.ClassFile.FieldType.boolean)) ∈ lw_all := lw_g (lw_at lw_m9 112 rfl) rfl
theorem q2150 : (Jvm.Cond.methodLink "UnimodularTablesModel" (242 : Nat) ({ cls := "UnimodularTablesModel", name := "headOf", desc := "([IIII)I" } : Jvm.MethodName)) ∈ lw_all := lw_g (lw_at lw_m9 113 rfl) rfl
theorem q2151 : (Jvm.Cond.privateMethod ({ cls := "UnimodularTablesModel", name := "headOf", desc := "([IIII)I" } : Jvm.MethodName)) ∈ lw_tbl := lw_at lw_m9 114 rfl
theorem q2152 : (Jvm.Cond.instanceMethod ({ cls := "UnimodularTablesModel", name := "headOf", desc := "([IIII)I" } : Jvm.MethodName)) ∈ lw_all := lw_g (lw_at lw_m9 115 rfl) rfl
theorem q2153 : (Jvm.Cond.code ({ cls := "UnimodularTablesModel", name := "headOf", desc := "([IIII)I" } : Jvm.MethodName) prog_9_method_50_code (5 : Nat) (Option.some Jvm.ClassFile.FieldType.int)) ∈ lw_all := lw_g (lw_at lw_m9 116 rfl) rfl
theorem q2154 : (Jvm.Cond.methodLink "UnimodularTablesModel" (245 : Nat) ({ cls := "UnimodularTablesModel", name := "tailOf", desc := "([IIII)I" } : Jvm.MethodName)) ∈ lw_all := lw_g (lw_at lw_m9 117 rfl) rfl
theorem q2155 : (Jvm.Cond.privateMethod ({ cls := "UnimodularTablesModel", name := "tailOf", desc := "([IIII)I" } : Jvm.MethodName)) ∈ lw_tbl := lw_at lw_m9 118 rfl
theorem q2156 : (Jvm.Cond.instanceMethod ({ cls := "UnimodularTablesModel", name := "tailOf", desc := "([IIII)I" } : Jvm.MethodName)) ∈ lw_all := lw_g (lw_at lw_m9 119 rfl) rfl
theorem q2157 : (Jvm.Cond.code ({ cls := "UnimodularTablesModel", name := "tailOf", desc := "([IIII)I" } : Jvm.MethodName) prog_9_method_51_code (5 : Nat) (Option.some Jvm.ClassFile.FieldType.int)) ∈ lw_all := lw_g (lw_at lw_m9 120 rfl) rfl
theorem q2159 : (Jvm.Cond.instanceMethod ({ cls := "UnimodularTablesModel", name := "arc", desc := "(III)I" } : Jvm.MethodName)) ∈ lw_all := lw_g (lw_at lw_m9 122 rfl) rfl
theorem q2160 : (Jvm.Cond.selects "UnimodularTablesModel" ({ cls := "UnimodularTablesModel", name := "arc", desc := "(III)I" } : Jvm.MethodName) ({ cls := "UnimodularTablesModel", name := "arc", desc := "(III)I" } : Jvm.MethodName)) ∈ lw_all := lw_g (lw_at lw_m9 123 rfl) rfl
theorem q2161 : (Jvm.Cond.code ({ cls := "UnimodularTablesModel", name := "arc", desc := "(III)I" } : Jvm.MethodName) prog_9_method_59_code (4 : Nat) (Option.some Jvm.ClassFile.FieldType.int)) ∈ lw_all := lw_g (lw_at lw_m9 124 rfl) rfl
theorem q2163 : (Jvm.Cond.instanceMethod ({ cls := "UnimodularTablesModel", name := "way", desc := "(III)I" } : Jvm.MethodName)) ∈ lw_all := lw_g (lw_at lw_m9 126 rfl) rfl
theorem q2164 : (Jvm.Cond.selects "UnimodularTablesModel" ({ cls := "UnimodularTablesModel", name := "way", desc := "(III)I" } : Jvm.MethodName) ({ cls := "UnimodularTablesModel", name := "way", desc := "(III)I" } : Jvm.MethodName)) ∈ lw_all := lw_g (lw_at lw_m9 127 rfl) rfl
theorem q2165 : (Jvm.Cond.code ({ cls := "UnimodularTablesModel", name := "way", desc := "(III)I" } : Jvm.MethodName) prog_9_method_60_code (5 : Nat) (Option.some Jvm.ClassFile.FieldType.int)) ∈ lw_all := lw_g (lw_at lw_m9 128 rfl) rfl
theorem q2167 : (Jvm.Cond.instanceMethod ({ cls := "UnimodularTablesModel", name := "signed", desc := "(II)I" } : Jvm.MethodName)) ∈ lw_all := lw_g (lw_at lw_m9 130 rfl) rfl
theorem q2168 : (Jvm.Cond.selects "UnimodularTablesModel" ({ cls := "UnimodularTablesModel", name := "signed", desc := "(II)I" } : Jvm.MethodName) ({ cls := "UnimodularTablesModel", name := "signed", desc := "(II)I" } : Jvm.MethodName)) ∈ lw_all := lw_g (lw_at lw_m9 131 rfl) rfl
theorem q2169 : (Jvm.Cond.code ({ cls := "UnimodularTablesModel", name := "signed", desc := "(II)I" } : Jvm.MethodName) prog_9_method_66_code (3 : Nat) (Option.some Jvm.ClassFile.FieldType.int)) ∈ lw_all := lw_g (lw_at lw_m9 132 rfl) rfl
theorem q2170 : (Jvm.Cond.methodLink "UnimodularTablesModel" (283 : Nat) ({ cls := "UnimodularTablesModel", name := "laysSigns", desc := "()V" } : Jvm.MethodName)) ∈ lw_all := lw_g (lw_at lw_m9 133 rfl) rfl
theorem q2171 : (Jvm.Cond.privateMethod ({ cls := "UnimodularTablesModel", name := "laysSigns", desc := "()V" } : Jvm.MethodName)) ∈ lw_tbl := lw_at lw_m9 134 rfl
theorem q2172 : (Jvm.Cond.instanceMethod ({ cls := "UnimodularTablesModel", name := "laysSigns", desc := "()V" } : Jvm.MethodName)) ∈ lw_all := lw_g (lw_at lw_m9 135 rfl) rfl
theorem q2173 : (Jvm.Cond.code ({ cls := "UnimodularTablesModel", name := "laysSigns", desc := "()V" } : Jvm.MethodName) prog_9_method_65_code (8 : Nat) (Option.none : Option Jvm.ClassFile.FieldType)) ∈ lw_all := lw_g (lw_at lw_m9 136 rfl) rfl
theorem q2174 : (Jvm.Cond.methodLink "UnimodularTablesModel" (277 : Nat) ({ cls := "UnimodularTablesModel", name := "laysSteps", desc := "(I)V" } : Jvm.MethodName)) ∈ lw_all := lw_g (lw_at lw_m9 137 rfl) rfl
theorem q2175 : (Jvm.Cond.privateMethod ({ cls := "UnimodularTablesModel", name := "laysSteps", desc := "(I)V" } : Jvm.MethodName)) ∈ lw_tbl := lw_at lw_m9 138 rfl
theorem q2176 : (Jvm.Cond.instanceMethod ({ cls := "UnimodularTablesModel", name := "laysSteps", desc := "(I)V" } : Jvm.MethodName)) ∈ lw_all := lw_g (lw_at lw_m9 139 rfl) rfl
theorem q2177 : (Jvm.Cond.code ({ cls := "UnimodularTablesModel", name := "laysSteps", desc := "(I)V" } : Jvm.MethodName) prog_9_method_64_code (5 : Nat) (Option.none : Option Jvm.ClassFile.FieldType)) ∈ lw_all := lw_g (lw_at lw_m9 140 rfl) rfl
theorem q2178 : (Jvm.Cond.methodLink "UnimodularTablesModel" (274 : Nat) ({ cls := "UnimodularTablesModel", name := "areTold", desc := "(II)Z" } : Jvm.MethodName)) ∈ lw_all := lw_g (lw_at lw_m9 141 rfl) rfl
theorem q2179 : (Jvm.Cond.privateMethod ({ cls := "UnimodularTablesModel", name := "areTold", desc := "(II)Z" } : Jvm.MethodName)) ∈ lw_tbl := lw_at lw_m9 142 rfl
theorem q2180 : (Jvm.Cond.instanceMethod ({ cls := "UnimodularTablesModel", name := "areTold", desc := "(II)Z" } : Jvm.MethodName)) ∈ lw_all := lw_g (lw_at lw_m9 143 rfl) rfl
theorem q2181 : (Jvm.Cond.code ({ cls := "UnimodularTablesModel", name := "areTold", desc := "(II)Z" } : Jvm.MethodName) prog_9_method_62_code (3 : Nat) (Option.some Jvm.ClassFile.FieldType.boolean)) ∈ lw_all := lw_g (lw_at lw_m9 144 rfl) rfl
theorem q2182 : (Jvm.Cond.methodLink "UnimodularTablesModel" (271 : Nat) ({ cls := "UnimodularTablesModel", name := "isTold", desc := "(II)Z" } : Jvm.MethodName)) ∈ lw_all := lw_g (lw_at lw_m9 145 rfl) rfl
theorem q2183 : (Jvm.Cond.privateMethod ({ cls := "UnimodularTablesModel", name := "isTold", desc := "(II)Z" } : Jvm.MethodName)) ∈ lw_tbl := lw_at lw_m9 146 rfl
theorem q2184 : (Jvm.Cond.instanceMethod ({ cls := "UnimodularTablesModel", name := "isTold", desc := "(II)Z" } : Jvm.MethodName)) ∈ lw_all := lw_g (lw_at lw_m9 147 rfl) rfl
theorem q2185 : (Jvm.Cond.code ({ cls := "UnimodularTablesModel", name := "isTold", desc := "(II)Z" } : Jvm.MethodName) prog_9_method_61_code (3 : Nat) (Option.some Jvm.ClassFile.FieldType.boolean)) ∈ lw_all := lw_g (lw_at lw_m9 148 rfl) rfl
theorem q2186 : (Jvm.Cond.methodLink "UnimodularTablesModel" (280 : Nat) ({ cls := "UnimodularTablesModel", name := "signBetween", desc := "(II)I" } : Jvm.MethodName)) ∈ lw_all := lw_g (lw_at lw_m9 149 rfl) rfl
theorem q2187 : (Jvm.Cond.privateMethod ({ cls := "UnimodularTablesModel", name := "signBetween", desc := "(II)I" } : Jvm.MethodName)) ∈ lw_tbl := lw_at lw_m9 150 rfl
theorem q2188 : (Jvm.Cond.instanceMethod ({ cls := "UnimodularTablesModel", name := "signBetween", desc := "(II)I" } : Jvm.MethodName)) ∈ lw_all := lw_g (lw_at lw_m9 151 rfl) rfl
theorem q2189 : (Jvm.Cond.code ({ cls := "UnimodularTablesModel", name := "signBetween", desc := "(II)I" } : Jvm.MethodName) prog_9_method_63_code (3 : Nat) (Option.some Jvm.ClassFile.FieldType.int)) ∈ lw_all := lw_g (lw_at lw_m9 152 rfl) rfl
theorem q2191 : (Jvm.Cond.instanceMethod ({ cls := "UnimodularTablesModel", name := "regular", desc := "()I" } : Jvm.MethodName)) ∈ lw_all := lw_g (lw_at lw_m9 154 rfl) rfl
theorem q2192 : (Jvm.Cond.selects "UnimodularTablesModel" ({ cls := "UnimodularTablesModel", name := "regular", desc := "()I" } : Jvm.MethodName) ({ cls := "UnimodularTablesModel", name := "regular", desc := "()I" } : Jvm.MethodName)) ∈ lw_all := lw_g (lw_at lw_m9 155 rfl) rfl
theorem q2193 : (Jvm.Cond.code ({ cls := "UnimodularTablesModel", name := "regular", desc := "()I" } : Jvm.MethodName) prog_9_method_67_code (1 : Nat) (Option.some Jvm.ClassFile.FieldType.int)) ∈ lw_all := lw_g (lw_at lw_m9 156 rfl) rfl
theorem q2195 : (Jvm.Cond.instanceMethod ({ cls := "UnimodularTablesModel", name := "scaled", desc := "(I)I" } : Jvm.MethodName)) ∈ lw_all := lw_g (lw_at lw_m9 158 rfl) rfl
theorem q2196 : (Jvm.Cond.selects "UnimodularTablesModel" ({ cls := "UnimodularTablesModel", name := "scaled", desc := "(I)I" } : Jvm.MethodName) ({ cls := "UnimodularTablesModel", name := "scaled", desc := "(I)I" } : Jvm.MethodName)) ∈ lw_all := lw_g (lw_at lw_m9 159 rfl) rfl
theorem q2197 : (Jvm.Cond.code ({ cls := "UnimodularTablesModel", name := "scaled", desc := "(I)I" } : Jvm.MethodName) prog_9_method_69_code (3 : Nat) (Option.some Jvm.ClassFile.FieldType.int)) ∈ lw_all := lw_g (lw_at lw_m9 160 rfl) rfl
theorem q2198 : (Jvm.Cond.methodLink "UnimodularTablesModel" (286 : Nat) ({ cls := "UnimodularTablesModel", name := "isScaled", desc := "([I[I)Z" } : Jvm.MethodName)) ∈ lw_all := lw_g (lw_at lw_m9 161 rfl) rfl
theorem q2199 : (Jvm.Cond.privateMethod ({ cls := "UnimodularTablesModel", name := "isScaled", desc := "([I[I)Z" } : Jvm.MethodName)) ∈ lw_tbl := lw_at lw_m9 162 rfl
theorem q2200 : (Jvm.Cond.instanceMethod ({ cls := "UnimodularTablesModel", name := "isScaled", desc := "([I[I)Z" } : Jvm.MethodName)) ∈ lw_all := lw_g (lw_at lw_m9 163 rfl) rfl
theorem q2201 : (Jvm.Cond.code ({ cls := "UnimodularTablesModel", name := "isScaled", desc := "([I[I)Z" } : Jvm.MethodName) prog_9_method_68_code (9 : Nat) (Option.some Jvm.ClassFile.FieldType.boolean)) ∈ lw_all := lw_g (lw_at lw_m9 164 rfl) rfl
theorem q2203 : (Jvm.Cond.instanceMethod ({ cls := "UnimodularTablesModel", name := "special", desc := "()I" } : Jvm.MethodName)) ∈ lw_all := lw_g (lw_at lw_m9 166 rfl) rfl
theorem q2204 : (Jvm.Cond.selects "UnimodularTablesModel" ({ cls := "UnimodularTablesModel", name := "special", desc := "()I" } : Jvm.MethodName) ({ cls := "UnimodularTablesModel", name := "special", desc := "()I" } : Jvm.MethodName)) ∈ lw_all := lw_g (lw_at lw_m9 167 rfl) rfl
theorem q2205 : (Jvm.Cond.code ({ cls := "UnimodularTablesModel", name := "special", desc := "()I" } : Jvm.MethodName) prog_9_method_73_code (3 : Nat) (Option.some Jvm.ClassFile.FieldType.int)) ∈ lw_all := lw_g (lw_at lw_m9 168 rfl) rfl
theorem q2206 : (Jvm.Cond.stringRef "UnimodularTablesModel" (300 : Nat) "+-00--+-000-+-000-+--00-+") ∈ lw_tbl := lw_at lw_m9 169 rfl
theorem q2207 : (Jvm.Cond.stringRef "UnimodularTablesModel" (302 : Nat) "++++++++00+0++0+00++++00+") ∈ lw_tbl := lw_at lw_m9 170 rfl
theorem q2208 : (Jvm.Cond.methodLink "UnimodularTablesModel" (297 : Nat) ({ cls := "UnimodularTablesModel", name := "doRows", desc := "(II)Z" } : Jvm.MethodName)) ∈ lw_all := lw_g (lw_at lw_m9 171 rfl) rfl
theorem q2209 : (Jvm.Cond.privateMethod ({ cls := "UnimodularTablesModel", name := "doRows", desc := "(II)Z" } : Jvm.MethodName)) ∈ lw_tbl := lw_at lw_m9 172 rfl
theorem q2210 : (Jvm.Cond.instanceMethod ({ cls := "UnimodularTablesModel", name := "doRows", desc := "(II)Z" } : Jvm.MethodName)) ∈ lw_all := lw_g (lw_at lw_m9 173 rfl) rfl
theorem q2211 : (Jvm.Cond.code ({ cls := "UnimodularTablesModel", name := "doRows", desc := "(II)Z" } : Jvm.MethodName) prog_9_method_72_code (7 : Nat) (Option.some Jvm.ClassFile.FieldType.boolean)) ∈ lw_all := lw_g (lw_at lw_m9 174 rfl) rfl
theorem q2212 : (Jvm.Cond.methodLink "UnimodularTablesModel" (294 : Nat) ({ cls := "UnimodularTablesModel", name := "doColumns", desc := "(II)Z" } : Jvm.MethodName)) ∈ lw_all := lw_g (lw_at lw_m9 175 rfl) rfl
theorem q2213 : (Jvm.Cond.privateMethod ({ cls := "UnimodularTablesModel", name := "doColumns", desc := "(II)Z" } : Jvm.MethodName)) ∈ lw_tbl := lw_at lw_m9 176 rfl
theorem q2214 : (Jvm.Cond.instanceMethod ({ cls := "UnimodularTablesModel", name := "doColumns", desc := "(II)Z" } : Jvm.MethodName)) ∈ lw_all := lw_g (lw_at lw_m9 177 rfl) rfl
theorem q2215 : (Jvm.Cond.code ({ cls := "UnimodularTablesModel", name := "doColumns", desc := "(II)Z" } : Jvm.MethodName) prog_9_method_71_code (6 : Nat) (Option.some Jvm.ClassFile.FieldType.boolean)) ∈ lw_all := lw_g (lw_at lw_m9 178 rfl) rfl
theorem q2216 : (Jvm.Cond.methodLink "UnimodularTablesModel" (290 : Nat) ({ cls := "UnimodularTablesModel", name := "isLaid", desc := "()Z" } : Jvm.MethodName)) ∈ lw_all := lw_g (lw_at lw_m9 179 rfl) rfl
theorem q2217 : (Jvm.Cond.privateMethod ({ cls := "UnimodularTablesModel", name := "isLaid", desc := "()Z" } : Jvm.MethodName)) ∈ lw_tbl := lw_at lw_m9 180 rfl
theorem q2218 : (Jvm.Cond.instanceMethod ({ cls := "UnimodularTablesModel", name := "isLaid", desc := "()Z" } : Jvm.MethodName)) ∈ lw_all := lw_g (lw_at lw_m9 181 rfl) rfl
theorem q2219 : (Jvm.Cond.code ({ cls := "UnimodularTablesModel", name := "isLaid", desc := "()Z" } : Jvm.MethodName) prog_9_method_70_code (3 : Nat) (Option.some Jvm.ClassFile.FieldType.boolean)) ∈ lw_all := lw_g (lw_at lw_m9 182 rfl) rfl
theorem q2221 : (Jvm.Cond.instanceMethod ({ cls := "UnimodularTablesModel", name := "block", desc := "(II)I" } : Jvm.MethodName)) ∈ lw_all := lw_g (lw_at lw_m9 184 rfl) rfl
theorem q2222 : (Jvm.Cond.selects "UnimodularTablesModel" ({ cls := "UnimodularTablesModel", name := "block", desc := "(II)I" } : Jvm.MethodName) ({ cls := "UnimodularTablesModel", name := "block", desc := "(II)I" } : Jvm.MethodName)) ∈ lw_all := lw_g (lw_at lw_m9 185 rfl) rfl
theorem q2223 : (Jvm.Cond.code ({ cls := "UnimodularTablesModel", name := "block", desc := "(II)I" } : Jvm.MethodName) prog_9_method_76_code (7 : Nat) (Option.some Jvm.ClassFile.FieldType.int)) ∈ lw_all := lw_g (lw_at lw_m9 186 rfl) rfl
theorem q2224 : (Jvm.Cond.methodLink "UnimodularTablesModel" (307 : Nat) ({ cls := "UnimodularTablesModel", name := "laysParts", desc := "()V" } : Jvm.MethodName)) ∈ lw_all := lw_g (lw_at lw_m9 187 rfl) rfl
theorem q2225 : (Jvm.Cond.privateMethod ({ cls := "UnimodularTablesModel", name := "laysParts", desc := "()V" } : Jvm.MethodName)) ∈ lw_tbl := lw_at lw_m9 188 rfl
theorem q2226 : (Jvm.Cond.instanceMethod ({ cls := "UnimodularTablesModel", name := "laysParts", desc := "()V" } : Jvm.MethodName)) ∈ lw_all := lw_g (lw_at lw_m9 189 rfl) rfl
theorem q2227 : (Jvm.Cond.code ({ cls := "UnimodularTablesModel", name := "laysParts", desc := "()V" } : Jvm.MethodName) prog_9_method_74_code (6 : Nat) (Option.none : Option Jvm.ClassFile.FieldType)) ∈ lw_all := lw_g (lw_at lw_m9 190 rfl) rfl
theorem q2228 : (Jvm.Cond.methodLink "UnimodularTablesModel" (304 : Nat) ({ cls := "java/lang/Math", name := "max", desc := "(II)I" } : Jvm.MethodName)) ∈ lw_all := lw_g (lw_at lw_m9 191 rfl) rfl
theorem q2229 : (Jvm.Cond.methodLink "UnimodularTablesModel" (310 : Nat) ({ cls := "UnimodularTablesModel", name := "isThere", desc := "(I)Z" } : Jvm.MethodName)) ∈ lw_all := lw_g (lw_at lw_m9 192 rfl) rfl
theorem q2230 : (Jvm.Cond.privateMethod ({ cls := "UnimodularTablesModel", name := "isThere", desc := "(I)Z" } : Jvm.MethodName)) ∈ lw_tbl := lw_at lw_m9 193 rfl
theorem q2231 : (Jvm.Cond.instanceMethod ({ cls := "UnimodularTablesModel", name := "isThere", desc := "(I)Z" } : Jvm.MethodName)) ∈ lw_all := lw_g (lw_at lw_m9 194 rfl) rfl
theorem q2232 : (Jvm.Cond.code ({ cls := "UnimodularTablesModel", name := "isThere", desc := "(I)Z" } : Jvm.MethodName) prog_9_method_75_code (2 : Nat) (Option.some Jvm.ClassFile.FieldType.boolean)) ∈ lw_all := lw_g (lw_at lw_m9 195 rfl) rfl
theorem q2234 : (Jvm.Cond.instanceMethod ({ cls := "UnimodularTablesModel", name := "rank", desc := "(I)I" } : Jvm.MethodName)) ∈ lw_all := lw_g (lw_at lw_m9 197 rfl) rfl
theorem q2235 : (Jvm.Cond.selects "UnimodularTablesModel" ({ cls := "UnimodularTablesModel", name := "rank", desc := "(I)I" } : Jvm.MethodName) ({ cls := "UnimodularTablesModel", name := "rank", desc := "(I)I" } : Jvm.MethodName)) ∈ lw_all := lw_g (lw_at lw_m9 198 rfl) rfl
theorem q2236 : (Jvm.Cond.code ({ cls := "UnimodularTablesModel", name := "rank", desc := "(I)I" } : Jvm.MethodName) prog_9_method_77_code (6 : Nat) (Option.some Jvm.ClassFile.FieldType.int)) ∈ lw_all := lw_g (lw_at lw_m9 199 rfl) rfl
theorem q2238 : (Jvm.Cond.instanceMethod ({ cls := "UnimodularTablesModel", name := "bases", desc := "()I" } : Jvm.MethodName)) ∈ lw_all := lw_g (lw_at lw_m9 201 rfl) rfl
theorem q2239 : (Jvm.Cond.selects "UnimodularTablesModel" ({ cls := "UnimodularTablesModel", name := "bases", desc := "()I" } : Jvm.MethodName) ({ cls := "UnimodularTablesModel", name := "bases", desc := "()I" } : Jvm.MethodName)) ∈ lw_all := lw_g (lw_at lw_m9 202 rfl) rfl
theorem q2240 : (Jvm.Cond.code ({ cls := "UnimodularTablesModel", name := "bases", desc := "()I" } : Jvm.MethodName) prog_9_method_78_code (4 : Nat) (Option.some Jvm.ClassFile.FieldType.int)) ∈ lw_all := lw_g (lw_at lw_m9 203 rfl) rfl
theorem q2242 : (Jvm.Cond.instanceMethod ({ cls := "UnimodularTablesModel", name := "mends", desc := "()I" } : Jvm.MethodName)) ∈ lw_all := lw_g (lw_at lw_m9 205 rfl) rfl
theorem q2243 : (Jvm.Cond.selects "UnimodularTablesModel" ({ cls := "UnimodularTablesModel", name := "mends", desc := "()I" } : Jvm.MethodName) ({ cls := "UnimodularTablesModel", name := "mends", desc := "()I" } : Jvm.MethodName)) ∈ lw_all := lw_g (lw_at lw_m9 206 rfl) rfl
theorem q2244 : (Jvm.Cond.code ({ cls := "UnimodularTablesModel", name := "mends", desc := "()I" } : Jvm.MethodName) prog_9_method_80_code (4 : Nat) (Option.some Jvm.ClassFile.FieldType.int)) ∈ lw_all := lw_g (lw_at lw_m9 207 rfl) rfl
theorem q2245 : (Jvm.Cond.methodLink "UnimodularTablesModel" (313 : Nat) ({ cls := "UnimodularTablesModel", name := "isTotalWith", desc := "(II)Z" } : Jvm.MethodName)) ∈ lw_all := lw_g (lw_at lw_m9 208 rfl) rfl
theorem q2246 : (Jvm.Cond.privateMethod ({ cls := "UnimodularTablesModel", name := "isTotalWith", desc := "(II)Z" } : Jvm.MethodName)) ∈ lw_tbl := lw_at lw_m9 209 rfl
theorem q2247 : (Jvm.Cond.instanceMethod ({ cls := "UnimodularTablesModel", name := "isTotalWith", desc := "(II)Z" } : Jvm.MethodName)) ∈ lw_all := lw_g (lw_at lw_m9 210 rfl) rfl
theorem q2248 : (Jvm.Cond.code ({ cls := "UnimodularTablesModel", name := "isTotalWith", desc := "(II)Z" } : Jvm.MethodName) prog_9_method_79_code (3 : Nat) (Option.some Jvm.ClassFile.FieldType.boolean)) ∈ lw_all := lw_g (lw_at lw_m9 211 rfl) rfl
theorem q2250 : (Jvm.Cond.instanceMethod ({ cls := "UnimodularTablesModel", name := "fragile", desc := "()I" } : Jvm.MethodName)) ∈ lw_all := lw_g (lw_at lw_m9 213 rfl) rfl
theorem q2251 : (Jvm.Cond.selects "UnimodularTablesModel" ({ cls := "UnimodularTablesModel", name := "fragile", desc := "()I" } : Jvm.MethodName) ({ cls := "UnimodularTablesModel", name := "fragile", desc := "()I" } : Jvm.MethodName)) ∈ lw_all := lw_g (lw_at lw_m9 214 rfl) rfl
theorem q2252 : (Jvm.Cond.code ({ cls := "UnimodularTablesModel", name := "fragile", desc := "()I" } : Jvm.MethodName) prog_9_method_81_code (5 : Nat) (Option.some Jvm.ClassFile.FieldType.int)) ∈ lw_all := lw_g (lw_at lw_m9 215 rfl) rfl
theorem q2254 : (Jvm.Cond.instanceMethod ({ cls := "UnimodularTablesModel", name := "fills", desc := "(II)I" } : Jvm.MethodName)) ∈ lw_all := lw_g (lw_at lw_m9 217 rfl) rfl
theorem q2255 : (Jvm.Cond.selects "UnimodularTablesModel" ({ cls := "UnimodularTablesModel", name := "fills", desc := "(II)I" } : Jvm.MethodName) ({ cls := "UnimodularTablesModel", name := "fills", desc := "(II)I" } : Jvm.MethodName)) ∈ lw_all := lw_g (lw_at lw_m9 218 rfl) rfl
theorem q2256 : (Jvm.Cond.code ({ cls := "UnimodularTablesModel", name := "fills", desc := "(II)I" } : Jvm.MethodName) prog_9_method_82_code (5 : Nat) (Option.some Jvm.ClassFile.FieldType.int)) ∈ lw_all := lw_g (lw_at lw_m9 219 rfl) rfl
theorem q2258 : (Jvm.Cond.instanceMethod ({ cls := "UnimodularTablesModel", name := "pack", desc := "(I)I" } : Jvm.MethodName)) ∈ lw_all := lw_g (lw_at lw_m9 221 rfl) rfl
theorem q2259 : (Jvm.Cond.selects "UnimodularTablesModel" ({ cls := "UnimodularTablesModel", name := "pack", desc := "(I)I" } : Jvm.MethodName) ({ cls := "UnimodularTablesModel", name := "pack", desc := "(I)I" } : Jvm.MethodName)) ∈ lw_all := lw_g (lw_at lw_m9 222 rfl) rfl
theorem q2260 : (Jvm.Cond.code ({ cls := "UnimodularTablesModel", name := "pack", desc := "(I)I" } : Jvm.MethodName) prog_9_method_86_code (4 : Nat) (Option.some Jvm.ClassFile.FieldType.int)) ∈ lw_all := lw_g (lw_at lw_m9 223 rfl) rfl
theorem q2261 : (Jvm.Cond.methodLink "UnimodularTablesModel" (319 : Nat) ({ cls := "UnimodularTablesModel", name := "doPack", desc := "(I)Z" } : Jvm.MethodName)) ∈ lw_all := lw_g (lw_at lw_m9 224 rfl) rfl
theorem q2262 : (Jvm.Cond.privateMethod ({ cls := "UnimodularTablesModel", name := "doPack", desc := "(I)Z" } : Jvm.MethodName)) ∈ lw_tbl := lw_at lw_m9 225 rfl
theorem q2263 : (Jvm.Cond.instanceMethod ({ cls := "UnimodularTablesModel", name := "doPack", desc := "(I)Z" } : Jvm.MethodName)) ∈ lw_all := lw_g (lw_at lw_m9 226 rfl) rfl
theorem q2264 : (Jvm.Cond.code ({ cls := "UnimodularTablesModel", name := "doPack", desc := "(I)Z" } : Jvm.MethodName) prog_9_method_84_code (4 : Nat) (Option.some Jvm.ClassFile.FieldType.boolean)) ∈ lw_all := lw_g (lw_at lw_m9 227 rfl) rfl
theorem q2265 : (Jvm.Cond.methodLink "UnimodularTablesModel" (316 : Nat) ({ cls := "UnimodularTablesModel", name := "rowsOf", desc := "(I)I" } : Jvm.MethodName)) ∈ lw_all := lw_g (lw_at lw_m9 228 rfl) rfl
theorem q2266 : (Jvm.Cond.privateMethod ({ cls := "UnimodularTablesModel", name := "rowsOf", desc := "(I)I" } : Jvm.MethodName)) ∈ lw_tbl := lw_at lw_m9 229 rfl
theorem q2267 : (Jvm.Cond.instanceMethod ({ cls := "UnimodularTablesModel", name := "rowsOf", desc := "(I)I" } : Jvm.MethodName)) ∈ lw_all := lw_g (lw_at lw_m9 230 rfl) rfl
theorem q2268 : (Jvm.Cond.code ({ cls := "UnimodularTablesModel", name := "rowsOf", desc := "(I)I" } : Jvm.MethodName) prog_9_method_83_code (4 : Nat) (Option.some Jvm.ClassFile.FieldType.int)) ∈ lw_all := lw_g (lw_at lw_m9 231 rfl) rfl
theorem q2269 : (Jvm.Cond.methodLink "UnimodularTablesModel" (322 : Nat) ({ cls := "UnimodularTablesModel", name := "doCover", desc := "(I)Z" } : Jvm.MethodName)) ∈ lw_all := lw_g (lw_at lw_m9 232 rfl) rfl
theorem q2270 : (Jvm.Cond.privateMethod ({ cls := "UnimodularTablesModel", name := "doCover", desc := "(I)Z" } : Jvm.MethodName)) ∈ lw_tbl := lw_at lw_m9 233 rfl
theorem q2271 : (Jvm.Cond.instanceMethod ({ cls := "UnimodularTablesModel", name := "doCover", desc := "(I)Z" } : Jvm.MethodName)) ∈ lw_all := lw_g (lw_at lw_m9 234 rfl) rfl
theorem q2272 : (Jvm.Cond.code ({ cls := "UnimodularTablesModel", name := "doCover", desc := "(I)Z" } : Jvm.MethodName) prog_9_method_85_code (3 : Nat) (Option.some Jvm.ClassFile.FieldType.boolean)) ∈ lw_all := lw_g (lw_at lw_m9 235 rfl) rfl
theorem q2274 : (Jvm.Cond.instanceMethod ({ cls := "UnimodularTablesModel", name := "adjoint", desc := "(II)I" } : Jvm.MethodName)) ∈ lw_all := lw_g (lw_at lw_m9 237 rfl) rfl
theorem q2275 : (Jvm.Cond.selects "UnimodularTablesModel" ({ cls := "UnimodularTablesModel", name := "adjoint", desc := "(II)I" } : Jvm.MethodName) ({ cls := "UnimodularTablesModel", name := "adjoint", desc := "(II)I" } : Jvm.MethodName)) ∈ lw_all := lw_g (lw_at lw_m9 238 rfl) rfl
theorem q2276 : (Jvm.Cond.code ({ cls := "UnimodularTablesModel", name := "adjoint", desc := "(II)I" } : Jvm.MethodName) prog_9_method_87_code (5 : Nat) (Option.some Jvm.ClassFile.FieldType.int)) ∈ lw_all := lw_g (lw_at lw_m9 239 rfl) rfl
theorem q2278 : (Jvm.Cond.instanceMethod ({ cls := "UnimodularTablesModel", name := "cycle", desc := "()I" } : Jvm.MethodName)) ∈ lw_all := lw_g (lw_at lw_m10 1 rfl) rfl
theorem q2279 : (Jvm.Cond.selects "UnimodularTablesModel" ({ cls := "UnimodularTablesModel", name := "cycle", desc := "()I" } : Jvm.MethodName) ({ cls := "UnimodularTablesModel", name := "cycle", desc := "()I" } : Jvm.MethodName)) ∈ lw_all := lw_g (lw_at lw_m10 2 rfl) rfl
theorem q2280 : (Jvm.Cond.code ({ cls := "UnimodularTablesModel", name := "cycle", desc := "()I" } : Jvm.MethodName) prog_9_method_88_code (5 : Nat) (Option.some Jvm.ClassFile.FieldType.int)) ∈ lw_all := lw_g (lw_at lw_m10 3 rfl) rfl
theorem q2282 : (Jvm.Cond.instanceMethod ({ cls := "UnimodularTablesModel", name := "step", desc := "(III)I" } : Jvm.MethodName)) ∈ lw_all := lw_g (lw_at lw_m10 5 rfl) rfl
theorem q2283 : (Jvm.Cond.selects "UnimodularTablesModel" ({ cls := "UnimodularTablesModel", name := "step", desc := "(III)I" } : Jvm.MethodName) ({ cls := "UnimodularTablesModel", name := "step", desc := "(III)I" } : Jvm.MethodName)) ∈ lw_all := lw_g (lw_at lw_m10 6 rfl) rfl
theorem q2284 : (Jvm.Cond.code ({ cls := "UnimodularTablesModel", name := "step", desc := "(III)I" } : Jvm.MethodName) prog_9_method_90_code (4 : Nat) (Option.some Jvm.ClassFile.FieldType.int)) ∈ lw_all := lw_g (lw_at lw_m10 7 rfl) rfl
theorem q2285 : (Jvm.Cond.methodLink "UnimodularTablesModel" (325 : Nat) ({ cls := "UnimodularTablesModel", name := "isPlan", desc := "(I)Z" } : Jvm.MethodName)) ∈ lw_all := lw_g (lw_at lw_m10 8 rfl) rfl
theorem q2286 : (Jvm.Cond.privateMethod ({ cls := "UnimodularTablesModel", name := "isPlan", desc := "(I)Z" } : Jvm.MethodName)) ∈ lw_tbl := lw_at lw_m10 9 rfl
theorem q2287 : (Jvm.Cond.instanceMethod ({ cls := "UnimodularTablesModel", name := "isPlan", desc := "(I)Z" } : Jvm.MethodName)) ∈ lw_all := lw_g (lw_at lw_m10 10 rfl) rfl
theorem q2288 : (Jvm.Cond.code ({ cls := "UnimodularTablesModel", name := "isPlan", desc := "(I)Z" } : Jvm.MethodName) prog_9_method_89_code (2 : Nat) (Option.some Jvm.ClassFile.FieldType.boolean)) ∈ lw_all := lw_g (lw_at lw_m10 11 rfl) rfl
theorem q2290 : (Jvm.Cond.instanceMethod ({ cls := "UnimodularTablesModel", name := "run", desc := "(II)I" } : Jvm.MethodName)) ∈ lw_all := lw_g (lw_at lw_m10 13 rfl) rfl
theorem q2291 : (Jvm.Cond.selects "UnimodularTablesModel" ({ cls := "UnimodularTablesModel", name := "run", desc := "(II)I" } : Jvm.MethodName) ({ cls := "UnimodularTablesModel", name := "run", desc := "(II)I" } : Jvm.MethodName)) ∈ lw_all := lw_g (lw_at lw_m10 14 rfl) rfl
theorem q2292 : (Jvm.Cond.code ({ cls := "UnimodularTablesModel", name := "run", desc := "(II)I" } : Jvm.MethodName) prog_9_method_93_code (4 : Nat) (Option.some Jvm.ClassFile.FieldType.int)) ∈ lw_all := lw_g (lw_at lw_m10 15 rfl) rfl
theorem q2293 : (Jvm.Cond.methodLink "UnimodularTablesModel" (328 : Nat) ({ cls := "UnimodularTablesModel", name := "canStep", desc := "([II)Z" } : Jvm.MethodName)) ∈ lw_all := lw_g (lw_at lw_m10 16 rfl) rfl
theorem q2294 : (Jvm.Cond.privateMethod ({ cls := "UnimodularTablesModel", name := "canStep", desc := "([II)Z" } : Jvm.MethodName)) ∈ lw_tbl := lw_at lw_m10 17 rfl
theorem q2295 : (Jvm.Cond.instanceMethod ({ cls := "UnimodularTablesModel", name := "canStep", desc := "([II)Z" } : Jvm.MethodName)) ∈ lw_all := lw_g (lw_at lw_m10 18 rfl) rfl
theorem q2296 : (Jvm.Cond.code ({ cls := "UnimodularTablesModel", name := "canStep", desc := "([II)Z" } : Jvm.MethodName) prog_9_method_91_code (3 : Nat) (Option.some Jvm.ClassFile.FieldType.boolean)) ∈ lw_all := lw_g (lw_at lw_m10 19 rfl) rfl
theorem q2297 : (Jvm.Cond.methodLink "UnimodularTablesModel" (332 : Nat) ({ cls := "UnimodularTablesModel", name := "doesStep", desc := "([II)V" } : Jvm.MethodName)) ∈ lw_all := lw_g (lw_at lw_m10 20 rfl) rfl
theorem q2298 : (Jvm.Cond.privateMethod ({ cls := "UnimodularTablesModel", name := "doesStep", desc := "([II)V" } : Jvm.MethodName)) ∈ lw_tbl := lw_at lw_m10 21 rfl
theorem q2299 : (Jvm.Cond.instanceMethod ({ cls := "UnimodularTablesModel", name := "doesStep", desc := "([II)V" } : Jvm.MethodName)) ∈ lw_all := lw_g (lw_at lw_m10 22 rfl) rfl
theorem q2300 : (Jvm.Cond.code ({ cls := "UnimodularTablesModel", name := "doesStep", desc := "([II)V" } : Jvm.MethodName) prog_9_method_92_code (3 : Nat) (Option.none : Option Jvm.ClassFile.FieldType)) ∈ lw_all := lw_g (lw_at lw_m10 23 rfl) rfl
theorem q2302 : (Jvm.Cond.instanceMethod ({ cls := "UnimodularTablesModel", name := "perform", desc := "(I)I" } : Jvm.MethodName)) ∈ lw_all := lw_g (lw_at lw_m10 25 rfl) rfl
theorem q2303 : (Jvm.Cond.selects "UnimodularTablesModel" ({ cls := "UnimodularTablesModel", name := "perform", desc := "(I)I" } : Jvm.MethodName) ({ cls := "UnimodularTablesModel", name := "perform", desc := "(I)I" } : Jvm.MethodName)) ∈ lw_all := lw_g (lw_at lw_m10 26 rfl) rfl
theorem q2304 : (Jvm.Cond.code ({ cls := "UnimodularTablesModel", name := "perform", desc := "(I)I" } : Jvm.MethodName) prog_9_method_94_code (3 : Nat) (Option.some Jvm.ClassFile.FieldType.int)) ∈ lw_all := lw_g (lw_at lw_m10 27 rfl) rfl
theorem q2306 : (Jvm.Cond.instanceMethod ({ cls := "UnimodularTablesModel", name := "draws", desc := "(IJ)I" } : Jvm.MethodName)) ∈ lw_all := lw_g (lw_at lw_m10 29 rfl) rfl
theorem q2307 : (Jvm.Cond.selects "UnimodularTablesModel" ({ cls := "UnimodularTablesModel", name := "draws", desc := "(IJ)I" } : Jvm.MethodName) ({ cls := "UnimodularTablesModel", name := "draws", desc := "(IJ)I" } : Jvm.MethodName)) ∈ lw_all := lw_g (lw_at lw_m10 30 rfl) rfl
theorem q2308 : (Jvm.Cond.code ({ cls := "UnimodularTablesModel", name := "draws", desc := "(IJ)I" } : Jvm.MethodName) prog_9_method_96_code (10 : Nat) (Option.some Jvm.ClassFile.FieldType.int)) ∈ lw_all := lw_g (lw_at lw_m10 31 rfl) rfl
theorem q2309 : (Jvm.Cond.constantLong "UnimodularTablesModel" (344 : Nat) (30 : Int64)) ∈ lw_all := lw_g (lw_at lw_m10 32 rfl) rfl
theorem q2310 : (Jvm.Cond.methodLink "UnimodularTablesModel" (346 : Nat) ({ cls := "UnimodularTablesModel", name := "draw", desc := "(I)I" } : Jvm.MethodName)) ∈ lw_all := lw_g (lw_at lw_m10 33 rfl) rfl
theorem q2311 : (Jvm.Cond.privateMethod ({ cls := "UnimodularTablesModel", name := "draw", desc := "(I)I" } : Jvm.MethodName)) ∈ lw_tbl := lw_at lw_m10 34 rfl
theorem q2312 : (Jvm.Cond.instanceMethod ({ cls := "UnimodularTablesModel", name := "draw", desc := "(I)I" } : Jvm.MethodName)) ∈ lw_all := lw_g (lw_at lw_m10 35 rfl) rfl
theorem q2313 : (Jvm.Cond.code ({ cls := "UnimodularTablesModel", name := "draw", desc := "(I)I" } : Jvm.MethodName) prog_9_method_95_code (2 : Nat) (Option.some Jvm.ClassFile.FieldType.int)) ∈ lw_all := lw_g (lw_at lw_m10 36 rfl) rfl
theorem q2314 : (Jvm.Cond.constantLong "UnimodularTablesModel" (340 : Nat) (6364136223846793005 : Int64)) ∈ lw_all := lw_g (lw_at lw_m10 37 rfl) rfl
theorem q2315 : (Jvm.Cond.constantLong "UnimodularTablesModel" (342 : Nat) (1442695040888963407 : Int64)) ∈ lw_all := lw_g (lw_at lw_m10 38 rfl) rfl
theorem q2317 : (Jvm.Cond.instanceMethod ({ cls := "UnimodularTablesModel", name := "status", desc := "(I)I" } : Jvm.MethodName)) ∈ lw_all := lw_g (lw_at lw_m10 40 rfl) rfl
theorem q2318 : (Jvm.Cond.selects "UnimodularTablesModel" ({ cls := "UnimodularTablesModel", name := "status", desc := "(I)I" } : Jvm.MethodName) ({ cls := "UnimodularTablesModel", name := "status", desc := "(I)I" } : Jvm.MethodName)) ∈ lw_all := lw_g (lw_at lw_m10 41 rfl) rfl
theorem q2319 : (Jvm.Cond.code ({ cls := "UnimodularTablesModel", name := "status", desc := "(I)I" } : Jvm.MethodName) prog_9_method_97_code (2 : Nat) (Option.some Jvm.ClassFile.FieldType.int)) ∈ lw_all := lw_g (lw_at lw_m10 42 rfl) rfl
theorem q2321 : (Jvm.Cond.instanceMethod ({ cls := "UnimodularTablesModel", name := "image", desc := "()I" } : Jvm.MethodName)) ∈ lw_all := lw_g (lw_at lw_m10 44 rfl) rfl
theorem q2322 : (Jvm.Cond.selects "UnimodularTablesModel" ({ cls := "UnimodularTablesModel", name := "image", desc := "()I" } : Jvm.MethodName) ({ cls := "UnimodularTablesModel", name := "image", desc := "()I" } : Jvm.MethodName)) ∈ lw_all := lw_g (lw_at lw_m10 45 rfl) rfl
theorem q2323 : (Jvm.Cond.code ({ cls := "UnimodularTablesModel", name := "image", desc := "()I" } : Jvm.MethodName) prog_9_method_98_code (1 : Nat) (Option.some Jvm.ClassFile.FieldType.int)) ∈ lw_all := lw_g (lw_at lw_m10 46 rfl) rfl
theorem q2325 : (Jvm.Cond.instanceMethod ({ cls := "UnimodularTablesModel", name := "back", desc := "()I" } : Jvm.MethodName)) ∈ lw_all := lw_g (lw_at lw_m10 48 rfl) rfl
theorem q2326 : (Jvm.Cond.selects "UnimodularTablesModel" ({ cls := "UnimodularTablesModel", name := "back", desc := "()I" } : Jvm.MethodName) ({ cls := "UnimodularTablesModel", name := "back", desc := "()I" } : Jvm.MethodName)) ∈ lw_all := lw_g (lw_at lw_m10 49 rfl) rfl
theorem q2327 : (Jvm.Cond.code ({ cls := "UnimodularTablesModel", name := "back", desc := "()I" } : Jvm.MethodName) prog_9_method_99_code (1 : Nat) (Option.some Jvm.ClassFile.FieldType.int)) ∈ lw_all := lw_g (lw_at lw_m10 50 rfl) rfl
theorem q2329 : (Jvm.Cond.instanceMethod ({ cls := "UnimodularTablesModel", name := "count", desc := "(I)I" } : Jvm.MethodName)) ∈ lw_all := lw_g (lw_at lw_m10 52 rfl) rfl
theorem q2330 : (Jvm.Cond.selects "UnimodularTablesModel" ({ cls := "UnimodularTablesModel", name := "count", desc := "(I)I" } : Jvm.MethodName) ({ cls := "UnimodularTablesModel", name := "count", desc := "(I)I" } : Jvm.MethodName)) ∈ lw_all := lw_g (lw_at lw_m10 53 rfl) rfl
theorem q2331 : (Jvm.Cond.code ({ cls := "UnimodularTablesModel", name := "count", desc := "(I)I" } : Jvm.MethodName) prog_9_method_100_code (4 : Nat) (Option.some Jvm.ClassFile.FieldType.int)) ∈ lw_all := lw_g (lw_at lw_m10 54 rfl) rfl
theorem q2352 : (Jvm.Cond.castable "UnimodularTablesModel" "java/lang/Object") ∈ lw_tbl := lw_at lw_m10 75 rfl
theorem in_X5 : ∀ w ∈ wsX50, w ∈ lw_all := lw_in wsX50 [1852, 1854, 1856, 1858, 1860, 1862, 1864, 1866, 1868, 1870, 1872, 1874, 1876, 1878, 1880, 1882, 1884, 1886, 1888, 1890, 1892, 1894, 1896, 1898, 1900, 1902, 1904, 1906, 1908, 1910, 1912, 1914, 1916, 1918, 1920] (by decide +kernel) (by decide +kernel)
