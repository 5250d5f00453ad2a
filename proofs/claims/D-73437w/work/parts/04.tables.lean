/-! UnimodularTables -/
set_option maxRecDepth 100000
def RX1 : String := "UnimodularTables"
def TX1 : u_T := fun k => match k with
  | 0 => ("UnimodularTables", "turners", "[LUnimodularTables$Turner;", true)
  | 1 => ("UnimodularTables", "fault", "LUnimodularTables$Fault;", true)
  | 2 => ("UnimodularTables", "tape", "[B", true)
  | 3 => ("UnimodularTables", "taped", "I", false)
  | 4 => ("UnimodularTables", "place", "I", false)
  | 5 => ("UnimodularTables", "readEntry", "[I", true)
  | 6 => ("UnimodularTables", "readRows", "I", false)
  | 7 => ("UnimodularTables", "readColumns", "I", false)
  | 8 => ("UnimodularTables", "scripts", "[I", true)
  | 9 => ("UnimodularTables", "scriptLong", "[I", true)
  | 10 => ("UnimodularTables", "scriptMany", "I", false)
  | 11 => ("UnimodularTables", "table", "LUnimodularTables$Table;", false)
  | 12 => ("UnimodularTables", "undos", "[LUnimodularTables$Back;", true)
  | 13 => ("UnimodularTables", "undoMany", "I", false)
  | 14 => ("UnimodularTables", "kept", "Ljava/util/LinkedList;", false)
  | 15 => ("UnimodularTables", "refused", "[I", true)
  | 16 => ("UnimodularTables", "dets", "[I", true)
  | 17 => ("UnimodularTables", "trialDets", "[I", true)
  | 18 => ("UnimodularTables", "isLaid", "Z", false)
  | 19 => ("UnimodularTables", "witnessRows", "I", false)
  | 20 => ("UnimodularTables", "witnessColumns", "I", false)
  | 21 => ("UnimodularTables", "sides", "[LUnimodularTables$Growth;", true)
  | 22 => ("UnimodularTables", "signs", "[[I", true)
  | 23 => ("UnimodularTables", "distance", "[I", true)
  | 24 => ("UnimodularTables", "waiting", "Ljava/util/ArrayDeque;", true)
  | 25 => ("UnimodularTables", "rowSigns", "[I", true)
  | 26 => ("UnimodularTables", "columnSigns", "[I", true)
  | 27 => ("UnimodularTables", "tenOne", "LUnimodularTables$Table;", true)
  | 28 => ("UnimodularTables", "tenOther", "LUnimodularTables$Table;", true)
  | 29 => ("UnimodularTables", "blockRows", "[I", true)
  | 30 => ("UnimodularTables", "blockColumns", "[I", true)
  | 31 => ("UnimodularTables", "drawn", "J", false)
  | 32 => ("UnimodularTables", "imageTable", "LUnimodularTables$Table;", false)
  | _ => ("UnimodularTables", "imageKept", "Ljava/util/LinkedList;", false)
def tyX1 : Nat → FieldType := fun k => match k with
  | 0 => .array (.object "UnimodularTables$Turner")
  | 1 => .object "UnimodularTables$Fault"
  | 2 => .array .byte
  | 3 => .int
  | 4 => .int
  | 5 => .array .int
  | 6 => .int
  | 7 => .int
  | 8 => .array .int
  | 9 => .array .int
  | 10 => .int
  | 11 => .object "UnimodularTables$Table"
  | 12 => .array (.object "UnimodularTables$Back")
  | 13 => .int
  | 14 => .object "java/util/LinkedList"
  | 15 => .array .int
  | 16 => .array .int
  | 17 => .array .int
  | 18 => .boolean
  | 19 => .int
  | 20 => .int
  | 21 => .array (.object "UnimodularTables$Growth")
  | 22 => .array (.array .int)
  | 23 => .array .int
  | 24 => .object "java/util/ArrayDeque"
  | 25 => .array .int
  | 26 => .array .int
  | 27 => .object "UnimodularTables$Table"
  | 28 => .object "UnimodularTables$Table"
  | 29 => .array .int
  | 30 => .array .int
  | 31 => .long
  | 32 => .object "UnimodularTables$Table"
  | _ => .object "java/util/LinkedList"
abbrev wsX10 : List Cond := u_ws RX1 TX1 34
set_option maxRecDepth 100000 in
theorem nmX1 : ∀ a, a < 34 → ∀ b, b < 34 → a ≠ b → (TX1 a).2.1 ≠ (TX1 b).2.1 := by decide +kernel
set_option maxRecDepth 100000 in
theorem tyX1_ok : ∀ k, k < 34 → parseFieldDescriptor (TX1 k).2.2.1 = some (tyX1 k) := by decide +kernel
abbrev cX1_init : ByteArray := prog_1_method_9_code
def yX1_init : MethodName := ⟨RX1, "<init>", "()V"⟩
def dkwX1_init_13 : List UInt8 := [83, 177]
abbrev dktX1_init_13 : List UInt8 := dkwX1_init_13 ++ []
def dkwX1_init_12 : List UInt8 := [186, 0, 141, 0, 0, 83, 42, 180, 0, 133, 16, 6, 45, 83, 42, 180, 0, 133, 16, 7, 45, 184, 0, 137]
abbrev dktX1_init_12 : List UInt8 := dkwX1_init_12 ++ dktX1_init_13
def dkwX1_init_11 : List UInt8 := [184, 0, 137, 83, 42, 180, 0, 133, 7, 186, 0, 140, 0, 0, 83, 42, 180, 0, 133, 8]
abbrev dktX1_init_11 : List UInt8 := dkwX1_init_11 ++ dktX1_init_12
def dkwX1_init_10 : List UInt8 := [180, 0, 133, 4, 43, 184, 0, 137, 83, 42, 180, 0, 133, 5, 44, 83, 42, 180, 0, 133, 6, 44]
abbrev dktX1_init_10 : List UInt8 := dkwX1_init_10 ++ dktX1_init_11
def dkwX1_init_9 : List UInt8 := [77, 186, 0, 130, 0, 0, 78, 42, 16, 8, 189, 0, 131, 181, 0, 133, 42, 180, 0, 133, 3, 43, 83, 42]
abbrev dktX1_init_9 : List UInt8 := dkwX1_init_9 ++ dktX1_init_10
def dkwX1_init_8 : List UInt8 := [188, 10, 181, 0, 120, 42, 16, 12, 188, 10, 181, 0, 123, 186, 0, 126, 0, 0, 76, 186, 0, 129, 0, 0]
abbrev dktX1_init_8 : List UInt8 := dkwX1_init_8 ++ dktX1_init_9
def dkwX1_init_7 : List UInt8 := [181, 0, 102, 42, 18, 105, 184, 0, 107, 181, 0, 111, 42, 18, 115, 184, 0, 107, 181, 0, 117, 42, 16, 12]
abbrev dktX1_init_7 : List UInt8 := dkwX1_init_7 ++ dktX1_init_8
def dkwX1_init_6 : List UInt8 := [42, 187, 0, 92, 89, 183, 0, 94, 181, 0, 95, 42, 16, 6, 188, 10, 181, 0, 99, 42, 16, 6, 188, 10]
abbrev dktX1_init_6 : List UInt8 := dkwX1_init_6 ++ dktX1_init_7
def dkwX1_init_5 : List UInt8 := [83, 181, 0, 81, 42, 16, 6, 16, 6, 197, 0, 85, 2, 181, 0, 86, 42, 16, 12, 188, 10, 181, 0, 89]
abbrev dktX1_init_5 : List UInt8 := dkwX1_init_5 ++ dktX1_init_6
def dkwX1_init_4 : List UInt8 := [189, 0, 76, 89, 3, 187, 0, 76, 89, 42, 183, 0, 78, 83, 89, 4, 187, 0, 76, 89, 42, 183, 0, 78]
abbrev dktX1_init_4 : List UInt8 := dkwX1_init_4 ++ dktX1_init_5
def dkwX1_init_3 : List UInt8 := [181, 0, 67, 42, 17, 16, 0, 188, 10, 181, 0, 70, 42, 17, 16, 0, 188, 10, 181, 0, 73, 42, 5]
abbrev dktX1_init_3 : List UInt8 := dkwX1_init_3 ++ dktX1_init_4
def dkwX1_init_2 : List UInt8 := [42, 16, 40, 189, 0, 54, 181, 0, 56, 42, 187, 0, 60, 89, 183, 0, 62, 181, 0, 63, 42, 7, 188, 10]
abbrev dktX1_init_2 : List UInt8 := dkwX1_init_2 ++ dktX1_init_3
def dkwX1_init_1 : List UInt8 := [42, 16, 36, 188, 10, 181, 0, 44, 42, 17, 0, 240, 188, 10, 181, 0, 48, 42, 8, 188, 10, 181, 0, 51]
abbrev dktX1_init_1 : List UInt8 := dkwX1_init_1 ++ dktX1_init_2
def dkwX1_init_0 : List UInt8 := [42, 183, 0, 28, 42, 187, 0, 33, 89, 183, 0, 35, 181, 0, 36, 42, 17, 0, 240, 188, 8, 181, 0, 40]
abbrev dktX1_init_0 : List UInt8 := dkwX1_init_0 ++ dktX1_init_1
theorem dksX1_init_0 : cX1_init.data.toList.drop 0 = dktX1_init_0 := by decide +kernel
theorem dksX1_init_1 : cX1_init.data.toList.drop 24 = dktX1_init_1 := dk_seg dksX1_init_0 24 rfl rfl
theorem dksX1_init_2 : cX1_init.data.toList.drop 48 = dktX1_init_2 := dk_seg dksX1_init_1 24 rfl rfl
theorem dksX1_init_3 : cX1_init.data.toList.drop 72 = dktX1_init_3 := dk_seg dksX1_init_2 24 rfl rfl
theorem dksX1_init_4 : cX1_init.data.toList.drop 95 = dktX1_init_4 := dk_seg dksX1_init_3 23 rfl rfl
theorem dksX1_init_5 : cX1_init.data.toList.drop 119 = dktX1_init_5 := dk_seg dksX1_init_4 24 rfl rfl
theorem dksX1_init_6 : cX1_init.data.toList.drop 143 = dktX1_init_6 := dk_seg dksX1_init_5 24 rfl rfl
theorem dksX1_init_7 : cX1_init.data.toList.drop 167 = dktX1_init_7 := dk_seg dksX1_init_6 24 rfl rfl
theorem dksX1_init_8 : cX1_init.data.toList.drop 191 = dktX1_init_8 := dk_seg dksX1_init_7 24 rfl rfl
theorem dksX1_init_9 : cX1_init.data.toList.drop 215 = dktX1_init_9 := dk_seg dksX1_init_8 24 rfl rfl
theorem dksX1_init_10 : cX1_init.data.toList.drop 239 = dktX1_init_10 := dk_seg dksX1_init_9 24 rfl rfl
theorem dksX1_init_11 : cX1_init.data.toList.drop 261 = dktX1_init_11 := dk_seg dksX1_init_10 22 rfl rfl
theorem dksX1_init_12 : cX1_init.data.toList.drop 281 = dktX1_init_12 := dk_seg dksX1_init_11 20 rfl rfl
theorem dksX1_init_13 : cX1_init.data.toList.drop 305 = dktX1_init_13 := dk_seg dksX1_init_12 24 rfl rfl
theorem dX1_init_0 : decode cX1_init 0 = .ok (.aload_n 0, 1) := dk_42 (dk_at dksX1_init_0 0 rfl rfl)
theorem dX1_init_1 : decode cX1_init 1 = .ok (.invokespecial 28, 3) := dk_183 0 28 (dk_at dksX1_init_0 1 rfl rfl)
theorem dX1_init_4 : decode cX1_init 4 = .ok (.aload_n 0, 1) := dk_42 (dk_at dksX1_init_0 4 rfl rfl)
theorem dX1_init_5 : decode cX1_init 5 = .ok (.new 33, 3) := dk_187 0 33 (dk_at dksX1_init_0 5 rfl rfl)
theorem dX1_init_8 : decode cX1_init 8 = .ok (.dup, 1) := dk_89 (dk_at dksX1_init_0 8 rfl rfl)
theorem dX1_init_9 : decode cX1_init 9 = .ok (.invokespecial 35, 3) := dk_183 0 35 (dk_at dksX1_init_0 9 rfl rfl)
theorem dX1_init_12 : decode cX1_init 12 = .ok (.putfield 36, 3) := dk_181 0 36 (dk_at dksX1_init_0 12 rfl rfl)
theorem dX1_init_15 : decode cX1_init 15 = .ok (.aload_n 0, 1) := dk_42 (dk_at dksX1_init_0 15 rfl rfl)
theorem dX1_init_16 : decode cX1_init 16 = .ok (.sipush 240, 3) := dk_17 0 240 (dk_at dksX1_init_0 16 rfl rfl)
theorem dX1_init_19 : decode cX1_init 19 = .ok (.newarray .byte, 2) := dk_188_8 (dk_at dksX1_init_0 19 rfl rfl)
theorem dX1_init_21 : decode cX1_init 21 = .ok (.putfield 40, 3) := dk_181 0 40 (dk_at dksX1_init_0 21 rfl rfl)
theorem dX1_init_24 : decode cX1_init 24 = .ok (.aload_n 0, 1) := dk_42 (dk_at dksX1_init_1 0 rfl rfl)
theorem dX1_init_25 : decode cX1_init 25 = .ok (.bipush 36, 2) := dk_16 36 (dk_at dksX1_init_1 1 rfl rfl)
theorem dX1_init_27 : decode cX1_init 27 = .ok (.newarray .int, 2) := dk_188_10 (dk_at dksX1_init_1 3 rfl rfl)
theorem dX1_init_29 : decode cX1_init 29 = .ok (.putfield 44, 3) := dk_181 0 44 (dk_at dksX1_init_1 5 rfl rfl)
theorem dX1_init_32 : decode cX1_init 32 = .ok (.aload_n 0, 1) := dk_42 (dk_at dksX1_init_1 8 rfl rfl)
theorem dX1_init_33 : decode cX1_init 33 = .ok (.sipush 240, 3) := dk_17 0 240 (dk_at dksX1_init_1 9 rfl rfl)
theorem dX1_init_36 : decode cX1_init 36 = .ok (.newarray .int, 2) := dk_188_10 (dk_at dksX1_init_1 12 rfl rfl)
theorem dX1_init_38 : decode cX1_init 38 = .ok (.putfield 48, 3) := dk_181 0 48 (dk_at dksX1_init_1 14 rfl rfl)
theorem dX1_init_41 : decode cX1_init 41 = .ok (.aload_n 0, 1) := dk_42 (dk_at dksX1_init_1 17 rfl rfl)
theorem dX1_init_42 : decode cX1_init 42 = .ok (.iconst 5, 1) := dk_8 (dk_at dksX1_init_1 18 rfl rfl)
theorem dX1_init_43 : decode cX1_init 43 = .ok (.newarray .int, 2) := dk_188_10 (dk_at dksX1_init_1 19 rfl rfl)
theorem dX1_init_45 : decode cX1_init 45 = .ok (.putfield 51, 3) := dk_181 0 51 (dk_at dksX1_init_1 21 rfl rfl)
theorem dX1_init_48 : decode cX1_init 48 = .ok (.aload_n 0, 1) := dk_42 (dk_at dksX1_init_2 0 rfl rfl)
theorem dX1_init_49 : decode cX1_init 49 = .ok (.bipush 40, 2) := dk_16 40 (dk_at dksX1_init_2 1 rfl rfl)
theorem dX1_init_51 : decode cX1_init 51 = .ok (.anewarray 54, 3) := dk_189 0 54 (dk_at dksX1_init_2 3 rfl rfl)
theorem dX1_init_54 : decode cX1_init 54 = .ok (.putfield 56, 3) := dk_181 0 56 (dk_at dksX1_init_2 6 rfl rfl)
theorem dX1_init_57 : decode cX1_init 57 = .ok (.aload_n 0, 1) := dk_42 (dk_at dksX1_init_2 9 rfl rfl)
theorem dX1_init_58 : decode cX1_init 58 = .ok (.new 60, 3) := dk_187 0 60 (dk_at dksX1_init_2 10 rfl rfl)
theorem dX1_init_61 : decode cX1_init 61 = .ok (.dup, 1) := dk_89 (dk_at dksX1_init_2 13 rfl rfl)
theorem dX1_init_62 : decode cX1_init 62 = .ok (.invokespecial 62, 3) := dk_183 0 62 (dk_at dksX1_init_2 14 rfl rfl)
theorem dX1_init_65 : decode cX1_init 65 = .ok (.putfield 63, 3) := dk_181 0 63 (dk_at dksX1_init_2 17 rfl rfl)
theorem dX1_init_68 : decode cX1_init 68 = .ok (.aload_n 0, 1) := dk_42 (dk_at dksX1_init_2 20 rfl rfl)
theorem dX1_init_69 : decode cX1_init 69 = .ok (.iconst 4, 1) := dk_7 (dk_at dksX1_init_2 21 rfl rfl)
theorem dX1_init_70 : decode cX1_init 70 = .ok (.newarray .int, 2) := dk_188_10 (dk_at dksX1_init_2 22 rfl rfl)
theorem dX1_init_72 : decode cX1_init 72 = .ok (.putfield 67, 3) := dk_181 0 67 (dk_at dksX1_init_3 0 rfl rfl)
theorem dX1_init_75 : decode cX1_init 75 = .ok (.aload_n 0, 1) := dk_42 (dk_at dksX1_init_3 3 rfl rfl)
theorem dX1_init_76 : decode cX1_init 76 = .ok (.sipush 4096, 3) := dk_17 16 0 (dk_at dksX1_init_3 4 rfl rfl)
theorem dX1_init_79 : decode cX1_init 79 = .ok (.newarray .int, 2) := dk_188_10 (dk_at dksX1_init_3 7 rfl rfl)
theorem dX1_init_81 : decode cX1_init 81 = .ok (.putfield 70, 3) := dk_181 0 70 (dk_at dksX1_init_3 9 rfl rfl)
theorem dX1_init_84 : decode cX1_init 84 = .ok (.aload_n 0, 1) := dk_42 (dk_at dksX1_init_3 12 rfl rfl)
theorem dX1_init_85 : decode cX1_init 85 = .ok (.sipush 4096, 3) := dk_17 16 0 (dk_at dksX1_init_3 13 rfl rfl)
theorem dX1_init_88 : decode cX1_init 88 = .ok (.newarray .int, 2) := dk_188_10 (dk_at dksX1_init_3 16 rfl rfl)
theorem dX1_init_90 : decode cX1_init 90 = .ok (.putfield 73, 3) := dk_181 0 73 (dk_at dksX1_init_3 18 rfl rfl)
theorem dX1_init_93 : decode cX1_init 93 = .ok (.aload_n 0, 1) := dk_42 (dk_at dksX1_init_3 21 rfl rfl)
theorem dX1_init_94 : decode cX1_init 94 = .ok (.iconst 2, 1) := dk_5 (dk_at dksX1_init_3 22 rfl rfl)
theorem dX1_init_95 : decode cX1_init 95 = .ok (.anewarray 76, 3) := dk_189 0 76 (dk_at dksX1_init_4 0 rfl rfl)
theorem dX1_init_98 : decode cX1_init 98 = .ok (.dup, 1) := dk_89 (dk_at dksX1_init_4 3 rfl rfl)
theorem dX1_init_99 : decode cX1_init 99 = .ok (.iconst 0, 1) := dk_3 (dk_at dksX1_init_4 4 rfl rfl)
theorem dX1_init_100 : decode cX1_init 100 = .ok (.new 76, 3) := dk_187 0 76 (dk_at dksX1_init_4 5 rfl rfl)
theorem dX1_init_103 : decode cX1_init 103 = .ok (.dup, 1) := dk_89 (dk_at dksX1_init_4 8 rfl rfl)
theorem dX1_init_104 : decode cX1_init 104 = .ok (.aload_n 0, 1) := dk_42 (dk_at dksX1_init_4 9 rfl rfl)
theorem dX1_init_105 : decode cX1_init 105 = .ok (.invokespecial 78, 3) := dk_183 0 78 (dk_at dksX1_init_4 10 rfl rfl)
theorem dX1_init_108 : decode cX1_init 108 = .ok (.aastore, 1) := dk_83 (dk_at dksX1_init_4 13 rfl rfl)
theorem dX1_init_109 : decode cX1_init 109 = .ok (.dup, 1) := dk_89 (dk_at dksX1_init_4 14 rfl rfl)
theorem dX1_init_110 : decode cX1_init 110 = .ok (.iconst 1, 1) := dk_4 (dk_at dksX1_init_4 15 rfl rfl)
theorem dX1_init_111 : decode cX1_init 111 = .ok (.new 76, 3) := dk_187 0 76 (dk_at dksX1_init_4 16 rfl rfl)
theorem dX1_init_114 : decode cX1_init 114 = .ok (.dup, 1) := dk_89 (dk_at dksX1_init_4 19 rfl rfl)
theorem dX1_init_115 : decode cX1_init 115 = .ok (.aload_n 0, 1) := dk_42 (dk_at dksX1_init_4 20 rfl rfl)
theorem dX1_init_116 : decode cX1_init 116 = .ok (.invokespecial 78, 3) := dk_183 0 78 (dk_at dksX1_init_4 21 rfl rfl)
theorem dX1_init_119 : decode cX1_init 119 = .ok (.aastore, 1) := dk_83 (dk_at dksX1_init_5 0 rfl rfl)
theorem dX1_init_120 : decode cX1_init 120 = .ok (.putfield 81, 3) := dk_181 0 81 (dk_at dksX1_init_5 1 rfl rfl)
theorem dX1_init_123 : decode cX1_init 123 = .ok (.aload_n 0, 1) := dk_42 (dk_at dksX1_init_5 4 rfl rfl)
theorem dX1_init_124 : decode cX1_init 124 = .ok (.bipush 6, 2) := dk_16 6 (dk_at dksX1_init_5 5 rfl rfl)
theorem dX1_init_126 : decode cX1_init 126 = .ok (.bipush 6, 2) := dk_16 6 (dk_at dksX1_init_5 7 rfl rfl)
theorem dX1_init_128 : decode cX1_init 128 = .ok (.multianewarray 85 2, 4) := by decide +kernel
theorem dX1_init_132 : decode cX1_init 132 = .ok (.putfield 86, 3) := dk_181 0 86 (dk_at dksX1_init_5 13 rfl rfl)
theorem dX1_init_135 : decode cX1_init 135 = .ok (.aload_n 0, 1) := dk_42 (dk_at dksX1_init_5 16 rfl rfl)
theorem dX1_init_136 : decode cX1_init 136 = .ok (.bipush 12, 2) := dk_16 12 (dk_at dksX1_init_5 17 rfl rfl)
theorem dX1_init_138 : decode cX1_init 138 = .ok (.newarray .int, 2) := dk_188_10 (dk_at dksX1_init_5 19 rfl rfl)
theorem dX1_init_140 : decode cX1_init 140 = .ok (.putfield 89, 3) := dk_181 0 89 (dk_at dksX1_init_5 21 rfl rfl)
theorem dX1_init_143 : decode cX1_init 143 = .ok (.aload_n 0, 1) := dk_42 (dk_at dksX1_init_6 0 rfl rfl)
theorem dX1_init_144 : decode cX1_init 144 = .ok (.new 92, 3) := dk_187 0 92 (dk_at dksX1_init_6 1 rfl rfl)
theorem dX1_init_147 : decode cX1_init 147 = .ok (.dup, 1) := dk_89 (dk_at dksX1_init_6 4 rfl rfl)
theorem dX1_init_148 : decode cX1_init 148 = .ok (.invokespecial 94, 3) := dk_183 0 94 (dk_at dksX1_init_6 5 rfl rfl)
theorem dX1_init_151 : decode cX1_init 151 = .ok (.putfield 95, 3) := dk_181 0 95 (dk_at dksX1_init_6 8 rfl rfl)
theorem dX1_init_154 : decode cX1_init 154 = .ok (.aload_n 0, 1) := dk_42 (dk_at dksX1_init_6 11 rfl rfl)
theorem dX1_init_155 : decode cX1_init 155 = .ok (.bipush 6, 2) := dk_16 6 (dk_at dksX1_init_6 12 rfl rfl)
theorem dX1_init_157 : decode cX1_init 157 = .ok (.newarray .int, 2) := dk_188_10 (dk_at dksX1_init_6 14 rfl rfl)
theorem dX1_init_159 : decode cX1_init 159 = .ok (.putfield 99, 3) := dk_181 0 99 (dk_at dksX1_init_6 16 rfl rfl)
theorem dX1_init_162 : decode cX1_init 162 = .ok (.aload_n 0, 1) := dk_42 (dk_at dksX1_init_6 19 rfl rfl)
theorem dX1_init_163 : decode cX1_init 163 = .ok (.bipush 6, 2) := dk_16 6 (dk_at dksX1_init_6 20 rfl rfl)
theorem dX1_init_165 : decode cX1_init 165 = .ok (.newarray .int, 2) := dk_188_10 (dk_at dksX1_init_6 22 rfl rfl)
theorem dX1_init_167 : decode cX1_init 167 = .ok (.putfield 102, 3) := dk_181 0 102 (dk_at dksX1_init_7 0 rfl rfl)
theorem dX1_init_170 : decode cX1_init 170 = .ok (.aload_n 0, 1) := dk_42 (dk_at dksX1_init_7 3 rfl rfl)
theorem dX1_init_171 : decode cX1_init 171 = .ok (.ldc 105, 2) := dk_18 105 (dk_at dksX1_init_7 4 rfl rfl)
theorem dX1_init_173 : decode cX1_init 173 = .ok (.invokestatic 107, 3) := dk_184 0 107 (dk_at dksX1_init_7 6 rfl rfl)
theorem dX1_init_176 : decode cX1_init 176 = .ok (.putfield 111, 3) := dk_181 0 111 (dk_at dksX1_init_7 9 rfl rfl)
theorem dX1_init_179 : decode cX1_init 179 = .ok (.aload_n 0, 1) := dk_42 (dk_at dksX1_init_7 12 rfl rfl)
theorem dX1_init_180 : decode cX1_init 180 = .ok (.ldc 115, 2) := dk_18 115 (dk_at dksX1_init_7 13 rfl rfl)
theorem dX1_init_182 : decode cX1_init 182 = .ok (.invokestatic 107, 3) := dk_184 0 107 (dk_at dksX1_init_7 15 rfl rfl)
theorem dX1_init_185 : decode cX1_init 185 = .ok (.putfield 117, 3) := dk_181 0 117 (dk_at dksX1_init_7 18 rfl rfl)
theorem dX1_init_188 : decode cX1_init 188 = .ok (.aload_n 0, 1) := dk_42 (dk_at dksX1_init_7 21 rfl rfl)
theorem dX1_init_189 : decode cX1_init 189 = .ok (.bipush 12, 2) := dk_16 12 (dk_at dksX1_init_7 22 rfl rfl)
theorem dX1_init_191 : decode cX1_init 191 = .ok (.newarray .int, 2) := dk_188_10 (dk_at dksX1_init_8 0 rfl rfl)
theorem dX1_init_193 : decode cX1_init 193 = .ok (.putfield 120, 3) := dk_181 0 120 (dk_at dksX1_init_8 2 rfl rfl)
theorem dX1_init_196 : decode cX1_init 196 = .ok (.aload_n 0, 1) := dk_42 (dk_at dksX1_init_8 5 rfl rfl)
theorem dX1_init_197 : decode cX1_init 197 = .ok (.bipush 12, 2) := dk_16 12 (dk_at dksX1_init_8 6 rfl rfl)
theorem dX1_init_199 : decode cX1_init 199 = .ok (.newarray .int, 2) := dk_188_10 (dk_at dksX1_init_8 8 rfl rfl)
theorem dX1_init_201 : decode cX1_init 201 = .ok (.putfield 123, 3) := dk_181 0 123 (dk_at dksX1_init_8 10 rfl rfl)
theorem dX1_init_204 : decode cX1_init 204 = .ok (.invokedynamic 126, 5) := by decide +kernel
theorem dX1_init_209 : decode cX1_init 209 = .ok (.astore_n 1, 1) := dk_76 (dk_at dksX1_init_8 18 rfl rfl)
theorem dX1_init_210 : decode cX1_init 210 = .ok (.invokedynamic 129, 5) := by decide +kernel
theorem dX1_init_215 : decode cX1_init 215 = .ok (.astore_n 2, 1) := dk_77 (dk_at dksX1_init_9 0 rfl rfl)
theorem dX1_init_216 : decode cX1_init 216 = .ok (.invokedynamic 130, 5) := by decide +kernel
theorem dX1_init_221 : decode cX1_init 221 = .ok (.astore_n 3, 1) := dk_78 (dk_at dksX1_init_9 6 rfl rfl)
theorem dX1_init_222 : decode cX1_init 222 = .ok (.aload_n 0, 1) := dk_42 (dk_at dksX1_init_9 7 rfl rfl)
theorem dX1_init_223 : decode cX1_init 223 = .ok (.bipush 8, 2) := dk_16 8 (dk_at dksX1_init_9 8 rfl rfl)
theorem dX1_init_225 : decode cX1_init 225 = .ok (.anewarray 131, 3) := dk_189 0 131 (dk_at dksX1_init_9 10 rfl rfl)
theorem dX1_init_228 : decode cX1_init 228 = .ok (.putfield 133, 3) := dk_181 0 133 (dk_at dksX1_init_9 13 rfl rfl)
theorem dX1_init_231 : decode cX1_init 231 = .ok (.aload_n 0, 1) := dk_42 (dk_at dksX1_init_9 16 rfl rfl)
theorem dX1_init_232 : decode cX1_init 232 = .ok (.getfield 133, 3) := dk_180 0 133 (dk_at dksX1_init_9 17 rfl rfl)
theorem dX1_init_235 : decode cX1_init 235 = .ok (.iconst 0, 1) := dk_3 (dk_at dksX1_init_9 20 rfl rfl)
theorem dX1_init_236 : decode cX1_init 236 = .ok (.aload_n 1, 1) := dk_43 (dk_at dksX1_init_9 21 rfl rfl)
theorem dX1_init_237 : decode cX1_init 237 = .ok (.aastore, 1) := dk_83 (dk_at dksX1_init_9 22 rfl rfl)
theorem dX1_init_238 : decode cX1_init 238 = .ok (.aload_n 0, 1) := dk_42 (dk_at dksX1_init_9 23 rfl rfl)
theorem dX1_init_239 : decode cX1_init 239 = .ok (.getfield 133, 3) := dk_180 0 133 (dk_at dksX1_init_10 0 rfl rfl)
theorem dX1_init_242 : decode cX1_init 242 = .ok (.iconst 1, 1) := dk_4 (dk_at dksX1_init_10 3 rfl rfl)
theorem dX1_init_243 : decode cX1_init 243 = .ok (.aload_n 1, 1) := dk_43 (dk_at dksX1_init_10 4 rfl rfl)
theorem dX1_init_244 : decode cX1_init 244 = .ok (.invokestatic 137, 3) := dk_184 0 137 (dk_at dksX1_init_10 5 rfl rfl)
theorem dX1_init_247 : decode cX1_init 247 = .ok (.aastore, 1) := dk_83 (dk_at dksX1_init_10 8 rfl rfl)
theorem dX1_init_248 : decode cX1_init 248 = .ok (.aload_n 0, 1) := dk_42 (dk_at dksX1_init_10 9 rfl rfl)
theorem dX1_init_249 : decode cX1_init 249 = .ok (.getfield 133, 3) := dk_180 0 133 (dk_at dksX1_init_10 10 rfl rfl)
theorem dX1_init_252 : decode cX1_init 252 = .ok (.iconst 2, 1) := dk_5 (dk_at dksX1_init_10 13 rfl rfl)
theorem dX1_init_253 : decode cX1_init 253 = .ok (.aload_n 2, 1) := dk_44 (dk_at dksX1_init_10 14 rfl rfl)
theorem dX1_init_254 : decode cX1_init 254 = .ok (.aastore, 1) := dk_83 (dk_at dksX1_init_10 15 rfl rfl)
theorem dX1_init_255 : decode cX1_init 255 = .ok (.aload_n 0, 1) := dk_42 (dk_at dksX1_init_10 16 rfl rfl)
theorem dX1_init_256 : decode cX1_init 256 = .ok (.getfield 133, 3) := dk_180 0 133 (dk_at dksX1_init_10 17 rfl rfl)
theorem dX1_init_259 : decode cX1_init 259 = .ok (.iconst 3, 1) := dk_6 (dk_at dksX1_init_10 20 rfl rfl)
theorem dX1_init_260 : decode cX1_init 260 = .ok (.aload_n 2, 1) := dk_44 (dk_at dksX1_init_10 21 rfl rfl)
theorem dX1_init_261 : decode cX1_init 261 = .ok (.invokestatic 137, 3) := dk_184 0 137 (dk_at dksX1_init_11 0 rfl rfl)
theorem dX1_init_264 : decode cX1_init 264 = .ok (.aastore, 1) := dk_83 (dk_at dksX1_init_11 3 rfl rfl)
theorem dX1_init_265 : decode cX1_init 265 = .ok (.aload_n 0, 1) := dk_42 (dk_at dksX1_init_11 4 rfl rfl)
theorem dX1_init_266 : decode cX1_init 266 = .ok (.getfield 133, 3) := dk_180 0 133 (dk_at dksX1_init_11 5 rfl rfl)
theorem dX1_init_269 : decode cX1_init 269 = .ok (.iconst 4, 1) := dk_7 (dk_at dksX1_init_11 8 rfl rfl)
theorem dX1_init_270 : decode cX1_init 270 = .ok (.invokedynamic 140, 5) := by decide +kernel
theorem dX1_init_275 : decode cX1_init 275 = .ok (.aastore, 1) := dk_83 (dk_at dksX1_init_11 14 rfl rfl)
theorem dX1_init_276 : decode cX1_init 276 = .ok (.aload_n 0, 1) := dk_42 (dk_at dksX1_init_11 15 rfl rfl)
theorem dX1_init_277 : decode cX1_init 277 = .ok (.getfield 133, 3) := dk_180 0 133 (dk_at dksX1_init_11 16 rfl rfl)
theorem dX1_init_280 : decode cX1_init 280 = .ok (.iconst 5, 1) := dk_8 (dk_at dksX1_init_11 19 rfl rfl)
theorem dX1_init_281 : decode cX1_init 281 = .ok (.invokedynamic 141, 5) := by decide +kernel
theorem dX1_init_286 : decode cX1_init 286 = .ok (.aastore, 1) := dk_83 (dk_at dksX1_init_12 5 rfl rfl)
theorem dX1_init_287 : decode cX1_init 287 = .ok (.aload_n 0, 1) := dk_42 (dk_at dksX1_init_12 6 rfl rfl)
theorem dX1_init_288 : decode cX1_init 288 = .ok (.getfield 133, 3) := dk_180 0 133 (dk_at dksX1_init_12 7 rfl rfl)
theorem dX1_init_291 : decode cX1_init 291 = .ok (.bipush 6, 2) := dk_16 6 (dk_at dksX1_init_12 10 rfl rfl)
theorem dX1_init_293 : decode cX1_init 293 = .ok (.aload_n 3, 1) := dk_45 (dk_at dksX1_init_12 12 rfl rfl)
theorem dX1_init_294 : decode cX1_init 294 = .ok (.aastore, 1) := dk_83 (dk_at dksX1_init_12 13 rfl rfl)
theorem dX1_init_295 : decode cX1_init 295 = .ok (.aload_n 0, 1) := dk_42 (dk_at dksX1_init_12 14 rfl rfl)
theorem dX1_init_296 : decode cX1_init 296 = .ok (.getfield 133, 3) := dk_180 0 133 (dk_at dksX1_init_12 15 rfl rfl)
theorem dX1_init_299 : decode cX1_init 299 = .ok (.bipush 7, 2) := dk_16 7 (dk_at dksX1_init_12 18 rfl rfl)
theorem dX1_init_301 : decode cX1_init 301 = .ok (.aload_n 3, 1) := dk_45 (dk_at dksX1_init_12 20 rfl rfl)
theorem dX1_init_302 : decode cX1_init 302 = .ok (.invokestatic 137, 3) := dk_184 0 137 (dk_at dksX1_init_12 21 rfl rfl)
theorem dX1_init_305 : decode cX1_init 305 = .ok (.aastore, 1) := dk_83 (dk_at dksX1_init_13 0 rfl rfl)
theorem dX1_init_306 : decode cX1_init 306 = .ok (.return_, 1) := dk_177 (dk_at dksX1_init_13 1 rfl rfl)
abbrev cX1_ten : ByteArray := prog_1_method_84_code
def yX1_ten : MethodName := ⟨RX1, "ten", "(Ljava/lang/String;)LUnimodularTables$Table;"⟩
def dkwX1_ten_2 : List UInt8 := [132, 2, 1, 167, 255, 218, 43, 176]
abbrev dktX1_ten_2 : List UInt8 := dkwX1_ten_2 ++ []
def dkwX1_ten_1 : List UInt8 := [108, 50, 28, 8, 112, 42, 16, 6, 28, 8, 108, 104, 28, 8, 112, 96, 182, 1, 197, 184, 0, 167, 79]
abbrev dktX1_ten_1 : List UInt8 := dkwX1_ten_1 ++ dktX1_ten_2
def dkwX1_ten_0 : List UInt8 := [187, 0, 4, 89, 8, 8, 183, 0, 20, 76, 3, 61, 28, 16, 25, 162, 0, 38, 43, 180, 0, 13, 28, 8]
abbrev dktX1_ten_0 : List UInt8 := dkwX1_ten_0 ++ dktX1_ten_1
theorem dksX1_ten_0 : cX1_ten.data.toList.drop 0 = dktX1_ten_0 := by decide +kernel
theorem dksX1_ten_1 : cX1_ten.data.toList.drop 24 = dktX1_ten_1 := dk_seg dksX1_ten_0 24 rfl rfl
theorem dksX1_ten_2 : cX1_ten.data.toList.drop 47 = dktX1_ten_2 := dk_seg dksX1_ten_1 23 rfl rfl
theorem dX1_ten_0 : decode cX1_ten 0 = .ok (.new 4, 3) := dk_187 0 4 (dk_at dksX1_ten_0 0 rfl rfl)
theorem dX1_ten_3 : decode cX1_ten 3 = .ok (.dup, 1) := dk_89 (dk_at dksX1_ten_0 3 rfl rfl)
theorem dX1_ten_4 : decode cX1_ten 4 = .ok (.iconst 5, 1) := dk_8 (dk_at dksX1_ten_0 4 rfl rfl)
theorem dX1_ten_5 : decode cX1_ten 5 = .ok (.iconst 5, 1) := dk_8 (dk_at dksX1_ten_0 5 rfl rfl)
theorem dX1_ten_6 : decode cX1_ten 6 = .ok (.invokespecial 20, 3) := dk_183 0 20 (dk_at dksX1_ten_0 6 rfl rfl)
theorem dX1_ten_9 : decode cX1_ten 9 = .ok (.astore_n 1, 1) := dk_76 (dk_at dksX1_ten_0 9 rfl rfl)
theorem dX1_ten_10 : decode cX1_ten 10 = .ok (.iconst 0, 1) := dk_3 (dk_at dksX1_ten_0 10 rfl rfl)
theorem dX1_ten_11 : decode cX1_ten 11 = .ok (.istore_n 2, 1) := dk_61 (dk_at dksX1_ten_0 11 rfl rfl)
theorem dX1_ten_12 : decode cX1_ten 12 = .ok (.iload_n 2, 1) := dk_28 (dk_at dksX1_ten_0 12 rfl rfl)
theorem dX1_ten_13 : decode cX1_ten 13 = .ok (.bipush 25, 2) := dk_16 25 (dk_at dksX1_ten_0 13 rfl rfl)
theorem dX1_ten_15 : decode cX1_ten 15 = .ok (.if_icmp .ge 38, 3) := dk_162 0 38 (dk_at dksX1_ten_0 15 rfl rfl)
theorem dX1_ten_18 : decode cX1_ten 18 = .ok (.aload_n 1, 1) := dk_43 (dk_at dksX1_ten_0 18 rfl rfl)
theorem dX1_ten_19 : decode cX1_ten 19 = .ok (.getfield 13, 3) := dk_180 0 13 (dk_at dksX1_ten_0 19 rfl rfl)
theorem dX1_ten_22 : decode cX1_ten 22 = .ok (.iload_n 2, 1) := dk_28 (dk_at dksX1_ten_0 22 rfl rfl)
theorem dX1_ten_23 : decode cX1_ten 23 = .ok (.iconst 5, 1) := dk_8 (dk_at dksX1_ten_0 23 rfl rfl)
theorem dX1_ten_24 : decode cX1_ten 24 = .ok (.idiv, 1) := dk_108 (dk_at dksX1_ten_1 0 rfl rfl)
theorem dX1_ten_25 : decode cX1_ten 25 = .ok (.aaload, 1) := dk_50 (dk_at dksX1_ten_1 1 rfl rfl)
theorem dX1_ten_26 : decode cX1_ten 26 = .ok (.iload_n 2, 1) := dk_28 (dk_at dksX1_ten_1 2 rfl rfl)
theorem dX1_ten_27 : decode cX1_ten 27 = .ok (.iconst 5, 1) := dk_8 (dk_at dksX1_ten_1 3 rfl rfl)
theorem dX1_ten_28 : decode cX1_ten 28 = .ok (.irem, 1) := dk_112 (dk_at dksX1_ten_1 4 rfl rfl)
theorem dX1_ten_29 : decode cX1_ten 29 = .ok (.aload_n 0, 1) := dk_42 (dk_at dksX1_ten_1 5 rfl rfl)
theorem dX1_ten_30 : decode cX1_ten 30 = .ok (.bipush 6, 2) := dk_16 6 (dk_at dksX1_ten_1 6 rfl rfl)
theorem dX1_ten_32 : decode cX1_ten 32 = .ok (.iload_n 2, 1) := dk_28 (dk_at dksX1_ten_1 8 rfl rfl)
theorem dX1_ten_33 : decode cX1_ten 33 = .ok (.iconst 5, 1) := dk_8 (dk_at dksX1_ten_1 9 rfl rfl)
theorem dX1_ten_34 : decode cX1_ten 34 = .ok (.idiv, 1) := dk_108 (dk_at dksX1_ten_1 10 rfl rfl)
theorem dX1_ten_35 : decode cX1_ten 35 = .ok (.imul, 1) := dk_104 (dk_at dksX1_ten_1 11 rfl rfl)
theorem dX1_ten_36 : decode cX1_ten 36 = .ok (.iload_n 2, 1) := dk_28 (dk_at dksX1_ten_1 12 rfl rfl)
theorem dX1_ten_37 : decode cX1_ten 37 = .ok (.iconst 5, 1) := dk_8 (dk_at dksX1_ten_1 13 rfl rfl)
theorem dX1_ten_38 : decode cX1_ten 38 = .ok (.irem, 1) := dk_112 (dk_at dksX1_ten_1 14 rfl rfl)
theorem dX1_ten_39 : decode cX1_ten 39 = .ok (.iadd, 1) := dk_96 (dk_at dksX1_ten_1 15 rfl rfl)
theorem dX1_ten_40 : decode cX1_ten 40 = .ok (.invokevirtual 453, 3) := dk_182 1 197 (dk_at dksX1_ten_1 16 rfl rfl)
theorem dX1_ten_43 : decode cX1_ten 43 = .ok (.invokestatic 167, 3) := dk_184 0 167 (dk_at dksX1_ten_1 19 rfl rfl)
theorem dX1_ten_46 : decode cX1_ten 46 = .ok (.iastore, 1) := dk_79 (dk_at dksX1_ten_1 22 rfl rfl)
theorem dX1_ten_47 : decode cX1_ten 47 = .ok (.iinc 2 1, 3) := dk_132 2 1 (dk_at dksX1_ten_2 0 rfl rfl)
theorem dX1_ten_50 : decode cX1_ten 50 = .ok (.goto (-38), 3) := dk_167 255 218 (dk_at dksX1_ten_2 3 rfl rfl)
theorem dX1_ten_53 : decode cX1_ten 53 = .ok (.aload_n 1, 1) := dk_43 (dk_at dksX1_ten_2 6 rfl rfl)
theorem dX1_ten_54 : decode cX1_ten 54 = .ok (.areturn, 1) := dk_176 (dk_at dksX1_ten_2 7 rfl rfl)
abbrev cX1_valueOf : ByteArray := prog_1_method_16_code
def yX1_valueOf : MethodName := ⟨RX1, "valueOf", "(I)I"⟩
def dkwX1_valueOf_0 : List UInt8 := [26, 16, 43, 160, 0, 7, 4, 167, 0, 14, 26, 16, 45, 160, 0, 7, 2, 167, 0, 4, 3, 172]
abbrev dktX1_valueOf_0 : List UInt8 := dkwX1_valueOf_0 ++ []
theorem dksX1_valueOf_0 : cX1_valueOf.data.toList.drop 0 = dktX1_valueOf_0 := by decide +kernel
theorem dX1_valueOf_0 : decode cX1_valueOf 0 = .ok (.iload_n 0, 1) := dk_26 (dk_at dksX1_valueOf_0 0 rfl rfl)
theorem dX1_valueOf_1 : decode cX1_valueOf 1 = .ok (.bipush 43, 2) := dk_16 43 (dk_at dksX1_valueOf_0 1 rfl rfl)
theorem dX1_valueOf_3 : decode cX1_valueOf 3 = .ok (.if_icmp .ne 7, 3) := dk_160 0 7 (dk_at dksX1_valueOf_0 3 rfl rfl)
theorem dX1_valueOf_6 : decode cX1_valueOf 6 = .ok (.iconst 1, 1) := dk_4 (dk_at dksX1_valueOf_0 6 rfl rfl)
theorem dX1_valueOf_7 : decode cX1_valueOf 7 = .ok (.goto 14, 3) := dk_167 0 14 (dk_at dksX1_valueOf_0 7 rfl rfl)
theorem dX1_valueOf_10 : decode cX1_valueOf 10 = .ok (.iload_n 0, 1) := dk_26 (dk_at dksX1_valueOf_0 10 rfl rfl)
theorem dX1_valueOf_11 : decode cX1_valueOf 11 = .ok (.bipush 45, 2) := dk_16 45 (dk_at dksX1_valueOf_0 11 rfl rfl)
theorem dX1_valueOf_13 : decode cX1_valueOf 13 = .ok (.if_icmp .ne 7, 3) := dk_160 0 7 (dk_at dksX1_valueOf_0 13 rfl rfl)
theorem dX1_valueOf_16 : decode cX1_valueOf 16 = .ok (.iconst (-1), 1) := dk_2 (dk_at dksX1_valueOf_0 16 rfl rfl)
theorem dX1_valueOf_17 : decode cX1_valueOf 17 = .ok (.goto 4, 3) := dk_167 0 4 (dk_at dksX1_valueOf_0 17 rfl rfl)
theorem dX1_valueOf_20 : decode cX1_valueOf 20 = .ok (.iconst 0, 1) := dk_3 (dk_at dksX1_valueOf_0 20 rfl rfl)
theorem dX1_valueOf_21 : decode cX1_valueOf 21 = .ok (.ireturn, 1) := dk_172 (dk_at dksX1_valueOf_0 21 rfl rfl)
abbrev cX1_rowNegated : ByteArray := prog_1_method_3_code
def yX1_rowNegated : MethodName := ⟨RX1, "rowNegated", "(LUnimodularTables$Table;II)LUnimodularTables$Table;"⟩
def dkwX1_rowNegated_1 : List UInt8 := [21, 4, 42, 180, 0, 13, 27, 50, 21, 4, 46, 116, 79, 132, 4, 1, 167, 255, 225, 45, 176]
abbrev dktX1_rowNegated_1 : List UInt8 := dkwX1_rowNegated_1 ++ []
def dkwX1_rowNegated_0 : List UInt8 := [42, 182, 0, 3, 78, 3, 54, 4, 21, 4, 42, 180, 0, 9, 162, 0, 28, 45, 180, 0, 13, 27, 50]
abbrev dktX1_rowNegated_0 : List UInt8 := dkwX1_rowNegated_0 ++ dktX1_rowNegated_1
theorem dksX1_rowNegated_0 : cX1_rowNegated.data.toList.drop 0 = dktX1_rowNegated_0 := by decide +kernel
theorem dksX1_rowNegated_1 : cX1_rowNegated.data.toList.drop 23 = dktX1_rowNegated_1 := dk_seg dksX1_rowNegated_0 23 rfl rfl
theorem dX1_rowNegated_0 : decode cX1_rowNegated 0 = .ok (.aload_n 0, 1) := dk_42 (dk_at dksX1_rowNegated_0 0 rfl rfl)
theorem dX1_rowNegated_1 : decode cX1_rowNegated 1 = .ok (.invokevirtual 3, 3) := dk_182 0 3 (dk_at dksX1_rowNegated_0 1 rfl rfl)
theorem dX1_rowNegated_4 : decode cX1_rowNegated 4 = .ok (.astore_n 3, 1) := dk_78 (dk_at dksX1_rowNegated_0 4 rfl rfl)
theorem dX1_rowNegated_5 : decode cX1_rowNegated 5 = .ok (.iconst 0, 1) := dk_3 (dk_at dksX1_rowNegated_0 5 rfl rfl)
theorem dX1_rowNegated_6 : decode cX1_rowNegated 6 = .ok (.istore 4, 2) := dk_54 4 (dk_at dksX1_rowNegated_0 6 rfl rfl)
theorem dX1_rowNegated_8 : decode cX1_rowNegated 8 = .ok (.iload 4, 2) := dk_21 4 (dk_at dksX1_rowNegated_0 8 rfl rfl)
theorem dX1_rowNegated_10 : decode cX1_rowNegated 10 = .ok (.aload_n 0, 1) := dk_42 (dk_at dksX1_rowNegated_0 10 rfl rfl)
theorem dX1_rowNegated_11 : decode cX1_rowNegated 11 = .ok (.getfield 9, 3) := dk_180 0 9 (dk_at dksX1_rowNegated_0 11 rfl rfl)
theorem dX1_rowNegated_14 : decode cX1_rowNegated 14 = .ok (.if_icmp .ge 28, 3) := dk_162 0 28 (dk_at dksX1_rowNegated_0 14 rfl rfl)
theorem dX1_rowNegated_17 : decode cX1_rowNegated 17 = .ok (.aload_n 3, 1) := dk_45 (dk_at dksX1_rowNegated_0 17 rfl rfl)
theorem dX1_rowNegated_18 : decode cX1_rowNegated 18 = .ok (.getfield 13, 3) := dk_180 0 13 (dk_at dksX1_rowNegated_0 18 rfl rfl)
theorem dX1_rowNegated_21 : decode cX1_rowNegated 21 = .ok (.iload_n 1, 1) := dk_27 (dk_at dksX1_rowNegated_0 21 rfl rfl)
theorem dX1_rowNegated_22 : decode cX1_rowNegated 22 = .ok (.aaload, 1) := dk_50 (dk_at dksX1_rowNegated_0 22 rfl rfl)
theorem dX1_rowNegated_23 : decode cX1_rowNegated 23 = .ok (.iload 4, 2) := dk_21 4 (dk_at dksX1_rowNegated_1 0 rfl rfl)
theorem dX1_rowNegated_25 : decode cX1_rowNegated 25 = .ok (.aload_n 0, 1) := dk_42 (dk_at dksX1_rowNegated_1 2 rfl rfl)
theorem dX1_rowNegated_26 : decode cX1_rowNegated 26 = .ok (.getfield 13, 3) := dk_180 0 13 (dk_at dksX1_rowNegated_1 3 rfl rfl)
theorem dX1_rowNegated_29 : decode cX1_rowNegated 29 = .ok (.iload_n 1, 1) := dk_27 (dk_at dksX1_rowNegated_1 6 rfl rfl)
theorem dX1_rowNegated_30 : decode cX1_rowNegated 30 = .ok (.aaload, 1) := dk_50 (dk_at dksX1_rowNegated_1 7 rfl rfl)
theorem dX1_rowNegated_31 : decode cX1_rowNegated 31 = .ok (.iload 4, 2) := dk_21 4 (dk_at dksX1_rowNegated_1 8 rfl rfl)
theorem dX1_rowNegated_33 : decode cX1_rowNegated 33 = .ok (.iaload, 1) := dk_46 (dk_at dksX1_rowNegated_1 10 rfl rfl)
theorem dX1_rowNegated_34 : decode cX1_rowNegated 34 = .ok (.ineg, 1) := dk_116 (dk_at dksX1_rowNegated_1 11 rfl rfl)
theorem dX1_rowNegated_35 : decode cX1_rowNegated 35 = .ok (.iastore, 1) := dk_79 (dk_at dksX1_rowNegated_1 12 rfl rfl)
theorem dX1_rowNegated_36 : decode cX1_rowNegated 36 = .ok (.iinc 4 1, 3) := dk_132 4 1 (dk_at dksX1_rowNegated_1 13 rfl rfl)
theorem dX1_rowNegated_39 : decode cX1_rowNegated 39 = .ok (.goto (-31), 3) := dk_167 255 225 (dk_at dksX1_rowNegated_1 16 rfl rfl)
theorem dX1_rowNegated_42 : decode cX1_rowNegated 42 = .ok (.aload_n 3, 1) := dk_45 (dk_at dksX1_rowNegated_1 19 rfl rfl)
theorem dX1_rowNegated_43 : decode cX1_rowNegated 43 = .ok (.areturn, 1) := dk_176 (dk_at dksX1_rowNegated_1 20 rfl rfl)
abbrev cX1_rowsChanged : ByteArray := prog_1_method_5_code
def yX1_rowsChanged : MethodName := ⟨RX1, "rowsChanged", "(LUnimodularTables$Table;II)LUnimodularTables$Table;"⟩
def dkwX1_rowsChanged_2 : List UInt8 := [27, 50, 21, 4, 46, 79, 132, 4, 1, 167, 255, 208, 45, 176]
abbrev dktX1_rowsChanged_2 : List UInt8 := dkwX1_rowsChanged_2 ++ []
def dkwX1_rowsChanged_1 : List UInt8 := [21, 4, 42, 180, 0, 13, 28, 50, 21, 4, 46, 79, 45, 180, 0, 13, 28, 50, 21, 4, 42, 180, 0, 13]
abbrev dktX1_rowsChanged_1 : List UInt8 := dkwX1_rowsChanged_1 ++ dktX1_rowsChanged_2
def dkwX1_rowsChanged_0 : List UInt8 := [42, 182, 0, 3, 78, 3, 54, 4, 21, 4, 42, 180, 0, 9, 162, 0, 45, 45, 180, 0, 13, 27, 50]
abbrev dktX1_rowsChanged_0 : List UInt8 := dkwX1_rowsChanged_0 ++ dktX1_rowsChanged_1
theorem dksX1_rowsChanged_0 : cX1_rowsChanged.data.toList.drop 0 = dktX1_rowsChanged_0 := by decide +kernel
theorem dksX1_rowsChanged_1 : cX1_rowsChanged.data.toList.drop 23 = dktX1_rowsChanged_1 := dk_seg dksX1_rowsChanged_0 23 rfl rfl
theorem dksX1_rowsChanged_2 : cX1_rowsChanged.data.toList.drop 47 = dktX1_rowsChanged_2 := dk_seg dksX1_rowsChanged_1 24 rfl rfl
theorem dX1_rowsChanged_0 : decode cX1_rowsChanged 0 = .ok (.aload_n 0, 1) := dk_42 (dk_at dksX1_rowsChanged_0 0 rfl rfl)
theorem dX1_rowsChanged_1 : decode cX1_rowsChanged 1 = .ok (.invokevirtual 3, 3) := dk_182 0 3 (dk_at dksX1_rowsChanged_0 1 rfl rfl)
theorem dX1_rowsChanged_4 : decode cX1_rowsChanged 4 = .ok (.astore_n 3, 1) := dk_78 (dk_at dksX1_rowsChanged_0 4 rfl rfl)
theorem dX1_rowsChanged_5 : decode cX1_rowsChanged 5 = .ok (.iconst 0, 1) := dk_3 (dk_at dksX1_rowsChanged_0 5 rfl rfl)
theorem dX1_rowsChanged_6 : decode cX1_rowsChanged 6 = .ok (.istore 4, 2) := dk_54 4 (dk_at dksX1_rowsChanged_0 6 rfl rfl)
theorem dX1_rowsChanged_8 : decode cX1_rowsChanged 8 = .ok (.iload 4, 2) := dk_21 4 (dk_at dksX1_rowsChanged_0 8 rfl rfl)
theorem dX1_rowsChanged_10 : decode cX1_rowsChanged 10 = .ok (.aload_n 0, 1) := dk_42 (dk_at dksX1_rowsChanged_0 10 rfl rfl)
theorem dX1_rowsChanged_11 : decode cX1_rowsChanged 11 = .ok (.getfield 9, 3) := dk_180 0 9 (dk_at dksX1_rowsChanged_0 11 rfl rfl)
theorem dX1_rowsChanged_14 : decode cX1_rowsChanged 14 = .ok (.if_icmp .ge 45, 3) := dk_162 0 45 (dk_at dksX1_rowsChanged_0 14 rfl rfl)
theorem dX1_rowsChanged_17 : decode cX1_rowsChanged 17 = .ok (.aload_n 3, 1) := dk_45 (dk_at dksX1_rowsChanged_0 17 rfl rfl)
theorem dX1_rowsChanged_18 : decode cX1_rowsChanged 18 = .ok (.getfield 13, 3) := dk_180 0 13 (dk_at dksX1_rowsChanged_0 18 rfl rfl)
theorem dX1_rowsChanged_21 : decode cX1_rowsChanged 21 = .ok (.iload_n 1, 1) := dk_27 (dk_at dksX1_rowsChanged_0 21 rfl rfl)
theorem dX1_rowsChanged_22 : decode cX1_rowsChanged 22 = .ok (.aaload, 1) := dk_50 (dk_at dksX1_rowsChanged_0 22 rfl rfl)
theorem dX1_rowsChanged_23 : decode cX1_rowsChanged 23 = .ok (.iload 4, 2) := dk_21 4 (dk_at dksX1_rowsChanged_1 0 rfl rfl)
theorem dX1_rowsChanged_25 : decode cX1_rowsChanged 25 = .ok (.aload_n 0, 1) := dk_42 (dk_at dksX1_rowsChanged_1 2 rfl rfl)
theorem dX1_rowsChanged_26 : decode cX1_rowsChanged 26 = .ok (.getfield 13, 3) := dk_180 0 13 (dk_at dksX1_rowsChanged_1 3 rfl rfl)
theorem dX1_rowsChanged_29 : decode cX1_rowsChanged 29 = .ok (.iload_n 2, 1) := dk_28 (dk_at dksX1_rowsChanged_1 6 rfl rfl)
theorem dX1_rowsChanged_30 : decode cX1_rowsChanged 30 = .ok (.aaload, 1) := dk_50 (dk_at dksX1_rowsChanged_1 7 rfl rfl)
theorem dX1_rowsChanged_31 : decode cX1_rowsChanged 31 = .ok (.iload 4, 2) := dk_21 4 (dk_at dksX1_rowsChanged_1 8 rfl rfl)
theorem dX1_rowsChanged_33 : decode cX1_rowsChanged 33 = .ok (.iaload, 1) := dk_46 (dk_at dksX1_rowsChanged_1 10 rfl rfl)
theorem dX1_rowsChanged_34 : decode cX1_rowsChanged 34 = .ok (.iastore, 1) := dk_79 (dk_at dksX1_rowsChanged_1 11 rfl rfl)
theorem dX1_rowsChanged_35 : decode cX1_rowsChanged 35 = .ok (.aload_n 3, 1) := dk_45 (dk_at dksX1_rowsChanged_1 12 rfl rfl)
theorem dX1_rowsChanged_36 : decode cX1_rowsChanged 36 = .ok (.getfield 13, 3) := dk_180 0 13 (dk_at dksX1_rowsChanged_1 13 rfl rfl)
theorem dX1_rowsChanged_39 : decode cX1_rowsChanged 39 = .ok (.iload_n 2, 1) := dk_28 (dk_at dksX1_rowsChanged_1 16 rfl rfl)
theorem dX1_rowsChanged_40 : decode cX1_rowsChanged 40 = .ok (.aaload, 1) := dk_50 (dk_at dksX1_rowsChanged_1 17 rfl rfl)
theorem dX1_rowsChanged_41 : decode cX1_rowsChanged 41 = .ok (.iload 4, 2) := dk_21 4 (dk_at dksX1_rowsChanged_1 18 rfl rfl)
theorem dX1_rowsChanged_43 : decode cX1_rowsChanged 43 = .ok (.aload_n 0, 1) := dk_42 (dk_at dksX1_rowsChanged_1 20 rfl rfl)
theorem dX1_rowsChanged_44 : decode cX1_rowsChanged 44 = .ok (.getfield 13, 3) := dk_180 0 13 (dk_at dksX1_rowsChanged_1 21 rfl rfl)
theorem dX1_rowsChanged_47 : decode cX1_rowsChanged 47 = .ok (.iload_n 1, 1) := dk_27 (dk_at dksX1_rowsChanged_2 0 rfl rfl)
theorem dX1_rowsChanged_48 : decode cX1_rowsChanged 48 = .ok (.aaload, 1) := dk_50 (dk_at dksX1_rowsChanged_2 1 rfl rfl)
theorem dX1_rowsChanged_49 : decode cX1_rowsChanged 49 = .ok (.iload 4, 2) := dk_21 4 (dk_at dksX1_rowsChanged_2 2 rfl rfl)
theorem dX1_rowsChanged_51 : decode cX1_rowsChanged 51 = .ok (.iaload, 1) := dk_46 (dk_at dksX1_rowsChanged_2 4 rfl rfl)
theorem dX1_rowsChanged_52 : decode cX1_rowsChanged 52 = .ok (.iastore, 1) := dk_79 (dk_at dksX1_rowsChanged_2 5 rfl rfl)
theorem dX1_rowsChanged_53 : decode cX1_rowsChanged 53 = .ok (.iinc 4 1, 3) := dk_132 4 1 (dk_at dksX1_rowsChanged_2 6 rfl rfl)
theorem dX1_rowsChanged_56 : decode cX1_rowsChanged 56 = .ok (.goto (-48), 3) := dk_167 255 208 (dk_at dksX1_rowsChanged_2 9 rfl rfl)
theorem dX1_rowsChanged_59 : decode cX1_rowsChanged 59 = .ok (.aload_n 3, 1) := dk_45 (dk_at dksX1_rowsChanged_2 12 rfl rfl)
theorem dX1_rowsChanged_60 : decode cX1_rowsChanged 60 = .ok (.areturn, 1) := dk_176 (dk_at dksX1_rowsChanged_2 13 rfl rfl)
abbrev cX1_rowDropped : ByteArray := prog_1_method_6_code
def yX1_rowDropped : MethodName := ⟨RX1, "rowDropped", "(LUnimodularTables$Table;II)LUnimodularTables$Table;"⟩
def dkwX1_rowDropped_3 : List UInt8 := [21, 5, 46, 79, 132, 5, 1, 167, 255, 211, 132, 4, 1, 167, 255, 193, 45, 176]
abbrev dktX1_rowDropped_3 : List UInt8 := dkwX1_rowDropped_3 ++ []
def dkwX1_rowDropped_2 : List UInt8 := [50, 21, 5, 42, 180, 0, 13, 21, 4, 27, 162, 0, 8, 21, 4, 167, 0, 7, 21, 4, 4, 96, 50]
abbrev dktX1_rowDropped_2 : List UInt8 := dkwX1_rowDropped_2 ++ dktX1_rowDropped_3
def dkwX1_rowDropped_1 : List UInt8 := [180, 0, 17, 162, 0, 60, 3, 54, 5, 21, 5, 42, 180, 0, 9, 162, 0, 42, 45, 180, 0, 13, 21, 4]
abbrev dktX1_rowDropped_1 : List UInt8 := dkwX1_rowDropped_1 ++ dktX1_rowDropped_2
def dkwX1_rowDropped_0 : List UInt8 := [187, 0, 4, 89, 42, 180, 0, 17, 4, 100, 42, 180, 0, 9, 183, 0, 20, 78, 3, 54, 4, 21, 4, 45]
abbrev dktX1_rowDropped_0 : List UInt8 := dkwX1_rowDropped_0 ++ dktX1_rowDropped_1
theorem dksX1_rowDropped_0 : cX1_rowDropped.data.toList.drop 0 = dktX1_rowDropped_0 := by decide +kernel
theorem dksX1_rowDropped_1 : cX1_rowDropped.data.toList.drop 24 = dktX1_rowDropped_1 := dk_seg dksX1_rowDropped_0 24 rfl rfl
theorem dksX1_rowDropped_2 : cX1_rowDropped.data.toList.drop 48 = dktX1_rowDropped_2 := dk_seg dksX1_rowDropped_1 24 rfl rfl
theorem dksX1_rowDropped_3 : cX1_rowDropped.data.toList.drop 71 = dktX1_rowDropped_3 := dk_seg dksX1_rowDropped_2 23 rfl rfl
theorem dX1_rowDropped_0 : decode cX1_rowDropped 0 = .ok (.new 4, 3) := dk_187 0 4 (dk_at dksX1_rowDropped_0 0 rfl rfl)
theorem dX1_rowDropped_3 : decode cX1_rowDropped 3 = .ok (.dup, 1) := dk_89 (dk_at dksX1_rowDropped_0 3 rfl rfl)
theorem dX1_rowDropped_4 : decode cX1_rowDropped 4 = .ok (.aload_n 0, 1) := dk_42 (dk_at dksX1_rowDropped_0 4 rfl rfl)
theorem dX1_rowDropped_5 : decode cX1_rowDropped 5 = .ok (.getfield 17, 3) := dk_180 0 17 (dk_at dksX1_rowDropped_0 5 rfl rfl)
theorem dX1_rowDropped_8 : decode cX1_rowDropped 8 = .ok (.iconst 1, 1) := dk_4 (dk_at dksX1_rowDropped_0 8 rfl rfl)
theorem dX1_rowDropped_9 : decode cX1_rowDropped 9 = .ok (.isub, 1) := dk_100 (dk_at dksX1_rowDropped_0 9 rfl rfl)
theorem dX1_rowDropped_10 : decode cX1_rowDropped 10 = .ok (.aload_n 0, 1) := dk_42 (dk_at dksX1_rowDropped_0 10 rfl rfl)
theorem dX1_rowDropped_11 : decode cX1_rowDropped 11 = .ok (.getfield 9, 3) := dk_180 0 9 (dk_at dksX1_rowDropped_0 11 rfl rfl)
theorem dX1_rowDropped_14 : decode cX1_rowDropped 14 = .ok (.invokespecial 20, 3) := dk_183 0 20 (dk_at dksX1_rowDropped_0 14 rfl rfl)
theorem dX1_rowDropped_17 : decode cX1_rowDropped 17 = .ok (.astore_n 3, 1) := dk_78 (dk_at dksX1_rowDropped_0 17 rfl rfl)
theorem dX1_rowDropped_18 : decode cX1_rowDropped 18 = .ok (.iconst 0, 1) := dk_3 (dk_at dksX1_rowDropped_0 18 rfl rfl)
theorem dX1_rowDropped_19 : decode cX1_rowDropped 19 = .ok (.istore 4, 2) := dk_54 4 (dk_at dksX1_rowDropped_0 19 rfl rfl)
theorem dX1_rowDropped_21 : decode cX1_rowDropped 21 = .ok (.iload 4, 2) := dk_21 4 (dk_at dksX1_rowDropped_0 21 rfl rfl)
theorem dX1_rowDropped_23 : decode cX1_rowDropped 23 = .ok (.aload_n 3, 1) := dk_45 (dk_at dksX1_rowDropped_0 23 rfl rfl)
theorem dX1_rowDropped_24 : decode cX1_rowDropped 24 = .ok (.getfield 17, 3) := dk_180 0 17 (dk_at dksX1_rowDropped_1 0 rfl rfl)
theorem dX1_rowDropped_27 : decode cX1_rowDropped 27 = .ok (.if_icmp .ge 60, 3) := dk_162 0 60 (dk_at dksX1_rowDropped_1 3 rfl rfl)
theorem dX1_rowDropped_30 : decode cX1_rowDropped 30 = .ok (.iconst 0, 1) := dk_3 (dk_at dksX1_rowDropped_1 6 rfl rfl)
theorem dX1_rowDropped_31 : decode cX1_rowDropped 31 = .ok (.istore 5, 2) := dk_54 5 (dk_at dksX1_rowDropped_1 7 rfl rfl)
theorem dX1_rowDropped_33 : decode cX1_rowDropped 33 = .ok (.iload 5, 2) := dk_21 5 (dk_at dksX1_rowDropped_1 9 rfl rfl)
theorem dX1_rowDropped_35 : decode cX1_rowDropped 35 = .ok (.aload_n 0, 1) := dk_42 (dk_at dksX1_rowDropped_1 11 rfl rfl)
theorem dX1_rowDropped_36 : decode cX1_rowDropped 36 = .ok (.getfield 9, 3) := dk_180 0 9 (dk_at dksX1_rowDropped_1 12 rfl rfl)
theorem dX1_rowDropped_39 : decode cX1_rowDropped 39 = .ok (.if_icmp .ge 42, 3) := dk_162 0 42 (dk_at dksX1_rowDropped_1 15 rfl rfl)
theorem dX1_rowDropped_42 : decode cX1_rowDropped 42 = .ok (.aload_n 3, 1) := dk_45 (dk_at dksX1_rowDropped_1 18 rfl rfl)
theorem dX1_rowDropped_43 : decode cX1_rowDropped 43 = .ok (.getfield 13, 3) := dk_180 0 13 (dk_at dksX1_rowDropped_1 19 rfl rfl)
theorem dX1_rowDropped_46 : decode cX1_rowDropped 46 = .ok (.iload 4, 2) := dk_21 4 (dk_at dksX1_rowDropped_1 22 rfl rfl)
theorem dX1_rowDropped_48 : decode cX1_rowDropped 48 = .ok (.aaload, 1) := dk_50 (dk_at dksX1_rowDropped_2 0 rfl rfl)
theorem dX1_rowDropped_49 : decode cX1_rowDropped 49 = .ok (.iload 5, 2) := dk_21 5 (dk_at dksX1_rowDropped_2 1 rfl rfl)
theorem dX1_rowDropped_51 : decode cX1_rowDropped 51 = .ok (.aload_n 0, 1) := dk_42 (dk_at dksX1_rowDropped_2 3 rfl rfl)
theorem dX1_rowDropped_52 : decode cX1_rowDropped 52 = .ok (.getfield 13, 3) := dk_180 0 13 (dk_at dksX1_rowDropped_2 4 rfl rfl)
theorem dX1_rowDropped_55 : decode cX1_rowDropped 55 = .ok (.iload 4, 2) := dk_21 4 (dk_at dksX1_rowDropped_2 7 rfl rfl)
theorem dX1_rowDropped_57 : decode cX1_rowDropped 57 = .ok (.iload_n 1, 1) := dk_27 (dk_at dksX1_rowDropped_2 9 rfl rfl)
theorem dX1_rowDropped_58 : decode cX1_rowDropped 58 = .ok (.if_icmp .ge 8, 3) := dk_162 0 8 (dk_at dksX1_rowDropped_2 10 rfl rfl)
theorem dX1_rowDropped_61 : decode cX1_rowDropped 61 = .ok (.iload 4, 2) := dk_21 4 (dk_at dksX1_rowDropped_2 13 rfl rfl)
theorem dX1_rowDropped_63 : decode cX1_rowDropped 63 = .ok (.goto 7, 3) := dk_167 0 7 (dk_at dksX1_rowDropped_2 15 rfl rfl)
theorem dX1_rowDropped_66 : decode cX1_rowDropped 66 = .ok (.iload 4, 2) := dk_21 4 (dk_at dksX1_rowDropped_2 18 rfl rfl)
theorem dX1_rowDropped_68 : decode cX1_rowDropped 68 = .ok (.iconst 1, 1) := dk_4 (dk_at dksX1_rowDropped_2 20 rfl rfl)
theorem dX1_rowDropped_69 : decode cX1_rowDropped 69 = .ok (.iadd, 1) := dk_96 (dk_at dksX1_rowDropped_2 21 rfl rfl)
theorem dX1_rowDropped_70 : decode cX1_rowDropped 70 = .ok (.aaload, 1) := dk_50 (dk_at dksX1_rowDropped_2 22 rfl rfl)
theorem dX1_rowDropped_71 : decode cX1_rowDropped 71 = .ok (.iload 5, 2) := dk_21 5 (dk_at dksX1_rowDropped_3 0 rfl rfl)
theorem dX1_rowDropped_73 : decode cX1_rowDropped 73 = .ok (.iaload, 1) := dk_46 (dk_at dksX1_rowDropped_3 2 rfl rfl)
theorem dX1_rowDropped_74 : decode cX1_rowDropped 74 = .ok (.iastore, 1) := dk_79 (dk_at dksX1_rowDropped_3 3 rfl rfl)
theorem dX1_rowDropped_75 : decode cX1_rowDropped 75 = .ok (.iinc 5 1, 3) := dk_132 5 1 (dk_at dksX1_rowDropped_3 4 rfl rfl)
theorem dX1_rowDropped_78 : decode cX1_rowDropped 78 = .ok (.goto (-45), 3) := dk_167 255 211 (dk_at dksX1_rowDropped_3 7 rfl rfl)
theorem dX1_rowDropped_81 : decode cX1_rowDropped 81 = .ok (.iinc 4 1, 3) := dk_132 4 1 (dk_at dksX1_rowDropped_3 10 rfl rfl)
theorem dX1_rowDropped_84 : decode cX1_rowDropped 84 = .ok (.goto (-63), 3) := dk_167 255 193 (dk_at dksX1_rowDropped_3 13 rfl rfl)
theorem dX1_rowDropped_87 : decode cX1_rowDropped 87 = .ok (.aload_n 3, 1) := dk_45 (dk_at dksX1_rowDropped_3 16 rfl rfl)
theorem dX1_rowDropped_88 : decode cX1_rowDropped 88 = .ok (.areturn, 1) := dk_176 (dk_at dksX1_rowDropped_3 17 rfl rfl)
abbrev cX1_sideways : ByteArray := prog_1_method_8_code
def yX1_sideways : MethodName := ⟨RX1, "sideways", "(LUnimodularTables$Turner;)LUnimodularTables$Turner;"⟩
theorem dX1_sideways_0 : decode cX1_sideways 0 = .ok (.aload_n 0, 1) := by decide +kernel
theorem dX1_sideways_1 : decode cX1_sideways 1 = .ok (.invokedynamic 24, 5) := by decide +kernel
theorem dX1_sideways_6 : decode cX1_sideways 6 = .ok (.areturn, 1) := by decide +kernel
abbrev cX1_lambda_sideways_0 : ByteArray := prog_1_method_124_code
def yX1_lambda_sideways_0 : MethodName := ⟨RX1, "lambda$sideways$0", "(LUnimodularTables$Turner;LUnimodularTables$Table;II)LUnimodularTables$Table;"⟩
def dkwX1_lambda_sideways_0_0 : List UInt8 := [42, 43, 3, 3, 184, 1, 121, 28, 29, 185, 1, 25, 4, 0, 3, 3, 184, 1, 121, 176]
abbrev dktX1_lambda_sideways_0_0 : List UInt8 := dkwX1_lambda_sideways_0_0 ++ []
theorem dksX1_lambda_sideways_0_0 : cX1_lambda_sideways_0.data.toList.drop 0 = dktX1_lambda_sideways_0_0 := by decide +kernel
theorem dX1_lambda_sideways_0_0 : decode cX1_lambda_sideways_0 0 = .ok (.aload_n 0, 1) := dk_42 (dk_at dksX1_lambda_sideways_0_0 0 rfl rfl)
theorem dX1_lambda_sideways_0_1 : decode cX1_lambda_sideways_0 1 = .ok (.aload_n 1, 1) := dk_43 (dk_at dksX1_lambda_sideways_0_0 1 rfl rfl)
theorem dX1_lambda_sideways_0_2 : decode cX1_lambda_sideways_0 2 = .ok (.iconst 0, 1) := dk_3 (dk_at dksX1_lambda_sideways_0_0 2 rfl rfl)
theorem dX1_lambda_sideways_0_3 : decode cX1_lambda_sideways_0 3 = .ok (.iconst 0, 1) := dk_3 (dk_at dksX1_lambda_sideways_0_0 3 rfl rfl)
theorem dX1_lambda_sideways_0_4 : decode cX1_lambda_sideways_0 4 = .ok (.invokestatic 377, 3) := dk_184 1 121 (dk_at dksX1_lambda_sideways_0_0 4 rfl rfl)
theorem dX1_lambda_sideways_0_7 : decode cX1_lambda_sideways_0 7 = .ok (.iload_n 2, 1) := dk_28 (dk_at dksX1_lambda_sideways_0_0 7 rfl rfl)
theorem dX1_lambda_sideways_0_8 : decode cX1_lambda_sideways_0 8 = .ok (.iload_n 3, 1) := dk_29 (dk_at dksX1_lambda_sideways_0_0 8 rfl rfl)
theorem dX1_lambda_sideways_0_9 : decode cX1_lambda_sideways_0 9 = .ok (.invokeinterface 281 4, 5) := by decide +kernel
theorem dX1_lambda_sideways_0_14 : decode cX1_lambda_sideways_0 14 = .ok (.iconst 0, 1) := dk_3 (dk_at dksX1_lambda_sideways_0_0 14 rfl rfl)
theorem dX1_lambda_sideways_0_15 : decode cX1_lambda_sideways_0 15 = .ok (.iconst 0, 1) := dk_3 (dk_at dksX1_lambda_sideways_0_0 15 rfl rfl)
theorem dX1_lambda_sideways_0_16 : decode cX1_lambda_sideways_0 16 = .ok (.invokestatic 377, 3) := dk_184 1 121 (dk_at dksX1_lambda_sideways_0_0 16 rfl rfl)
theorem dX1_lambda_sideways_0_19 : decode cX1_lambda_sideways_0 19 = .ok (.areturn, 1) := dk_176 (dk_at dksX1_lambda_sideways_0_0 19 rfl rfl)
abbrev cX1_transposed : ByteArray := prog_1_method_4_code
def yX1_transposed : MethodName := ⟨RX1, "transposed", "(LUnimodularTables$Table;II)LUnimodularTables$Table;"⟩
def dkwX1_transposed_3 : List UInt8 := [167, 255, 206, 45, 176]
abbrev dktX1_transposed_3 : List UInt8 := dkwX1_transposed_3 ++ []
def dkwX1_transposed_2 : List UInt8 := [50, 21, 4, 42, 180, 0, 13, 21, 4, 50, 21, 5, 46, 79, 132, 5, 1, 167, 255, 224, 132, 4, 1]
abbrev dktX1_transposed_2 : List UInt8 := dkwX1_transposed_2 ++ dktX1_transposed_3
def dkwX1_transposed_1 : List UInt8 := [180, 0, 17, 162, 0, 47, 3, 54, 5, 21, 5, 42, 180, 0, 9, 162, 0, 29, 45, 180, 0, 13, 21, 5]
abbrev dktX1_transposed_1 : List UInt8 := dkwX1_transposed_1 ++ dktX1_transposed_2
def dkwX1_transposed_0 : List UInt8 := [187, 0, 4, 89, 42, 180, 0, 9, 42, 180, 0, 17, 183, 0, 20, 78, 3, 54, 4, 21, 4, 42]
abbrev dktX1_transposed_0 : List UInt8 := dkwX1_transposed_0 ++ dktX1_transposed_1
theorem dksX1_transposed_0 : cX1_transposed.data.toList.drop 0 = dktX1_transposed_0 := by decide +kernel
theorem dksX1_transposed_1 : cX1_transposed.data.toList.drop 22 = dktX1_transposed_1 := dk_seg dksX1_transposed_0 22 rfl rfl
theorem dksX1_transposed_2 : cX1_transposed.data.toList.drop 46 = dktX1_transposed_2 := dk_seg dksX1_transposed_1 24 rfl rfl
theorem dksX1_transposed_3 : cX1_transposed.data.toList.drop 69 = dktX1_transposed_3 := dk_seg dksX1_transposed_2 23 rfl rfl
theorem dX1_transposed_0 : decode cX1_transposed 0 = .ok (.new 4, 3) := dk_187 0 4 (dk_at dksX1_transposed_0 0 rfl rfl)
theorem dX1_transposed_3 : decode cX1_transposed 3 = .ok (.dup, 1) := dk_89 (dk_at dksX1_transposed_0 3 rfl rfl)
theorem dX1_transposed_4 : decode cX1_transposed 4 = .ok (.aload_n 0, 1) := dk_42 (dk_at dksX1_transposed_0 4 rfl rfl)
theorem dX1_transposed_5 : decode cX1_transposed 5 = .ok (.getfield 9, 3) := dk_180 0 9 (dk_at dksX1_transposed_0 5 rfl rfl)
theorem dX1_transposed_8 : decode cX1_transposed 8 = .ok (.aload_n 0, 1) := dk_42 (dk_at dksX1_transposed_0 8 rfl rfl)
theorem dX1_transposed_9 : decode cX1_transposed 9 = .ok (.getfield 17, 3) := dk_180 0 17 (dk_at dksX1_transposed_0 9 rfl rfl)
theorem dX1_transposed_12 : decode cX1_transposed 12 = .ok (.invokespecial 20, 3) := dk_183 0 20 (dk_at dksX1_transposed_0 12 rfl rfl)
theorem dX1_transposed_15 : decode cX1_transposed 15 = .ok (.astore_n 3, 1) := dk_78 (dk_at dksX1_transposed_0 15 rfl rfl)
theorem dX1_transposed_16 : decode cX1_transposed 16 = .ok (.iconst 0, 1) := dk_3 (dk_at dksX1_transposed_0 16 rfl rfl)
theorem dX1_transposed_17 : decode cX1_transposed 17 = .ok (.istore 4, 2) := dk_54 4 (dk_at dksX1_transposed_0 17 rfl rfl)
theorem dX1_transposed_19 : decode cX1_transposed 19 = .ok (.iload 4, 2) := dk_21 4 (dk_at dksX1_transposed_0 19 rfl rfl)
theorem dX1_transposed_21 : decode cX1_transposed 21 = .ok (.aload_n 0, 1) := dk_42 (dk_at dksX1_transposed_0 21 rfl rfl)
theorem dX1_transposed_22 : decode cX1_transposed 22 = .ok (.getfield 17, 3) := dk_180 0 17 (dk_at dksX1_transposed_1 0 rfl rfl)
theorem dX1_transposed_25 : decode cX1_transposed 25 = .ok (.if_icmp .ge 47, 3) := dk_162 0 47 (dk_at dksX1_transposed_1 3 rfl rfl)
theorem dX1_transposed_28 : decode cX1_transposed 28 = .ok (.iconst 0, 1) := dk_3 (dk_at dksX1_transposed_1 6 rfl rfl)
theorem dX1_transposed_29 : decode cX1_transposed 29 = .ok (.istore 5, 2) := dk_54 5 (dk_at dksX1_transposed_1 7 rfl rfl)
theorem dX1_transposed_31 : decode cX1_transposed 31 = .ok (.iload 5, 2) := dk_21 5 (dk_at dksX1_transposed_1 9 rfl rfl)
theorem dX1_transposed_33 : decode cX1_transposed 33 = .ok (.aload_n 0, 1) := dk_42 (dk_at dksX1_transposed_1 11 rfl rfl)
theorem dX1_transposed_34 : decode cX1_transposed 34 = .ok (.getfield 9, 3) := dk_180 0 9 (dk_at dksX1_transposed_1 12 rfl rfl)
theorem dX1_transposed_37 : decode cX1_transposed 37 = .ok (.if_icmp .ge 29, 3) := dk_162 0 29 (dk_at dksX1_transposed_1 15 rfl rfl)
theorem dX1_transposed_40 : decode cX1_transposed 40 = .ok (.aload_n 3, 1) := dk_45 (dk_at dksX1_transposed_1 18 rfl rfl)
theorem dX1_transposed_41 : decode cX1_transposed 41 = .ok (.getfield 13, 3) := dk_180 0 13 (dk_at dksX1_transposed_1 19 rfl rfl)
theorem dX1_transposed_44 : decode cX1_transposed 44 = .ok (.iload 5, 2) := dk_21 5 (dk_at dksX1_transposed_1 22 rfl rfl)
theorem dX1_transposed_46 : decode cX1_transposed 46 = .ok (.aaload, 1) := dk_50 (dk_at dksX1_transposed_2 0 rfl rfl)
theorem dX1_transposed_47 : decode cX1_transposed 47 = .ok (.iload 4, 2) := dk_21 4 (dk_at dksX1_transposed_2 1 rfl rfl)
theorem dX1_transposed_49 : decode cX1_transposed 49 = .ok (.aload_n 0, 1) := dk_42 (dk_at dksX1_transposed_2 3 rfl rfl)
theorem dX1_transposed_50 : decode cX1_transposed 50 = .ok (.getfield 13, 3) := dk_180 0 13 (dk_at dksX1_transposed_2 4 rfl rfl)
theorem dX1_transposed_53 : decode cX1_transposed 53 = .ok (.iload 4, 2) := dk_21 4 (dk_at dksX1_transposed_2 7 rfl rfl)
theorem dX1_transposed_55 : decode cX1_transposed 55 = .ok (.aaload, 1) := dk_50 (dk_at dksX1_transposed_2 9 rfl rfl)
theorem dX1_transposed_56 : decode cX1_transposed 56 = .ok (.iload 5, 2) := dk_21 5 (dk_at dksX1_transposed_2 10 rfl rfl)
theorem dX1_transposed_58 : decode cX1_transposed 58 = .ok (.iaload, 1) := dk_46 (dk_at dksX1_transposed_2 12 rfl rfl)
theorem dX1_transposed_59 : decode cX1_transposed 59 = .ok (.iastore, 1) := dk_79 (dk_at dksX1_transposed_2 13 rfl rfl)
theorem dX1_transposed_60 : decode cX1_transposed 60 = .ok (.iinc 5 1, 3) := dk_132 5 1 (dk_at dksX1_transposed_2 14 rfl rfl)
theorem dX1_transposed_63 : decode cX1_transposed 63 = .ok (.goto (-32), 3) := dk_167 255 224 (dk_at dksX1_transposed_2 17 rfl rfl)
theorem dX1_transposed_66 : decode cX1_transposed 66 = .ok (.iinc 4 1, 3) := dk_132 4 1 (dk_at dksX1_transposed_2 20 rfl rfl)
theorem dX1_transposed_69 : decode cX1_transposed 69 = .ok (.goto (-50), 3) := dk_167 255 206 (dk_at dksX1_transposed_3 0 rfl rfl)
theorem dX1_transposed_72 : decode cX1_transposed 72 = .ok (.aload_n 3, 1) := dk_45 (dk_at dksX1_transposed_3 3 rfl rfl)
theorem dX1_transposed_73 : decode cX1_transposed 73 = .ok (.areturn, 1) := dk_176 (dk_at dksX1_transposed_3 4 rfl rfl)
abbrev cX1_turned : ByteArray := prog_1_method_7_code
def yX1_turned : MethodName := ⟨RX1, "turned", "(LUnimodularTables$Table;II)LUnimodularTables$Table;"⟩
def dkwX1_turned_7 : List UInt8 := [132, 6, 1, 167, 255, 133, 132, 5, 1, 167, 255, 115, 45, 176]
abbrev dktX1_turned_7 : List UInt8 := dkwX1_turned_7 ++ []
def dkwX1_turned_6 : List UInt8 := [21, 4, 42, 180, 0, 13, 21, 5, 50, 28, 46, 104, 42, 180, 0, 13, 27, 50, 21, 6, 46, 104, 100, 79]
abbrev dktX1_turned_6 : List UInt8 := dkwX1_turned_6 ++ dktX1_turned_7
def dkwX1_turned_5 : List UInt8 := [180, 0, 13, 21, 5, 50, 21, 6, 46, 104, 167, 0, 36, 42, 180, 0, 13, 21, 5, 50, 21, 6, 46]
abbrev dktX1_turned_5 : List UInt8 := dkwX1_turned_5 ++ dktX1_turned_6
def dkwX1_turned_4 : List UInt8 := [153, 0, 9, 21, 4, 116, 167, 0, 62, 21, 7, 154, 0, 8, 21, 8, 153, 0, 19, 21, 4, 42]
abbrev dktX1_turned_4 : List UInt8 := dkwX1_turned_4 ++ dktX1_turned_5
def dkwX1_turned_3 : List UInt8 := [167, 0, 4, 3, 54, 8, 45, 180, 0, 13, 21, 5, 50, 21, 6, 21, 7, 153, 0, 14, 21, 8]
abbrev dktX1_turned_3 : List UInt8 := dkwX1_turned_3 ++ dktX1_turned_4
def dkwX1_turned_2 : List UInt8 := [162, 0, 120, 21, 5, 27, 160, 0, 7, 4, 167, 0, 4, 3, 54, 7, 21, 6, 28, 160, 0, 7, 4]
abbrev dktX1_turned_2 : List UInt8 := dkwX1_turned_2 ++ dktX1_turned_3
def dkwX1_turned_1 : List UInt8 := [54, 4, 3, 54, 5, 21, 5, 42, 180, 0, 17, 162, 0, 138, 3, 54, 6, 21, 6, 42, 180, 0, 9]
abbrev dktX1_turned_1 : List UInt8 := dkwX1_turned_1 ++ dktX1_turned_2
def dkwX1_turned_0 : List UInt8 := [187, 0, 4, 89, 42, 180, 0, 17, 42, 180, 0, 9, 183, 0, 20, 78, 42, 180, 0, 13, 27, 50, 28, 46]
abbrev dktX1_turned_0 : List UInt8 := dkwX1_turned_0 ++ dktX1_turned_1
theorem dksX1_turned_0 : cX1_turned.data.toList.drop 0 = dktX1_turned_0 := by decide +kernel
theorem dksX1_turned_1 : cX1_turned.data.toList.drop 24 = dktX1_turned_1 := dk_seg dksX1_turned_0 24 rfl rfl
theorem dksX1_turned_2 : cX1_turned.data.toList.drop 47 = dktX1_turned_2 := dk_seg dksX1_turned_1 23 rfl rfl
theorem dksX1_turned_3 : cX1_turned.data.toList.drop 70 = dktX1_turned_3 := dk_seg dksX1_turned_2 23 rfl rfl
theorem dksX1_turned_4 : cX1_turned.data.toList.drop 92 = dktX1_turned_4 := dk_seg dksX1_turned_3 22 rfl rfl
theorem dksX1_turned_5 : cX1_turned.data.toList.drop 114 = dktX1_turned_5 := dk_seg dksX1_turned_4 22 rfl rfl
theorem dksX1_turned_6 : cX1_turned.data.toList.drop 137 = dktX1_turned_6 := dk_seg dksX1_turned_5 23 rfl rfl
theorem dksX1_turned_7 : cX1_turned.data.toList.drop 161 = dktX1_turned_7 := dk_seg dksX1_turned_6 24 rfl rfl
theorem dX1_turned_0 : decode cX1_turned 0 = .ok (.new 4, 3) := dk_187 0 4 (dk_at dksX1_turned_0 0 rfl rfl)
theorem dX1_turned_3 : decode cX1_turned 3 = .ok (.dup, 1) := dk_89 (dk_at dksX1_turned_0 3 rfl rfl)
theorem dX1_turned_4 : decode cX1_turned 4 = .ok (.aload_n 0, 1) := dk_42 (dk_at dksX1_turned_0 4 rfl rfl)
theorem dX1_turned_5 : decode cX1_turned 5 = .ok (.getfield 17, 3) := dk_180 0 17 (dk_at dksX1_turned_0 5 rfl rfl)
theorem dX1_turned_8 : decode cX1_turned 8 = .ok (.aload_n 0, 1) := dk_42 (dk_at dksX1_turned_0 8 rfl rfl)
theorem dX1_turned_9 : decode cX1_turned 9 = .ok (.getfield 9, 3) := dk_180 0 9 (dk_at dksX1_turned_0 9 rfl rfl)
theorem dX1_turned_12 : decode cX1_turned 12 = .ok (.invokespecial 20, 3) := dk_183 0 20 (dk_at dksX1_turned_0 12 rfl rfl)
theorem dX1_turned_15 : decode cX1_turned 15 = .ok (.astore_n 3, 1) := dk_78 (dk_at dksX1_turned_0 15 rfl rfl)
theorem dX1_turned_16 : decode cX1_turned 16 = .ok (.aload_n 0, 1) := dk_42 (dk_at dksX1_turned_0 16 rfl rfl)
theorem dX1_turned_17 : decode cX1_turned 17 = .ok (.getfield 13, 3) := dk_180 0 13 (dk_at dksX1_turned_0 17 rfl rfl)
theorem dX1_turned_20 : decode cX1_turned 20 = .ok (.iload_n 1, 1) := dk_27 (dk_at dksX1_turned_0 20 rfl rfl)
theorem dX1_turned_21 : decode cX1_turned 21 = .ok (.aaload, 1) := dk_50 (dk_at dksX1_turned_0 21 rfl rfl)
theorem dX1_turned_22 : decode cX1_turned 22 = .ok (.iload_n 2, 1) := dk_28 (dk_at dksX1_turned_0 22 rfl rfl)
theorem dX1_turned_23 : decode cX1_turned 23 = .ok (.iaload, 1) := dk_46 (dk_at dksX1_turned_0 23 rfl rfl)
theorem dX1_turned_24 : decode cX1_turned 24 = .ok (.istore 4, 2) := dk_54 4 (dk_at dksX1_turned_1 0 rfl rfl)
theorem dX1_turned_26 : decode cX1_turned 26 = .ok (.iconst 0, 1) := dk_3 (dk_at dksX1_turned_1 2 rfl rfl)
theorem dX1_turned_27 : decode cX1_turned 27 = .ok (.istore 5, 2) := dk_54 5 (dk_at dksX1_turned_1 3 rfl rfl)
theorem dX1_turned_29 : decode cX1_turned 29 = .ok (.iload 5, 2) := dk_21 5 (dk_at dksX1_turned_1 5 rfl rfl)
theorem dX1_turned_31 : decode cX1_turned 31 = .ok (.aload_n 0, 1) := dk_42 (dk_at dksX1_turned_1 7 rfl rfl)
theorem dX1_turned_32 : decode cX1_turned 32 = .ok (.getfield 17, 3) := dk_180 0 17 (dk_at dksX1_turned_1 8 rfl rfl)
theorem dX1_turned_35 : decode cX1_turned 35 = .ok (.if_icmp .ge 138, 3) := dk_162 0 138 (dk_at dksX1_turned_1 11 rfl rfl)
theorem dX1_turned_38 : decode cX1_turned 38 = .ok (.iconst 0, 1) := dk_3 (dk_at dksX1_turned_1 14 rfl rfl)
theorem dX1_turned_39 : decode cX1_turned 39 = .ok (.istore 6, 2) := dk_54 6 (dk_at dksX1_turned_1 15 rfl rfl)
theorem dX1_turned_41 : decode cX1_turned 41 = .ok (.iload 6, 2) := dk_21 6 (dk_at dksX1_turned_1 17 rfl rfl)
theorem dX1_turned_43 : decode cX1_turned 43 = .ok (.aload_n 0, 1) := dk_42 (dk_at dksX1_turned_1 19 rfl rfl)
theorem dX1_turned_44 : decode cX1_turned 44 = .ok (.getfield 9, 3) := dk_180 0 9 (dk_at dksX1_turned_1 20 rfl rfl)
theorem dX1_turned_47 : decode cX1_turned 47 = .ok (.if_icmp .ge 120, 3) := dk_162 0 120 (dk_at dksX1_turned_2 0 rfl rfl)
theorem dX1_turned_50 : decode cX1_turned 50 = .ok (.iload 5, 2) := dk_21 5 (dk_at dksX1_turned_2 3 rfl rfl)
theorem dX1_turned_52 : decode cX1_turned 52 = .ok (.iload_n 1, 1) := dk_27 (dk_at dksX1_turned_2 5 rfl rfl)
theorem dX1_turned_53 : decode cX1_turned 53 = .ok (.if_icmp .ne 7, 3) := dk_160 0 7 (dk_at dksX1_turned_2 6 rfl rfl)
theorem dX1_turned_56 : decode cX1_turned 56 = .ok (.iconst 1, 1) := dk_4 (dk_at dksX1_turned_2 9 rfl rfl)
theorem dX1_turned_57 : decode cX1_turned 57 = .ok (.goto 4, 3) := dk_167 0 4 (dk_at dksX1_turned_2 10 rfl rfl)
theorem dX1_turned_60 : decode cX1_turned 60 = .ok (.iconst 0, 1) := dk_3 (dk_at dksX1_turned_2 13 rfl rfl)
theorem dX1_turned_61 : decode cX1_turned 61 = .ok (.istore 7, 2) := dk_54 7 (dk_at dksX1_turned_2 14 rfl rfl)
theorem dX1_turned_63 : decode cX1_turned 63 = .ok (.iload 6, 2) := dk_21 6 (dk_at dksX1_turned_2 16 rfl rfl)
theorem dX1_turned_65 : decode cX1_turned 65 = .ok (.iload_n 2, 1) := dk_28 (dk_at dksX1_turned_2 18 rfl rfl)
theorem dX1_turned_66 : decode cX1_turned 66 = .ok (.if_icmp .ne 7, 3) := dk_160 0 7 (dk_at dksX1_turned_2 19 rfl rfl)
theorem dX1_turned_69 : decode cX1_turned 69 = .ok (.iconst 1, 1) := dk_4 (dk_at dksX1_turned_2 22 rfl rfl)
theorem dX1_turned_70 : decode cX1_turned 70 = .ok (.goto 4, 3) := dk_167 0 4 (dk_at dksX1_turned_3 0 rfl rfl)
theorem dX1_turned_73 : decode cX1_turned 73 = .ok (.iconst 0, 1) := dk_3 (dk_at dksX1_turned_3 3 rfl rfl)
theorem dX1_turned_74 : decode cX1_turned 74 = .ok (.istore 8, 2) := dk_54 8 (dk_at dksX1_turned_3 4 rfl rfl)
theorem dX1_turned_76 : decode cX1_turned 76 = .ok (.aload_n 3, 1) := dk_45 (dk_at dksX1_turned_3 6 rfl rfl)
theorem dX1_turned_77 : decode cX1_turned 77 = .ok (.getfield 13, 3) := dk_180 0 13 (dk_at dksX1_turned_3 7 rfl rfl)
theorem dX1_turned_80 : decode cX1_turned 80 = .ok (.iload 5, 2) := dk_21 5 (dk_at dksX1_turned_3 10 rfl rfl)
theorem dX1_turned_82 : decode cX1_turned 82 = .ok (.aaload, 1) := dk_50 (dk_at dksX1_turned_3 12 rfl rfl)
theorem dX1_turned_83 : decode cX1_turned 83 = .ok (.iload 6, 2) := dk_21 6 (dk_at dksX1_turned_3 13 rfl rfl)
theorem dX1_turned_85 : decode cX1_turned 85 = .ok (.iload 7, 2) := dk_21 7 (dk_at dksX1_turned_3 15 rfl rfl)
theorem dX1_turned_87 : decode cX1_turned 87 = .ok (.ifCond .eq 14, 3) := dk_153 0 14 (dk_at dksX1_turned_3 17 rfl rfl)
theorem dX1_turned_90 : decode cX1_turned 90 = .ok (.iload 8, 2) := dk_21 8 (dk_at dksX1_turned_3 20 rfl rfl)
theorem dX1_turned_92 : decode cX1_turned 92 = .ok (.ifCond .eq 9, 3) := dk_153 0 9 (dk_at dksX1_turned_4 0 rfl rfl)
theorem dX1_turned_95 : decode cX1_turned 95 = .ok (.iload 4, 2) := dk_21 4 (dk_at dksX1_turned_4 3 rfl rfl)
theorem dX1_turned_97 : decode cX1_turned 97 = .ok (.ineg, 1) := dk_116 (dk_at dksX1_turned_4 5 rfl rfl)
theorem dX1_turned_98 : decode cX1_turned 98 = .ok (.goto 62, 3) := dk_167 0 62 (dk_at dksX1_turned_4 6 rfl rfl)
theorem dX1_turned_101 : decode cX1_turned 101 = .ok (.iload 7, 2) := dk_21 7 (dk_at dksX1_turned_4 9 rfl rfl)
theorem dX1_turned_103 : decode cX1_turned 103 = .ok (.ifCond .ne 8, 3) := dk_154 0 8 (dk_at dksX1_turned_4 11 rfl rfl)
theorem dX1_turned_106 : decode cX1_turned 106 = .ok (.iload 8, 2) := dk_21 8 (dk_at dksX1_turned_4 14 rfl rfl)
theorem dX1_turned_108 : decode cX1_turned 108 = .ok (.ifCond .eq 19, 3) := dk_153 0 19 (dk_at dksX1_turned_4 16 rfl rfl)
theorem dX1_turned_111 : decode cX1_turned 111 = .ok (.iload 4, 2) := dk_21 4 (dk_at dksX1_turned_4 19 rfl rfl)
theorem dX1_turned_113 : decode cX1_turned 113 = .ok (.aload_n 0, 1) := dk_42 (dk_at dksX1_turned_4 21 rfl rfl)
theorem dX1_turned_114 : decode cX1_turned 114 = .ok (.getfield 13, 3) := dk_180 0 13 (dk_at dksX1_turned_5 0 rfl rfl)
theorem dX1_turned_117 : decode cX1_turned 117 = .ok (.iload 5, 2) := dk_21 5 (dk_at dksX1_turned_5 3 rfl rfl)
theorem dX1_turned_119 : decode cX1_turned 119 = .ok (.aaload, 1) := dk_50 (dk_at dksX1_turned_5 5 rfl rfl)
theorem dX1_turned_120 : decode cX1_turned 120 = .ok (.iload 6, 2) := dk_21 6 (dk_at dksX1_turned_5 6 rfl rfl)
theorem dX1_turned_122 : decode cX1_turned 122 = .ok (.iaload, 1) := dk_46 (dk_at dksX1_turned_5 8 rfl rfl)
theorem dX1_turned_123 : decode cX1_turned 123 = .ok (.imul, 1) := dk_104 (dk_at dksX1_turned_5 9 rfl rfl)
theorem dX1_turned_124 : decode cX1_turned 124 = .ok (.goto 36, 3) := dk_167 0 36 (dk_at dksX1_turned_5 10 rfl rfl)
theorem dX1_turned_127 : decode cX1_turned 127 = .ok (.aload_n 0, 1) := dk_42 (dk_at dksX1_turned_5 13 rfl rfl)
theorem dX1_turned_128 : decode cX1_turned 128 = .ok (.getfield 13, 3) := dk_180 0 13 (dk_at dksX1_turned_5 14 rfl rfl)
theorem dX1_turned_131 : decode cX1_turned 131 = .ok (.iload 5, 2) := dk_21 5 (dk_at dksX1_turned_5 17 rfl rfl)
theorem dX1_turned_133 : decode cX1_turned 133 = .ok (.aaload, 1) := dk_50 (dk_at dksX1_turned_5 19 rfl rfl)
theorem dX1_turned_134 : decode cX1_turned 134 = .ok (.iload 6, 2) := dk_21 6 (dk_at dksX1_turned_5 20 rfl rfl)
theorem dX1_turned_136 : decode cX1_turned 136 = .ok (.iaload, 1) := dk_46 (dk_at dksX1_turned_5 22 rfl rfl)
theorem dX1_turned_137 : decode cX1_turned 137 = .ok (.iload 4, 2) := dk_21 4 (dk_at dksX1_turned_6 0 rfl rfl)
theorem dX1_turned_139 : decode cX1_turned 139 = .ok (.aload_n 0, 1) := dk_42 (dk_at dksX1_turned_6 2 rfl rfl)
theorem dX1_turned_140 : decode cX1_turned 140 = .ok (.getfield 13, 3) := dk_180 0 13 (dk_at dksX1_turned_6 3 rfl rfl)
theorem dX1_turned_143 : decode cX1_turned 143 = .ok (.iload 5, 2) := dk_21 5 (dk_at dksX1_turned_6 6 rfl rfl)
theorem dX1_turned_145 : decode cX1_turned 145 = .ok (.aaload, 1) := dk_50 (dk_at dksX1_turned_6 8 rfl rfl)
theorem dX1_turned_146 : decode cX1_turned 146 = .ok (.iload_n 2, 1) := dk_28 (dk_at dksX1_turned_6 9 rfl rfl)
theorem dX1_turned_147 : decode cX1_turned 147 = .ok (.iaload, 1) := dk_46 (dk_at dksX1_turned_6 10 rfl rfl)
theorem dX1_turned_148 : decode cX1_turned 148 = .ok (.imul, 1) := dk_104 (dk_at dksX1_turned_6 11 rfl rfl)
theorem dX1_turned_149 : decode cX1_turned 149 = .ok (.aload_n 0, 1) := dk_42 (dk_at dksX1_turned_6 12 rfl rfl)
theorem dX1_turned_150 : decode cX1_turned 150 = .ok (.getfield 13, 3) := dk_180 0 13 (dk_at dksX1_turned_6 13 rfl rfl)
theorem dX1_turned_153 : decode cX1_turned 153 = .ok (.iload_n 1, 1) := dk_27 (dk_at dksX1_turned_6 16 rfl rfl)
theorem dX1_turned_154 : decode cX1_turned 154 = .ok (.aaload, 1) := dk_50 (dk_at dksX1_turned_6 17 rfl rfl)
theorem dX1_turned_155 : decode cX1_turned 155 = .ok (.iload 6, 2) := dk_21 6 (dk_at dksX1_turned_6 18 rfl rfl)
theorem dX1_turned_157 : decode cX1_turned 157 = .ok (.iaload, 1) := dk_46 (dk_at dksX1_turned_6 20 rfl rfl)
theorem dX1_turned_158 : decode cX1_turned 158 = .ok (.imul, 1) := dk_104 (dk_at dksX1_turned_6 21 rfl rfl)
theorem dX1_turned_159 : decode cX1_turned 159 = .ok (.isub, 1) := dk_100 (dk_at dksX1_turned_6 22 rfl rfl)
theorem dX1_turned_160 : decode cX1_turned 160 = .ok (.iastore, 1) := dk_79 (dk_at dksX1_turned_6 23 rfl rfl)
theorem dX1_turned_161 : decode cX1_turned 161 = .ok (.iinc 6 1, 3) := dk_132 6 1 (dk_at dksX1_turned_7 0 rfl rfl)
theorem dX1_turned_164 : decode cX1_turned 164 = .ok (.goto (-123), 3) := dk_167 255 133 (dk_at dksX1_turned_7 3 rfl rfl)
theorem dX1_turned_167 : decode cX1_turned 167 = .ok (.iinc 5 1, 3) := dk_132 5 1 (dk_at dksX1_turned_7 6 rfl rfl)
theorem dX1_turned_170 : decode cX1_turned 170 = .ok (.goto (-141), 3) := dk_167 255 115 (dk_at dksX1_turned_7 9 rfl rfl)
theorem dX1_turned_173 : decode cX1_turned 173 = .ok (.aload_n 3, 1) := dk_45 (dk_at dksX1_turned_7 12 rfl rfl)
theorem dX1_turned_174 : decode cX1_turned 174 = .ok (.areturn, 1) := dk_176 (dk_at dksX1_turned_7 13 rfl rfl)
abbrev cX1_feed : ByteArray := prog_1_method_11_code
def yX1_feed : MethodName := ⟨RX1, "feed", "(IIIII)I"⟩
def dkwX1_feed_4 : List UInt8 := [4, 96, 181, 0, 146, 21, 8, 145, 84, 132, 7, 1, 167, 255, 208, 42, 180, 0, 146, 172]
abbrev dktX1_feed_4 : List UInt8 := dkwX1_feed_4 ++ []
def dkwX1_feed_3 : List UInt8 := [21, 5, 21, 7, 184, 0, 142, 54, 8, 21, 8, 153, 0, 22, 42, 180, 0, 40, 42, 89, 180, 0, 146, 90]
abbrev dktX1_feed_3 : List UInt8 := dkwX1_feed_3 ++ dktX1_feed_4
def dkwX1_feed_2 : List UInt8 := [17, 0, 240, 164, 0, 5, 2, 172, 3, 54, 7, 21, 7, 16, 20, 162, 0, 47, 27, 28, 29, 21, 4]
abbrev dktX1_feed_2 : List UInt8 := dkwX1_feed_2 ++ dktX1_feed_3
def dkwX1_feed_1 : List UInt8 := [184, 0, 142, 153, 0, 6, 132, 6, 1, 132, 7, 1, 167, 255, 228, 42, 180, 0, 146, 21, 6, 96]
abbrev dktX1_feed_1 : List UInt8 := dkwX1_feed_1 ++ dktX1_feed_2
def dkwX1_feed_0 : List UInt8 := [3, 54, 6, 3, 54, 7, 21, 7, 16, 20, 162, 0, 27, 27, 28, 29, 21, 4, 21, 5, 21, 7]
abbrev dktX1_feed_0 : List UInt8 := dkwX1_feed_0 ++ dktX1_feed_1
theorem dksX1_feed_0 : cX1_feed.data.toList.drop 0 = dktX1_feed_0 := by decide +kernel
theorem dksX1_feed_1 : cX1_feed.data.toList.drop 22 = dktX1_feed_1 := dk_seg dksX1_feed_0 22 rfl rfl
theorem dksX1_feed_2 : cX1_feed.data.toList.drop 44 = dktX1_feed_2 := dk_seg dksX1_feed_1 22 rfl rfl
theorem dksX1_feed_3 : cX1_feed.data.toList.drop 67 = dktX1_feed_3 := dk_seg dksX1_feed_2 23 rfl rfl
theorem dksX1_feed_4 : cX1_feed.data.toList.drop 91 = dktX1_feed_4 := dk_seg dksX1_feed_3 24 rfl rfl
theorem dX1_feed_0 : decode cX1_feed 0 = .ok (.iconst 0, 1) := dk_3 (dk_at dksX1_feed_0 0 rfl rfl)
theorem dX1_feed_1 : decode cX1_feed 1 = .ok (.istore 6, 2) := dk_54 6 (dk_at dksX1_feed_0 1 rfl rfl)
theorem dX1_feed_3 : decode cX1_feed 3 = .ok (.iconst 0, 1) := dk_3 (dk_at dksX1_feed_0 3 rfl rfl)
theorem dX1_feed_4 : decode cX1_feed 4 = .ok (.istore 7, 2) := dk_54 7 (dk_at dksX1_feed_0 4 rfl rfl)
theorem dX1_feed_6 : decode cX1_feed 6 = .ok (.iload 7, 2) := dk_21 7 (dk_at dksX1_feed_0 6 rfl rfl)
theorem dX1_feed_8 : decode cX1_feed 8 = .ok (.bipush 20, 2) := dk_16 20 (dk_at dksX1_feed_0 8 rfl rfl)
theorem dX1_feed_10 : decode cX1_feed 10 = .ok (.if_icmp .ge 27, 3) := dk_162 0 27 (dk_at dksX1_feed_0 10 rfl rfl)
theorem dX1_feed_13 : decode cX1_feed 13 = .ok (.iload_n 1, 1) := dk_27 (dk_at dksX1_feed_0 13 rfl rfl)
theorem dX1_feed_14 : decode cX1_feed 14 = .ok (.iload_n 2, 1) := dk_28 (dk_at dksX1_feed_0 14 rfl rfl)
theorem dX1_feed_15 : decode cX1_feed 15 = .ok (.iload_n 3, 1) := dk_29 (dk_at dksX1_feed_0 15 rfl rfl)
theorem dX1_feed_16 : decode cX1_feed 16 = .ok (.iload 4, 2) := dk_21 4 (dk_at dksX1_feed_0 16 rfl rfl)
theorem dX1_feed_18 : decode cX1_feed 18 = .ok (.iload 5, 2) := dk_21 5 (dk_at dksX1_feed_0 18 rfl rfl)
theorem dX1_feed_20 : decode cX1_feed 20 = .ok (.iload 7, 2) := dk_21 7 (dk_at dksX1_feed_0 20 rfl rfl)
theorem dX1_feed_22 : decode cX1_feed 22 = .ok (.invokestatic 142, 3) := dk_184 0 142 (dk_at dksX1_feed_1 0 rfl rfl)
theorem dX1_feed_25 : decode cX1_feed 25 = .ok (.ifCond .eq 6, 3) := dk_153 0 6 (dk_at dksX1_feed_1 3 rfl rfl)
theorem dX1_feed_28 : decode cX1_feed 28 = .ok (.iinc 6 1, 3) := dk_132 6 1 (dk_at dksX1_feed_1 6 rfl rfl)
theorem dX1_feed_31 : decode cX1_feed 31 = .ok (.iinc 7 1, 3) := dk_132 7 1 (dk_at dksX1_feed_1 9 rfl rfl)
theorem dX1_feed_34 : decode cX1_feed 34 = .ok (.goto (-28), 3) := dk_167 255 228 (dk_at dksX1_feed_1 12 rfl rfl)
theorem dX1_feed_37 : decode cX1_feed 37 = .ok (.aload_n 0, 1) := dk_42 (dk_at dksX1_feed_1 15 rfl rfl)
theorem dX1_feed_38 : decode cX1_feed 38 = .ok (.getfield 146, 3) := dk_180 0 146 (dk_at dksX1_feed_1 16 rfl rfl)
theorem dX1_feed_41 : decode cX1_feed 41 = .ok (.iload 6, 2) := dk_21 6 (dk_at dksX1_feed_1 19 rfl rfl)
theorem dX1_feed_43 : decode cX1_feed 43 = .ok (.iadd, 1) := dk_96 (dk_at dksX1_feed_1 21 rfl rfl)
theorem dX1_feed_44 : decode cX1_feed 44 = .ok (.sipush 240, 3) := dk_17 0 240 (dk_at dksX1_feed_2 0 rfl rfl)
theorem dX1_feed_47 : decode cX1_feed 47 = .ok (.if_icmp .le 5, 3) := dk_164 0 5 (dk_at dksX1_feed_2 3 rfl rfl)
theorem dX1_feed_50 : decode cX1_feed 50 = .ok (.iconst (-1), 1) := dk_2 (dk_at dksX1_feed_2 6 rfl rfl)
theorem dX1_feed_51 : decode cX1_feed 51 = .ok (.ireturn, 1) := dk_172 (dk_at dksX1_feed_2 7 rfl rfl)
theorem dX1_feed_52 : decode cX1_feed 52 = .ok (.iconst 0, 1) := dk_3 (dk_at dksX1_feed_2 8 rfl rfl)
theorem dX1_feed_53 : decode cX1_feed 53 = .ok (.istore 7, 2) := dk_54 7 (dk_at dksX1_feed_2 9 rfl rfl)
theorem dX1_feed_55 : decode cX1_feed 55 = .ok (.iload 7, 2) := dk_21 7 (dk_at dksX1_feed_2 11 rfl rfl)
theorem dX1_feed_57 : decode cX1_feed 57 = .ok (.bipush 20, 2) := dk_16 20 (dk_at dksX1_feed_2 13 rfl rfl)
theorem dX1_feed_59 : decode cX1_feed 59 = .ok (.if_icmp .ge 47, 3) := dk_162 0 47 (dk_at dksX1_feed_2 15 rfl rfl)
theorem dX1_feed_62 : decode cX1_feed 62 = .ok (.iload_n 1, 1) := dk_27 (dk_at dksX1_feed_2 18 rfl rfl)
theorem dX1_feed_63 : decode cX1_feed 63 = .ok (.iload_n 2, 1) := dk_28 (dk_at dksX1_feed_2 19 rfl rfl)
theorem dX1_feed_64 : decode cX1_feed 64 = .ok (.iload_n 3, 1) := dk_29 (dk_at dksX1_feed_2 20 rfl rfl)
theorem dX1_feed_65 : decode cX1_feed 65 = .ok (.iload 4, 2) := dk_21 4 (dk_at dksX1_feed_2 21 rfl rfl)
theorem dX1_feed_67 : decode cX1_feed 67 = .ok (.iload 5, 2) := dk_21 5 (dk_at dksX1_feed_3 0 rfl rfl)
theorem dX1_feed_69 : decode cX1_feed 69 = .ok (.iload 7, 2) := dk_21 7 (dk_at dksX1_feed_3 2 rfl rfl)
theorem dX1_feed_71 : decode cX1_feed 71 = .ok (.invokestatic 142, 3) := dk_184 0 142 (dk_at dksX1_feed_3 4 rfl rfl)
theorem dX1_feed_74 : decode cX1_feed 74 = .ok (.istore 8, 2) := dk_54 8 (dk_at dksX1_feed_3 7 rfl rfl)
theorem dX1_feed_76 : decode cX1_feed 76 = .ok (.iload 8, 2) := dk_21 8 (dk_at dksX1_feed_3 9 rfl rfl)
theorem dX1_feed_78 : decode cX1_feed 78 = .ok (.ifCond .eq 22, 3) := dk_153 0 22 (dk_at dksX1_feed_3 11 rfl rfl)
theorem dX1_feed_81 : decode cX1_feed 81 = .ok (.aload_n 0, 1) := dk_42 (dk_at dksX1_feed_3 14 rfl rfl)
theorem dX1_feed_82 : decode cX1_feed 82 = .ok (.getfield 40, 3) := dk_180 0 40 (dk_at dksX1_feed_3 15 rfl rfl)
theorem dX1_feed_85 : decode cX1_feed 85 = .ok (.aload_n 0, 1) := dk_42 (dk_at dksX1_feed_3 18 rfl rfl)
theorem dX1_feed_86 : decode cX1_feed 86 = .ok (.dup, 1) := dk_89 (dk_at dksX1_feed_3 19 rfl rfl)
theorem dX1_feed_87 : decode cX1_feed 87 = .ok (.getfield 146, 3) := dk_180 0 146 (dk_at dksX1_feed_3 20 rfl rfl)
theorem dX1_feed_90 : decode cX1_feed 90 = .ok (.dup_x1, 1) := dk_90 (dk_at dksX1_feed_3 23 rfl rfl)
theorem dX1_feed_91 : decode cX1_feed 91 = .ok (.iconst 1, 1) := dk_4 (dk_at dksX1_feed_4 0 rfl rfl)
theorem dX1_feed_92 : decode cX1_feed 92 = .ok (.iadd, 1) := dk_96 (dk_at dksX1_feed_4 1 rfl rfl)
theorem dX1_feed_93 : decode cX1_feed 93 = .ok (.putfield 146, 3) := dk_181 0 146 (dk_at dksX1_feed_4 2 rfl rfl)
theorem dX1_feed_96 : decode cX1_feed 96 = .ok (.iload 8, 2) := dk_21 8 (dk_at dksX1_feed_4 5 rfl rfl)
theorem dX1_feed_98 : decode cX1_feed 98 = .ok (.i2b, 1) := dk_145 (dk_at dksX1_feed_4 7 rfl rfl)
theorem dX1_feed_99 : decode cX1_feed 99 = .ok (.bastore, 1) := dk_84 (dk_at dksX1_feed_4 8 rfl rfl)
theorem dX1_feed_100 : decode cX1_feed 100 = .ok (.iinc 7 1, 3) := dk_132 7 1 (dk_at dksX1_feed_4 9 rfl rfl)
theorem dX1_feed_103 : decode cX1_feed 103 = .ok (.goto (-48), 3) := dk_167 255 208 (dk_at dksX1_feed_4 12 rfl rfl)
theorem dX1_feed_106 : decode cX1_feed 106 = .ok (.aload_n 0, 1) := dk_42 (dk_at dksX1_feed_4 15 rfl rfl)
theorem dX1_feed_107 : decode cX1_feed 107 = .ok (.getfield 146, 3) := dk_180 0 146 (dk_at dksX1_feed_4 16 rfl rfl)
theorem dX1_feed_110 : decode cX1_feed 110 = .ok (.ireturn, 1) := dk_172 (dk_at dksX1_feed_4 19 rfl rfl)
abbrev cX1_byteOf : ByteArray := prog_1_method_10_code
def yX1_byteOf : MethodName := ⟨RX1, "byteOf", "(IIIIII)I"⟩
def dkwX1_byteOf_2 : List UInt8 := [21, 6, 16, 24, 16, 8, 21, 5, 7, 112, 104, 100, 122, 17, 0, 255, 126, 172]
abbrev dktX1_byteOf_2 : List UInt8 := dkwX1_byteOf_2 ++ []
def dkwX1_byteOf_1 : List UInt8 := [16, 12, 162, 0, 7, 28, 167, 0, 16, 21, 5, 16, 16, 162, 0, 7, 29, 167, 0, 5, 21, 4, 54, 6]
abbrev dktX1_byteOf_1 : List UInt8 := dkwX1_byteOf_1 ++ dktX1_byteOf_2
def dkwX1_byteOf_0 : List UInt8 := [21, 5, 7, 162, 0, 7, 26, 167, 0, 38, 21, 5, 16, 8, 162, 0, 7, 27, 167, 0, 27, 21, 5]
abbrev dktX1_byteOf_0 : List UInt8 := dkwX1_byteOf_0 ++ dktX1_byteOf_1
theorem dksX1_byteOf_0 : cX1_byteOf.data.toList.drop 0 = dktX1_byteOf_0 := by decide +kernel
theorem dksX1_byteOf_1 : cX1_byteOf.data.toList.drop 23 = dktX1_byteOf_1 := dk_seg dksX1_byteOf_0 23 rfl rfl
theorem dksX1_byteOf_2 : cX1_byteOf.data.toList.drop 47 = dktX1_byteOf_2 := dk_seg dksX1_byteOf_1 24 rfl rfl
theorem dX1_byteOf_0 : decode cX1_byteOf 0 = .ok (.iload 5, 2) := dk_21 5 (dk_at dksX1_byteOf_0 0 rfl rfl)
theorem dX1_byteOf_2 : decode cX1_byteOf 2 = .ok (.iconst 4, 1) := dk_7 (dk_at dksX1_byteOf_0 2 rfl rfl)
theorem dX1_byteOf_3 : decode cX1_byteOf 3 = .ok (.if_icmp .ge 7, 3) := dk_162 0 7 (dk_at dksX1_byteOf_0 3 rfl rfl)
theorem dX1_byteOf_6 : decode cX1_byteOf 6 = .ok (.iload_n 0, 1) := dk_26 (dk_at dksX1_byteOf_0 6 rfl rfl)
theorem dX1_byteOf_7 : decode cX1_byteOf 7 = .ok (.goto 38, 3) := dk_167 0 38 (dk_at dksX1_byteOf_0 7 rfl rfl)
theorem dX1_byteOf_10 : decode cX1_byteOf 10 = .ok (.iload 5, 2) := dk_21 5 (dk_at dksX1_byteOf_0 10 rfl rfl)
theorem dX1_byteOf_12 : decode cX1_byteOf 12 = .ok (.bipush 8, 2) := dk_16 8 (dk_at dksX1_byteOf_0 12 rfl rfl)
theorem dX1_byteOf_14 : decode cX1_byteOf 14 = .ok (.if_icmp .ge 7, 3) := dk_162 0 7 (dk_at dksX1_byteOf_0 14 rfl rfl)
theorem dX1_byteOf_17 : decode cX1_byteOf 17 = .ok (.iload_n 1, 1) := dk_27 (dk_at dksX1_byteOf_0 17 rfl rfl)
theorem dX1_byteOf_18 : decode cX1_byteOf 18 = .ok (.goto 27, 3) := dk_167 0 27 (dk_at dksX1_byteOf_0 18 rfl rfl)
theorem dX1_byteOf_21 : decode cX1_byteOf 21 = .ok (.iload 5, 2) := dk_21 5 (dk_at dksX1_byteOf_0 21 rfl rfl)
theorem dX1_byteOf_23 : decode cX1_byteOf 23 = .ok (.bipush 12, 2) := dk_16 12 (dk_at dksX1_byteOf_1 0 rfl rfl)
theorem dX1_byteOf_25 : decode cX1_byteOf 25 = .ok (.if_icmp .ge 7, 3) := dk_162 0 7 (dk_at dksX1_byteOf_1 2 rfl rfl)
theorem dX1_byteOf_28 : decode cX1_byteOf 28 = .ok (.iload_n 2, 1) := dk_28 (dk_at dksX1_byteOf_1 5 rfl rfl)
theorem dX1_byteOf_29 : decode cX1_byteOf 29 = .ok (.goto 16, 3) := dk_167 0 16 (dk_at dksX1_byteOf_1 6 rfl rfl)
theorem dX1_byteOf_32 : decode cX1_byteOf 32 = .ok (.iload 5, 2) := dk_21 5 (dk_at dksX1_byteOf_1 9 rfl rfl)
theorem dX1_byteOf_34 : decode cX1_byteOf 34 = .ok (.bipush 16, 2) := dk_16 16 (dk_at dksX1_byteOf_1 11 rfl rfl)
theorem dX1_byteOf_36 : decode cX1_byteOf 36 = .ok (.if_icmp .ge 7, 3) := dk_162 0 7 (dk_at dksX1_byteOf_1 13 rfl rfl)
theorem dX1_byteOf_39 : decode cX1_byteOf 39 = .ok (.iload_n 3, 1) := dk_29 (dk_at dksX1_byteOf_1 16 rfl rfl)
theorem dX1_byteOf_40 : decode cX1_byteOf 40 = .ok (.goto 5, 3) := dk_167 0 5 (dk_at dksX1_byteOf_1 17 rfl rfl)
theorem dX1_byteOf_43 : decode cX1_byteOf 43 = .ok (.iload 4, 2) := dk_21 4 (dk_at dksX1_byteOf_1 20 rfl rfl)
theorem dX1_byteOf_45 : decode cX1_byteOf 45 = .ok (.istore 6, 2) := dk_54 6 (dk_at dksX1_byteOf_1 22 rfl rfl)
theorem dX1_byteOf_47 : decode cX1_byteOf 47 = .ok (.iload 6, 2) := dk_21 6 (dk_at dksX1_byteOf_2 0 rfl rfl)
theorem dX1_byteOf_49 : decode cX1_byteOf 49 = .ok (.bipush 24, 2) := dk_16 24 (dk_at dksX1_byteOf_2 2 rfl rfl)
theorem dX1_byteOf_51 : decode cX1_byteOf 51 = .ok (.bipush 8, 2) := dk_16 8 (dk_at dksX1_byteOf_2 4 rfl rfl)
theorem dX1_byteOf_53 : decode cX1_byteOf 53 = .ok (.iload 5, 2) := dk_21 5 (dk_at dksX1_byteOf_2 6 rfl rfl)
theorem dX1_byteOf_55 : decode cX1_byteOf 55 = .ok (.iconst 4, 1) := dk_7 (dk_at dksX1_byteOf_2 8 rfl rfl)
theorem dX1_byteOf_56 : decode cX1_byteOf 56 = .ok (.irem, 1) := dk_112 (dk_at dksX1_byteOf_2 9 rfl rfl)
theorem dX1_byteOf_57 : decode cX1_byteOf 57 = .ok (.imul, 1) := dk_104 (dk_at dksX1_byteOf_2 10 rfl rfl)
theorem dX1_byteOf_58 : decode cX1_byteOf 58 = .ok (.isub, 1) := dk_100 (dk_at dksX1_byteOf_2 11 rfl rfl)
theorem dX1_byteOf_59 : decode cX1_byteOf 59 = .ok (.ishr, 1) := dk_122 (dk_at dksX1_byteOf_2 12 rfl rfl)
theorem dX1_byteOf_60 : decode cX1_byteOf 60 = .ok (.sipush 255, 3) := dk_17 0 255 (dk_at dksX1_byteOf_2 13 rfl rfl)
theorem dX1_byteOf_63 : decode cX1_byteOf 63 = .ok (.iand, 1) := dk_126 (dk_at dksX1_byteOf_2 16 rfl rfl)
theorem dX1_byteOf_64 : decode cX1_byteOf 64 = .ok (.ireturn, 1) := dk_172 (dk_at dksX1_byteOf_2 17 rfl rfl)
abbrev cX1_end : ByteArray := prog_1_method_12_code
def yX1_end : MethodName := ⟨RX1, "end", "(I)Z"⟩
def dkwX1_end_0 : List UInt8 := [27, 3, 42, 180, 0, 146, 184, 0, 149, 154, 0, 5, 3, 172, 42, 27, 181, 0, 146, 4, 172]
abbrev dktX1_end_0 : List UInt8 := dkwX1_end_0 ++ []
theorem dksX1_end_0 : cX1_end.data.toList.drop 0 = dktX1_end_0 := by decide +kernel
theorem dX1_end_0 : decode cX1_end 0 = .ok (.iload_n 1, 1) := dk_27 (dk_at dksX1_end_0 0 rfl rfl)
theorem dX1_end_1 : decode cX1_end 1 = .ok (.iconst 0, 1) := dk_3 (dk_at dksX1_end_0 1 rfl rfl)
theorem dX1_end_2 : decode cX1_end 2 = .ok (.aload_n 0, 1) := dk_42 (dk_at dksX1_end_0 2 rfl rfl)
theorem dX1_end_3 : decode cX1_end 3 = .ok (.getfield 146, 3) := dk_180 0 146 (dk_at dksX1_end_0 3 rfl rfl)
theorem dX1_end_6 : decode cX1_end 6 = .ok (.invokestatic 149, 3) := dk_184 0 149 (dk_at dksX1_end_0 6 rfl rfl)
theorem dX1_end_9 : decode cX1_end 9 = .ok (.ifCond .ne 5, 3) := dk_154 0 5 (dk_at dksX1_end_0 9 rfl rfl)
theorem dX1_end_12 : decode cX1_end 12 = .ok (.iconst 0, 1) := dk_3 (dk_at dksX1_end_0 12 rfl rfl)
theorem dX1_end_13 : decode cX1_end 13 = .ok (.ireturn, 1) := dk_172 (dk_at dksX1_end_0 13 rfl rfl)
theorem dX1_end_14 : decode cX1_end 14 = .ok (.aload_n 0, 1) := dk_42 (dk_at dksX1_end_0 14 rfl rfl)
theorem dX1_end_15 : decode cX1_end 15 = .ok (.iload_n 1, 1) := dk_27 (dk_at dksX1_end_0 15 rfl rfl)
theorem dX1_end_16 : decode cX1_end 16 = .ok (.putfield 146, 3) := dk_181 0 146 (dk_at dksX1_end_0 16 rfl rfl)
theorem dX1_end_19 : decode cX1_end 19 = .ok (.iconst 1, 1) := dk_4 (dk_at dksX1_end_0 19 rfl rfl)
theorem dX1_end_20 : decode cX1_end 20 = .ok (.ireturn, 1) := dk_172 (dk_at dksX1_end_0 20 rfl rfl)
abbrev cX1_in : ByteArray := prog_1_method_1_code
def yX1_in : MethodName := ⟨RX1, "in", "(III)Z"⟩
def dkwX1_in_0 : List UInt8 := [26, 27, 161, 0, 12, 26, 28, 163, 0, 7, 4, 167, 0, 4, 3, 172]
abbrev dktX1_in_0 : List UInt8 := dkwX1_in_0 ++ []
theorem dksX1_in_0 : cX1_in.data.toList.drop 0 = dktX1_in_0 := by decide +kernel
theorem dX1_in_0 : decode cX1_in 0 = .ok (.iload_n 0, 1) := dk_26 (dk_at dksX1_in_0 0 rfl rfl)
theorem dX1_in_1 : decode cX1_in 1 = .ok (.iload_n 1, 1) := dk_27 (dk_at dksX1_in_0 1 rfl rfl)
theorem dX1_in_2 : decode cX1_in 2 = .ok (.if_icmp .lt 12, 3) := dk_161 0 12 (dk_at dksX1_in_0 2 rfl rfl)
theorem dX1_in_5 : decode cX1_in 5 = .ok (.iload_n 0, 1) := dk_26 (dk_at dksX1_in_0 5 rfl rfl)
theorem dX1_in_6 : decode cX1_in 6 = .ok (.iload_n 2, 1) := dk_28 (dk_at dksX1_in_0 6 rfl rfl)
theorem dX1_in_7 : decode cX1_in 7 = .ok (.if_icmp .gt 7, 3) := dk_163 0 7 (dk_at dksX1_in_0 7 rfl rfl)
theorem dX1_in_10 : decode cX1_in 10 = .ok (.iconst 1, 1) := dk_4 (dk_at dksX1_in_0 10 rfl rfl)
theorem dX1_in_11 : decode cX1_in 11 = .ok (.goto 4, 3) := dk_167 0 4 (dk_at dksX1_in_0 11 rfl rfl)
theorem dX1_in_14 : decode cX1_in 14 = .ok (.iconst 0, 1) := dk_3 (dk_at dksX1_in_0 14 rfl rfl)
theorem dX1_in_15 : decode cX1_in 15 = .ok (.ireturn, 1) := dk_172 (dk_at dksX1_in_0 15 rfl rfl)
abbrev cX1_fault : ByteArray := prog_1_method_22_code
def yX1_fault : MethodName := ⟨RX1, "fault", "(I)I"⟩
def dkwX1_fault_1 : List UInt8 := [7, 182, 0, 199, 2, 172, 77, 42, 180, 0, 153, 172]
abbrev dktX1_fault_1 : List UInt8 := dkwX1_fault_1 ++ []
def dkwX1_fault_0 : List UInt8 := [27, 3, 4, 184, 0, 149, 154, 0, 6, 16, 254, 172, 27, 154, 0, 10, 42, 182, 0, 196, 167, 0, 8, 42]
abbrev dktX1_fault_0 : List UInt8 := dkwX1_fault_0 ++ dktX1_fault_1
theorem dksX1_fault_0 : cX1_fault.data.toList.drop 0 = dktX1_fault_0 := by decide +kernel
theorem dksX1_fault_1 : cX1_fault.data.toList.drop 24 = dktX1_fault_1 := dk_seg dksX1_fault_0 24 rfl rfl
theorem dX1_fault_0 : decode cX1_fault 0 = .ok (.iload_n 1, 1) := dk_27 (dk_at dksX1_fault_0 0 rfl rfl)
theorem dX1_fault_1 : decode cX1_fault 1 = .ok (.iconst 0, 1) := dk_3 (dk_at dksX1_fault_0 1 rfl rfl)
theorem dX1_fault_2 : decode cX1_fault 2 = .ok (.iconst 1, 1) := dk_4 (dk_at dksX1_fault_0 2 rfl rfl)
theorem dX1_fault_3 : decode cX1_fault 3 = .ok (.invokestatic 149, 3) := dk_184 0 149 (dk_at dksX1_fault_0 3 rfl rfl)
theorem dX1_fault_6 : decode cX1_fault 6 = .ok (.ifCond .ne 6, 3) := dk_154 0 6 (dk_at dksX1_fault_0 6 rfl rfl)
theorem dX1_fault_9 : decode cX1_fault 9 = .ok (.bipush (-2), 2) := dk_16 254 (dk_at dksX1_fault_0 9 rfl rfl)
theorem dX1_fault_11 : decode cX1_fault 11 = .ok (.ireturn, 1) := dk_172 (dk_at dksX1_fault_0 11 rfl rfl)
theorem dX1_fault_12 : decode cX1_fault 12 = .ok (.iload_n 1, 1) := dk_27 (dk_at dksX1_fault_0 12 rfl rfl)
theorem dX1_fault_13 : decode cX1_fault 13 = .ok (.ifCond .ne 10, 3) := dk_154 0 10 (dk_at dksX1_fault_0 13 rfl rfl)
theorem dX1_fault_16 : decode cX1_fault 16 = .ok (.aload_n 0, 1) := dk_42 (dk_at dksX1_fault_0 16 rfl rfl)
theorem dX1_fault_17 : decode cX1_fault 17 = .ok (.invokevirtual 196, 3) := dk_182 0 196 (dk_at dksX1_fault_0 17 rfl rfl)
theorem dX1_fault_20 : decode cX1_fault 20 = .ok (.goto 8, 3) := dk_167 0 8 (dk_at dksX1_fault_0 20 rfl rfl)
theorem dX1_fault_23 : decode cX1_fault 23 = .ok (.aload_n 0, 1) := dk_42 (dk_at dksX1_fault_0 23 rfl rfl)
theorem dX1_fault_24 : decode cX1_fault 24 = .ok (.iconst 4, 1) := dk_7 (dk_at dksX1_fault_1 0 rfl rfl)
theorem dX1_fault_25 : decode cX1_fault 25 = .ok (.invokevirtual 199, 3) := dk_182 0 199 (dk_at dksX1_fault_1 1 rfl rfl)
theorem dX1_fault_28 : decode cX1_fault 28 = .ok (.iconst (-1), 1) := dk_2 (dk_at dksX1_fault_1 4 rfl rfl)
theorem dX1_fault_29 : decode cX1_fault 29 = .ok (.ireturn, 1) := dk_172 (dk_at dksX1_fault_1 5 rfl rfl)
theorem dX1_fault_30 : decode cX1_fault 30 = .ok (.astore_n 2, 1) := dk_77 (dk_at dksX1_fault_1 6 rfl rfl)
theorem dX1_fault_31 : decode cX1_fault 31 = .ok (.aload_n 0, 1) := dk_42 (dk_at dksX1_fault_1 7 rfl rfl)
theorem dX1_fault_32 : decode cX1_fault 32 = .ok (.getfield 153, 3) := dk_180 0 153 (dk_at dksX1_fault_1 8 rfl rfl)
theorem dX1_fault_35 : decode cX1_fault 35 = .ok (.ireturn, 1) := dk_172 (dk_at dksX1_fault_1 11 rfl rfl)
abbrev cX1_wholeTable : ByteArray := prog_1_method_18_code
def yX1_wholeTable : MethodName := ⟨RX1, "wholeTable", "()V"⟩
def dkwX1_wholeTable_5 : List UInt8 := [167, 0, 4, 3, 182, 0, 177, 177]
abbrev dktX1_wholeTable_5 : List UInt8 := dkwX1_wholeTable_5 ++ []
def dkwX1_wholeTable_4 : List UInt8 := [42, 89, 180, 0, 164, 4, 96, 181, 0, 164, 167, 255, 194, 42, 42, 182, 0, 156, 2, 160, 0, 7, 4]
abbrev dktX1_wholeTable_4 : List UInt8 := dkwX1_wholeTable_4 ++ dktX1_wholeTable_5
def dkwX1_wholeTable_3 : List UInt8 := [42, 42, 42, 180, 0, 174, 182, 0, 171, 42, 180, 0, 174, 160, 0, 7, 4, 167, 0, 4, 3, 182, 0, 177]
abbrev dktX1_wholeTable_3 : List UInt8 := dkwX1_wholeTable_3 ++ dktX1_wholeTable_4
def dkwX1_wholeTable_2 : List UInt8 := [16, 47, 160, 0, 59, 42, 180, 0, 164, 16, 6, 162, 0, 50, 42, 89, 180, 0, 153, 4, 96, 181, 0, 153]
abbrev dktX1_wholeTable_2 : List UInt8 := dkwX1_wholeTable_2 ++ dktX1_wholeTable_3
def dkwX1_wholeTable_1 : List UInt8 := [180, 0, 174, 158, 0, 7, 4, 167, 0, 4, 3, 182, 0, 177, 42, 4, 181, 0, 164, 42, 182, 0, 156]
abbrev dktX1_wholeTable_1 : List UInt8 := dkwX1_wholeTable_1 ++ dktX1_wholeTable_2
def dkwX1_wholeTable_0 : List UInt8 := [42, 3, 181, 0, 153, 42, 3, 181, 0, 164, 42, 42, 16, 6, 182, 0, 171, 181, 0, 174, 42, 42]
abbrev dktX1_wholeTable_0 : List UInt8 := dkwX1_wholeTable_0 ++ dktX1_wholeTable_1
theorem dksX1_wholeTable_0 : cX1_wholeTable.data.toList.drop 0 = dktX1_wholeTable_0 := by decide +kernel
theorem dksX1_wholeTable_1 : cX1_wholeTable.data.toList.drop 22 = dktX1_wholeTable_1 := dk_seg dksX1_wholeTable_0 22 rfl rfl
theorem dksX1_wholeTable_2 : cX1_wholeTable.data.toList.drop 45 = dktX1_wholeTable_2 := dk_seg dksX1_wholeTable_1 23 rfl rfl
theorem dksX1_wholeTable_3 : cX1_wholeTable.data.toList.drop 69 = dktX1_wholeTable_3 := dk_seg dksX1_wholeTable_2 24 rfl rfl
theorem dksX1_wholeTable_4 : cX1_wholeTable.data.toList.drop 93 = dktX1_wholeTable_4 := dk_seg dksX1_wholeTable_3 24 rfl rfl
theorem dksX1_wholeTable_5 : cX1_wholeTable.data.toList.drop 116 = dktX1_wholeTable_5 := dk_seg dksX1_wholeTable_4 23 rfl rfl
theorem dX1_wholeTable_0 : decode cX1_wholeTable 0 = .ok (.aload_n 0, 1) := dk_42 (dk_at dksX1_wholeTable_0 0 rfl rfl)
theorem dX1_wholeTable_1 : decode cX1_wholeTable 1 = .ok (.iconst 0, 1) := dk_3 (dk_at dksX1_wholeTable_0 1 rfl rfl)
theorem dX1_wholeTable_2 : decode cX1_wholeTable 2 = .ok (.putfield 153, 3) := dk_181 0 153 (dk_at dksX1_wholeTable_0 2 rfl rfl)
theorem dX1_wholeTable_5 : decode cX1_wholeTable 5 = .ok (.aload_n 0, 1) := dk_42 (dk_at dksX1_wholeTable_0 5 rfl rfl)
theorem dX1_wholeTable_6 : decode cX1_wholeTable 6 = .ok (.iconst 0, 1) := dk_3 (dk_at dksX1_wholeTable_0 6 rfl rfl)
theorem dX1_wholeTable_7 : decode cX1_wholeTable 7 = .ok (.putfield 164, 3) := dk_181 0 164 (dk_at dksX1_wholeTable_0 7 rfl rfl)
theorem dX1_wholeTable_10 : decode cX1_wholeTable 10 = .ok (.aload_n 0, 1) := dk_42 (dk_at dksX1_wholeTable_0 10 rfl rfl)
theorem dX1_wholeTable_11 : decode cX1_wholeTable 11 = .ok (.aload_n 0, 1) := dk_42 (dk_at dksX1_wholeTable_0 11 rfl rfl)
theorem dX1_wholeTable_12 : decode cX1_wholeTable 12 = .ok (.bipush 6, 2) := dk_16 6 (dk_at dksX1_wholeTable_0 12 rfl rfl)
theorem dX1_wholeTable_14 : decode cX1_wholeTable 14 = .ok (.invokevirtual 171, 3) := dk_182 0 171 (dk_at dksX1_wholeTable_0 14 rfl rfl)
theorem dX1_wholeTable_17 : decode cX1_wholeTable 17 = .ok (.putfield 174, 3) := dk_181 0 174 (dk_at dksX1_wholeTable_0 17 rfl rfl)
theorem dX1_wholeTable_20 : decode cX1_wholeTable 20 = .ok (.aload_n 0, 1) := dk_42 (dk_at dksX1_wholeTable_0 20 rfl rfl)
theorem dX1_wholeTable_21 : decode cX1_wholeTable 21 = .ok (.aload_n 0, 1) := dk_42 (dk_at dksX1_wholeTable_0 21 rfl rfl)
theorem dX1_wholeTable_22 : decode cX1_wholeTable 22 = .ok (.getfield 174, 3) := dk_180 0 174 (dk_at dksX1_wholeTable_1 0 rfl rfl)
theorem dX1_wholeTable_25 : decode cX1_wholeTable 25 = .ok (.ifCond .le 7, 3) := dk_158 0 7 (dk_at dksX1_wholeTable_1 3 rfl rfl)
theorem dX1_wholeTable_28 : decode cX1_wholeTable 28 = .ok (.iconst 1, 1) := dk_4 (dk_at dksX1_wholeTable_1 6 rfl rfl)
theorem dX1_wholeTable_29 : decode cX1_wholeTable 29 = .ok (.goto 4, 3) := dk_167 0 4 (dk_at dksX1_wholeTable_1 7 rfl rfl)
theorem dX1_wholeTable_32 : decode cX1_wholeTable 32 = .ok (.iconst 0, 1) := dk_3 (dk_at dksX1_wholeTable_1 10 rfl rfl)
theorem dX1_wholeTable_33 : decode cX1_wholeTable 33 = .ok (.invokevirtual 177, 3) := dk_182 0 177 (dk_at dksX1_wholeTable_1 11 rfl rfl)
theorem dX1_wholeTable_36 : decode cX1_wholeTable 36 = .ok (.aload_n 0, 1) := dk_42 (dk_at dksX1_wholeTable_1 14 rfl rfl)
theorem dX1_wholeTable_37 : decode cX1_wholeTable 37 = .ok (.iconst 1, 1) := dk_4 (dk_at dksX1_wholeTable_1 15 rfl rfl)
theorem dX1_wholeTable_38 : decode cX1_wholeTable 38 = .ok (.putfield 164, 3) := dk_181 0 164 (dk_at dksX1_wholeTable_1 16 rfl rfl)
theorem dX1_wholeTable_41 : decode cX1_wholeTable 41 = .ok (.aload_n 0, 1) := dk_42 (dk_at dksX1_wholeTable_1 19 rfl rfl)
theorem dX1_wholeTable_42 : decode cX1_wholeTable 42 = .ok (.invokevirtual 156, 3) := dk_182 0 156 (dk_at dksX1_wholeTable_1 20 rfl rfl)
theorem dX1_wholeTable_45 : decode cX1_wholeTable 45 = .ok (.bipush 47, 2) := dk_16 47 (dk_at dksX1_wholeTable_2 0 rfl rfl)
theorem dX1_wholeTable_47 : decode cX1_wholeTable 47 = .ok (.if_icmp .ne 59, 3) := dk_160 0 59 (dk_at dksX1_wholeTable_2 2 rfl rfl)
theorem dX1_wholeTable_50 : decode cX1_wholeTable 50 = .ok (.aload_n 0, 1) := dk_42 (dk_at dksX1_wholeTable_2 5 rfl rfl)
theorem dX1_wholeTable_51 : decode cX1_wholeTable 51 = .ok (.getfield 164, 3) := dk_180 0 164 (dk_at dksX1_wholeTable_2 6 rfl rfl)
theorem dX1_wholeTable_54 : decode cX1_wholeTable 54 = .ok (.bipush 6, 2) := dk_16 6 (dk_at dksX1_wholeTable_2 9 rfl rfl)
theorem dX1_wholeTable_56 : decode cX1_wholeTable 56 = .ok (.if_icmp .ge 50, 3) := dk_162 0 50 (dk_at dksX1_wholeTable_2 11 rfl rfl)
theorem dX1_wholeTable_59 : decode cX1_wholeTable 59 = .ok (.aload_n 0, 1) := dk_42 (dk_at dksX1_wholeTable_2 14 rfl rfl)
theorem dX1_wholeTable_60 : decode cX1_wholeTable 60 = .ok (.dup, 1) := dk_89 (dk_at dksX1_wholeTable_2 15 rfl rfl)
theorem dX1_wholeTable_61 : decode cX1_wholeTable 61 = .ok (.getfield 153, 3) := dk_180 0 153 (dk_at dksX1_wholeTable_2 16 rfl rfl)
theorem dX1_wholeTable_64 : decode cX1_wholeTable 64 = .ok (.iconst 1, 1) := dk_4 (dk_at dksX1_wholeTable_2 19 rfl rfl)
theorem dX1_wholeTable_65 : decode cX1_wholeTable 65 = .ok (.iadd, 1) := dk_96 (dk_at dksX1_wholeTable_2 20 rfl rfl)
theorem dX1_wholeTable_66 : decode cX1_wholeTable 66 = .ok (.putfield 153, 3) := dk_181 0 153 (dk_at dksX1_wholeTable_2 21 rfl rfl)
theorem dX1_wholeTable_69 : decode cX1_wholeTable 69 = .ok (.aload_n 0, 1) := dk_42 (dk_at dksX1_wholeTable_3 0 rfl rfl)
theorem dX1_wholeTable_70 : decode cX1_wholeTable 70 = .ok (.aload_n 0, 1) := dk_42 (dk_at dksX1_wholeTable_3 1 rfl rfl)
theorem dX1_wholeTable_71 : decode cX1_wholeTable 71 = .ok (.aload_n 0, 1) := dk_42 (dk_at dksX1_wholeTable_3 2 rfl rfl)
theorem dX1_wholeTable_72 : decode cX1_wholeTable 72 = .ok (.getfield 174, 3) := dk_180 0 174 (dk_at dksX1_wholeTable_3 3 rfl rfl)
theorem dX1_wholeTable_75 : decode cX1_wholeTable 75 = .ok (.invokevirtual 171, 3) := dk_182 0 171 (dk_at dksX1_wholeTable_3 6 rfl rfl)
theorem dX1_wholeTable_78 : decode cX1_wholeTable 78 = .ok (.aload_n 0, 1) := dk_42 (dk_at dksX1_wholeTable_3 9 rfl rfl)
theorem dX1_wholeTable_79 : decode cX1_wholeTable 79 = .ok (.getfield 174, 3) := dk_180 0 174 (dk_at dksX1_wholeTable_3 10 rfl rfl)
theorem dX1_wholeTable_82 : decode cX1_wholeTable 82 = .ok (.if_icmp .ne 7, 3) := dk_160 0 7 (dk_at dksX1_wholeTable_3 13 rfl rfl)
theorem dX1_wholeTable_85 : decode cX1_wholeTable 85 = .ok (.iconst 1, 1) := dk_4 (dk_at dksX1_wholeTable_3 16 rfl rfl)
theorem dX1_wholeTable_86 : decode cX1_wholeTable 86 = .ok (.goto 4, 3) := dk_167 0 4 (dk_at dksX1_wholeTable_3 17 rfl rfl)
theorem dX1_wholeTable_89 : decode cX1_wholeTable 89 = .ok (.iconst 0, 1) := dk_3 (dk_at dksX1_wholeTable_3 20 rfl rfl)
theorem dX1_wholeTable_90 : decode cX1_wholeTable 90 = .ok (.invokevirtual 177, 3) := dk_182 0 177 (dk_at dksX1_wholeTable_3 21 rfl rfl)
theorem dX1_wholeTable_93 : decode cX1_wholeTable 93 = .ok (.aload_n 0, 1) := dk_42 (dk_at dksX1_wholeTable_4 0 rfl rfl)
theorem dX1_wholeTable_94 : decode cX1_wholeTable 94 = .ok (.dup, 1) := dk_89 (dk_at dksX1_wholeTable_4 1 rfl rfl)
theorem dX1_wholeTable_95 : decode cX1_wholeTable 95 = .ok (.getfield 164, 3) := dk_180 0 164 (dk_at dksX1_wholeTable_4 2 rfl rfl)
theorem dX1_wholeTable_98 : decode cX1_wholeTable 98 = .ok (.iconst 1, 1) := dk_4 (dk_at dksX1_wholeTable_4 5 rfl rfl)
theorem dX1_wholeTable_99 : decode cX1_wholeTable 99 = .ok (.iadd, 1) := dk_96 (dk_at dksX1_wholeTable_4 6 rfl rfl)
theorem dX1_wholeTable_100 : decode cX1_wholeTable 100 = .ok (.putfield 164, 3) := dk_181 0 164 (dk_at dksX1_wholeTable_4 7 rfl rfl)
theorem dX1_wholeTable_103 : decode cX1_wholeTable 103 = .ok (.goto (-62), 3) := dk_167 255 194 (dk_at dksX1_wholeTable_4 10 rfl rfl)
theorem dX1_wholeTable_106 : decode cX1_wholeTable 106 = .ok (.aload_n 0, 1) := dk_42 (dk_at dksX1_wholeTable_4 13 rfl rfl)
theorem dX1_wholeTable_107 : decode cX1_wholeTable 107 = .ok (.aload_n 0, 1) := dk_42 (dk_at dksX1_wholeTable_4 14 rfl rfl)
theorem dX1_wholeTable_108 : decode cX1_wholeTable 108 = .ok (.invokevirtual 156, 3) := dk_182 0 156 (dk_at dksX1_wholeTable_4 15 rfl rfl)
theorem dX1_wholeTable_111 : decode cX1_wholeTable 111 = .ok (.iconst (-1), 1) := dk_2 (dk_at dksX1_wholeTable_4 18 rfl rfl)
theorem dX1_wholeTable_112 : decode cX1_wholeTable 112 = .ok (.if_icmp .ne 7, 3) := dk_160 0 7 (dk_at dksX1_wholeTable_4 19 rfl rfl)
theorem dX1_wholeTable_115 : decode cX1_wholeTable 115 = .ok (.iconst 1, 1) := dk_4 (dk_at dksX1_wholeTable_4 22 rfl rfl)
theorem dX1_wholeTable_116 : decode cX1_wholeTable 116 = .ok (.goto 4, 3) := dk_167 0 4 (dk_at dksX1_wholeTable_5 0 rfl rfl)
theorem dX1_wholeTable_119 : decode cX1_wholeTable 119 = .ok (.iconst 0, 1) := dk_3 (dk_at dksX1_wholeTable_5 3 rfl rfl)
theorem dX1_wholeTable_120 : decode cX1_wholeTable 120 = .ok (.invokevirtual 177, 3) := dk_182 0 177 (dk_at dksX1_wholeTable_5 4 rfl rfl)
theorem dX1_wholeTable_123 : decode cX1_wholeTable 123 = .ok (.return_, 1) := dk_177 (dk_at dksX1_wholeTable_5 7 rfl rfl)
abbrev cX1_rowRead : ByteArray := prog_1_method_17_code
def yX1_rowRead : MethodName := ⟨RX1, "rowRead", "(I)I"⟩
def dkwX1_rowRead_2 : List UInt8 := [181, 0, 153, 167, 255, 207, 28, 172]
abbrev dktX1_rowRead_2 : List UInt8 := dkwX1_rowRead_2 ++ []
def dkwX1_rowRead_1 : List UInt8 := [180, 0, 164, 104, 28, 96, 42, 182, 0, 156, 184, 0, 167, 79, 132, 2, 1, 42, 89, 180, 0, 153, 4, 96]
abbrev dktX1_rowRead_1 : List UInt8 := dkwX1_rowRead_1 ++ dktX1_rowRead_2
def dkwX1_rowRead_0 : List UInt8 := [3, 61, 42, 182, 0, 156, 184, 0, 160, 153, 0, 45, 28, 27, 162, 0, 40, 42, 180, 0, 44, 16, 6, 42]
abbrev dktX1_rowRead_0 : List UInt8 := dkwX1_rowRead_0 ++ dktX1_rowRead_1
theorem dksX1_rowRead_0 : cX1_rowRead.data.toList.drop 0 = dktX1_rowRead_0 := by decide +kernel
theorem dksX1_rowRead_1 : cX1_rowRead.data.toList.drop 24 = dktX1_rowRead_1 := dk_seg dksX1_rowRead_0 24 rfl rfl
theorem dksX1_rowRead_2 : cX1_rowRead.data.toList.drop 48 = dktX1_rowRead_2 := dk_seg dksX1_rowRead_1 24 rfl rfl
theorem dX1_rowRead_0 : decode cX1_rowRead 0 = .ok (.iconst 0, 1) := dk_3 (dk_at dksX1_rowRead_0 0 rfl rfl)
theorem dX1_rowRead_1 : decode cX1_rowRead 1 = .ok (.istore_n 2, 1) := dk_61 (dk_at dksX1_rowRead_0 1 rfl rfl)
theorem dX1_rowRead_2 : decode cX1_rowRead 2 = .ok (.aload_n 0, 1) := dk_42 (dk_at dksX1_rowRead_0 2 rfl rfl)
theorem dX1_rowRead_3 : decode cX1_rowRead 3 = .ok (.invokevirtual 156, 3) := dk_182 0 156 (dk_at dksX1_rowRead_0 3 rfl rfl)
theorem dX1_rowRead_6 : decode cX1_rowRead 6 = .ok (.invokestatic 160, 3) := dk_184 0 160 (dk_at dksX1_rowRead_0 6 rfl rfl)
theorem dX1_rowRead_9 : decode cX1_rowRead 9 = .ok (.ifCond .eq 45, 3) := dk_153 0 45 (dk_at dksX1_rowRead_0 9 rfl rfl)
theorem dX1_rowRead_12 : decode cX1_rowRead 12 = .ok (.iload_n 2, 1) := dk_28 (dk_at dksX1_rowRead_0 12 rfl rfl)
theorem dX1_rowRead_13 : decode cX1_rowRead 13 = .ok (.iload_n 1, 1) := dk_27 (dk_at dksX1_rowRead_0 13 rfl rfl)
theorem dX1_rowRead_14 : decode cX1_rowRead 14 = .ok (.if_icmp .ge 40, 3) := dk_162 0 40 (dk_at dksX1_rowRead_0 14 rfl rfl)
theorem dX1_rowRead_17 : decode cX1_rowRead 17 = .ok (.aload_n 0, 1) := dk_42 (dk_at dksX1_rowRead_0 17 rfl rfl)
theorem dX1_rowRead_18 : decode cX1_rowRead 18 = .ok (.getfield 44, 3) := dk_180 0 44 (dk_at dksX1_rowRead_0 18 rfl rfl)
theorem dX1_rowRead_21 : decode cX1_rowRead 21 = .ok (.bipush 6, 2) := dk_16 6 (dk_at dksX1_rowRead_0 21 rfl rfl)
theorem dX1_rowRead_23 : decode cX1_rowRead 23 = .ok (.aload_n 0, 1) := dk_42 (dk_at dksX1_rowRead_0 23 rfl rfl)
theorem dX1_rowRead_24 : decode cX1_rowRead 24 = .ok (.getfield 164, 3) := dk_180 0 164 (dk_at dksX1_rowRead_1 0 rfl rfl)
theorem dX1_rowRead_27 : decode cX1_rowRead 27 = .ok (.imul, 1) := dk_104 (dk_at dksX1_rowRead_1 3 rfl rfl)
theorem dX1_rowRead_28 : decode cX1_rowRead 28 = .ok (.iload_n 2, 1) := dk_28 (dk_at dksX1_rowRead_1 4 rfl rfl)
theorem dX1_rowRead_29 : decode cX1_rowRead 29 = .ok (.iadd, 1) := dk_96 (dk_at dksX1_rowRead_1 5 rfl rfl)
theorem dX1_rowRead_30 : decode cX1_rowRead 30 = .ok (.aload_n 0, 1) := dk_42 (dk_at dksX1_rowRead_1 6 rfl rfl)
theorem dX1_rowRead_31 : decode cX1_rowRead 31 = .ok (.invokevirtual 156, 3) := dk_182 0 156 (dk_at dksX1_rowRead_1 7 rfl rfl)
theorem dX1_rowRead_34 : decode cX1_rowRead 34 = .ok (.invokestatic 167, 3) := dk_184 0 167 (dk_at dksX1_rowRead_1 10 rfl rfl)
theorem dX1_rowRead_37 : decode cX1_rowRead 37 = .ok (.iastore, 1) := dk_79 (dk_at dksX1_rowRead_1 13 rfl rfl)
theorem dX1_rowRead_38 : decode cX1_rowRead 38 = .ok (.iinc 2 1, 3) := dk_132 2 1 (dk_at dksX1_rowRead_1 14 rfl rfl)
theorem dX1_rowRead_41 : decode cX1_rowRead 41 = .ok (.aload_n 0, 1) := dk_42 (dk_at dksX1_rowRead_1 17 rfl rfl)
theorem dX1_rowRead_42 : decode cX1_rowRead 42 = .ok (.dup, 1) := dk_89 (dk_at dksX1_rowRead_1 18 rfl rfl)
theorem dX1_rowRead_43 : decode cX1_rowRead 43 = .ok (.getfield 153, 3) := dk_180 0 153 (dk_at dksX1_rowRead_1 19 rfl rfl)
theorem dX1_rowRead_46 : decode cX1_rowRead 46 = .ok (.iconst 1, 1) := dk_4 (dk_at dksX1_rowRead_1 22 rfl rfl)
theorem dX1_rowRead_47 : decode cX1_rowRead 47 = .ok (.iadd, 1) := dk_96 (dk_at dksX1_rowRead_1 23 rfl rfl)
theorem dX1_rowRead_48 : decode cX1_rowRead 48 = .ok (.putfield 153, 3) := dk_181 0 153 (dk_at dksX1_rowRead_2 0 rfl rfl)
theorem dX1_rowRead_51 : decode cX1_rowRead 51 = .ok (.goto (-49), 3) := dk_167 255 207 (dk_at dksX1_rowRead_2 3 rfl rfl)
theorem dX1_rowRead_54 : decode cX1_rowRead 54 = .ok (.iload_n 2, 1) := dk_28 (dk_at dksX1_rowRead_2 6 rfl rfl)
theorem dX1_rowRead_55 : decode cX1_rowRead 55 = .ok (.ireturn, 1) := dk_172 (dk_at dksX1_rowRead_2 7 rfl rfl)
abbrev cX1_ahead : ByteArray := prog_1_method_13_code
def yX1_ahead : MethodName := ⟨RX1, "ahead", "()I"⟩
def dkwX1_ahead_2 : List UInt8 := [162, 0, 19, 42, 180, 0, 40, 42, 180, 0, 153, 51, 17, 0, 255, 126, 167, 0, 4, 2, 172]
abbrev dktX1_ahead_2 : List UInt8 := dkwX1_ahead_2 ++ []
def dkwX1_ahead_1 : List UInt8 := [160, 0, 16, 42, 89, 180, 0, 153, 4, 96, 181, 0, 153, 167, 255, 221, 42, 180, 0, 153, 42, 180, 0, 146]
abbrev dktX1_ahead_1 : List UInt8 := dkwX1_ahead_1 ++ dktX1_ahead_2
def dkwX1_ahead_0 : List UInt8 := [42, 180, 0, 153, 42, 180, 0, 146, 162, 0, 30, 42, 180, 0, 40, 42, 180, 0, 153, 51, 16, 32]
abbrev dktX1_ahead_0 : List UInt8 := dkwX1_ahead_0 ++ dktX1_ahead_1
theorem dksX1_ahead_0 : cX1_ahead.data.toList.drop 0 = dktX1_ahead_0 := by decide +kernel
theorem dksX1_ahead_1 : cX1_ahead.data.toList.drop 22 = dktX1_ahead_1 := dk_seg dksX1_ahead_0 22 rfl rfl
theorem dksX1_ahead_2 : cX1_ahead.data.toList.drop 46 = dktX1_ahead_2 := dk_seg dksX1_ahead_1 24 rfl rfl
theorem dX1_ahead_0 : decode cX1_ahead 0 = .ok (.aload_n 0, 1) := dk_42 (dk_at dksX1_ahead_0 0 rfl rfl)
theorem dX1_ahead_1 : decode cX1_ahead 1 = .ok (.getfield 153, 3) := dk_180 0 153 (dk_at dksX1_ahead_0 1 rfl rfl)
theorem dX1_ahead_4 : decode cX1_ahead 4 = .ok (.aload_n 0, 1) := dk_42 (dk_at dksX1_ahead_0 4 rfl rfl)
theorem dX1_ahead_5 : decode cX1_ahead 5 = .ok (.getfield 146, 3) := dk_180 0 146 (dk_at dksX1_ahead_0 5 rfl rfl)
theorem dX1_ahead_8 : decode cX1_ahead 8 = .ok (.if_icmp .ge 30, 3) := dk_162 0 30 (dk_at dksX1_ahead_0 8 rfl rfl)
theorem dX1_ahead_11 : decode cX1_ahead 11 = .ok (.aload_n 0, 1) := dk_42 (dk_at dksX1_ahead_0 11 rfl rfl)
theorem dX1_ahead_12 : decode cX1_ahead 12 = .ok (.getfield 40, 3) := dk_180 0 40 (dk_at dksX1_ahead_0 12 rfl rfl)
theorem dX1_ahead_15 : decode cX1_ahead 15 = .ok (.aload_n 0, 1) := dk_42 (dk_at dksX1_ahead_0 15 rfl rfl)
theorem dX1_ahead_16 : decode cX1_ahead 16 = .ok (.getfield 153, 3) := dk_180 0 153 (dk_at dksX1_ahead_0 16 rfl rfl)
theorem dX1_ahead_19 : decode cX1_ahead 19 = .ok (.baload, 1) := dk_51 (dk_at dksX1_ahead_0 19 rfl rfl)
theorem dX1_ahead_20 : decode cX1_ahead 20 = .ok (.bipush 32, 2) := dk_16 32 (dk_at dksX1_ahead_0 20 rfl rfl)
theorem dX1_ahead_22 : decode cX1_ahead 22 = .ok (.if_icmp .ne 16, 3) := dk_160 0 16 (dk_at dksX1_ahead_1 0 rfl rfl)
theorem dX1_ahead_25 : decode cX1_ahead 25 = .ok (.aload_n 0, 1) := dk_42 (dk_at dksX1_ahead_1 3 rfl rfl)
theorem dX1_ahead_26 : decode cX1_ahead 26 = .ok (.dup, 1) := dk_89 (dk_at dksX1_ahead_1 4 rfl rfl)
theorem dX1_ahead_27 : decode cX1_ahead 27 = .ok (.getfield 153, 3) := dk_180 0 153 (dk_at dksX1_ahead_1 5 rfl rfl)
theorem dX1_ahead_30 : decode cX1_ahead 30 = .ok (.iconst 1, 1) := dk_4 (dk_at dksX1_ahead_1 8 rfl rfl)
theorem dX1_ahead_31 : decode cX1_ahead 31 = .ok (.iadd, 1) := dk_96 (dk_at dksX1_ahead_1 9 rfl rfl)
theorem dX1_ahead_32 : decode cX1_ahead 32 = .ok (.putfield 153, 3) := dk_181 0 153 (dk_at dksX1_ahead_1 10 rfl rfl)
theorem dX1_ahead_35 : decode cX1_ahead 35 = .ok (.goto (-35), 3) := dk_167 255 221 (dk_at dksX1_ahead_1 13 rfl rfl)
theorem dX1_ahead_38 : decode cX1_ahead 38 = .ok (.aload_n 0, 1) := dk_42 (dk_at dksX1_ahead_1 16 rfl rfl)
theorem dX1_ahead_39 : decode cX1_ahead 39 = .ok (.getfield 153, 3) := dk_180 0 153 (dk_at dksX1_ahead_1 17 rfl rfl)
theorem dX1_ahead_42 : decode cX1_ahead 42 = .ok (.aload_n 0, 1) := dk_42 (dk_at dksX1_ahead_1 20 rfl rfl)
theorem dX1_ahead_43 : decode cX1_ahead 43 = .ok (.getfield 146, 3) := dk_180 0 146 (dk_at dksX1_ahead_1 21 rfl rfl)
theorem dX1_ahead_46 : decode cX1_ahead 46 = .ok (.if_icmp .ge 19, 3) := dk_162 0 19 (dk_at dksX1_ahead_2 0 rfl rfl)
theorem dX1_ahead_49 : decode cX1_ahead 49 = .ok (.aload_n 0, 1) := dk_42 (dk_at dksX1_ahead_2 3 rfl rfl)
theorem dX1_ahead_50 : decode cX1_ahead 50 = .ok (.getfield 40, 3) := dk_180 0 40 (dk_at dksX1_ahead_2 4 rfl rfl)
theorem dX1_ahead_53 : decode cX1_ahead 53 = .ok (.aload_n 0, 1) := dk_42 (dk_at dksX1_ahead_2 7 rfl rfl)
theorem dX1_ahead_54 : decode cX1_ahead 54 = .ok (.getfield 153, 3) := dk_180 0 153 (dk_at dksX1_ahead_2 8 rfl rfl)
theorem dX1_ahead_57 : decode cX1_ahead 57 = .ok (.baload, 1) := dk_51 (dk_at dksX1_ahead_2 11 rfl rfl)
theorem dX1_ahead_58 : decode cX1_ahead 58 = .ok (.sipush 255, 3) := dk_17 0 255 (dk_at dksX1_ahead_2 12 rfl rfl)
theorem dX1_ahead_61 : decode cX1_ahead 61 = .ok (.iand, 1) := dk_126 (dk_at dksX1_ahead_2 15 rfl rfl)
theorem dX1_ahead_62 : decode cX1_ahead 62 = .ok (.goto 4, 3) := dk_167 0 4 (dk_at dksX1_ahead_2 16 rfl rfl)
theorem dX1_ahead_65 : decode cX1_ahead 65 = .ok (.iconst (-1), 1) := dk_2 (dk_at dksX1_ahead_2 19 rfl rfl)
theorem dX1_ahead_66 : decode cX1_ahead 66 = .ok (.ireturn, 1) := dk_172 (dk_at dksX1_ahead_2 20 rfl rfl)
abbrev cX1_isEntry : ByteArray := prog_1_method_15_code
def yX1_isEntry : MethodName := ⟨RX1, "isEntry", "(I)Z"⟩
def dkwX1_isEntry_0 : List UInt8 := [26, 16, 43, 159, 0, 15, 26, 16, 45, 159, 0, 9, 26, 16, 48, 160, 0, 7, 4, 167, 0, 4, 3, 172]
abbrev dktX1_isEntry_0 : List UInt8 := dkwX1_isEntry_0 ++ []
theorem dksX1_isEntry_0 : cX1_isEntry.data.toList.drop 0 = dktX1_isEntry_0 := by decide +kernel
theorem dX1_isEntry_0 : decode cX1_isEntry 0 = .ok (.iload_n 0, 1) := dk_26 (dk_at dksX1_isEntry_0 0 rfl rfl)
theorem dX1_isEntry_1 : decode cX1_isEntry 1 = .ok (.bipush 43, 2) := dk_16 43 (dk_at dksX1_isEntry_0 1 rfl rfl)
theorem dX1_isEntry_3 : decode cX1_isEntry 3 = .ok (.if_icmp .eq 15, 3) := dk_159 0 15 (dk_at dksX1_isEntry_0 3 rfl rfl)
theorem dX1_isEntry_6 : decode cX1_isEntry 6 = .ok (.iload_n 0, 1) := dk_26 (dk_at dksX1_isEntry_0 6 rfl rfl)
theorem dX1_isEntry_7 : decode cX1_isEntry 7 = .ok (.bipush 45, 2) := dk_16 45 (dk_at dksX1_isEntry_0 7 rfl rfl)
theorem dX1_isEntry_9 : decode cX1_isEntry 9 = .ok (.if_icmp .eq 9, 3) := dk_159 0 9 (dk_at dksX1_isEntry_0 9 rfl rfl)
theorem dX1_isEntry_12 : decode cX1_isEntry 12 = .ok (.iload_n 0, 1) := dk_26 (dk_at dksX1_isEntry_0 12 rfl rfl)
theorem dX1_isEntry_13 : decode cX1_isEntry 13 = .ok (.bipush 48, 2) := dk_16 48 (dk_at dksX1_isEntry_0 13 rfl rfl)
theorem dX1_isEntry_15 : decode cX1_isEntry 15 = .ok (.if_icmp .ne 7, 3) := dk_160 0 7 (dk_at dksX1_isEntry_0 15 rfl rfl)
theorem dX1_isEntry_18 : decode cX1_isEntry 18 = .ok (.iconst 1, 1) := dk_4 (dk_at dksX1_isEntry_0 18 rfl rfl)
theorem dX1_isEntry_19 : decode cX1_isEntry 19 = .ok (.goto 4, 3) := dk_167 0 4 (dk_at dksX1_isEntry_0 19 rfl rfl)
theorem dX1_isEntry_22 : decode cX1_isEntry 22 = .ok (.iconst 0, 1) := dk_3 (dk_at dksX1_isEntry_0 22 rfl rfl)
theorem dX1_isEntry_23 : decode cX1_isEntry 23 = .ok (.ireturn, 1) := dk_172 (dk_at dksX1_isEntry_0 23 rfl rfl)
abbrev cX1_must : ByteArray := prog_1_method_14_code
def yX1_must : MethodName := ⟨RX1, "must", "(Z)V"⟩
def dkwX1_must_0 : List UInt8 := [27, 154, 0, 8, 42, 180, 0, 36, 191, 177]
abbrev dktX1_must_0 : List UInt8 := dkwX1_must_0 ++ []
theorem dksX1_must_0 : cX1_must.data.toList.drop 0 = dktX1_must_0 := by decide +kernel
theorem dX1_must_0 : decode cX1_must 0 = .ok (.iload_n 1, 1) := dk_27 (dk_at dksX1_must_0 0 rfl rfl)
theorem dX1_must_1 : decode cX1_must 1 = .ok (.ifCond .ne 8, 3) := dk_154 0 8 (dk_at dksX1_must_0 1 rfl rfl)
theorem dX1_must_4 : decode cX1_must 4 = .ok (.aload_n 0, 1) := dk_42 (dk_at dksX1_must_0 4 rfl rfl)
theorem dX1_must_5 : decode cX1_must 5 = .ok (.getfield 36, 3) := dk_180 0 36 (dk_at dksX1_must_0 5 rfl rfl)
theorem dX1_must_8 : decode cX1_must 8 = .ok (.athrow, 1) := dk_191 (dk_at dksX1_must_0 8 rfl rfl)
theorem dX1_must_9 : decode cX1_must 9 = .ok (.return_, 1) := dk_177 (dk_at dksX1_must_0 9 rfl rfl)
abbrev cX1_wholeScript : ByteArray := prog_1_method_21_code
def yX1_wholeScript : MethodName := ⟨RX1, "wholeScript", "(I)V"⟩
def dkwX1_wholeScript_4 : List UInt8 := [160, 0, 7, 4, 167, 0, 4, 3, 182, 0, 177, 177]
abbrev dktX1_wholeScript_4 : List UInt8 := dkwX1_wholeScript_4 ++ []
def dkwX1_wholeScript_3 : List UInt8 := [61, 28, 153, 255, 198, 42, 89, 180, 0, 153, 4, 96, 181, 0, 153, 167, 255, 185, 42, 42, 182, 0, 156, 2]
abbrev dktX1_wholeScript_3 : List UInt8 := dkwX1_wholeScript_3 ++ dktX1_wholeScript_4
def dkwX1_wholeScript_2 : List UInt8 := [182, 0, 156, 16, 59, 160, 0, 18, 42, 180, 0, 51, 27, 46, 16, 12, 162, 0, 7, 4, 167, 0, 4, 3]
abbrev dktX1_wholeScript_2 : List UInt8 := dkwX1_wholeScript_2 ++ dktX1_wholeScript_3
def dkwX1_wholeScript_1 : List UInt8 := [42, 180, 0, 51, 27, 46, 96, 104, 182, 0, 192, 42, 180, 0, 51, 27, 92, 46, 4, 96, 79, 42]
abbrev dktX1_wholeScript_1 : List UInt8 := dkwX1_wholeScript_1 ++ dktX1_wholeScript_2
def dkwX1_wholeScript_0 : List UInt8 := [42, 3, 181, 0, 153, 42, 180, 0, 51, 27, 3, 79, 4, 61, 28, 153, 0, 73, 42, 7, 16, 12, 27, 104]
abbrev dktX1_wholeScript_0 : List UInt8 := dkwX1_wholeScript_0 ++ dktX1_wholeScript_1
theorem dksX1_wholeScript_0 : cX1_wholeScript.data.toList.drop 0 = dktX1_wholeScript_0 := by decide +kernel
theorem dksX1_wholeScript_1 : cX1_wholeScript.data.toList.drop 24 = dktX1_wholeScript_1 := dk_seg dksX1_wholeScript_0 24 rfl rfl
theorem dksX1_wholeScript_2 : cX1_wholeScript.data.toList.drop 46 = dktX1_wholeScript_2 := dk_seg dksX1_wholeScript_1 22 rfl rfl
theorem dksX1_wholeScript_3 : cX1_wholeScript.data.toList.drop 70 = dktX1_wholeScript_3 := dk_seg dksX1_wholeScript_2 24 rfl rfl
theorem dksX1_wholeScript_4 : cX1_wholeScript.data.toList.drop 94 = dktX1_wholeScript_4 := dk_seg dksX1_wholeScript_3 24 rfl rfl
theorem dX1_wholeScript_0 : decode cX1_wholeScript 0 = .ok (.aload_n 0, 1) := dk_42 (dk_at dksX1_wholeScript_0 0 rfl rfl)
theorem dX1_wholeScript_1 : decode cX1_wholeScript 1 = .ok (.iconst 0, 1) := dk_3 (dk_at dksX1_wholeScript_0 1 rfl rfl)
theorem dX1_wholeScript_2 : decode cX1_wholeScript 2 = .ok (.putfield 153, 3) := dk_181 0 153 (dk_at dksX1_wholeScript_0 2 rfl rfl)
theorem dX1_wholeScript_5 : decode cX1_wholeScript 5 = .ok (.aload_n 0, 1) := dk_42 (dk_at dksX1_wholeScript_0 5 rfl rfl)
theorem dX1_wholeScript_6 : decode cX1_wholeScript 6 = .ok (.getfield 51, 3) := dk_180 0 51 (dk_at dksX1_wholeScript_0 6 rfl rfl)
theorem dX1_wholeScript_9 : decode cX1_wholeScript 9 = .ok (.iload_n 1, 1) := dk_27 (dk_at dksX1_wholeScript_0 9 rfl rfl)
theorem dX1_wholeScript_10 : decode cX1_wholeScript 10 = .ok (.iconst 0, 1) := dk_3 (dk_at dksX1_wholeScript_0 10 rfl rfl)
theorem dX1_wholeScript_11 : decode cX1_wholeScript 11 = .ok (.iastore, 1) := dk_79 (dk_at dksX1_wholeScript_0 11 rfl rfl)
theorem dX1_wholeScript_12 : decode cX1_wholeScript 12 = .ok (.iconst 1, 1) := dk_4 (dk_at dksX1_wholeScript_0 12 rfl rfl)
theorem dX1_wholeScript_13 : decode cX1_wholeScript 13 = .ok (.istore_n 2, 1) := dk_61 (dk_at dksX1_wholeScript_0 13 rfl rfl)
theorem dX1_wholeScript_14 : decode cX1_wholeScript 14 = .ok (.iload_n 2, 1) := dk_28 (dk_at dksX1_wholeScript_0 14 rfl rfl)
theorem dX1_wholeScript_15 : decode cX1_wholeScript 15 = .ok (.ifCond .eq 73, 3) := dk_153 0 73 (dk_at dksX1_wholeScript_0 15 rfl rfl)
theorem dX1_wholeScript_18 : decode cX1_wholeScript 18 = .ok (.aload_n 0, 1) := dk_42 (dk_at dksX1_wholeScript_0 18 rfl rfl)
theorem dX1_wholeScript_19 : decode cX1_wholeScript 19 = .ok (.iconst 4, 1) := dk_7 (dk_at dksX1_wholeScript_0 19 rfl rfl)
theorem dX1_wholeScript_20 : decode cX1_wholeScript 20 = .ok (.bipush 12, 2) := dk_16 12 (dk_at dksX1_wholeScript_0 20 rfl rfl)
theorem dX1_wholeScript_22 : decode cX1_wholeScript 22 = .ok (.iload_n 1, 1) := dk_27 (dk_at dksX1_wholeScript_0 22 rfl rfl)
theorem dX1_wholeScript_23 : decode cX1_wholeScript 23 = .ok (.imul, 1) := dk_104 (dk_at dksX1_wholeScript_0 23 rfl rfl)
theorem dX1_wholeScript_24 : decode cX1_wholeScript 24 = .ok (.aload_n 0, 1) := dk_42 (dk_at dksX1_wholeScript_1 0 rfl rfl)
theorem dX1_wholeScript_25 : decode cX1_wholeScript 25 = .ok (.getfield 51, 3) := dk_180 0 51 (dk_at dksX1_wholeScript_1 1 rfl rfl)
theorem dX1_wholeScript_28 : decode cX1_wholeScript 28 = .ok (.iload_n 1, 1) := dk_27 (dk_at dksX1_wholeScript_1 4 rfl rfl)
theorem dX1_wholeScript_29 : decode cX1_wholeScript 29 = .ok (.iaload, 1) := dk_46 (dk_at dksX1_wholeScript_1 5 rfl rfl)
theorem dX1_wholeScript_30 : decode cX1_wholeScript 30 = .ok (.iadd, 1) := dk_96 (dk_at dksX1_wholeScript_1 6 rfl rfl)
theorem dX1_wholeScript_31 : decode cX1_wholeScript 31 = .ok (.imul, 1) := dk_104 (dk_at dksX1_wholeScript_1 7 rfl rfl)
theorem dX1_wholeScript_32 : decode cX1_wholeScript 32 = .ok (.invokevirtual 192, 3) := dk_182 0 192 (dk_at dksX1_wholeScript_1 8 rfl rfl)
theorem dX1_wholeScript_35 : decode cX1_wholeScript 35 = .ok (.aload_n 0, 1) := dk_42 (dk_at dksX1_wholeScript_1 11 rfl rfl)
theorem dX1_wholeScript_36 : decode cX1_wholeScript 36 = .ok (.getfield 51, 3) := dk_180 0 51 (dk_at dksX1_wholeScript_1 12 rfl rfl)
theorem dX1_wholeScript_39 : decode cX1_wholeScript 39 = .ok (.iload_n 1, 1) := dk_27 (dk_at dksX1_wholeScript_1 15 rfl rfl)
theorem dX1_wholeScript_40 : decode cX1_wholeScript 40 = .ok (.dup2, 1) := dk_92 (dk_at dksX1_wholeScript_1 16 rfl rfl)
theorem dX1_wholeScript_41 : decode cX1_wholeScript 41 = .ok (.iaload, 1) := dk_46 (dk_at dksX1_wholeScript_1 17 rfl rfl)
theorem dX1_wholeScript_42 : decode cX1_wholeScript 42 = .ok (.iconst 1, 1) := dk_4 (dk_at dksX1_wholeScript_1 18 rfl rfl)
theorem dX1_wholeScript_43 : decode cX1_wholeScript 43 = .ok (.iadd, 1) := dk_96 (dk_at dksX1_wholeScript_1 19 rfl rfl)
theorem dX1_wholeScript_44 : decode cX1_wholeScript 44 = .ok (.iastore, 1) := dk_79 (dk_at dksX1_wholeScript_1 20 rfl rfl)
theorem dX1_wholeScript_45 : decode cX1_wholeScript 45 = .ok (.aload_n 0, 1) := dk_42 (dk_at dksX1_wholeScript_1 21 rfl rfl)
theorem dX1_wholeScript_46 : decode cX1_wholeScript 46 = .ok (.invokevirtual 156, 3) := dk_182 0 156 (dk_at dksX1_wholeScript_2 0 rfl rfl)
theorem dX1_wholeScript_49 : decode cX1_wholeScript 49 = .ok (.bipush 59, 2) := dk_16 59 (dk_at dksX1_wholeScript_2 3 rfl rfl)
theorem dX1_wholeScript_51 : decode cX1_wholeScript 51 = .ok (.if_icmp .ne 18, 3) := dk_160 0 18 (dk_at dksX1_wholeScript_2 5 rfl rfl)
theorem dX1_wholeScript_54 : decode cX1_wholeScript 54 = .ok (.aload_n 0, 1) := dk_42 (dk_at dksX1_wholeScript_2 8 rfl rfl)
theorem dX1_wholeScript_55 : decode cX1_wholeScript 55 = .ok (.getfield 51, 3) := dk_180 0 51 (dk_at dksX1_wholeScript_2 9 rfl rfl)
theorem dX1_wholeScript_58 : decode cX1_wholeScript 58 = .ok (.iload_n 1, 1) := dk_27 (dk_at dksX1_wholeScript_2 12 rfl rfl)
theorem dX1_wholeScript_59 : decode cX1_wholeScript 59 = .ok (.iaload, 1) := dk_46 (dk_at dksX1_wholeScript_2 13 rfl rfl)
theorem dX1_wholeScript_60 : decode cX1_wholeScript 60 = .ok (.bipush 12, 2) := dk_16 12 (dk_at dksX1_wholeScript_2 14 rfl rfl)
theorem dX1_wholeScript_62 : decode cX1_wholeScript 62 = .ok (.if_icmp .ge 7, 3) := dk_162 0 7 (dk_at dksX1_wholeScript_2 16 rfl rfl)
theorem dX1_wholeScript_65 : decode cX1_wholeScript 65 = .ok (.iconst 1, 1) := dk_4 (dk_at dksX1_wholeScript_2 19 rfl rfl)
theorem dX1_wholeScript_66 : decode cX1_wholeScript 66 = .ok (.goto 4, 3) := dk_167 0 4 (dk_at dksX1_wholeScript_2 20 rfl rfl)
theorem dX1_wholeScript_69 : decode cX1_wholeScript 69 = .ok (.iconst 0, 1) := dk_3 (dk_at dksX1_wholeScript_2 23 rfl rfl)
theorem dX1_wholeScript_70 : decode cX1_wholeScript 70 = .ok (.istore_n 2, 1) := dk_61 (dk_at dksX1_wholeScript_3 0 rfl rfl)
theorem dX1_wholeScript_71 : decode cX1_wholeScript 71 = .ok (.iload_n 2, 1) := dk_28 (dk_at dksX1_wholeScript_3 1 rfl rfl)
theorem dX1_wholeScript_72 : decode cX1_wholeScript 72 = .ok (.ifCond .eq (-58), 3) := dk_153 255 198 (dk_at dksX1_wholeScript_3 2 rfl rfl)
theorem dX1_wholeScript_75 : decode cX1_wholeScript 75 = .ok (.aload_n 0, 1) := dk_42 (dk_at dksX1_wholeScript_3 5 rfl rfl)
theorem dX1_wholeScript_76 : decode cX1_wholeScript 76 = .ok (.dup, 1) := dk_89 (dk_at dksX1_wholeScript_3 6 rfl rfl)
theorem dX1_wholeScript_77 : decode cX1_wholeScript 77 = .ok (.getfield 153, 3) := dk_180 0 153 (dk_at dksX1_wholeScript_3 7 rfl rfl)
theorem dX1_wholeScript_80 : decode cX1_wholeScript 80 = .ok (.iconst 1, 1) := dk_4 (dk_at dksX1_wholeScript_3 10 rfl rfl)
theorem dX1_wholeScript_81 : decode cX1_wholeScript 81 = .ok (.iadd, 1) := dk_96 (dk_at dksX1_wholeScript_3 11 rfl rfl)
theorem dX1_wholeScript_82 : decode cX1_wholeScript 82 = .ok (.putfield 153, 3) := dk_181 0 153 (dk_at dksX1_wholeScript_3 12 rfl rfl)
theorem dX1_wholeScript_85 : decode cX1_wholeScript 85 = .ok (.goto (-71), 3) := dk_167 255 185 (dk_at dksX1_wholeScript_3 15 rfl rfl)
theorem dX1_wholeScript_88 : decode cX1_wholeScript 88 = .ok (.aload_n 0, 1) := dk_42 (dk_at dksX1_wholeScript_3 18 rfl rfl)
theorem dX1_wholeScript_89 : decode cX1_wholeScript 89 = .ok (.aload_n 0, 1) := dk_42 (dk_at dksX1_wholeScript_3 19 rfl rfl)
theorem dX1_wholeScript_90 : decode cX1_wholeScript 90 = .ok (.invokevirtual 156, 3) := dk_182 0 156 (dk_at dksX1_wholeScript_3 20 rfl rfl)
theorem dX1_wholeScript_93 : decode cX1_wholeScript 93 = .ok (.iconst (-1), 1) := dk_2 (dk_at dksX1_wholeScript_3 23 rfl rfl)
theorem dX1_wholeScript_94 : decode cX1_wholeScript 94 = .ok (.if_icmp .ne 7, 3) := dk_160 0 7 (dk_at dksX1_wholeScript_4 0 rfl rfl)
theorem dX1_wholeScript_97 : decode cX1_wholeScript 97 = .ok (.iconst 1, 1) := dk_4 (dk_at dksX1_wholeScript_4 3 rfl rfl)
theorem dX1_wholeScript_98 : decode cX1_wholeScript 98 = .ok (.goto 4, 3) := dk_167 0 4 (dk_at dksX1_wholeScript_4 4 rfl rfl)
theorem dX1_wholeScript_101 : decode cX1_wholeScript 101 = .ok (.iconst 0, 1) := dk_3 (dk_at dksX1_wholeScript_4 7 rfl rfl)
theorem dX1_wholeScript_102 : decode cX1_wholeScript 102 = .ok (.invokevirtual 177, 3) := dk_182 0 177 (dk_at dksX1_wholeScript_4 8 rfl rfl)
theorem dX1_wholeScript_105 : decode cX1_wholeScript 105 = .ok (.return_, 1) := dk_177 (dk_at dksX1_wholeScript_4 11 rfl rfl)
abbrev cX1_stepRead : ByteArray := prog_1_method_20_code
def yX1_stepRead : MethodName := ⟨RX1, "stepRead", "(I)V"⟩
def dkwX1_stepRead_6 : List UInt8 := [184, 0, 167, 79, 42, 89, 180, 0, 153, 4, 96, 181, 0, 153, 177]
abbrev dktX1_stepRead_6 : List UInt8 := dkwX1_stepRead_6 ++ []
def dkwX1_stepRead_5 : List UInt8 := [177, 42, 42, 182, 0, 156, 184, 0, 160, 182, 0, 177, 42, 180, 0, 48, 27, 6, 96, 42, 182, 0, 156]
abbrev dktX1_stepRead_5 : List UInt8 := dkwX1_stepRead_5 ++ dktX1_stepRead_6
def dkwX1_stepRead_4 : List UInt8 := [167, 0, 7, 42, 182, 0, 189, 79, 42, 180, 0, 48, 27, 6, 96, 18, 188, 79, 28, 16, 6, 159, 0, 4]
abbrev dktX1_stepRead_4 : List UInt8 := dkwX1_stepRead_4 ++ dktX1_stepRead_5
def dkwX1_stepRead_3 : List UInt8 := [182, 0, 189, 79, 42, 180, 0, 48, 27, 5, 96, 28, 5, 161, 0, 8, 28, 8, 160, 0, 8, 18, 188]
abbrev dktX1_stepRead_3 : List UInt8 := dkwX1_stepRead_3 ++ dktX1_stepRead_4
def dkwX1_stepRead_2 : List UInt8 := [180, 0, 48, 27, 28, 79, 42, 180, 0, 48, 27, 4, 96, 28, 8, 160, 0, 8, 18, 188, 167, 0, 7, 42]
abbrev dktX1_stepRead_2 : List UInt8 := dkwX1_stepRead_2 ++ dktX1_stepRead_3
def dkwX1_stepRead_1 : List UInt8 := [155, 0, 7, 4, 167, 0, 4, 3, 182, 0, 177, 42, 89, 180, 0, 153, 4, 96, 181, 0, 153, 42]
abbrev dktX1_stepRead_1 : List UInt8 := dkwX1_stepRead_1 ++ dktX1_stepRead_2
def dkwX1_stepRead_0 : List UInt8 := [42, 182, 0, 156, 2, 160, 0, 7, 2, 167, 0, 12, 18, 181, 42, 182, 0, 156, 182, 0, 183, 61, 42, 28]
abbrev dktX1_stepRead_0 : List UInt8 := dkwX1_stepRead_0 ++ dktX1_stepRead_1
theorem dksX1_stepRead_0 : cX1_stepRead.data.toList.drop 0 = dktX1_stepRead_0 := by decide +kernel
theorem dksX1_stepRead_1 : cX1_stepRead.data.toList.drop 24 = dktX1_stepRead_1 := dk_seg dksX1_stepRead_0 24 rfl rfl
theorem dksX1_stepRead_2 : cX1_stepRead.data.toList.drop 46 = dktX1_stepRead_2 := dk_seg dksX1_stepRead_1 22 rfl rfl
theorem dksX1_stepRead_3 : cX1_stepRead.data.toList.drop 70 = dktX1_stepRead_3 := dk_seg dksX1_stepRead_2 24 rfl rfl
theorem dksX1_stepRead_4 : cX1_stepRead.data.toList.drop 93 = dktX1_stepRead_4 := dk_seg dksX1_stepRead_3 23 rfl rfl
theorem dksX1_stepRead_5 : cX1_stepRead.data.toList.drop 117 = dktX1_stepRead_5 := dk_seg dksX1_stepRead_4 24 rfl rfl
theorem dksX1_stepRead_6 : cX1_stepRead.data.toList.drop 140 = dktX1_stepRead_6 := dk_seg dksX1_stepRead_5 23 rfl rfl
theorem dX1_stepRead_0 : decode cX1_stepRead 0 = .ok (.aload_n 0, 1) := dk_42 (dk_at dksX1_stepRead_0 0 rfl rfl)
theorem dX1_stepRead_1 : decode cX1_stepRead 1 = .ok (.invokevirtual 156, 3) := dk_182 0 156 (dk_at dksX1_stepRead_0 1 rfl rfl)
theorem dX1_stepRead_4 : decode cX1_stepRead 4 = .ok (.iconst (-1), 1) := dk_2 (dk_at dksX1_stepRead_0 4 rfl rfl)
theorem dX1_stepRead_5 : decode cX1_stepRead 5 = .ok (.if_icmp .ne 7, 3) := dk_160 0 7 (dk_at dksX1_stepRead_0 5 rfl rfl)
theorem dX1_stepRead_8 : decode cX1_stepRead 8 = .ok (.iconst (-1), 1) := dk_2 (dk_at dksX1_stepRead_0 8 rfl rfl)
theorem dX1_stepRead_9 : decode cX1_stepRead 9 = .ok (.goto 12, 3) := dk_167 0 12 (dk_at dksX1_stepRead_0 9 rfl rfl)
theorem dX1_stepRead_12 : decode cX1_stepRead 12 = .ok (.ldc 181, 2) := dk_18 181 (dk_at dksX1_stepRead_0 12 rfl rfl)
theorem dX1_stepRead_14 : decode cX1_stepRead 14 = .ok (.aload_n 0, 1) := dk_42 (dk_at dksX1_stepRead_0 14 rfl rfl)
theorem dX1_stepRead_15 : decode cX1_stepRead 15 = .ok (.invokevirtual 156, 3) := dk_182 0 156 (dk_at dksX1_stepRead_0 15 rfl rfl)
theorem dX1_stepRead_18 : decode cX1_stepRead 18 = .ok (.invokevirtual 183, 3) := dk_182 0 183 (dk_at dksX1_stepRead_0 18 rfl rfl)
theorem dX1_stepRead_21 : decode cX1_stepRead 21 = .ok (.istore_n 2, 1) := dk_61 (dk_at dksX1_stepRead_0 21 rfl rfl)
theorem dX1_stepRead_22 : decode cX1_stepRead 22 = .ok (.aload_n 0, 1) := dk_42 (dk_at dksX1_stepRead_0 22 rfl rfl)
theorem dX1_stepRead_23 : decode cX1_stepRead 23 = .ok (.iload_n 2, 1) := dk_28 (dk_at dksX1_stepRead_0 23 rfl rfl)
theorem dX1_stepRead_24 : decode cX1_stepRead 24 = .ok (.ifCond .lt 7, 3) := dk_155 0 7 (dk_at dksX1_stepRead_1 0 rfl rfl)
theorem dX1_stepRead_27 : decode cX1_stepRead 27 = .ok (.iconst 1, 1) := dk_4 (dk_at dksX1_stepRead_1 3 rfl rfl)
theorem dX1_stepRead_28 : decode cX1_stepRead 28 = .ok (.goto 4, 3) := dk_167 0 4 (dk_at dksX1_stepRead_1 4 rfl rfl)
theorem dX1_stepRead_31 : decode cX1_stepRead 31 = .ok (.iconst 0, 1) := dk_3 (dk_at dksX1_stepRead_1 7 rfl rfl)
theorem dX1_stepRead_32 : decode cX1_stepRead 32 = .ok (.invokevirtual 177, 3) := dk_182 0 177 (dk_at dksX1_stepRead_1 8 rfl rfl)
theorem dX1_stepRead_35 : decode cX1_stepRead 35 = .ok (.aload_n 0, 1) := dk_42 (dk_at dksX1_stepRead_1 11 rfl rfl)
theorem dX1_stepRead_36 : decode cX1_stepRead 36 = .ok (.dup, 1) := dk_89 (dk_at dksX1_stepRead_1 12 rfl rfl)
theorem dX1_stepRead_37 : decode cX1_stepRead 37 = .ok (.getfield 153, 3) := dk_180 0 153 (dk_at dksX1_stepRead_1 13 rfl rfl)
theorem dX1_stepRead_40 : decode cX1_stepRead 40 = .ok (.iconst 1, 1) := dk_4 (dk_at dksX1_stepRead_1 16 rfl rfl)
theorem dX1_stepRead_41 : decode cX1_stepRead 41 = .ok (.iadd, 1) := dk_96 (dk_at dksX1_stepRead_1 17 rfl rfl)
theorem dX1_stepRead_42 : decode cX1_stepRead 42 = .ok (.putfield 153, 3) := dk_181 0 153 (dk_at dksX1_stepRead_1 18 rfl rfl)
theorem dX1_stepRead_45 : decode cX1_stepRead 45 = .ok (.aload_n 0, 1) := dk_42 (dk_at dksX1_stepRead_1 21 rfl rfl)
theorem dX1_stepRead_46 : decode cX1_stepRead 46 = .ok (.getfield 48, 3) := dk_180 0 48 (dk_at dksX1_stepRead_2 0 rfl rfl)
theorem dX1_stepRead_49 : decode cX1_stepRead 49 = .ok (.iload_n 1, 1) := dk_27 (dk_at dksX1_stepRead_2 3 rfl rfl)
theorem dX1_stepRead_50 : decode cX1_stepRead 50 = .ok (.iload_n 2, 1) := dk_28 (dk_at dksX1_stepRead_2 4 rfl rfl)
theorem dX1_stepRead_51 : decode cX1_stepRead 51 = .ok (.iastore, 1) := dk_79 (dk_at dksX1_stepRead_2 5 rfl rfl)
theorem dX1_stepRead_52 : decode cX1_stepRead 52 = .ok (.aload_n 0, 1) := dk_42 (dk_at dksX1_stepRead_2 6 rfl rfl)
theorem dX1_stepRead_53 : decode cX1_stepRead 53 = .ok (.getfield 48, 3) := dk_180 0 48 (dk_at dksX1_stepRead_2 7 rfl rfl)
theorem dX1_stepRead_56 : decode cX1_stepRead 56 = .ok (.iload_n 1, 1) := dk_27 (dk_at dksX1_stepRead_2 10 rfl rfl)
theorem dX1_stepRead_57 : decode cX1_stepRead 57 = .ok (.iconst 1, 1) := dk_4 (dk_at dksX1_stepRead_2 11 rfl rfl)
theorem dX1_stepRead_58 : decode cX1_stepRead 58 = .ok (.iadd, 1) := dk_96 (dk_at dksX1_stepRead_2 12 rfl rfl)
theorem dX1_stepRead_59 : decode cX1_stepRead 59 = .ok (.iload_n 2, 1) := dk_28 (dk_at dksX1_stepRead_2 13 rfl rfl)
theorem dX1_stepRead_60 : decode cX1_stepRead 60 = .ok (.iconst 5, 1) := dk_8 (dk_at dksX1_stepRead_2 14 rfl rfl)
theorem dX1_stepRead_61 : decode cX1_stepRead 61 = .ok (.if_icmp .ne 8, 3) := dk_160 0 8 (dk_at dksX1_stepRead_2 15 rfl rfl)
theorem dX1_stepRead_64 : decode cX1_stepRead 64 = .ok (.ldc 188, 2) := dk_18 188 (dk_at dksX1_stepRead_2 18 rfl rfl)
theorem dX1_stepRead_66 : decode cX1_stepRead 66 = .ok (.goto 7, 3) := dk_167 0 7 (dk_at dksX1_stepRead_2 20 rfl rfl)
theorem dX1_stepRead_69 : decode cX1_stepRead 69 = .ok (.aload_n 0, 1) := dk_42 (dk_at dksX1_stepRead_2 23 rfl rfl)
theorem dX1_stepRead_70 : decode cX1_stepRead 70 = .ok (.invokevirtual 189, 3) := dk_182 0 189 (dk_at dksX1_stepRead_3 0 rfl rfl)
theorem dX1_stepRead_73 : decode cX1_stepRead 73 = .ok (.iastore, 1) := dk_79 (dk_at dksX1_stepRead_3 3 rfl rfl)
theorem dX1_stepRead_74 : decode cX1_stepRead 74 = .ok (.aload_n 0, 1) := dk_42 (dk_at dksX1_stepRead_3 4 rfl rfl)
theorem dX1_stepRead_75 : decode cX1_stepRead 75 = .ok (.getfield 48, 3) := dk_180 0 48 (dk_at dksX1_stepRead_3 5 rfl rfl)
theorem dX1_stepRead_78 : decode cX1_stepRead 78 = .ok (.iload_n 1, 1) := dk_27 (dk_at dksX1_stepRead_3 8 rfl rfl)
theorem dX1_stepRead_79 : decode cX1_stepRead 79 = .ok (.iconst 2, 1) := dk_5 (dk_at dksX1_stepRead_3 9 rfl rfl)
theorem dX1_stepRead_80 : decode cX1_stepRead 80 = .ok (.iadd, 1) := dk_96 (dk_at dksX1_stepRead_3 10 rfl rfl)
theorem dX1_stepRead_81 : decode cX1_stepRead 81 = .ok (.iload_n 2, 1) := dk_28 (dk_at dksX1_stepRead_3 11 rfl rfl)
theorem dX1_stepRead_82 : decode cX1_stepRead 82 = .ok (.iconst 2, 1) := dk_5 (dk_at dksX1_stepRead_3 12 rfl rfl)
theorem dX1_stepRead_83 : decode cX1_stepRead 83 = .ok (.if_icmp .lt 8, 3) := dk_161 0 8 (dk_at dksX1_stepRead_3 13 rfl rfl)
theorem dX1_stepRead_86 : decode cX1_stepRead 86 = .ok (.iload_n 2, 1) := dk_28 (dk_at dksX1_stepRead_3 16 rfl rfl)
theorem dX1_stepRead_87 : decode cX1_stepRead 87 = .ok (.iconst 5, 1) := dk_8 (dk_at dksX1_stepRead_3 17 rfl rfl)
theorem dX1_stepRead_88 : decode cX1_stepRead 88 = .ok (.if_icmp .ne 8, 3) := dk_160 0 8 (dk_at dksX1_stepRead_3 18 rfl rfl)
theorem dX1_stepRead_91 : decode cX1_stepRead 91 = .ok (.ldc 188, 2) := dk_18 188 (dk_at dksX1_stepRead_3 21 rfl rfl)
theorem dX1_stepRead_93 : decode cX1_stepRead 93 = .ok (.goto 7, 3) := dk_167 0 7 (dk_at dksX1_stepRead_4 0 rfl rfl)
theorem dX1_stepRead_96 : decode cX1_stepRead 96 = .ok (.aload_n 0, 1) := dk_42 (dk_at dksX1_stepRead_4 3 rfl rfl)
theorem dX1_stepRead_97 : decode cX1_stepRead 97 = .ok (.invokevirtual 189, 3) := dk_182 0 189 (dk_at dksX1_stepRead_4 4 rfl rfl)
theorem dX1_stepRead_100 : decode cX1_stepRead 100 = .ok (.iastore, 1) := dk_79 (dk_at dksX1_stepRead_4 7 rfl rfl)
theorem dX1_stepRead_101 : decode cX1_stepRead 101 = .ok (.aload_n 0, 1) := dk_42 (dk_at dksX1_stepRead_4 8 rfl rfl)
theorem dX1_stepRead_102 : decode cX1_stepRead 102 = .ok (.getfield 48, 3) := dk_180 0 48 (dk_at dksX1_stepRead_4 9 rfl rfl)
theorem dX1_stepRead_105 : decode cX1_stepRead 105 = .ok (.iload_n 1, 1) := dk_27 (dk_at dksX1_stepRead_4 12 rfl rfl)
theorem dX1_stepRead_106 : decode cX1_stepRead 106 = .ok (.iconst 3, 1) := dk_6 (dk_at dksX1_stepRead_4 13 rfl rfl)
theorem dX1_stepRead_107 : decode cX1_stepRead 107 = .ok (.iadd, 1) := dk_96 (dk_at dksX1_stepRead_4 14 rfl rfl)
theorem dX1_stepRead_108 : decode cX1_stepRead 108 = .ok (.ldc 188, 2) := dk_18 188 (dk_at dksX1_stepRead_4 15 rfl rfl)
theorem dX1_stepRead_110 : decode cX1_stepRead 110 = .ok (.iastore, 1) := dk_79 (dk_at dksX1_stepRead_4 17 rfl rfl)
theorem dX1_stepRead_111 : decode cX1_stepRead 111 = .ok (.iload_n 2, 1) := dk_28 (dk_at dksX1_stepRead_4 18 rfl rfl)
theorem dX1_stepRead_112 : decode cX1_stepRead 112 = .ok (.bipush 6, 2) := dk_16 6 (dk_at dksX1_stepRead_4 19 rfl rfl)
theorem dX1_stepRead_114 : decode cX1_stepRead 114 = .ok (.if_icmp .eq 4, 3) := dk_159 0 4 (dk_at dksX1_stepRead_4 21 rfl rfl)
theorem dX1_stepRead_117 : decode cX1_stepRead 117 = .ok (.return_, 1) := dk_177 (dk_at dksX1_stepRead_5 0 rfl rfl)
theorem dX1_stepRead_118 : decode cX1_stepRead 118 = .ok (.aload_n 0, 1) := dk_42 (dk_at dksX1_stepRead_5 1 rfl rfl)
theorem dX1_stepRead_119 : decode cX1_stepRead 119 = .ok (.aload_n 0, 1) := dk_42 (dk_at dksX1_stepRead_5 2 rfl rfl)
theorem dX1_stepRead_120 : decode cX1_stepRead 120 = .ok (.invokevirtual 156, 3) := dk_182 0 156 (dk_at dksX1_stepRead_5 3 rfl rfl)
theorem dX1_stepRead_123 : decode cX1_stepRead 123 = .ok (.invokestatic 160, 3) := dk_184 0 160 (dk_at dksX1_stepRead_5 6 rfl rfl)
theorem dX1_stepRead_126 : decode cX1_stepRead 126 = .ok (.invokevirtual 177, 3) := dk_182 0 177 (dk_at dksX1_stepRead_5 9 rfl rfl)
theorem dX1_stepRead_129 : decode cX1_stepRead 129 = .ok (.aload_n 0, 1) := dk_42 (dk_at dksX1_stepRead_5 12 rfl rfl)
theorem dX1_stepRead_130 : decode cX1_stepRead 130 = .ok (.getfield 48, 3) := dk_180 0 48 (dk_at dksX1_stepRead_5 13 rfl rfl)
theorem dX1_stepRead_133 : decode cX1_stepRead 133 = .ok (.iload_n 1, 1) := dk_27 (dk_at dksX1_stepRead_5 16 rfl rfl)
theorem dX1_stepRead_134 : decode cX1_stepRead 134 = .ok (.iconst 3, 1) := dk_6 (dk_at dksX1_stepRead_5 17 rfl rfl)
theorem dX1_stepRead_135 : decode cX1_stepRead 135 = .ok (.iadd, 1) := dk_96 (dk_at dksX1_stepRead_5 18 rfl rfl)
theorem dX1_stepRead_136 : decode cX1_stepRead 136 = .ok (.aload_n 0, 1) := dk_42 (dk_at dksX1_stepRead_5 19 rfl rfl)
theorem dX1_stepRead_137 : decode cX1_stepRead 137 = .ok (.invokevirtual 156, 3) := dk_182 0 156 (dk_at dksX1_stepRead_5 20 rfl rfl)
theorem dX1_stepRead_140 : decode cX1_stepRead 140 = .ok (.invokestatic 167, 3) := dk_184 0 167 (dk_at dksX1_stepRead_6 0 rfl rfl)
theorem dX1_stepRead_143 : decode cX1_stepRead 143 = .ok (.iastore, 1) := dk_79 (dk_at dksX1_stepRead_6 3 rfl rfl)
theorem dX1_stepRead_144 : decode cX1_stepRead 144 = .ok (.aload_n 0, 1) := dk_42 (dk_at dksX1_stepRead_6 4 rfl rfl)
theorem dX1_stepRead_145 : decode cX1_stepRead 145 = .ok (.dup, 1) := dk_89 (dk_at dksX1_stepRead_6 5 rfl rfl)
theorem dX1_stepRead_146 : decode cX1_stepRead 146 = .ok (.getfield 153, 3) := dk_180 0 153 (dk_at dksX1_stepRead_6 6 rfl rfl)
theorem dX1_stepRead_149 : decode cX1_stepRead 149 = .ok (.iconst 1, 1) := dk_4 (dk_at dksX1_stepRead_6 9 rfl rfl)
theorem dX1_stepRead_150 : decode cX1_stepRead 150 = .ok (.iadd, 1) := dk_96 (dk_at dksX1_stepRead_6 10 rfl rfl)
theorem dX1_stepRead_151 : decode cX1_stepRead 151 = .ok (.putfield 153, 3) := dk_181 0 153 (dk_at dksX1_stepRead_6 11 rfl rfl)
theorem dX1_stepRead_154 : decode cX1_stepRead 154 = .ok (.return_, 1) := dk_177 (dk_at dksX1_stepRead_6 14 rfl rfl)
abbrev cX1_digit : ByteArray := prog_1_method_19_code
def yX1_digit : MethodName := ⟨RX1, "digit", "()I"⟩
def dkwX1_digit_1 : List UInt8 := [181, 0, 153, 27, 16, 48, 100, 172]
abbrev dktX1_digit_1 : List UInt8 := dkwX1_digit_1 ++ []
def dkwX1_digit_0 : List UInt8 := [42, 182, 0, 156, 60, 42, 27, 16, 48, 16, 57, 184, 0, 149, 182, 0, 177, 42, 89, 180, 0, 153, 4, 96]
abbrev dktX1_digit_0 : List UInt8 := dkwX1_digit_0 ++ dktX1_digit_1
theorem dksX1_digit_0 : cX1_digit.data.toList.drop 0 = dktX1_digit_0 := by decide +kernel
theorem dksX1_digit_1 : cX1_digit.data.toList.drop 24 = dktX1_digit_1 := dk_seg dksX1_digit_0 24 rfl rfl
theorem dX1_digit_0 : decode cX1_digit 0 = .ok (.aload_n 0, 1) := dk_42 (dk_at dksX1_digit_0 0 rfl rfl)
theorem dX1_digit_1 : decode cX1_digit 1 = .ok (.invokevirtual 156, 3) := dk_182 0 156 (dk_at dksX1_digit_0 1 rfl rfl)
theorem dX1_digit_4 : decode cX1_digit 4 = .ok (.istore_n 1, 1) := dk_60 (dk_at dksX1_digit_0 4 rfl rfl)
theorem dX1_digit_5 : decode cX1_digit 5 = .ok (.aload_n 0, 1) := dk_42 (dk_at dksX1_digit_0 5 rfl rfl)
theorem dX1_digit_6 : decode cX1_digit 6 = .ok (.iload_n 1, 1) := dk_27 (dk_at dksX1_digit_0 6 rfl rfl)
theorem dX1_digit_7 : decode cX1_digit 7 = .ok (.bipush 48, 2) := dk_16 48 (dk_at dksX1_digit_0 7 rfl rfl)
theorem dX1_digit_9 : decode cX1_digit 9 = .ok (.bipush 57, 2) := dk_16 57 (dk_at dksX1_digit_0 9 rfl rfl)
theorem dX1_digit_11 : decode cX1_digit 11 = .ok (.invokestatic 149, 3) := dk_184 0 149 (dk_at dksX1_digit_0 11 rfl rfl)
theorem dX1_digit_14 : decode cX1_digit 14 = .ok (.invokevirtual 177, 3) := dk_182 0 177 (dk_at dksX1_digit_0 14 rfl rfl)
theorem dX1_digit_17 : decode cX1_digit 17 = .ok (.aload_n 0, 1) := dk_42 (dk_at dksX1_digit_0 17 rfl rfl)
theorem dX1_digit_18 : decode cX1_digit 18 = .ok (.dup, 1) := dk_89 (dk_at dksX1_digit_0 18 rfl rfl)
theorem dX1_digit_19 : decode cX1_digit 19 = .ok (.getfield 153, 3) := dk_180 0 153 (dk_at dksX1_digit_0 19 rfl rfl)
theorem dX1_digit_22 : decode cX1_digit 22 = .ok (.iconst 1, 1) := dk_4 (dk_at dksX1_digit_0 22 rfl rfl)
theorem dX1_digit_23 : decode cX1_digit 23 = .ok (.iadd, 1) := dk_96 (dk_at dksX1_digit_0 23 rfl rfl)
theorem dX1_digit_24 : decode cX1_digit 24 = .ok (.putfield 153, 3) := dk_181 0 153 (dk_at dksX1_digit_1 0 rfl rfl)
theorem dX1_digit_27 : decode cX1_digit 27 = .ok (.iload_n 1, 1) := dk_27 (dk_at dksX1_digit_1 3 rfl rfl)
theorem dX1_digit_28 : decode cX1_digit 28 = .ok (.bipush 48, 2) := dk_16 48 (dk_at dksX1_digit_1 4 rfl rfl)
theorem dX1_digit_30 : decode cX1_digit 30 = .ok (.isub, 1) := dk_100 (dk_at dksX1_digit_1 6 rfl rfl)
theorem dX1_digit_31 : decode cX1_digit 31 = .ok (.ireturn, 1) := dk_172 (dk_at dksX1_digit_1 7 rfl rfl)
abbrev cX1_text : ByteArray := prog_1_method_25_code
def yX1_text : MethodName := ⟨RX1, "text", "(I)I"⟩
def dkwX1_text_2 : List UInt8 := [180, 0, 17, 172]
abbrev dktX1_text_2 : List UInt8 := dkwX1_text_2 ++ []
def dkwX1_text_1 : List UInt8 := [172, 42, 3, 181, 0, 146, 42, 42, 182, 0, 210, 182, 0, 213, 42, 3, 181, 0, 217, 42, 180, 0, 220]
abbrev dktX1_text_1 : List UInt8 := dkwX1_text_1 ++ dktX1_text_2
def dkwX1_text_0 : List UInt8 := [27, 4, 160, 0, 8, 42, 182, 0, 205, 172, 27, 154, 0, 12, 42, 3, 182, 0, 208, 2, 159, 0, 5, 2]
abbrev dktX1_text_0 : List UInt8 := dkwX1_text_0 ++ dktX1_text_1
theorem dksX1_text_0 : cX1_text.data.toList.drop 0 = dktX1_text_0 := by decide +kernel
theorem dksX1_text_1 : cX1_text.data.toList.drop 24 = dktX1_text_1 := dk_seg dksX1_text_0 24 rfl rfl
theorem dksX1_text_2 : cX1_text.data.toList.drop 47 = dktX1_text_2 := dk_seg dksX1_text_1 23 rfl rfl
theorem dX1_text_0 : decode cX1_text 0 = .ok (.iload_n 1, 1) := dk_27 (dk_at dksX1_text_0 0 rfl rfl)
theorem dX1_text_1 : decode cX1_text 1 = .ok (.iconst 1, 1) := dk_4 (dk_at dksX1_text_0 1 rfl rfl)
theorem dX1_text_2 : decode cX1_text 2 = .ok (.if_icmp .ne 8, 3) := dk_160 0 8 (dk_at dksX1_text_0 2 rfl rfl)
theorem dX1_text_5 : decode cX1_text 5 = .ok (.aload_n 0, 1) := dk_42 (dk_at dksX1_text_0 5 rfl rfl)
theorem dX1_text_6 : decode cX1_text 6 = .ok (.invokevirtual 205, 3) := dk_182 0 205 (dk_at dksX1_text_0 6 rfl rfl)
theorem dX1_text_9 : decode cX1_text 9 = .ok (.ireturn, 1) := dk_172 (dk_at dksX1_text_0 9 rfl rfl)
theorem dX1_text_10 : decode cX1_text 10 = .ok (.iload_n 1, 1) := dk_27 (dk_at dksX1_text_0 10 rfl rfl)
theorem dX1_text_11 : decode cX1_text 11 = .ok (.ifCond .ne 12, 3) := dk_154 0 12 (dk_at dksX1_text_0 11 rfl rfl)
theorem dX1_text_14 : decode cX1_text 14 = .ok (.aload_n 0, 1) := dk_42 (dk_at dksX1_text_0 14 rfl rfl)
theorem dX1_text_15 : decode cX1_text 15 = .ok (.iconst 0, 1) := dk_3 (dk_at dksX1_text_0 15 rfl rfl)
theorem dX1_text_16 : decode cX1_text 16 = .ok (.invokevirtual 208, 3) := dk_182 0 208 (dk_at dksX1_text_0 16 rfl rfl)
theorem dX1_text_19 : decode cX1_text 19 = .ok (.iconst (-1), 1) := dk_2 (dk_at dksX1_text_0 19 rfl rfl)
theorem dX1_text_20 : decode cX1_text 20 = .ok (.if_icmp .eq 5, 3) := dk_159 0 5 (dk_at dksX1_text_0 20 rfl rfl)
theorem dX1_text_23 : decode cX1_text 23 = .ok (.iconst (-1), 1) := dk_2 (dk_at dksX1_text_0 23 rfl rfl)
theorem dX1_text_24 : decode cX1_text 24 = .ok (.ireturn, 1) := dk_172 (dk_at dksX1_text_1 0 rfl rfl)
theorem dX1_text_25 : decode cX1_text 25 = .ok (.aload_n 0, 1) := dk_42 (dk_at dksX1_text_1 1 rfl rfl)
theorem dX1_text_26 : decode cX1_text 26 = .ok (.iconst 0, 1) := dk_3 (dk_at dksX1_text_1 2 rfl rfl)
theorem dX1_text_27 : decode cX1_text 27 = .ok (.putfield 146, 3) := dk_181 0 146 (dk_at dksX1_text_1 3 rfl rfl)
theorem dX1_text_30 : decode cX1_text 30 = .ok (.aload_n 0, 1) := dk_42 (dk_at dksX1_text_1 6 rfl rfl)
theorem dX1_text_31 : decode cX1_text 31 = .ok (.aload_n 0, 1) := dk_42 (dk_at dksX1_text_1 7 rfl rfl)
theorem dX1_text_32 : decode cX1_text 32 = .ok (.invokevirtual 210, 3) := dk_182 0 210 (dk_at dksX1_text_1 8 rfl rfl)
theorem dX1_text_35 : decode cX1_text 35 = .ok (.invokevirtual 213, 3) := dk_182 0 213 (dk_at dksX1_text_1 11 rfl rfl)
theorem dX1_text_38 : decode cX1_text 38 = .ok (.aload_n 0, 1) := dk_42 (dk_at dksX1_text_1 14 rfl rfl)
theorem dX1_text_39 : decode cX1_text 39 = .ok (.iconst 0, 1) := dk_3 (dk_at dksX1_text_1 15 rfl rfl)
theorem dX1_text_40 : decode cX1_text 40 = .ok (.putfield 217, 3) := dk_181 0 217 (dk_at dksX1_text_1 16 rfl rfl)
theorem dX1_text_43 : decode cX1_text 43 = .ok (.aload_n 0, 1) := dk_42 (dk_at dksX1_text_1 19 rfl rfl)
theorem dX1_text_44 : decode cX1_text 44 = .ok (.getfield 220, 3) := dk_180 0 220 (dk_at dksX1_text_1 20 rfl rfl)
theorem dX1_text_47 : decode cX1_text 47 = .ok (.getfield 17, 3) := dk_180 0 17 (dk_at dksX1_text_2 0 rfl rfl)
theorem dX1_text_50 : decode cX1_text 50 = .ok (.ireturn, 1) := dk_172 (dk_at dksX1_text_2 3 rfl rfl)
abbrev cX1_scriptRead : ByteArray := prog_1_method_23_code
def yX1_scriptRead : MethodName := ⟨RX1, "scriptRead", "()I"⟩
def dkwX1_scriptRead_1 : List UInt8 := [42, 3, 181, 0, 146, 42, 89, 180, 0, 202, 4, 96, 181, 0, 202, 42, 180, 0, 202, 4, 100, 172]
abbrev dktX1_scriptRead_1 : List UInt8 := dkwX1_scriptRead_1 ++ []
def dkwX1_scriptRead_0 : List UInt8 := [42, 180, 0, 202, 7, 160, 0, 5, 2, 172, 42, 42, 180, 0, 202, 182, 0, 199, 167, 0, 6, 76, 2, 172]
abbrev dktX1_scriptRead_0 : List UInt8 := dkwX1_scriptRead_0 ++ dktX1_scriptRead_1
theorem dksX1_scriptRead_0 : cX1_scriptRead.data.toList.drop 0 = dktX1_scriptRead_0 := by decide +kernel
theorem dksX1_scriptRead_1 : cX1_scriptRead.data.toList.drop 24 = dktX1_scriptRead_1 := dk_seg dksX1_scriptRead_0 24 rfl rfl
theorem dX1_scriptRead_0 : decode cX1_scriptRead 0 = .ok (.aload_n 0, 1) := dk_42 (dk_at dksX1_scriptRead_0 0 rfl rfl)
theorem dX1_scriptRead_1 : decode cX1_scriptRead 1 = .ok (.getfield 202, 3) := dk_180 0 202 (dk_at dksX1_scriptRead_0 1 rfl rfl)
theorem dX1_scriptRead_4 : decode cX1_scriptRead 4 = .ok (.iconst 4, 1) := dk_7 (dk_at dksX1_scriptRead_0 4 rfl rfl)
theorem dX1_scriptRead_5 : decode cX1_scriptRead 5 = .ok (.if_icmp .ne 5, 3) := dk_160 0 5 (dk_at dksX1_scriptRead_0 5 rfl rfl)
theorem dX1_scriptRead_8 : decode cX1_scriptRead 8 = .ok (.iconst (-1), 1) := dk_2 (dk_at dksX1_scriptRead_0 8 rfl rfl)
theorem dX1_scriptRead_9 : decode cX1_scriptRead 9 = .ok (.ireturn, 1) := dk_172 (dk_at dksX1_scriptRead_0 9 rfl rfl)
theorem dX1_scriptRead_10 : decode cX1_scriptRead 10 = .ok (.aload_n 0, 1) := dk_42 (dk_at dksX1_scriptRead_0 10 rfl rfl)
theorem dX1_scriptRead_11 : decode cX1_scriptRead 11 = .ok (.aload_n 0, 1) := dk_42 (dk_at dksX1_scriptRead_0 11 rfl rfl)
theorem dX1_scriptRead_12 : decode cX1_scriptRead 12 = .ok (.getfield 202, 3) := dk_180 0 202 (dk_at dksX1_scriptRead_0 12 rfl rfl)
theorem dX1_scriptRead_15 : decode cX1_scriptRead 15 = .ok (.invokevirtual 199, 3) := dk_182 0 199 (dk_at dksX1_scriptRead_0 15 rfl rfl)
theorem dX1_scriptRead_18 : decode cX1_scriptRead 18 = .ok (.goto 6, 3) := dk_167 0 6 (dk_at dksX1_scriptRead_0 18 rfl rfl)
theorem dX1_scriptRead_21 : decode cX1_scriptRead 21 = .ok (.astore_n 1, 1) := dk_76 (dk_at dksX1_scriptRead_0 21 rfl rfl)
theorem dX1_scriptRead_22 : decode cX1_scriptRead 22 = .ok (.iconst (-1), 1) := dk_2 (dk_at dksX1_scriptRead_0 22 rfl rfl)
theorem dX1_scriptRead_23 : decode cX1_scriptRead 23 = .ok (.ireturn, 1) := dk_172 (dk_at dksX1_scriptRead_0 23 rfl rfl)
theorem dX1_scriptRead_24 : decode cX1_scriptRead 24 = .ok (.aload_n 0, 1) := dk_42 (dk_at dksX1_scriptRead_1 0 rfl rfl)
theorem dX1_scriptRead_25 : decode cX1_scriptRead 25 = .ok (.iconst 0, 1) := dk_3 (dk_at dksX1_scriptRead_1 1 rfl rfl)
theorem dX1_scriptRead_26 : decode cX1_scriptRead 26 = .ok (.putfield 146, 3) := dk_181 0 146 (dk_at dksX1_scriptRead_1 2 rfl rfl)
theorem dX1_scriptRead_29 : decode cX1_scriptRead 29 = .ok (.aload_n 0, 1) := dk_42 (dk_at dksX1_scriptRead_1 5 rfl rfl)
theorem dX1_scriptRead_30 : decode cX1_scriptRead 30 = .ok (.dup, 1) := dk_89 (dk_at dksX1_scriptRead_1 6 rfl rfl)
theorem dX1_scriptRead_31 : decode cX1_scriptRead 31 = .ok (.getfield 202, 3) := dk_180 0 202 (dk_at dksX1_scriptRead_1 7 rfl rfl)
theorem dX1_scriptRead_34 : decode cX1_scriptRead 34 = .ok (.iconst 1, 1) := dk_4 (dk_at dksX1_scriptRead_1 10 rfl rfl)
theorem dX1_scriptRead_35 : decode cX1_scriptRead 35 = .ok (.iadd, 1) := dk_96 (dk_at dksX1_scriptRead_1 11 rfl rfl)
theorem dX1_scriptRead_36 : decode cX1_scriptRead 36 = .ok (.putfield 202, 3) := dk_181 0 202 (dk_at dksX1_scriptRead_1 12 rfl rfl)
theorem dX1_scriptRead_39 : decode cX1_scriptRead 39 = .ok (.aload_n 0, 1) := dk_42 (dk_at dksX1_scriptRead_1 15 rfl rfl)
theorem dX1_scriptRead_40 : decode cX1_scriptRead 40 = .ok (.getfield 202, 3) := dk_180 0 202 (dk_at dksX1_scriptRead_1 16 rfl rfl)
theorem dX1_scriptRead_43 : decode cX1_scriptRead 43 = .ok (.iconst 1, 1) := dk_4 (dk_at dksX1_scriptRead_1 19 rfl rfl)
theorem dX1_scriptRead_44 : decode cX1_scriptRead 44 = .ok (.isub, 1) := dk_100 (dk_at dksX1_scriptRead_1 20 rfl rfl)
theorem dX1_scriptRead_45 : decode cX1_scriptRead 45 = .ok (.ireturn, 1) := dk_172 (dk_at dksX1_scriptRead_1 21 rfl rfl)
abbrev cX1_readTable : ByteArray := prog_1_method_24_code
def yX1_readTable : MethodName := ⟨RX1, "readTable", "()LUnimodularTables$Table;"⟩
def dkwX1_readTable_2 : List UInt8 := [16, 6, 28, 104, 29, 96, 46, 79, 132, 3, 1, 167, 255, 226, 132, 2, 1, 167, 255, 210, 43, 176]
abbrev dktX1_readTable_2 : List UInt8 := dkwX1_readTable_2 ++ []
def dkwX1_readTable_1 : List UInt8 := [162, 0, 44, 3, 62, 29, 43, 180, 0, 9, 162, 0, 28, 43, 180, 0, 13, 28, 50, 29, 42, 180, 0, 44]
abbrev dktX1_readTable_1 : List UInt8 := dkwX1_readTable_1 ++ dktX1_readTable_2
def dkwX1_readTable_0 : List UInt8 := [187, 0, 4, 89, 42, 180, 0, 164, 42, 180, 0, 174, 183, 0, 20, 76, 3, 61, 28, 43, 180, 0, 17]
abbrev dktX1_readTable_0 : List UInt8 := dkwX1_readTable_0 ++ dktX1_readTable_1
theorem dksX1_readTable_0 : cX1_readTable.data.toList.drop 0 = dktX1_readTable_0 := by decide +kernel
theorem dksX1_readTable_1 : cX1_readTable.data.toList.drop 23 = dktX1_readTable_1 := dk_seg dksX1_readTable_0 23 rfl rfl
theorem dksX1_readTable_2 : cX1_readTable.data.toList.drop 47 = dktX1_readTable_2 := dk_seg dksX1_readTable_1 24 rfl rfl
theorem dX1_readTable_0 : decode cX1_readTable 0 = .ok (.new 4, 3) := dk_187 0 4 (dk_at dksX1_readTable_0 0 rfl rfl)
theorem dX1_readTable_3 : decode cX1_readTable 3 = .ok (.dup, 1) := dk_89 (dk_at dksX1_readTable_0 3 rfl rfl)
theorem dX1_readTable_4 : decode cX1_readTable 4 = .ok (.aload_n 0, 1) := dk_42 (dk_at dksX1_readTable_0 4 rfl rfl)
theorem dX1_readTable_5 : decode cX1_readTable 5 = .ok (.getfield 164, 3) := dk_180 0 164 (dk_at dksX1_readTable_0 5 rfl rfl)
theorem dX1_readTable_8 : decode cX1_readTable 8 = .ok (.aload_n 0, 1) := dk_42 (dk_at dksX1_readTable_0 8 rfl rfl)
theorem dX1_readTable_9 : decode cX1_readTable 9 = .ok (.getfield 174, 3) := dk_180 0 174 (dk_at dksX1_readTable_0 9 rfl rfl)
theorem dX1_readTable_12 : decode cX1_readTable 12 = .ok (.invokespecial 20, 3) := dk_183 0 20 (dk_at dksX1_readTable_0 12 rfl rfl)
theorem dX1_readTable_15 : decode cX1_readTable 15 = .ok (.astore_n 1, 1) := dk_76 (dk_at dksX1_readTable_0 15 rfl rfl)
theorem dX1_readTable_16 : decode cX1_readTable 16 = .ok (.iconst 0, 1) := dk_3 (dk_at dksX1_readTable_0 16 rfl rfl)
theorem dX1_readTable_17 : decode cX1_readTable 17 = .ok (.istore_n 2, 1) := dk_61 (dk_at dksX1_readTable_0 17 rfl rfl)
theorem dX1_readTable_18 : decode cX1_readTable 18 = .ok (.iload_n 2, 1) := dk_28 (dk_at dksX1_readTable_0 18 rfl rfl)
theorem dX1_readTable_19 : decode cX1_readTable 19 = .ok (.aload_n 1, 1) := dk_43 (dk_at dksX1_readTable_0 19 rfl rfl)
theorem dX1_readTable_20 : decode cX1_readTable 20 = .ok (.getfield 17, 3) := dk_180 0 17 (dk_at dksX1_readTable_0 20 rfl rfl)
theorem dX1_readTable_23 : decode cX1_readTable 23 = .ok (.if_icmp .ge 44, 3) := dk_162 0 44 (dk_at dksX1_readTable_1 0 rfl rfl)
theorem dX1_readTable_26 : decode cX1_readTable 26 = .ok (.iconst 0, 1) := dk_3 (dk_at dksX1_readTable_1 3 rfl rfl)
theorem dX1_readTable_27 : decode cX1_readTable 27 = .ok (.istore_n 3, 1) := dk_62 (dk_at dksX1_readTable_1 4 rfl rfl)
theorem dX1_readTable_28 : decode cX1_readTable 28 = .ok (.iload_n 3, 1) := dk_29 (dk_at dksX1_readTable_1 5 rfl rfl)
theorem dX1_readTable_29 : decode cX1_readTable 29 = .ok (.aload_n 1, 1) := dk_43 (dk_at dksX1_readTable_1 6 rfl rfl)
theorem dX1_readTable_30 : decode cX1_readTable 30 = .ok (.getfield 9, 3) := dk_180 0 9 (dk_at dksX1_readTable_1 7 rfl rfl)
theorem dX1_readTable_33 : decode cX1_readTable 33 = .ok (.if_icmp .ge 28, 3) := dk_162 0 28 (dk_at dksX1_readTable_1 10 rfl rfl)
theorem dX1_readTable_36 : decode cX1_readTable 36 = .ok (.aload_n 1, 1) := dk_43 (dk_at dksX1_readTable_1 13 rfl rfl)
theorem dX1_readTable_37 : decode cX1_readTable 37 = .ok (.getfield 13, 3) := dk_180 0 13 (dk_at dksX1_readTable_1 14 rfl rfl)
theorem dX1_readTable_40 : decode cX1_readTable 40 = .ok (.iload_n 2, 1) := dk_28 (dk_at dksX1_readTable_1 17 rfl rfl)
theorem dX1_readTable_41 : decode cX1_readTable 41 = .ok (.aaload, 1) := dk_50 (dk_at dksX1_readTable_1 18 rfl rfl)
theorem dX1_readTable_42 : decode cX1_readTable 42 = .ok (.iload_n 3, 1) := dk_29 (dk_at dksX1_readTable_1 19 rfl rfl)
theorem dX1_readTable_43 : decode cX1_readTable 43 = .ok (.aload_n 0, 1) := dk_42 (dk_at dksX1_readTable_1 20 rfl rfl)
theorem dX1_readTable_44 : decode cX1_readTable 44 = .ok (.getfield 44, 3) := dk_180 0 44 (dk_at dksX1_readTable_1 21 rfl rfl)
theorem dX1_readTable_47 : decode cX1_readTable 47 = .ok (.bipush 6, 2) := dk_16 6 (dk_at dksX1_readTable_2 0 rfl rfl)
theorem dX1_readTable_49 : decode cX1_readTable 49 = .ok (.iload_n 2, 1) := dk_28 (dk_at dksX1_readTable_2 2 rfl rfl)
theorem dX1_readTable_50 : decode cX1_readTable 50 = .ok (.imul, 1) := dk_104 (dk_at dksX1_readTable_2 3 rfl rfl)
theorem dX1_readTable_51 : decode cX1_readTable 51 = .ok (.iload_n 3, 1) := dk_29 (dk_at dksX1_readTable_2 4 rfl rfl)
theorem dX1_readTable_52 : decode cX1_readTable 52 = .ok (.iadd, 1) := dk_96 (dk_at dksX1_readTable_2 5 rfl rfl)
theorem dX1_readTable_53 : decode cX1_readTable 53 = .ok (.iaload, 1) := dk_46 (dk_at dksX1_readTable_2 6 rfl rfl)
theorem dX1_readTable_54 : decode cX1_readTable 54 = .ok (.iastore, 1) := dk_79 (dk_at dksX1_readTable_2 7 rfl rfl)
theorem dX1_readTable_55 : decode cX1_readTable 55 = .ok (.iinc 3 1, 3) := dk_132 3 1 (dk_at dksX1_readTable_2 8 rfl rfl)
theorem dX1_readTable_58 : decode cX1_readTable 58 = .ok (.goto (-30), 3) := dk_167 255 226 (dk_at dksX1_readTable_2 11 rfl rfl)
theorem dX1_readTable_61 : decode cX1_readTable 61 = .ok (.iinc 2 1, 3) := dk_132 2 1 (dk_at dksX1_readTable_2 14 rfl rfl)
theorem dX1_readTable_64 : decode cX1_readTable 64 = .ok (.goto (-46), 3) := dk_167 255 210 (dk_at dksX1_readTable_2 17 rfl rfl)
theorem dX1_readTable_67 : decode cX1_readTable 67 = .ok (.aload_n 1, 1) := dk_43 (dk_at dksX1_readTable_2 20 rfl rfl)
theorem dX1_readTable_68 : decode cX1_readTable 68 = .ok (.areturn, 1) := dk_176 (dk_at dksX1_readTable_2 21 rfl rfl)
abbrev cX1_become : ByteArray := prog_1_method_26_code
def yX1_become : MethodName := ⟨RX1, "become", "(LUnimodularTables$Table;)V"⟩
def dkwX1_become_1 : List UInt8 := [4, 50, 3, 181, 0, 227, 177]
abbrev dktX1_become_1 : List UInt8 := dkwX1_become_1 ++ []
def dkwX1_become_0 : List UInt8 := [42, 43, 181, 0, 220, 42, 3, 181, 0, 223, 42, 180, 0, 81, 3, 50, 3, 181, 0, 227, 42, 180, 0, 81]
abbrev dktX1_become_0 : List UInt8 := dkwX1_become_0 ++ dktX1_become_1
theorem dksX1_become_0 : cX1_become.data.toList.drop 0 = dktX1_become_0 := by decide +kernel
theorem dksX1_become_1 : cX1_become.data.toList.drop 24 = dktX1_become_1 := dk_seg dksX1_become_0 24 rfl rfl
theorem dX1_become_0 : decode cX1_become 0 = .ok (.aload_n 0, 1) := dk_42 (dk_at dksX1_become_0 0 rfl rfl)
theorem dX1_become_1 : decode cX1_become 1 = .ok (.aload_n 1, 1) := dk_43 (dk_at dksX1_become_0 1 rfl rfl)
theorem dX1_become_2 : decode cX1_become 2 = .ok (.putfield 220, 3) := dk_181 0 220 (dk_at dksX1_become_0 2 rfl rfl)
theorem dX1_become_5 : decode cX1_become 5 = .ok (.aload_n 0, 1) := dk_42 (dk_at dksX1_become_0 5 rfl rfl)
theorem dX1_become_6 : decode cX1_become 6 = .ok (.iconst 0, 1) := dk_3 (dk_at dksX1_become_0 6 rfl rfl)
theorem dX1_become_7 : decode cX1_become 7 = .ok (.putfield 223, 3) := dk_181 0 223 (dk_at dksX1_become_0 7 rfl rfl)
theorem dX1_become_10 : decode cX1_become 10 = .ok (.aload_n 0, 1) := dk_42 (dk_at dksX1_become_0 10 rfl rfl)
theorem dX1_become_11 : decode cX1_become 11 = .ok (.getfield 81, 3) := dk_180 0 81 (dk_at dksX1_become_0 11 rfl rfl)
theorem dX1_become_14 : decode cX1_become 14 = .ok (.iconst 0, 1) := dk_3 (dk_at dksX1_become_0 14 rfl rfl)
theorem dX1_become_15 : decode cX1_become 15 = .ok (.aaload, 1) := dk_50 (dk_at dksX1_become_0 15 rfl rfl)
theorem dX1_become_16 : decode cX1_become 16 = .ok (.iconst 0, 1) := dk_3 (dk_at dksX1_become_0 16 rfl rfl)
theorem dX1_become_17 : decode cX1_become 17 = .ok (.putfield 227, 3) := dk_181 0 227 (dk_at dksX1_become_0 17 rfl rfl)
theorem dX1_become_20 : decode cX1_become 20 = .ok (.aload_n 0, 1) := dk_42 (dk_at dksX1_become_0 20 rfl rfl)
theorem dX1_become_21 : decode cX1_become 21 = .ok (.getfield 81, 3) := dk_180 0 81 (dk_at dksX1_become_0 21 rfl rfl)
theorem dX1_become_24 : decode cX1_become 24 = .ok (.iconst 1, 1) := dk_4 (dk_at dksX1_become_1 0 rfl rfl)
theorem dX1_become_25 : decode cX1_become 25 = .ok (.aaload, 1) := dk_50 (dk_at dksX1_become_1 1 rfl rfl)
theorem dX1_become_26 : decode cX1_become 26 = .ok (.iconst 0, 1) := dk_3 (dk_at dksX1_become_1 2 rfl rfl)
theorem dX1_become_27 : decode cX1_become 27 = .ok (.putfield 227, 3) := dk_181 0 227 (dk_at dksX1_become_1 3 rfl rfl)
theorem dX1_become_30 : decode cX1_become 30 = .ok (.return_, 1) := dk_177 (dk_at dksX1_become_1 6 rfl rfl)
abbrev cX1_change : ByteArray := prog_1_method_38_code
def yX1_change : MethodName := ⟨RX1, "change", "(III)I"⟩
def dkwX1_change_1 : List UInt8 := [180, 0, 13, 27, 50, 28, 46, 54, 4, 42, 27, 28, 29, 182, 1, 18, 21, 4, 172]
abbrev dktX1_change_1 : List UInt8 := dkwX1_change_1 ++ []
def dkwX1_change_0 : List UInt8 := [42, 42, 180, 0, 220, 27, 28, 29, 184, 1, 11, 182, 1, 15, 153, 0, 6, 18, 188, 172, 42, 180, 0, 220]
abbrev dktX1_change_0 : List UInt8 := dkwX1_change_0 ++ dktX1_change_1
theorem dksX1_change_0 : cX1_change.data.toList.drop 0 = dktX1_change_0 := by decide +kernel
theorem dksX1_change_1 : cX1_change.data.toList.drop 24 = dktX1_change_1 := dk_seg dksX1_change_0 24 rfl rfl
theorem dX1_change_0 : decode cX1_change 0 = .ok (.aload_n 0, 1) := dk_42 (dk_at dksX1_change_0 0 rfl rfl)
theorem dX1_change_1 : decode cX1_change 1 = .ok (.aload_n 0, 1) := dk_42 (dk_at dksX1_change_0 1 rfl rfl)
theorem dX1_change_2 : decode cX1_change 2 = .ok (.getfield 220, 3) := dk_180 0 220 (dk_at dksX1_change_0 2 rfl rfl)
theorem dX1_change_5 : decode cX1_change 5 = .ok (.iload_n 1, 1) := dk_27 (dk_at dksX1_change_0 5 rfl rfl)
theorem dX1_change_6 : decode cX1_change 6 = .ok (.iload_n 2, 1) := dk_28 (dk_at dksX1_change_0 6 rfl rfl)
theorem dX1_change_7 : decode cX1_change 7 = .ok (.iload_n 3, 1) := dk_29 (dk_at dksX1_change_0 7 rfl rfl)
theorem dX1_change_8 : decode cX1_change 8 = .ok (.invokestatic 267, 3) := dk_184 1 11 (dk_at dksX1_change_0 8 rfl rfl)
theorem dX1_change_11 : decode cX1_change 11 = .ok (.invokevirtual 271, 3) := dk_182 1 15 (dk_at dksX1_change_0 11 rfl rfl)
theorem dX1_change_14 : decode cX1_change 14 = .ok (.ifCond .eq 6, 3) := dk_153 0 6 (dk_at dksX1_change_0 14 rfl rfl)
theorem dX1_change_17 : decode cX1_change 17 = .ok (.ldc 188, 2) := dk_18 188 (dk_at dksX1_change_0 17 rfl rfl)
theorem dX1_change_19 : decode cX1_change 19 = .ok (.ireturn, 1) := dk_172 (dk_at dksX1_change_0 19 rfl rfl)
theorem dX1_change_20 : decode cX1_change 20 = .ok (.aload_n 0, 1) := dk_42 (dk_at dksX1_change_0 20 rfl rfl)
theorem dX1_change_21 : decode cX1_change 21 = .ok (.getfield 220, 3) := dk_180 0 220 (dk_at dksX1_change_0 21 rfl rfl)
theorem dX1_change_24 : decode cX1_change 24 = .ok (.getfield 13, 3) := dk_180 0 13 (dk_at dksX1_change_1 0 rfl rfl)
theorem dX1_change_27 : decode cX1_change 27 = .ok (.iload_n 1, 1) := dk_27 (dk_at dksX1_change_1 3 rfl rfl)
theorem dX1_change_28 : decode cX1_change 28 = .ok (.aaload, 1) := dk_50 (dk_at dksX1_change_1 4 rfl rfl)
theorem dX1_change_29 : decode cX1_change 29 = .ok (.iload_n 2, 1) := dk_28 (dk_at dksX1_change_1 5 rfl rfl)
theorem dX1_change_30 : decode cX1_change 30 = .ok (.iaload, 1) := dk_46 (dk_at dksX1_change_1 6 rfl rfl)
theorem dX1_change_31 : decode cX1_change 31 = .ok (.istore 4, 2) := dk_54 4 (dk_at dksX1_change_1 7 rfl rfl)
theorem dX1_change_33 : decode cX1_change 33 = .ok (.aload_n 0, 1) := dk_42 (dk_at dksX1_change_1 9 rfl rfl)
theorem dX1_change_34 : decode cX1_change 34 = .ok (.iload_n 1, 1) := dk_27 (dk_at dksX1_change_1 10 rfl rfl)
theorem dX1_change_35 : decode cX1_change 35 = .ok (.iload_n 2, 1) := dk_28 (dk_at dksX1_change_1 11 rfl rfl)
theorem dX1_change_36 : decode cX1_change 36 = .ok (.iload_n 3, 1) := dk_29 (dk_at dksX1_change_1 12 rfl rfl)
theorem dX1_change_37 : decode cX1_change 37 = .ok (.invokevirtual 274, 3) := dk_182 1 18 (dk_at dksX1_change_1 13 rfl rfl)
theorem dX1_change_40 : decode cX1_change 40 = .ok (.iload 4, 2) := dk_21 4 (dk_at dksX1_change_1 16 rfl rfl)
theorem dX1_change_42 : decode cX1_change 42 = .ok (.ireturn, 1) := dk_172 (dk_at dksX1_change_1 18 rfl rfl)
abbrev cX1_whyNotSet : ByteArray := prog_1_method_35_code
def yX1_whyNotSet : MethodName := ⟨RX1, "whyNotSet", "(LUnimodularTables$Table;III)I"⟩
def dkwX1_whyNotSet_2 : List UInt8 := [160, 0, 7, 5, 167, 0, 4, 2, 172]
abbrev dktX1_whyNotSet_2 : List UInt8 := dkwX1_whyNotSet_2 ++ []
def dkwX1_whyNotSet_1 : List UInt8 := [29, 2, 4, 184, 0, 149, 154, 0, 7, 4, 167, 0, 20, 42, 180, 0, 13, 27, 50, 28, 46, 29]
abbrev dktX1_whyNotSet_1 : List UInt8 := dkwX1_whyNotSet_1 ++ dktX1_whyNotSet_2
def dkwX1_whyNotSet_0 : List UInt8 := [42, 199, 0, 7, 3, 167, 0, 49, 42, 27, 184, 0, 242, 153, 0, 20, 42, 28, 184, 0, 246, 153, 0, 12]
abbrev dktX1_whyNotSet_0 : List UInt8 := dkwX1_whyNotSet_0 ++ dktX1_whyNotSet_1
theorem dksX1_whyNotSet_0 : cX1_whyNotSet.data.toList.drop 0 = dktX1_whyNotSet_0 := by decide +kernel
theorem dksX1_whyNotSet_1 : cX1_whyNotSet.data.toList.drop 24 = dktX1_whyNotSet_1 := dk_seg dksX1_whyNotSet_0 24 rfl rfl
theorem dksX1_whyNotSet_2 : cX1_whyNotSet.data.toList.drop 46 = dktX1_whyNotSet_2 := dk_seg dksX1_whyNotSet_1 22 rfl rfl
theorem dX1_whyNotSet_0 : decode cX1_whyNotSet 0 = .ok (.aload_n 0, 1) := dk_42 (dk_at dksX1_whyNotSet_0 0 rfl rfl)
theorem dX1_whyNotSet_1 : decode cX1_whyNotSet 1 = .ok (.ifnonnull 7, 3) := dk_199 0 7 (dk_at dksX1_whyNotSet_0 1 rfl rfl)
theorem dX1_whyNotSet_4 : decode cX1_whyNotSet 4 = .ok (.iconst 0, 1) := dk_3 (dk_at dksX1_whyNotSet_0 4 rfl rfl)
theorem dX1_whyNotSet_5 : decode cX1_whyNotSet 5 = .ok (.goto 49, 3) := dk_167 0 49 (dk_at dksX1_whyNotSet_0 5 rfl rfl)
theorem dX1_whyNotSet_8 : decode cX1_whyNotSet 8 = .ok (.aload_n 0, 1) := dk_42 (dk_at dksX1_whyNotSet_0 8 rfl rfl)
theorem dX1_whyNotSet_9 : decode cX1_whyNotSet 9 = .ok (.iload_n 1, 1) := dk_27 (dk_at dksX1_whyNotSet_0 9 rfl rfl)
theorem dX1_whyNotSet_10 : decode cX1_whyNotSet 10 = .ok (.invokestatic 242, 3) := dk_184 0 242 (dk_at dksX1_whyNotSet_0 10 rfl rfl)
theorem dX1_whyNotSet_13 : decode cX1_whyNotSet 13 = .ok (.ifCond .eq 20, 3) := dk_153 0 20 (dk_at dksX1_whyNotSet_0 13 rfl rfl)
theorem dX1_whyNotSet_16 : decode cX1_whyNotSet 16 = .ok (.aload_n 0, 1) := dk_42 (dk_at dksX1_whyNotSet_0 16 rfl rfl)
theorem dX1_whyNotSet_17 : decode cX1_whyNotSet 17 = .ok (.iload_n 2, 1) := dk_28 (dk_at dksX1_whyNotSet_0 17 rfl rfl)
theorem dX1_whyNotSet_18 : decode cX1_whyNotSet 18 = .ok (.invokestatic 246, 3) := dk_184 0 246 (dk_at dksX1_whyNotSet_0 18 rfl rfl)
theorem dX1_whyNotSet_21 : decode cX1_whyNotSet 21 = .ok (.ifCond .eq 12, 3) := dk_153 0 12 (dk_at dksX1_whyNotSet_0 21 rfl rfl)
theorem dX1_whyNotSet_24 : decode cX1_whyNotSet 24 = .ok (.iload_n 3, 1) := dk_29 (dk_at dksX1_whyNotSet_1 0 rfl rfl)
theorem dX1_whyNotSet_25 : decode cX1_whyNotSet 25 = .ok (.iconst (-1), 1) := dk_2 (dk_at dksX1_whyNotSet_1 1 rfl rfl)
theorem dX1_whyNotSet_26 : decode cX1_whyNotSet 26 = .ok (.iconst 1, 1) := dk_4 (dk_at dksX1_whyNotSet_1 2 rfl rfl)
theorem dX1_whyNotSet_27 : decode cX1_whyNotSet 27 = .ok (.invokestatic 149, 3) := dk_184 0 149 (dk_at dksX1_whyNotSet_1 3 rfl rfl)
theorem dX1_whyNotSet_30 : decode cX1_whyNotSet 30 = .ok (.ifCond .ne 7, 3) := dk_154 0 7 (dk_at dksX1_whyNotSet_1 6 rfl rfl)
theorem dX1_whyNotSet_33 : decode cX1_whyNotSet 33 = .ok (.iconst 1, 1) := dk_4 (dk_at dksX1_whyNotSet_1 9 rfl rfl)
theorem dX1_whyNotSet_34 : decode cX1_whyNotSet 34 = .ok (.goto 20, 3) := dk_167 0 20 (dk_at dksX1_whyNotSet_1 10 rfl rfl)
theorem dX1_whyNotSet_37 : decode cX1_whyNotSet 37 = .ok (.aload_n 0, 1) := dk_42 (dk_at dksX1_whyNotSet_1 13 rfl rfl)
theorem dX1_whyNotSet_38 : decode cX1_whyNotSet 38 = .ok (.getfield 13, 3) := dk_180 0 13 (dk_at dksX1_whyNotSet_1 14 rfl rfl)
theorem dX1_whyNotSet_41 : decode cX1_whyNotSet 41 = .ok (.iload_n 1, 1) := dk_27 (dk_at dksX1_whyNotSet_1 17 rfl rfl)
theorem dX1_whyNotSet_42 : decode cX1_whyNotSet 42 = .ok (.aaload, 1) := dk_50 (dk_at dksX1_whyNotSet_1 18 rfl rfl)
theorem dX1_whyNotSet_43 : decode cX1_whyNotSet 43 = .ok (.iload_n 2, 1) := dk_28 (dk_at dksX1_whyNotSet_1 19 rfl rfl)
theorem dX1_whyNotSet_44 : decode cX1_whyNotSet 44 = .ok (.iaload, 1) := dk_46 (dk_at dksX1_whyNotSet_1 20 rfl rfl)
theorem dX1_whyNotSet_45 : decode cX1_whyNotSet 45 = .ok (.iload_n 3, 1) := dk_29 (dk_at dksX1_whyNotSet_1 21 rfl rfl)
theorem dX1_whyNotSet_46 : decode cX1_whyNotSet 46 = .ok (.if_icmp .ne 7, 3) := dk_160 0 7 (dk_at dksX1_whyNotSet_2 0 rfl rfl)
theorem dX1_whyNotSet_49 : decode cX1_whyNotSet 49 = .ok (.iconst 2, 1) := dk_5 (dk_at dksX1_whyNotSet_2 3 rfl rfl)
theorem dX1_whyNotSet_50 : decode cX1_whyNotSet 50 = .ok (.goto 4, 3) := dk_167 0 4 (dk_at dksX1_whyNotSet_2 4 rfl rfl)
theorem dX1_whyNotSet_53 : decode cX1_whyNotSet 53 = .ok (.iconst (-1), 1) := dk_2 (dk_at dksX1_whyNotSet_2 7 rfl rfl)
theorem dX1_whyNotSet_54 : decode cX1_whyNotSet 54 = .ok (.ireturn, 1) := dk_172 (dk_at dksX1_whyNotSet_2 8 rfl rfl)
abbrev cX1_isRow : ByteArray := prog_1_method_30_code
def yX1_isRow : MethodName := ⟨RX1, "isRow", "(LUnimodularTables$Table;I)Z"⟩
def dkwX1_isRow_0 : List UInt8 := [27, 3, 42, 180, 0, 17, 4, 100, 184, 0, 149, 172]
abbrev dktX1_isRow_0 : List UInt8 := dkwX1_isRow_0 ++ []
theorem dksX1_isRow_0 : cX1_isRow.data.toList.drop 0 = dktX1_isRow_0 := by decide +kernel
theorem dX1_isRow_0 : decode cX1_isRow 0 = .ok (.iload_n 1, 1) := dk_27 (dk_at dksX1_isRow_0 0 rfl rfl)
theorem dX1_isRow_1 : decode cX1_isRow 1 = .ok (.iconst 0, 1) := dk_3 (dk_at dksX1_isRow_0 1 rfl rfl)
theorem dX1_isRow_2 : decode cX1_isRow 2 = .ok (.aload_n 0, 1) := dk_42 (dk_at dksX1_isRow_0 2 rfl rfl)
theorem dX1_isRow_3 : decode cX1_isRow 3 = .ok (.getfield 17, 3) := dk_180 0 17 (dk_at dksX1_isRow_0 3 rfl rfl)
theorem dX1_isRow_6 : decode cX1_isRow 6 = .ok (.iconst 1, 1) := dk_4 (dk_at dksX1_isRow_0 6 rfl rfl)
theorem dX1_isRow_7 : decode cX1_isRow 7 = .ok (.isub, 1) := dk_100 (dk_at dksX1_isRow_0 7 rfl rfl)
theorem dX1_isRow_8 : decode cX1_isRow 8 = .ok (.invokestatic 149, 3) := dk_184 0 149 (dk_at dksX1_isRow_0 8 rfl rfl)
theorem dX1_isRow_11 : decode cX1_isRow 11 = .ok (.ireturn, 1) := dk_172 (dk_at dksX1_isRow_0 11 rfl rfl)
abbrev cX1_isColumn : ByteArray := prog_1_method_31_code
def yX1_isColumn : MethodName := ⟨RX1, "isColumn", "(LUnimodularTables$Table;I)Z"⟩
def dkwX1_isColumn_0 : List UInt8 := [27, 3, 42, 180, 0, 9, 4, 100, 184, 0, 149, 172]
abbrev dktX1_isColumn_0 : List UInt8 := dkwX1_isColumn_0 ++ []
theorem dksX1_isColumn_0 : cX1_isColumn.data.toList.drop 0 = dktX1_isColumn_0 := by decide +kernel
theorem dX1_isColumn_0 : decode cX1_isColumn 0 = .ok (.iload_n 1, 1) := dk_27 (dk_at dksX1_isColumn_0 0 rfl rfl)
theorem dX1_isColumn_1 : decode cX1_isColumn 1 = .ok (.iconst 0, 1) := dk_3 (dk_at dksX1_isColumn_0 1 rfl rfl)
theorem dX1_isColumn_2 : decode cX1_isColumn 2 = .ok (.aload_n 0, 1) := dk_42 (dk_at dksX1_isColumn_0 2 rfl rfl)
theorem dX1_isColumn_3 : decode cX1_isColumn 3 = .ok (.getfield 9, 3) := dk_180 0 9 (dk_at dksX1_isColumn_0 3 rfl rfl)
theorem dX1_isColumn_6 : decode cX1_isColumn 6 = .ok (.iconst 1, 1) := dk_4 (dk_at dksX1_isColumn_0 6 rfl rfl)
theorem dX1_isColumn_7 : decode cX1_isColumn 7 = .ok (.isub, 1) := dk_100 (dk_at dksX1_isColumn_0 7 rfl rfl)
theorem dX1_isColumn_8 : decode cX1_isColumn 8 = .ok (.invokestatic 149, 3) := dk_184 0 149 (dk_at dksX1_isColumn_0 8 rfl rfl)
theorem dX1_isColumn_11 : decode cX1_isColumn 11 = .ok (.ireturn, 1) := dk_172 (dk_at dksX1_isColumn_0 11 rfl rfl)
abbrev cX1_isRefused : ByteArray := prog_1_method_29_code
def yX1_isRefused : MethodName := ⟨RX1, "isRefused", "(I)Z"⟩
def dkwX1_isRefused_1 : List UInt8 := [3, 172]
abbrev dktX1_isRefused_1 : List UInt8 := dkwX1_isRefused_1 ++ []
def dkwX1_isRefused_0 : List UInt8 := [27, 2, 159, 0, 13, 42, 180, 0, 67, 27, 92, 46, 4, 96, 79, 27, 2, 159, 0, 7, 4, 167, 0, 4]
abbrev dktX1_isRefused_0 : List UInt8 := dkwX1_isRefused_0 ++ dktX1_isRefused_1
theorem dksX1_isRefused_0 : cX1_isRefused.data.toList.drop 0 = dktX1_isRefused_0 := by decide +kernel
theorem dksX1_isRefused_1 : cX1_isRefused.data.toList.drop 24 = dktX1_isRefused_1 := dk_seg dksX1_isRefused_0 24 rfl rfl
theorem dX1_isRefused_0 : decode cX1_isRefused 0 = .ok (.iload_n 1, 1) := dk_27 (dk_at dksX1_isRefused_0 0 rfl rfl)
theorem dX1_isRefused_1 : decode cX1_isRefused 1 = .ok (.iconst (-1), 1) := dk_2 (dk_at dksX1_isRefused_0 1 rfl rfl)
theorem dX1_isRefused_2 : decode cX1_isRefused 2 = .ok (.if_icmp .eq 13, 3) := dk_159 0 13 (dk_at dksX1_isRefused_0 2 rfl rfl)
theorem dX1_isRefused_5 : decode cX1_isRefused 5 = .ok (.aload_n 0, 1) := dk_42 (dk_at dksX1_isRefused_0 5 rfl rfl)
theorem dX1_isRefused_6 : decode cX1_isRefused 6 = .ok (.getfield 67, 3) := dk_180 0 67 (dk_at dksX1_isRefused_0 6 rfl rfl)
theorem dX1_isRefused_9 : decode cX1_isRefused 9 = .ok (.iload_n 1, 1) := dk_27 (dk_at dksX1_isRefused_0 9 rfl rfl)
theorem dX1_isRefused_10 : decode cX1_isRefused 10 = .ok (.dup2, 1) := dk_92 (dk_at dksX1_isRefused_0 10 rfl rfl)
theorem dX1_isRefused_11 : decode cX1_isRefused 11 = .ok (.iaload, 1) := dk_46 (dk_at dksX1_isRefused_0 11 rfl rfl)
theorem dX1_isRefused_12 : decode cX1_isRefused 12 = .ok (.iconst 1, 1) := dk_4 (dk_at dksX1_isRefused_0 12 rfl rfl)
theorem dX1_isRefused_13 : decode cX1_isRefused 13 = .ok (.iadd, 1) := dk_96 (dk_at dksX1_isRefused_0 13 rfl rfl)
theorem dX1_isRefused_14 : decode cX1_isRefused 14 = .ok (.iastore, 1) := dk_79 (dk_at dksX1_isRefused_0 14 rfl rfl)
theorem dX1_isRefused_15 : decode cX1_isRefused 15 = .ok (.iload_n 1, 1) := dk_27 (dk_at dksX1_isRefused_0 15 rfl rfl)
theorem dX1_isRefused_16 : decode cX1_isRefused 16 = .ok (.iconst (-1), 1) := dk_2 (dk_at dksX1_isRefused_0 16 rfl rfl)
theorem dX1_isRefused_17 : decode cX1_isRefused 17 = .ok (.if_icmp .eq 7, 3) := dk_159 0 7 (dk_at dksX1_isRefused_0 17 rfl rfl)
theorem dX1_isRefused_20 : decode cX1_isRefused 20 = .ok (.iconst 1, 1) := dk_4 (dk_at dksX1_isRefused_0 20 rfl rfl)
theorem dX1_isRefused_21 : decode cX1_isRefused 21 = .ok (.goto 4, 3) := dk_167 0 4 (dk_at dksX1_isRefused_0 21 rfl rfl)
theorem dX1_isRefused_24 : decode cX1_isRefused 24 = .ok (.iconst 0, 1) := dk_3 (dk_at dksX1_isRefused_1 0 rfl rfl)
theorem dX1_isRefused_25 : decode cX1_isRefused 25 = .ok (.ireturn, 1) := dk_172 (dk_at dksX1_isRefused_1 1 rfl rfl)
abbrev cX1_setNow : ByteArray := prog_1_method_37_code
def yX1_setNow : MethodName := ⟨RX1, "setNow", "(III)V"⟩
def dkwX1_setNow_2 : List UInt8 := [182, 0, 238, 177]
abbrev dktX1_setNow_2 : List UInt8 := dkwX1_setNow_2 ++ []
def dkwX1_setNow_1 : List UInt8 := [28, 29, 79, 42, 25, 4, 182, 0, 213, 42, 42, 25, 4, 27, 28, 21, 5, 186, 1, 8, 0, 0]
abbrev dktX1_setNow_1 : List UInt8 := dkwX1_setNow_1 ++ dktX1_setNow_2
def dkwX1_setNow_0 : List UInt8 := [42, 180, 0, 220, 58, 4, 25, 4, 180, 0, 13, 27, 50, 28, 46, 54, 5, 25, 4, 180, 0, 13, 27, 50]
abbrev dktX1_setNow_0 : List UInt8 := dkwX1_setNow_0 ++ dktX1_setNow_1
theorem dksX1_setNow_0 : cX1_setNow.data.toList.drop 0 = dktX1_setNow_0 := by decide +kernel
theorem dksX1_setNow_1 : cX1_setNow.data.toList.drop 24 = dktX1_setNow_1 := dk_seg dksX1_setNow_0 24 rfl rfl
theorem dksX1_setNow_2 : cX1_setNow.data.toList.drop 46 = dktX1_setNow_2 := dk_seg dksX1_setNow_1 22 rfl rfl
theorem dX1_setNow_0 : decode cX1_setNow 0 = .ok (.aload_n 0, 1) := dk_42 (dk_at dksX1_setNow_0 0 rfl rfl)
theorem dX1_setNow_1 : decode cX1_setNow 1 = .ok (.getfield 220, 3) := dk_180 0 220 (dk_at dksX1_setNow_0 1 rfl rfl)
theorem dX1_setNow_4 : decode cX1_setNow 4 = .ok (.astore 4, 2) := dk_58 4 (dk_at dksX1_setNow_0 4 rfl rfl)
theorem dX1_setNow_6 : decode cX1_setNow 6 = .ok (.aload 4, 2) := dk_25 4 (dk_at dksX1_setNow_0 6 rfl rfl)
theorem dX1_setNow_8 : decode cX1_setNow 8 = .ok (.getfield 13, 3) := dk_180 0 13 (dk_at dksX1_setNow_0 8 rfl rfl)
theorem dX1_setNow_11 : decode cX1_setNow 11 = .ok (.iload_n 1, 1) := dk_27 (dk_at dksX1_setNow_0 11 rfl rfl)
theorem dX1_setNow_12 : decode cX1_setNow 12 = .ok (.aaload, 1) := dk_50 (dk_at dksX1_setNow_0 12 rfl rfl)
theorem dX1_setNow_13 : decode cX1_setNow 13 = .ok (.iload_n 2, 1) := dk_28 (dk_at dksX1_setNow_0 13 rfl rfl)
theorem dX1_setNow_14 : decode cX1_setNow 14 = .ok (.iaload, 1) := dk_46 (dk_at dksX1_setNow_0 14 rfl rfl)
theorem dX1_setNow_15 : decode cX1_setNow 15 = .ok (.istore 5, 2) := dk_54 5 (dk_at dksX1_setNow_0 15 rfl rfl)
theorem dX1_setNow_17 : decode cX1_setNow 17 = .ok (.aload 4, 2) := dk_25 4 (dk_at dksX1_setNow_0 17 rfl rfl)
theorem dX1_setNow_19 : decode cX1_setNow 19 = .ok (.getfield 13, 3) := dk_180 0 13 (dk_at dksX1_setNow_0 19 rfl rfl)
theorem dX1_setNow_22 : decode cX1_setNow 22 = .ok (.iload_n 1, 1) := dk_27 (dk_at dksX1_setNow_0 22 rfl rfl)
theorem dX1_setNow_23 : decode cX1_setNow 23 = .ok (.aaload, 1) := dk_50 (dk_at dksX1_setNow_0 23 rfl rfl)
theorem dX1_setNow_24 : decode cX1_setNow 24 = .ok (.iload_n 2, 1) := dk_28 (dk_at dksX1_setNow_1 0 rfl rfl)
theorem dX1_setNow_25 : decode cX1_setNow 25 = .ok (.iload_n 3, 1) := dk_29 (dk_at dksX1_setNow_1 1 rfl rfl)
theorem dX1_setNow_26 : decode cX1_setNow 26 = .ok (.iastore, 1) := dk_79 (dk_at dksX1_setNow_1 2 rfl rfl)
theorem dX1_setNow_27 : decode cX1_setNow 27 = .ok (.aload_n 0, 1) := dk_42 (dk_at dksX1_setNow_1 3 rfl rfl)
theorem dX1_setNow_28 : decode cX1_setNow 28 = .ok (.aload 4, 2) := dk_25 4 (dk_at dksX1_setNow_1 4 rfl rfl)
theorem dX1_setNow_30 : decode cX1_setNow 30 = .ok (.invokevirtual 213, 3) := dk_182 0 213 (dk_at dksX1_setNow_1 6 rfl rfl)
theorem dX1_setNow_33 : decode cX1_setNow 33 = .ok (.aload_n 0, 1) := dk_42 (dk_at dksX1_setNow_1 9 rfl rfl)
theorem dX1_setNow_34 : decode cX1_setNow 34 = .ok (.aload_n 0, 1) := dk_42 (dk_at dksX1_setNow_1 10 rfl rfl)
theorem dX1_setNow_35 : decode cX1_setNow 35 = .ok (.aload 4, 2) := dk_25 4 (dk_at dksX1_setNow_1 11 rfl rfl)
theorem dX1_setNow_37 : decode cX1_setNow 37 = .ok (.iload_n 1, 1) := dk_27 (dk_at dksX1_setNow_1 13 rfl rfl)
theorem dX1_setNow_38 : decode cX1_setNow 38 = .ok (.iload_n 2, 1) := dk_28 (dk_at dksX1_setNow_1 14 rfl rfl)
theorem dX1_setNow_39 : decode cX1_setNow 39 = .ok (.iload 5, 2) := dk_21 5 (dk_at dksX1_setNow_1 15 rfl rfl)
theorem dX1_setNow_41 : decode cX1_setNow 41 = .ok (.invokedynamic 264, 5) := by decide +kernel
theorem dX1_setNow_46 : decode cX1_setNow 46 = .ok (.invokevirtual 238, 3) := dk_182 0 238 (dk_at dksX1_setNow_2 0 rfl rfl)
theorem dX1_setNow_49 : decode cX1_setNow 49 = .ok (.return_, 1) := dk_177 (dk_at dksX1_setNow_2 3 rfl rfl)
abbrev cX1_lambda_setNow_2 : ByteArray := prog_1_method_122_code
def yX1_lambda_setNow_2 : MethodName := ⟨RX1, "lambda$setNow$2", "(LUnimodularTables$Table;III)V"⟩
def dkwX1_lambda_setNow_2_0 : List UInt8 := [43, 180, 0, 13, 28, 50, 29, 21, 4, 79, 42, 43, 182, 0, 213, 177]
abbrev dktX1_lambda_setNow_2_0 : List UInt8 := dkwX1_lambda_setNow_2_0 ++ []
theorem dksX1_lambda_setNow_2_0 : cX1_lambda_setNow_2.data.toList.drop 0 = dktX1_lambda_setNow_2_0 := by decide +kernel
theorem dX1_lambda_setNow_2_0 : decode cX1_lambda_setNow_2 0 = .ok (.aload_n 1, 1) := dk_43 (dk_at dksX1_lambda_setNow_2_0 0 rfl rfl)
theorem dX1_lambda_setNow_2_1 : decode cX1_lambda_setNow_2 1 = .ok (.getfield 13, 3) := dk_180 0 13 (dk_at dksX1_lambda_setNow_2_0 1 rfl rfl)
theorem dX1_lambda_setNow_2_4 : decode cX1_lambda_setNow_2 4 = .ok (.iload_n 2, 1) := dk_28 (dk_at dksX1_lambda_setNow_2_0 4 rfl rfl)
theorem dX1_lambda_setNow_2_5 : decode cX1_lambda_setNow_2 5 = .ok (.aaload, 1) := dk_50 (dk_at dksX1_lambda_setNow_2_0 5 rfl rfl)
theorem dX1_lambda_setNow_2_6 : decode cX1_lambda_setNow_2 6 = .ok (.iload_n 3, 1) := dk_29 (dk_at dksX1_lambda_setNow_2_0 6 rfl rfl)
theorem dX1_lambda_setNow_2_7 : decode cX1_lambda_setNow_2 7 = .ok (.iload 4, 2) := dk_21 4 (dk_at dksX1_lambda_setNow_2_0 7 rfl rfl)
theorem dX1_lambda_setNow_2_9 : decode cX1_lambda_setNow_2 9 = .ok (.iastore, 1) := dk_79 (dk_at dksX1_lambda_setNow_2_0 9 rfl rfl)
theorem dX1_lambda_setNow_2_10 : decode cX1_lambda_setNow_2 10 = .ok (.aload_n 0, 1) := dk_42 (dk_at dksX1_lambda_setNow_2_0 10 rfl rfl)
theorem dX1_lambda_setNow_2_11 : decode cX1_lambda_setNow_2 11 = .ok (.aload_n 1, 1) := dk_43 (dk_at dksX1_lambda_setNow_2_0 11 rfl rfl)
theorem dX1_lambda_setNow_2_12 : decode cX1_lambda_setNow_2 12 = .ok (.invokevirtual 213, 3) := dk_182 0 213 (dk_at dksX1_lambda_setNow_2_0 12 rfl rfl)
theorem dX1_lambda_setNow_2_15 : decode cX1_lambda_setNow_2 15 = .ok (.return_, 1) := dk_177 (dk_at dksX1_lambda_setNow_2_0 15 rfl rfl)
abbrev cX1_did : ByteArray := prog_1_method_27_code
def yX1_did : MethodName := ⟨RX1, "did", "(LUnimodularTables$Back;)V"⟩
def dkwX1_did_2 : List UInt8 := [180, 0, 217, 4, 96, 181, 0, 217, 177]
abbrev dktX1_did_2 : List UInt8 := dkwX1_did_2 ++ []
def dkwX1_did_1 : List UInt8 := [42, 89, 180, 0, 217, 4, 100, 181, 0, 217, 42, 180, 0, 56, 42, 180, 0, 217, 43, 83, 42, 89]
abbrev dktX1_did_1 : List UInt8 := dkwX1_did_1 ++ dktX1_did_2
def dkwX1_did_0 : List UInt8 := [42, 180, 0, 217, 16, 40, 160, 0, 28, 42, 180, 0, 56, 4, 42, 180, 0, 56, 3, 16, 39, 184, 0, 228]
abbrev dktX1_did_0 : List UInt8 := dkwX1_did_0 ++ dktX1_did_1
theorem dksX1_did_0 : cX1_did.data.toList.drop 0 = dktX1_did_0 := by decide +kernel
theorem dksX1_did_1 : cX1_did.data.toList.drop 24 = dktX1_did_1 := dk_seg dksX1_did_0 24 rfl rfl
theorem dksX1_did_2 : cX1_did.data.toList.drop 46 = dktX1_did_2 := dk_seg dksX1_did_1 22 rfl rfl
theorem dX1_did_0 : decode cX1_did 0 = .ok (.aload_n 0, 1) := dk_42 (dk_at dksX1_did_0 0 rfl rfl)
theorem dX1_did_1 : decode cX1_did 1 = .ok (.getfield 217, 3) := dk_180 0 217 (dk_at dksX1_did_0 1 rfl rfl)
theorem dX1_did_4 : decode cX1_did 4 = .ok (.bipush 40, 2) := dk_16 40 (dk_at dksX1_did_0 4 rfl rfl)
theorem dX1_did_6 : decode cX1_did 6 = .ok (.if_icmp .ne 28, 3) := dk_160 0 28 (dk_at dksX1_did_0 6 rfl rfl)
theorem dX1_did_9 : decode cX1_did 9 = .ok (.aload_n 0, 1) := dk_42 (dk_at dksX1_did_0 9 rfl rfl)
theorem dX1_did_10 : decode cX1_did 10 = .ok (.getfield 56, 3) := dk_180 0 56 (dk_at dksX1_did_0 10 rfl rfl)
theorem dX1_did_13 : decode cX1_did 13 = .ok (.iconst 1, 1) := dk_4 (dk_at dksX1_did_0 13 rfl rfl)
theorem dX1_did_14 : decode cX1_did 14 = .ok (.aload_n 0, 1) := dk_42 (dk_at dksX1_did_0 14 rfl rfl)
theorem dX1_did_15 : decode cX1_did 15 = .ok (.getfield 56, 3) := dk_180 0 56 (dk_at dksX1_did_0 15 rfl rfl)
theorem dX1_did_18 : decode cX1_did 18 = .ok (.iconst 0, 1) := dk_3 (dk_at dksX1_did_0 18 rfl rfl)
theorem dX1_did_19 : decode cX1_did 19 = .ok (.bipush 39, 2) := dk_16 39 (dk_at dksX1_did_0 19 rfl rfl)
theorem dX1_did_21 : decode cX1_did 21 = .ok (.invokestatic 228, 3) := dk_184 0 228 (dk_at dksX1_did_0 21 rfl rfl)
theorem dX1_did_24 : decode cX1_did 24 = .ok (.aload_n 0, 1) := dk_42 (dk_at dksX1_did_1 0 rfl rfl)
theorem dX1_did_25 : decode cX1_did 25 = .ok (.dup, 1) := dk_89 (dk_at dksX1_did_1 1 rfl rfl)
theorem dX1_did_26 : decode cX1_did 26 = .ok (.getfield 217, 3) := dk_180 0 217 (dk_at dksX1_did_1 2 rfl rfl)
theorem dX1_did_29 : decode cX1_did 29 = .ok (.iconst 1, 1) := dk_4 (dk_at dksX1_did_1 5 rfl rfl)
theorem dX1_did_30 : decode cX1_did 30 = .ok (.isub, 1) := dk_100 (dk_at dksX1_did_1 6 rfl rfl)
theorem dX1_did_31 : decode cX1_did 31 = .ok (.putfield 217, 3) := dk_181 0 217 (dk_at dksX1_did_1 7 rfl rfl)
theorem dX1_did_34 : decode cX1_did 34 = .ok (.aload_n 0, 1) := dk_42 (dk_at dksX1_did_1 10 rfl rfl)
theorem dX1_did_35 : decode cX1_did 35 = .ok (.getfield 56, 3) := dk_180 0 56 (dk_at dksX1_did_1 11 rfl rfl)
theorem dX1_did_38 : decode cX1_did 38 = .ok (.aload_n 0, 1) := dk_42 (dk_at dksX1_did_1 14 rfl rfl)
theorem dX1_did_39 : decode cX1_did 39 = .ok (.getfield 217, 3) := dk_180 0 217 (dk_at dksX1_did_1 15 rfl rfl)
theorem dX1_did_42 : decode cX1_did 42 = .ok (.aload_n 1, 1) := dk_43 (dk_at dksX1_did_1 18 rfl rfl)
theorem dX1_did_43 : decode cX1_did 43 = .ok (.aastore, 1) := dk_83 (dk_at dksX1_did_1 19 rfl rfl)
theorem dX1_did_44 : decode cX1_did 44 = .ok (.aload_n 0, 1) := dk_42 (dk_at dksX1_did_1 20 rfl rfl)
theorem dX1_did_45 : decode cX1_did 45 = .ok (.dup, 1) := dk_89 (dk_at dksX1_did_1 21 rfl rfl)
theorem dX1_did_46 : decode cX1_did 46 = .ok (.getfield 217, 3) := dk_180 0 217 (dk_at dksX1_did_2 0 rfl rfl)
theorem dX1_did_49 : decode cX1_did 49 = .ok (.iconst 1, 1) := dk_4 (dk_at dksX1_did_2 3 rfl rfl)
theorem dX1_did_50 : decode cX1_did 50 = .ok (.iadd, 1) := dk_96 (dk_at dksX1_did_2 4 rfl rfl)
theorem dX1_did_51 : decode cX1_did 51 = .ok (.putfield 217, 3) := dk_181 0 217 (dk_at dksX1_did_2 5 rfl rfl)
theorem dX1_did_54 : decode cX1_did 54 = .ok (.return_, 1) := dk_177 (dk_at dksX1_did_2 8 rfl rfl)
abbrev cX1_deal : ByteArray := prog_1_method_39_code
def yX1_deal : MethodName := ⟨RX1, "deal", "(III)I"⟩
def dkwX1_deal_1 : List UInt8 := [180, 0, 133, 27, 50, 42, 180, 0, 220, 28, 29, 185, 1, 25, 4, 0, 182, 1, 27, 42, 180, 0, 217, 172]
abbrev dktX1_deal_1 : List UInt8 := dkwX1_deal_1 ++ []
def dkwX1_deal_0 : List UInt8 := [42, 42, 42, 180, 0, 220, 27, 28, 29, 182, 1, 22, 182, 1, 15, 153, 0, 5, 2, 172, 42, 42]
abbrev dktX1_deal_0 : List UInt8 := dkwX1_deal_0 ++ dktX1_deal_1
theorem dksX1_deal_0 : cX1_deal.data.toList.drop 0 = dktX1_deal_0 := by decide +kernel
theorem dksX1_deal_1 : cX1_deal.data.toList.drop 22 = dktX1_deal_1 := dk_seg dksX1_deal_0 22 rfl rfl
theorem dX1_deal_0 : decode cX1_deal 0 = .ok (.aload_n 0, 1) := dk_42 (dk_at dksX1_deal_0 0 rfl rfl)
theorem dX1_deal_1 : decode cX1_deal 1 = .ok (.aload_n 0, 1) := dk_42 (dk_at dksX1_deal_0 1 rfl rfl)
theorem dX1_deal_2 : decode cX1_deal 2 = .ok (.aload_n 0, 1) := dk_42 (dk_at dksX1_deal_0 2 rfl rfl)
theorem dX1_deal_3 : decode cX1_deal 3 = .ok (.getfield 220, 3) := dk_180 0 220 (dk_at dksX1_deal_0 3 rfl rfl)
theorem dX1_deal_6 : decode cX1_deal 6 = .ok (.iload_n 1, 1) := dk_27 (dk_at dksX1_deal_0 6 rfl rfl)
theorem dX1_deal_7 : decode cX1_deal 7 = .ok (.iload_n 2, 1) := dk_28 (dk_at dksX1_deal_0 7 rfl rfl)
theorem dX1_deal_8 : decode cX1_deal 8 = .ok (.iload_n 3, 1) := dk_29 (dk_at dksX1_deal_0 8 rfl rfl)
theorem dX1_deal_9 : decode cX1_deal 9 = .ok (.invokevirtual 278, 3) := dk_182 1 22 (dk_at dksX1_deal_0 9 rfl rfl)
theorem dX1_deal_12 : decode cX1_deal 12 = .ok (.invokevirtual 271, 3) := dk_182 1 15 (dk_at dksX1_deal_0 12 rfl rfl)
theorem dX1_deal_15 : decode cX1_deal 15 = .ok (.ifCond .eq 5, 3) := dk_153 0 5 (dk_at dksX1_deal_0 15 rfl rfl)
theorem dX1_deal_18 : decode cX1_deal 18 = .ok (.iconst (-1), 1) := dk_2 (dk_at dksX1_deal_0 18 rfl rfl)
theorem dX1_deal_19 : decode cX1_deal 19 = .ok (.ireturn, 1) := dk_172 (dk_at dksX1_deal_0 19 rfl rfl)
theorem dX1_deal_20 : decode cX1_deal 20 = .ok (.aload_n 0, 1) := dk_42 (dk_at dksX1_deal_0 20 rfl rfl)
theorem dX1_deal_21 : decode cX1_deal 21 = .ok (.aload_n 0, 1) := dk_42 (dk_at dksX1_deal_0 21 rfl rfl)
theorem dX1_deal_22 : decode cX1_deal 22 = .ok (.getfield 133, 3) := dk_180 0 133 (dk_at dksX1_deal_1 0 rfl rfl)
theorem dX1_deal_25 : decode cX1_deal 25 = .ok (.iload_n 1, 1) := dk_27 (dk_at dksX1_deal_1 3 rfl rfl)
theorem dX1_deal_26 : decode cX1_deal 26 = .ok (.aaload, 1) := dk_50 (dk_at dksX1_deal_1 4 rfl rfl)
theorem dX1_deal_27 : decode cX1_deal 27 = .ok (.aload_n 0, 1) := dk_42 (dk_at dksX1_deal_1 5 rfl rfl)
theorem dX1_deal_28 : decode cX1_deal 28 = .ok (.getfield 220, 3) := dk_180 0 220 (dk_at dksX1_deal_1 6 rfl rfl)
theorem dX1_deal_31 : decode cX1_deal 31 = .ok (.iload_n 2, 1) := dk_28 (dk_at dksX1_deal_1 9 rfl rfl)
theorem dX1_deal_32 : decode cX1_deal 32 = .ok (.iload_n 3, 1) := dk_29 (dk_at dksX1_deal_1 10 rfl rfl)
theorem dX1_deal_33 : decode cX1_deal 33 = .ok (.invokeinterface 281 4, 5) := by decide +kernel
theorem dX1_deal_38 : decode cX1_deal 38 = .ok (.invokevirtual 283, 3) := dk_182 1 27 (dk_at dksX1_deal_1 16 rfl rfl)
theorem dX1_deal_41 : decode cX1_deal 41 = .ok (.aload_n 0, 1) := dk_42 (dk_at dksX1_deal_1 19 rfl rfl)
theorem dX1_deal_42 : decode cX1_deal 42 = .ok (.getfield 217, 3) := dk_180 0 217 (dk_at dksX1_deal_1 20 rfl rfl)
theorem dX1_deal_45 : decode cX1_deal 45 = .ok (.ireturn, 1) := dk_172 (dk_at dksX1_deal_1 23 rfl rfl)
abbrev cX1_whyNot : ByteArray := prog_1_method_34_code
def yX1_whyNot : MethodName := ⟨RX1, "whyNot", "(LUnimodularTables$Table;III)I"⟩
def dkwX1_whyNot_4 : List UInt8 := [184, 0, 253, 184, 1, 1, 154, 0, 7, 6, 167, 0, 4, 2, 172]
abbrev dktX1_whyNot_4 : List UInt8 := dkwX1_whyNot_4 ++ []
def dkwX1_whyNot_3 : List UInt8 := [160, 0, 13, 43, 180, 0, 9, 4, 160, 0, 5, 6, 172, 28, 7, 160, 0, 20, 43, 29, 21, 4]
abbrev dktX1_whyNot_3 : List UInt8 := dkwX1_whyNot_3 ++ dktX1_whyNot_4
def dkwX1_whyNot_2 : List UInt8 := [46, 154, 0, 5, 5, 172, 28, 16, 6, 160, 0, 11, 43, 180, 0, 17, 4, 159, 0, 17, 28, 16, 7]
abbrev dktX1_whyNot_2 : List UInt8 := dkwX1_whyNot_2 ++ dktX1_whyNot_3
def dkwX1_whyNot_1 : List UInt8 := [28, 6, 160, 0, 9, 29, 21, 4, 159, 0, 20, 28, 7, 160, 0, 17, 43, 180, 0, 13, 29, 50, 21, 4]
abbrev dktX1_whyNot_1 : List UInt8 := dkwX1_whyNot_1 ++ dktX1_whyNot_2
def dkwX1_whyNot_0 : List UInt8 := [43, 199, 0, 5, 3, 172, 43, 28, 29, 21, 4, 184, 0, 249, 154, 0, 5, 4, 172, 28, 5, 159, 0, 8]
abbrev dktX1_whyNot_0 : List UInt8 := dkwX1_whyNot_0 ++ dktX1_whyNot_1
theorem dksX1_whyNot_0 : cX1_whyNot.data.toList.drop 0 = dktX1_whyNot_0 := by decide +kernel
theorem dksX1_whyNot_1 : cX1_whyNot.data.toList.drop 24 = dktX1_whyNot_1 := dk_seg dksX1_whyNot_0 24 rfl rfl
theorem dksX1_whyNot_2 : cX1_whyNot.data.toList.drop 48 = dktX1_whyNot_2 := dk_seg dksX1_whyNot_1 24 rfl rfl
theorem dksX1_whyNot_3 : cX1_whyNot.data.toList.drop 71 = dktX1_whyNot_3 := dk_seg dksX1_whyNot_2 23 rfl rfl
theorem dksX1_whyNot_4 : cX1_whyNot.data.toList.drop 93 = dktX1_whyNot_4 := dk_seg dksX1_whyNot_3 22 rfl rfl
theorem dX1_whyNot_0 : decode cX1_whyNot 0 = .ok (.aload_n 1, 1) := dk_43 (dk_at dksX1_whyNot_0 0 rfl rfl)
theorem dX1_whyNot_1 : decode cX1_whyNot 1 = .ok (.ifnonnull 5, 3) := dk_199 0 5 (dk_at dksX1_whyNot_0 1 rfl rfl)
theorem dX1_whyNot_4 : decode cX1_whyNot 4 = .ok (.iconst 0, 1) := dk_3 (dk_at dksX1_whyNot_0 4 rfl rfl)
theorem dX1_whyNot_5 : decode cX1_whyNot 5 = .ok (.ireturn, 1) := dk_172 (dk_at dksX1_whyNot_0 5 rfl rfl)
theorem dX1_whyNot_6 : decode cX1_whyNot 6 = .ok (.aload_n 1, 1) := dk_43 (dk_at dksX1_whyNot_0 6 rfl rfl)
theorem dX1_whyNot_7 : decode cX1_whyNot 7 = .ok (.iload_n 2, 1) := dk_28 (dk_at dksX1_whyNot_0 7 rfl rfl)
theorem dX1_whyNot_8 : decode cX1_whyNot 8 = .ok (.iload_n 3, 1) := dk_29 (dk_at dksX1_whyNot_0 8 rfl rfl)
theorem dX1_whyNot_9 : decode cX1_whyNot 9 = .ok (.iload 4, 2) := dk_21 4 (dk_at dksX1_whyNot_0 9 rfl rfl)
theorem dX1_whyNot_11 : decode cX1_whyNot 11 = .ok (.invokestatic 249, 3) := dk_184 0 249 (dk_at dksX1_whyNot_0 11 rfl rfl)
theorem dX1_whyNot_14 : decode cX1_whyNot 14 = .ok (.ifCond .ne 5, 3) := dk_154 0 5 (dk_at dksX1_whyNot_0 14 rfl rfl)
theorem dX1_whyNot_17 : decode cX1_whyNot 17 = .ok (.iconst 1, 1) := dk_4 (dk_at dksX1_whyNot_0 17 rfl rfl)
theorem dX1_whyNot_18 : decode cX1_whyNot 18 = .ok (.ireturn, 1) := dk_172 (dk_at dksX1_whyNot_0 18 rfl rfl)
theorem dX1_whyNot_19 : decode cX1_whyNot 19 = .ok (.iload_n 2, 1) := dk_28 (dk_at dksX1_whyNot_0 19 rfl rfl)
theorem dX1_whyNot_20 : decode cX1_whyNot 20 = .ok (.iconst 2, 1) := dk_5 (dk_at dksX1_whyNot_0 20 rfl rfl)
theorem dX1_whyNot_21 : decode cX1_whyNot 21 = .ok (.if_icmp .eq 8, 3) := dk_159 0 8 (dk_at dksX1_whyNot_0 21 rfl rfl)
theorem dX1_whyNot_24 : decode cX1_whyNot 24 = .ok (.iload_n 2, 1) := dk_28 (dk_at dksX1_whyNot_1 0 rfl rfl)
theorem dX1_whyNot_25 : decode cX1_whyNot 25 = .ok (.iconst 3, 1) := dk_6 (dk_at dksX1_whyNot_1 1 rfl rfl)
theorem dX1_whyNot_26 : decode cX1_whyNot 26 = .ok (.if_icmp .ne 9, 3) := dk_160 0 9 (dk_at dksX1_whyNot_1 2 rfl rfl)
theorem dX1_whyNot_29 : decode cX1_whyNot 29 = .ok (.iload_n 3, 1) := dk_29 (dk_at dksX1_whyNot_1 5 rfl rfl)
theorem dX1_whyNot_30 : decode cX1_whyNot 30 = .ok (.iload 4, 2) := dk_21 4 (dk_at dksX1_whyNot_1 6 rfl rfl)
theorem dX1_whyNot_32 : decode cX1_whyNot 32 = .ok (.if_icmp .eq 20, 3) := dk_159 0 20 (dk_at dksX1_whyNot_1 8 rfl rfl)
theorem dX1_whyNot_35 : decode cX1_whyNot 35 = .ok (.iload_n 2, 1) := dk_28 (dk_at dksX1_whyNot_1 11 rfl rfl)
theorem dX1_whyNot_36 : decode cX1_whyNot 36 = .ok (.iconst 4, 1) := dk_7 (dk_at dksX1_whyNot_1 12 rfl rfl)
theorem dX1_whyNot_37 : decode cX1_whyNot 37 = .ok (.if_icmp .ne 17, 3) := dk_160 0 17 (dk_at dksX1_whyNot_1 13 rfl rfl)
theorem dX1_whyNot_40 : decode cX1_whyNot 40 = .ok (.aload_n 1, 1) := dk_43 (dk_at dksX1_whyNot_1 16 rfl rfl)
theorem dX1_whyNot_41 : decode cX1_whyNot 41 = .ok (.getfield 13, 3) := dk_180 0 13 (dk_at dksX1_whyNot_1 17 rfl rfl)
theorem dX1_whyNot_44 : decode cX1_whyNot 44 = .ok (.iload_n 3, 1) := dk_29 (dk_at dksX1_whyNot_1 20 rfl rfl)
theorem dX1_whyNot_45 : decode cX1_whyNot 45 = .ok (.aaload, 1) := dk_50 (dk_at dksX1_whyNot_1 21 rfl rfl)
theorem dX1_whyNot_46 : decode cX1_whyNot 46 = .ok (.iload 4, 2) := dk_21 4 (dk_at dksX1_whyNot_1 22 rfl rfl)
theorem dX1_whyNot_48 : decode cX1_whyNot 48 = .ok (.iaload, 1) := dk_46 (dk_at dksX1_whyNot_2 0 rfl rfl)
theorem dX1_whyNot_49 : decode cX1_whyNot 49 = .ok (.ifCond .ne 5, 3) := dk_154 0 5 (dk_at dksX1_whyNot_2 1 rfl rfl)
theorem dX1_whyNot_52 : decode cX1_whyNot 52 = .ok (.iconst 2, 1) := dk_5 (dk_at dksX1_whyNot_2 4 rfl rfl)
theorem dX1_whyNot_53 : decode cX1_whyNot 53 = .ok (.ireturn, 1) := dk_172 (dk_at dksX1_whyNot_2 5 rfl rfl)
theorem dX1_whyNot_54 : decode cX1_whyNot 54 = .ok (.iload_n 2, 1) := dk_28 (dk_at dksX1_whyNot_2 6 rfl rfl)
theorem dX1_whyNot_55 : decode cX1_whyNot 55 = .ok (.bipush 6, 2) := dk_16 6 (dk_at dksX1_whyNot_2 7 rfl rfl)
theorem dX1_whyNot_57 : decode cX1_whyNot 57 = .ok (.if_icmp .ne 11, 3) := dk_160 0 11 (dk_at dksX1_whyNot_2 9 rfl rfl)
theorem dX1_whyNot_60 : decode cX1_whyNot 60 = .ok (.aload_n 1, 1) := dk_43 (dk_at dksX1_whyNot_2 12 rfl rfl)
theorem dX1_whyNot_61 : decode cX1_whyNot 61 = .ok (.getfield 17, 3) := dk_180 0 17 (dk_at dksX1_whyNot_2 13 rfl rfl)
theorem dX1_whyNot_64 : decode cX1_whyNot 64 = .ok (.iconst 1, 1) := dk_4 (dk_at dksX1_whyNot_2 16 rfl rfl)
theorem dX1_whyNot_65 : decode cX1_whyNot 65 = .ok (.if_icmp .eq 17, 3) := dk_159 0 17 (dk_at dksX1_whyNot_2 17 rfl rfl)
theorem dX1_whyNot_68 : decode cX1_whyNot 68 = .ok (.iload_n 2, 1) := dk_28 (dk_at dksX1_whyNot_2 20 rfl rfl)
theorem dX1_whyNot_69 : decode cX1_whyNot 69 = .ok (.bipush 7, 2) := dk_16 7 (dk_at dksX1_whyNot_2 21 rfl rfl)
theorem dX1_whyNot_71 : decode cX1_whyNot 71 = .ok (.if_icmp .ne 13, 3) := dk_160 0 13 (dk_at dksX1_whyNot_3 0 rfl rfl)
theorem dX1_whyNot_74 : decode cX1_whyNot 74 = .ok (.aload_n 1, 1) := dk_43 (dk_at dksX1_whyNot_3 3 rfl rfl)
theorem dX1_whyNot_75 : decode cX1_whyNot 75 = .ok (.getfield 9, 3) := dk_180 0 9 (dk_at dksX1_whyNot_3 4 rfl rfl)
theorem dX1_whyNot_78 : decode cX1_whyNot 78 = .ok (.iconst 1, 1) := dk_4 (dk_at dksX1_whyNot_3 7 rfl rfl)
theorem dX1_whyNot_79 : decode cX1_whyNot 79 = .ok (.if_icmp .ne 5, 3) := dk_160 0 5 (dk_at dksX1_whyNot_3 8 rfl rfl)
theorem dX1_whyNot_82 : decode cX1_whyNot 82 = .ok (.iconst 3, 1) := dk_6 (dk_at dksX1_whyNot_3 11 rfl rfl)
theorem dX1_whyNot_83 : decode cX1_whyNot 83 = .ok (.ireturn, 1) := dk_172 (dk_at dksX1_whyNot_3 12 rfl rfl)
theorem dX1_whyNot_84 : decode cX1_whyNot 84 = .ok (.iload_n 2, 1) := dk_28 (dk_at dksX1_whyNot_3 13 rfl rfl)
theorem dX1_whyNot_85 : decode cX1_whyNot 85 = .ok (.iconst 4, 1) := dk_7 (dk_at dksX1_whyNot_3 14 rfl rfl)
theorem dX1_whyNot_86 : decode cX1_whyNot 86 = .ok (.if_icmp .ne 20, 3) := dk_160 0 20 (dk_at dksX1_whyNot_3 15 rfl rfl)
theorem dX1_whyNot_89 : decode cX1_whyNot 89 = .ok (.aload_n 1, 1) := dk_43 (dk_at dksX1_whyNot_3 18 rfl rfl)
theorem dX1_whyNot_90 : decode cX1_whyNot 90 = .ok (.iload_n 3, 1) := dk_29 (dk_at dksX1_whyNot_3 19 rfl rfl)
theorem dX1_whyNot_91 : decode cX1_whyNot 91 = .ok (.iload 4, 2) := dk_21 4 (dk_at dksX1_whyNot_3 20 rfl rfl)
theorem dX1_whyNot_93 : decode cX1_whyNot 93 = .ok (.invokestatic 253, 3) := dk_184 0 253 (dk_at dksX1_whyNot_4 0 rfl rfl)
theorem dX1_whyNot_96 : decode cX1_whyNot 96 = .ok (.invokestatic 257, 3) := dk_184 1 1 (dk_at dksX1_whyNot_4 3 rfl rfl)
theorem dX1_whyNot_99 : decode cX1_whyNot 99 = .ok (.ifCond .ne 7, 3) := dk_154 0 7 (dk_at dksX1_whyNot_4 6 rfl rfl)
theorem dX1_whyNot_102 : decode cX1_whyNot 102 = .ok (.iconst 3, 1) := dk_6 (dk_at dksX1_whyNot_4 9 rfl rfl)
theorem dX1_whyNot_103 : decode cX1_whyNot 103 = .ok (.goto 4, 3) := dk_167 0 4 (dk_at dksX1_whyNot_4 10 rfl rfl)
theorem dX1_whyNot_106 : decode cX1_whyNot 106 = .ok (.iconst (-1), 1) := dk_2 (dk_at dksX1_whyNot_4 13 rfl rfl)
theorem dX1_whyNot_107 : decode cX1_whyNot 107 = .ok (.ireturn, 1) := dk_172 (dk_at dksX1_whyNot_4 14 rfl rfl)
abbrev cX1_areThere : ByteArray := prog_1_method_33_code
def yX1_areThere : MethodName := ⟨RX1, "areThere", "(LUnimodularTables$Table;III)Z"⟩
def dkwX1_areThere_6 : List UInt8 := [167, 0, 4, 3, 172]
abbrev dktX1_areThere_6 : List UInt8 := dkwX1_areThere_6 ++ []
def dkwX1_areThere_5 : List UInt8 := [42, 29, 184, 0, 246, 153, 0, 7, 4, 167, 0, 17, 3, 167, 0, 13, 27, 8, 160, 0, 7, 4]
abbrev dktX1_areThere_5 : List UInt8 := dkwX1_areThere_5 ++ dktX1_areThere_6
def dkwX1_areThere_4 : List UInt8 := [42, 29, 184, 0, 246, 153, 0, 7, 4, 167, 0, 41, 3, 167, 0, 37, 42, 28, 184, 0, 242, 153, 0, 15]
abbrev dktX1_areThere_4 : List UInt8 := dkwX1_areThere_4 ++ dktX1_areThere_5
def dkwX1_areThere_3 : List UInt8 := [42, 29, 184, 0, 242, 153, 0, 7, 4, 167, 0, 65, 3, 167, 0, 61, 42, 28, 184, 0, 246, 153, 0, 15]
abbrev dktX1_areThere_3 : List UInt8 := dkwX1_areThere_3 ++ dktX1_areThere_4
def dkwX1_areThere_2 : List UInt8 := [42, 28, 184, 0, 242, 167, 0, 93, 42, 28, 184, 0, 246, 167, 0, 85, 42, 28, 184, 0, 242, 153, 0, 15]
abbrev dktX1_areThere_2 : List UInt8 := dkwX1_areThere_2 ++ dktX1_areThere_3
def dkwX1_areThere_1 : List UInt8 := [170, 0, 0, 0, 0, 0, 135, 0, 0, 0, 0, 0, 0, 0, 7, 0, 0, 0, 47, 0, 0, 0, 55, 0, 0, 0, 63, 0, 0, 0, 87, 0, 0, 0, 111, 0, 0, 0, 135, 0, 0, 0, 47, 0, 0, 0, 55]
abbrev dktX1_areThere_1 : List UInt8 := dkwX1_areThere_1 ++ dktX1_areThere_2
def dkwX1_areThere_0 : List UInt8 := [27]
abbrev dktX1_areThere_0 : List UInt8 := dkwX1_areThere_0 ++ dktX1_areThere_1
theorem dksX1_areThere_0 : cX1_areThere.data.toList.drop 0 = dktX1_areThere_0 := by decide +kernel
theorem dksX1_areThere_1 : cX1_areThere.data.toList.drop 1 = dktX1_areThere_1 := dk_seg dksX1_areThere_0 1 rfl rfl
theorem dksX1_areThere_2 : cX1_areThere.data.toList.drop 48 = dktX1_areThere_2 := dk_seg dksX1_areThere_1 47 rfl rfl
theorem dksX1_areThere_3 : cX1_areThere.data.toList.drop 72 = dktX1_areThere_3 := dk_seg dksX1_areThere_2 24 rfl rfl
theorem dksX1_areThere_4 : cX1_areThere.data.toList.drop 96 = dktX1_areThere_4 := dk_seg dksX1_areThere_3 24 rfl rfl
theorem dksX1_areThere_5 : cX1_areThere.data.toList.drop 120 = dktX1_areThere_5 := dk_seg dksX1_areThere_4 24 rfl rfl
theorem dksX1_areThere_6 : cX1_areThere.data.toList.drop 142 = dktX1_areThere_6 := dk_seg dksX1_areThere_5 22 rfl rfl
theorem dX1_areThere_0 : decode cX1_areThere 0 = .ok (.iload_n 1, 1) := dk_27 (dk_at dksX1_areThere_0 0 rfl rfl)
theorem dX1_areThere_1 : decode cX1_areThere 1 = .ok (.tableswitch 135 0 7 #[47, 55, 63, 87, 111, 135, 47, 55], 47) := by decide +kernel
theorem dX1_areThere_48 : decode cX1_areThere 48 = .ok (.aload_n 0, 1) := dk_42 (dk_at dksX1_areThere_2 0 rfl rfl)
theorem dX1_areThere_49 : decode cX1_areThere 49 = .ok (.iload_n 2, 1) := dk_28 (dk_at dksX1_areThere_2 1 rfl rfl)
theorem dX1_areThere_50 : decode cX1_areThere 50 = .ok (.invokestatic 242, 3) := dk_184 0 242 (dk_at dksX1_areThere_2 2 rfl rfl)
theorem dX1_areThere_53 : decode cX1_areThere 53 = .ok (.goto 93, 3) := dk_167 0 93 (dk_at dksX1_areThere_2 5 rfl rfl)
theorem dX1_areThere_56 : decode cX1_areThere 56 = .ok (.aload_n 0, 1) := dk_42 (dk_at dksX1_areThere_2 8 rfl rfl)
theorem dX1_areThere_57 : decode cX1_areThere 57 = .ok (.iload_n 2, 1) := dk_28 (dk_at dksX1_areThere_2 9 rfl rfl)
theorem dX1_areThere_58 : decode cX1_areThere 58 = .ok (.invokestatic 246, 3) := dk_184 0 246 (dk_at dksX1_areThere_2 10 rfl rfl)
theorem dX1_areThere_61 : decode cX1_areThere 61 = .ok (.goto 85, 3) := dk_167 0 85 (dk_at dksX1_areThere_2 13 rfl rfl)
theorem dX1_areThere_64 : decode cX1_areThere 64 = .ok (.aload_n 0, 1) := dk_42 (dk_at dksX1_areThere_2 16 rfl rfl)
theorem dX1_areThere_65 : decode cX1_areThere 65 = .ok (.iload_n 2, 1) := dk_28 (dk_at dksX1_areThere_2 17 rfl rfl)
theorem dX1_areThere_66 : decode cX1_areThere 66 = .ok (.invokestatic 242, 3) := dk_184 0 242 (dk_at dksX1_areThere_2 18 rfl rfl)
theorem dX1_areThere_69 : decode cX1_areThere 69 = .ok (.ifCond .eq 15, 3) := dk_153 0 15 (dk_at dksX1_areThere_2 21 rfl rfl)
theorem dX1_areThere_72 : decode cX1_areThere 72 = .ok (.aload_n 0, 1) := dk_42 (dk_at dksX1_areThere_3 0 rfl rfl)
theorem dX1_areThere_73 : decode cX1_areThere 73 = .ok (.iload_n 3, 1) := dk_29 (dk_at dksX1_areThere_3 1 rfl rfl)
theorem dX1_areThere_74 : decode cX1_areThere 74 = .ok (.invokestatic 242, 3) := dk_184 0 242 (dk_at dksX1_areThere_3 2 rfl rfl)
theorem dX1_areThere_77 : decode cX1_areThere 77 = .ok (.ifCond .eq 7, 3) := dk_153 0 7 (dk_at dksX1_areThere_3 5 rfl rfl)
theorem dX1_areThere_80 : decode cX1_areThere 80 = .ok (.iconst 1, 1) := dk_4 (dk_at dksX1_areThere_3 8 rfl rfl)
theorem dX1_areThere_81 : decode cX1_areThere 81 = .ok (.goto 65, 3) := dk_167 0 65 (dk_at dksX1_areThere_3 9 rfl rfl)
theorem dX1_areThere_84 : decode cX1_areThere 84 = .ok (.iconst 0, 1) := dk_3 (dk_at dksX1_areThere_3 12 rfl rfl)
theorem dX1_areThere_85 : decode cX1_areThere 85 = .ok (.goto 61, 3) := dk_167 0 61 (dk_at dksX1_areThere_3 13 rfl rfl)
theorem dX1_areThere_88 : decode cX1_areThere 88 = .ok (.aload_n 0, 1) := dk_42 (dk_at dksX1_areThere_3 16 rfl rfl)
theorem dX1_areThere_89 : decode cX1_areThere 89 = .ok (.iload_n 2, 1) := dk_28 (dk_at dksX1_areThere_3 17 rfl rfl)
theorem dX1_areThere_90 : decode cX1_areThere 90 = .ok (.invokestatic 246, 3) := dk_184 0 246 (dk_at dksX1_areThere_3 18 rfl rfl)
theorem dX1_areThere_93 : decode cX1_areThere 93 = .ok (.ifCond .eq 15, 3) := dk_153 0 15 (dk_at dksX1_areThere_3 21 rfl rfl)
theorem dX1_areThere_96 : decode cX1_areThere 96 = .ok (.aload_n 0, 1) := dk_42 (dk_at dksX1_areThere_4 0 rfl rfl)
theorem dX1_areThere_97 : decode cX1_areThere 97 = .ok (.iload_n 3, 1) := dk_29 (dk_at dksX1_areThere_4 1 rfl rfl)
theorem dX1_areThere_98 : decode cX1_areThere 98 = .ok (.invokestatic 246, 3) := dk_184 0 246 (dk_at dksX1_areThere_4 2 rfl rfl)
theorem dX1_areThere_101 : decode cX1_areThere 101 = .ok (.ifCond .eq 7, 3) := dk_153 0 7 (dk_at dksX1_areThere_4 5 rfl rfl)
theorem dX1_areThere_104 : decode cX1_areThere 104 = .ok (.iconst 1, 1) := dk_4 (dk_at dksX1_areThere_4 8 rfl rfl)
theorem dX1_areThere_105 : decode cX1_areThere 105 = .ok (.goto 41, 3) := dk_167 0 41 (dk_at dksX1_areThere_4 9 rfl rfl)
theorem dX1_areThere_108 : decode cX1_areThere 108 = .ok (.iconst 0, 1) := dk_3 (dk_at dksX1_areThere_4 12 rfl rfl)
theorem dX1_areThere_109 : decode cX1_areThere 109 = .ok (.goto 37, 3) := dk_167 0 37 (dk_at dksX1_areThere_4 13 rfl rfl)
theorem dX1_areThere_112 : decode cX1_areThere 112 = .ok (.aload_n 0, 1) := dk_42 (dk_at dksX1_areThere_4 16 rfl rfl)
theorem dX1_areThere_113 : decode cX1_areThere 113 = .ok (.iload_n 2, 1) := dk_28 (dk_at dksX1_areThere_4 17 rfl rfl)
theorem dX1_areThere_114 : decode cX1_areThere 114 = .ok (.invokestatic 242, 3) := dk_184 0 242 (dk_at dksX1_areThere_4 18 rfl rfl)
theorem dX1_areThere_117 : decode cX1_areThere 117 = .ok (.ifCond .eq 15, 3) := dk_153 0 15 (dk_at dksX1_areThere_4 21 rfl rfl)
theorem dX1_areThere_120 : decode cX1_areThere 120 = .ok (.aload_n 0, 1) := dk_42 (dk_at dksX1_areThere_5 0 rfl rfl)
theorem dX1_areThere_121 : decode cX1_areThere 121 = .ok (.iload_n 3, 1) := dk_29 (dk_at dksX1_areThere_5 1 rfl rfl)
theorem dX1_areThere_122 : decode cX1_areThere 122 = .ok (.invokestatic 246, 3) := dk_184 0 246 (dk_at dksX1_areThere_5 2 rfl rfl)
theorem dX1_areThere_125 : decode cX1_areThere 125 = .ok (.ifCond .eq 7, 3) := dk_153 0 7 (dk_at dksX1_areThere_5 5 rfl rfl)
theorem dX1_areThere_128 : decode cX1_areThere 128 = .ok (.iconst 1, 1) := dk_4 (dk_at dksX1_areThere_5 8 rfl rfl)
theorem dX1_areThere_129 : decode cX1_areThere 129 = .ok (.goto 17, 3) := dk_167 0 17 (dk_at dksX1_areThere_5 9 rfl rfl)
theorem dX1_areThere_132 : decode cX1_areThere 132 = .ok (.iconst 0, 1) := dk_3 (dk_at dksX1_areThere_5 12 rfl rfl)
theorem dX1_areThere_133 : decode cX1_areThere 133 = .ok (.goto 13, 3) := dk_167 0 13 (dk_at dksX1_areThere_5 13 rfl rfl)
theorem dX1_areThere_136 : decode cX1_areThere 136 = .ok (.iload_n 1, 1) := dk_27 (dk_at dksX1_areThere_5 16 rfl rfl)
theorem dX1_areThere_137 : decode cX1_areThere 137 = .ok (.iconst 5, 1) := dk_8 (dk_at dksX1_areThere_5 17 rfl rfl)
theorem dX1_areThere_138 : decode cX1_areThere 138 = .ok (.if_icmp .ne 7, 3) := dk_160 0 7 (dk_at dksX1_areThere_5 18 rfl rfl)
theorem dX1_areThere_141 : decode cX1_areThere 141 = .ok (.iconst 1, 1) := dk_4 (dk_at dksX1_areThere_5 21 rfl rfl)
theorem dX1_areThere_142 : decode cX1_areThere 142 = .ok (.goto 4, 3) := dk_167 0 4 (dk_at dksX1_areThere_6 0 rfl rfl)
theorem dX1_areThere_145 : decode cX1_areThere 145 = .ok (.iconst 0, 1) := dk_3 (dk_at dksX1_areThere_6 3 rfl rfl)
theorem dX1_areThere_146 : decode cX1_areThere 146 = .ok (.ireturn, 1) := dk_172 (dk_at dksX1_areThere_6 4 rfl rfl)
abbrev cX1_isWithin : ByteArray := prog_1_method_32_code
def yX1_isWithin : MethodName := ⟨RX1, "isWithin", "(LUnimodularTables$Table;)Z"⟩
def dkwX1_isWithin_2 : List UInt8 := [167, 255, 211, 4, 172]
abbrev dktX1_isWithin_2 : List UInt8 := dkwX1_isWithin_2 ++ []
def dkwX1_isWithin_1 : List UInt8 := [27, 50, 28, 46, 2, 4, 184, 0, 149, 154, 0, 5, 3, 172, 132, 2, 1, 167, 255, 227, 132, 1, 1]
abbrev dktX1_isWithin_1 : List UInt8 := dkwX1_isWithin_1 ++ dktX1_isWithin_2
def dkwX1_isWithin_0 : List UInt8 := [3, 60, 27, 42, 180, 0, 17, 162, 0, 43, 3, 61, 28, 42, 180, 0, 9, 162, 0, 27, 42, 180, 0, 13]
abbrev dktX1_isWithin_0 : List UInt8 := dkwX1_isWithin_0 ++ dktX1_isWithin_1
theorem dksX1_isWithin_0 : cX1_isWithin.data.toList.drop 0 = dktX1_isWithin_0 := by decide +kernel
theorem dksX1_isWithin_1 : cX1_isWithin.data.toList.drop 24 = dktX1_isWithin_1 := dk_seg dksX1_isWithin_0 24 rfl rfl
theorem dksX1_isWithin_2 : cX1_isWithin.data.toList.drop 47 = dktX1_isWithin_2 := dk_seg dksX1_isWithin_1 23 rfl rfl
theorem dX1_isWithin_0 : decode cX1_isWithin 0 = .ok (.iconst 0, 1) := dk_3 (dk_at dksX1_isWithin_0 0 rfl rfl)
theorem dX1_isWithin_1 : decode cX1_isWithin 1 = .ok (.istore_n 1, 1) := dk_60 (dk_at dksX1_isWithin_0 1 rfl rfl)
theorem dX1_isWithin_2 : decode cX1_isWithin 2 = .ok (.iload_n 1, 1) := dk_27 (dk_at dksX1_isWithin_0 2 rfl rfl)
theorem dX1_isWithin_3 : decode cX1_isWithin 3 = .ok (.aload_n 0, 1) := dk_42 (dk_at dksX1_isWithin_0 3 rfl rfl)
theorem dX1_isWithin_4 : decode cX1_isWithin 4 = .ok (.getfield 17, 3) := dk_180 0 17 (dk_at dksX1_isWithin_0 4 rfl rfl)
theorem dX1_isWithin_7 : decode cX1_isWithin 7 = .ok (.if_icmp .ge 43, 3) := dk_162 0 43 (dk_at dksX1_isWithin_0 7 rfl rfl)
theorem dX1_isWithin_10 : decode cX1_isWithin 10 = .ok (.iconst 0, 1) := dk_3 (dk_at dksX1_isWithin_0 10 rfl rfl)
theorem dX1_isWithin_11 : decode cX1_isWithin 11 = .ok (.istore_n 2, 1) := dk_61 (dk_at dksX1_isWithin_0 11 rfl rfl)
theorem dX1_isWithin_12 : decode cX1_isWithin 12 = .ok (.iload_n 2, 1) := dk_28 (dk_at dksX1_isWithin_0 12 rfl rfl)
theorem dX1_isWithin_13 : decode cX1_isWithin 13 = .ok (.aload_n 0, 1) := dk_42 (dk_at dksX1_isWithin_0 13 rfl rfl)
theorem dX1_isWithin_14 : decode cX1_isWithin 14 = .ok (.getfield 9, 3) := dk_180 0 9 (dk_at dksX1_isWithin_0 14 rfl rfl)
theorem dX1_isWithin_17 : decode cX1_isWithin 17 = .ok (.if_icmp .ge 27, 3) := dk_162 0 27 (dk_at dksX1_isWithin_0 17 rfl rfl)
theorem dX1_isWithin_20 : decode cX1_isWithin 20 = .ok (.aload_n 0, 1) := dk_42 (dk_at dksX1_isWithin_0 20 rfl rfl)
theorem dX1_isWithin_21 : decode cX1_isWithin 21 = .ok (.getfield 13, 3) := dk_180 0 13 (dk_at dksX1_isWithin_0 21 rfl rfl)
theorem dX1_isWithin_24 : decode cX1_isWithin 24 = .ok (.iload_n 1, 1) := dk_27 (dk_at dksX1_isWithin_1 0 rfl rfl)
theorem dX1_isWithin_25 : decode cX1_isWithin 25 = .ok (.aaload, 1) := dk_50 (dk_at dksX1_isWithin_1 1 rfl rfl)
theorem dX1_isWithin_26 : decode cX1_isWithin 26 = .ok (.iload_n 2, 1) := dk_28 (dk_at dksX1_isWithin_1 2 rfl rfl)
theorem dX1_isWithin_27 : decode cX1_isWithin 27 = .ok (.iaload, 1) := dk_46 (dk_at dksX1_isWithin_1 3 rfl rfl)
theorem dX1_isWithin_28 : decode cX1_isWithin 28 = .ok (.iconst (-1), 1) := dk_2 (dk_at dksX1_isWithin_1 4 rfl rfl)
theorem dX1_isWithin_29 : decode cX1_isWithin 29 = .ok (.iconst 1, 1) := dk_4 (dk_at dksX1_isWithin_1 5 rfl rfl)
theorem dX1_isWithin_30 : decode cX1_isWithin 30 = .ok (.invokestatic 149, 3) := dk_184 0 149 (dk_at dksX1_isWithin_1 6 rfl rfl)
theorem dX1_isWithin_33 : decode cX1_isWithin 33 = .ok (.ifCond .ne 5, 3) := dk_154 0 5 (dk_at dksX1_isWithin_1 9 rfl rfl)
theorem dX1_isWithin_36 : decode cX1_isWithin 36 = .ok (.iconst 0, 1) := dk_3 (dk_at dksX1_isWithin_1 12 rfl rfl)
theorem dX1_isWithin_37 : decode cX1_isWithin 37 = .ok (.ireturn, 1) := dk_172 (dk_at dksX1_isWithin_1 13 rfl rfl)
theorem dX1_isWithin_38 : decode cX1_isWithin 38 = .ok (.iinc 2 1, 3) := dk_132 2 1 (dk_at dksX1_isWithin_1 14 rfl rfl)
theorem dX1_isWithin_41 : decode cX1_isWithin 41 = .ok (.goto (-29), 3) := dk_167 255 227 (dk_at dksX1_isWithin_1 17 rfl rfl)
theorem dX1_isWithin_44 : decode cX1_isWithin 44 = .ok (.iinc 1 1, 3) := dk_132 1 1 (dk_at dksX1_isWithin_1 20 rfl rfl)
theorem dX1_isWithin_47 : decode cX1_isWithin 47 = .ok (.goto (-45), 3) := dk_167 255 211 (dk_at dksX1_isWithin_2 0 rfl rfl)
theorem dX1_isWithin_50 : decode cX1_isWithin 50 = .ok (.iconst 1, 1) := dk_4 (dk_at dksX1_isWithin_2 3 rfl rfl)
theorem dX1_isWithin_51 : decode cX1_isWithin 51 = .ok (.ireturn, 1) := dk_172 (dk_at dksX1_isWithin_2 4 rfl rfl)
abbrev cX1_act : ByteArray := prog_1_method_28_code
def yX1_act : MethodName := ⟨RX1, "act", "(LUnimodularTables$Table;)V"⟩
def dkwX1_act_0 : List UInt8 := [42, 180, 0, 220, 77, 42, 43, 182, 0, 213, 42, 42, 44, 186, 0, 234, 0, 0, 182, 0, 238, 177]
abbrev dktX1_act_0 : List UInt8 := dkwX1_act_0 ++ []
theorem dksX1_act_0 : cX1_act.data.toList.drop 0 = dktX1_act_0 := by decide +kernel
theorem dX1_act_0 : decode cX1_act 0 = .ok (.aload_n 0, 1) := dk_42 (dk_at dksX1_act_0 0 rfl rfl)
theorem dX1_act_1 : decode cX1_act 1 = .ok (.getfield 220, 3) := dk_180 0 220 (dk_at dksX1_act_0 1 rfl rfl)
theorem dX1_act_4 : decode cX1_act 4 = .ok (.astore_n 2, 1) := dk_77 (dk_at dksX1_act_0 4 rfl rfl)
theorem dX1_act_5 : decode cX1_act 5 = .ok (.aload_n 0, 1) := dk_42 (dk_at dksX1_act_0 5 rfl rfl)
theorem dX1_act_6 : decode cX1_act 6 = .ok (.aload_n 1, 1) := dk_43 (dk_at dksX1_act_0 6 rfl rfl)
theorem dX1_act_7 : decode cX1_act 7 = .ok (.invokevirtual 213, 3) := dk_182 0 213 (dk_at dksX1_act_0 7 rfl rfl)
theorem dX1_act_10 : decode cX1_act 10 = .ok (.aload_n 0, 1) := dk_42 (dk_at dksX1_act_0 10 rfl rfl)
theorem dX1_act_11 : decode cX1_act 11 = .ok (.aload_n 0, 1) := dk_42 (dk_at dksX1_act_0 11 rfl rfl)
theorem dX1_act_12 : decode cX1_act 12 = .ok (.aload_n 2, 1) := dk_44 (dk_at dksX1_act_0 12 rfl rfl)
theorem dX1_act_13 : decode cX1_act 13 = .ok (.invokedynamic 234, 5) := by decide +kernel
theorem dX1_act_18 : decode cX1_act 18 = .ok (.invokevirtual 238, 3) := dk_182 0 238 (dk_at dksX1_act_0 18 rfl rfl)
theorem dX1_act_21 : decode cX1_act 21 = .ok (.return_, 1) := dk_177 (dk_at dksX1_act_0 21 rfl rfl)
abbrev cX1_lambda_act_1 : ByteArray := prog_1_method_123_code
def yX1_lambda_act_1 : MethodName := ⟨RX1, "lambda$act$1", "(LUnimodularTables$Table;)V"⟩
def dkwX1_lambda_act_1_0 : List UInt8 := [42, 43, 182, 0, 213, 177]
abbrev dktX1_lambda_act_1_0 : List UInt8 := dkwX1_lambda_act_1_0 ++ []
theorem dksX1_lambda_act_1_0 : cX1_lambda_act_1.data.toList.drop 0 = dktX1_lambda_act_1_0 := by decide +kernel
theorem dX1_lambda_act_1_0 : decode cX1_lambda_act_1 0 = .ok (.aload_n 0, 1) := dk_42 (dk_at dksX1_lambda_act_1_0 0 rfl rfl)
theorem dX1_lambda_act_1_1 : decode cX1_lambda_act_1 1 = .ok (.aload_n 1, 1) := dk_43 (dk_at dksX1_lambda_act_1_0 1 rfl rfl)
theorem dX1_lambda_act_1_2 : decode cX1_lambda_act_1 2 = .ok (.invokevirtual 213, 3) := dk_182 0 213 (dk_at dksX1_lambda_act_1_0 2 rfl rfl)
theorem dX1_lambda_act_1_5 : decode cX1_lambda_act_1 5 = .ok (.return_, 1) := dk_177 (dk_at dksX1_lambda_act_1_0 5 rfl rfl)
abbrev cX1_keep : ByteArray := prog_1_method_40_code
def yX1_keep : MethodName := ⟨RX1, "keep", "()I"⟩
def dkwX1_keep_1 : List UInt8 := [42, 180, 0, 220, 182, 0, 3, 182, 1, 33, 42, 180, 0, 63, 182, 1, 30, 4, 100, 172]
abbrev dktX1_keep_1 : List UInt8 := dkwX1_keep_1 ++ []
def dkwX1_keep_0 : List UInt8 := [42, 180, 0, 220, 198, 0, 14, 42, 180, 0, 63, 182, 1, 30, 7, 160, 0, 5, 2, 172, 42, 180, 0, 63]
abbrev dktX1_keep_0 : List UInt8 := dkwX1_keep_0 ++ dktX1_keep_1
theorem dksX1_keep_0 : cX1_keep.data.toList.drop 0 = dktX1_keep_0 := by decide +kernel
theorem dksX1_keep_1 : cX1_keep.data.toList.drop 24 = dktX1_keep_1 := dk_seg dksX1_keep_0 24 rfl rfl
theorem dX1_keep_0 : decode cX1_keep 0 = .ok (.aload_n 0, 1) := dk_42 (dk_at dksX1_keep_0 0 rfl rfl)
theorem dX1_keep_1 : decode cX1_keep 1 = .ok (.getfield 220, 3) := dk_180 0 220 (dk_at dksX1_keep_0 1 rfl rfl)
theorem dX1_keep_4 : decode cX1_keep 4 = .ok (.ifnull 14, 3) := dk_198 0 14 (dk_at dksX1_keep_0 4 rfl rfl)
theorem dX1_keep_7 : decode cX1_keep 7 = .ok (.aload_n 0, 1) := dk_42 (dk_at dksX1_keep_0 7 rfl rfl)
theorem dX1_keep_8 : decode cX1_keep 8 = .ok (.getfield 63, 3) := dk_180 0 63 (dk_at dksX1_keep_0 8 rfl rfl)
theorem dX1_keep_11 : decode cX1_keep 11 = .ok (.invokevirtual 286, 3) := dk_182 1 30 (dk_at dksX1_keep_0 11 rfl rfl)
theorem dX1_keep_14 : decode cX1_keep 14 = .ok (.iconst 4, 1) := dk_7 (dk_at dksX1_keep_0 14 rfl rfl)
theorem dX1_keep_15 : decode cX1_keep 15 = .ok (.if_icmp .ne 5, 3) := dk_160 0 5 (dk_at dksX1_keep_0 15 rfl rfl)
theorem dX1_keep_18 : decode cX1_keep 18 = .ok (.iconst (-1), 1) := dk_2 (dk_at dksX1_keep_0 18 rfl rfl)
theorem dX1_keep_19 : decode cX1_keep 19 = .ok (.ireturn, 1) := dk_172 (dk_at dksX1_keep_0 19 rfl rfl)
theorem dX1_keep_20 : decode cX1_keep 20 = .ok (.aload_n 0, 1) := dk_42 (dk_at dksX1_keep_0 20 rfl rfl)
theorem dX1_keep_21 : decode cX1_keep 21 = .ok (.getfield 63, 3) := dk_180 0 63 (dk_at dksX1_keep_0 21 rfl rfl)
theorem dX1_keep_24 : decode cX1_keep 24 = .ok (.aload_n 0, 1) := dk_42 (dk_at dksX1_keep_1 0 rfl rfl)
theorem dX1_keep_25 : decode cX1_keep 25 = .ok (.getfield 220, 3) := dk_180 0 220 (dk_at dksX1_keep_1 1 rfl rfl)
theorem dX1_keep_28 : decode cX1_keep 28 = .ok (.invokevirtual 3, 3) := dk_182 0 3 (dk_at dksX1_keep_1 4 rfl rfl)
theorem dX1_keep_31 : decode cX1_keep 31 = .ok (.invokevirtual 289, 3) := dk_182 1 33 (dk_at dksX1_keep_1 7 rfl rfl)
theorem dX1_keep_34 : decode cX1_keep 34 = .ok (.aload_n 0, 1) := dk_42 (dk_at dksX1_keep_1 10 rfl rfl)
theorem dX1_keep_35 : decode cX1_keep 35 = .ok (.getfield 63, 3) := dk_180 0 63 (dk_at dksX1_keep_1 11 rfl rfl)
theorem dX1_keep_38 : decode cX1_keep 38 = .ok (.invokevirtual 286, 3) := dk_182 1 30 (dk_at dksX1_keep_1 14 rfl rfl)
theorem dX1_keep_41 : decode cX1_keep 41 = .ok (.iconst 1, 1) := dk_4 (dk_at dksX1_keep_1 17 rfl rfl)
theorem dX1_keep_42 : decode cX1_keep 42 = .ok (.isub, 1) := dk_100 (dk_at dksX1_keep_1 18 rfl rfl)
theorem dX1_keep_43 : decode cX1_keep 43 = .ok (.ireturn, 1) := dk_172 (dk_at dksX1_keep_1 19 rfl rfl)
abbrev cX1_kept : ByteArray := prog_1_method_42_code
def yX1_kept : MethodName := ⟨RX1, "kept", "(III)I"⟩
def dkwX1_kept_2 : List UInt8 := [50, 29, 46, 167, 0, 5, 18, 188, 172]
abbrev dktX1_kept_2 : List UInt8 := dkwX1_kept_2 ++ []
def dkwX1_kept_1 : List UInt8 := [25, 4, 28, 184, 0, 242, 153, 0, 24, 25, 4, 29, 184, 0, 246, 153, 0, 15, 25, 4, 180, 0, 13, 28]
abbrev dktX1_kept_1 : List UInt8 := dkwX1_kept_1 ++ dktX1_kept_2
def dkwX1_kept_0 : List UInt8 := [42, 27, 182, 1, 37, 154, 0, 6, 18, 188, 172, 42, 180, 0, 63, 27, 182, 1, 40, 192, 0, 4, 58, 4]
abbrev dktX1_kept_0 : List UInt8 := dkwX1_kept_0 ++ dktX1_kept_1
theorem dksX1_kept_0 : cX1_kept.data.toList.drop 0 = dktX1_kept_0 := by decide +kernel
theorem dksX1_kept_1 : cX1_kept.data.toList.drop 24 = dktX1_kept_1 := dk_seg dksX1_kept_0 24 rfl rfl
theorem dksX1_kept_2 : cX1_kept.data.toList.drop 48 = dktX1_kept_2 := dk_seg dksX1_kept_1 24 rfl rfl
theorem dX1_kept_0 : decode cX1_kept 0 = .ok (.aload_n 0, 1) := dk_42 (dk_at dksX1_kept_0 0 rfl rfl)
theorem dX1_kept_1 : decode cX1_kept 1 = .ok (.iload_n 1, 1) := dk_27 (dk_at dksX1_kept_0 1 rfl rfl)
theorem dX1_kept_2 : decode cX1_kept 2 = .ok (.invokevirtual 293, 3) := dk_182 1 37 (dk_at dksX1_kept_0 2 rfl rfl)
theorem dX1_kept_5 : decode cX1_kept 5 = .ok (.ifCond .ne 6, 3) := dk_154 0 6 (dk_at dksX1_kept_0 5 rfl rfl)
theorem dX1_kept_8 : decode cX1_kept 8 = .ok (.ldc 188, 2) := dk_18 188 (dk_at dksX1_kept_0 8 rfl rfl)
theorem dX1_kept_10 : decode cX1_kept 10 = .ok (.ireturn, 1) := dk_172 (dk_at dksX1_kept_0 10 rfl rfl)
theorem dX1_kept_11 : decode cX1_kept 11 = .ok (.aload_n 0, 1) := dk_42 (dk_at dksX1_kept_0 11 rfl rfl)
theorem dX1_kept_12 : decode cX1_kept 12 = .ok (.getfield 63, 3) := dk_180 0 63 (dk_at dksX1_kept_0 12 rfl rfl)
theorem dX1_kept_15 : decode cX1_kept 15 = .ok (.iload_n 1, 1) := dk_27 (dk_at dksX1_kept_0 15 rfl rfl)
theorem dX1_kept_16 : decode cX1_kept 16 = .ok (.invokevirtual 296, 3) := dk_182 1 40 (dk_at dksX1_kept_0 16 rfl rfl)
theorem dX1_kept_19 : decode cX1_kept 19 = .ok (.checkcast 4, 3) := dk_192 0 4 (dk_at dksX1_kept_0 19 rfl rfl)
theorem dX1_kept_22 : decode cX1_kept 22 = .ok (.astore 4, 2) := dk_58 4 (dk_at dksX1_kept_0 22 rfl rfl)
theorem dX1_kept_24 : decode cX1_kept 24 = .ok (.aload 4, 2) := dk_25 4 (dk_at dksX1_kept_1 0 rfl rfl)
theorem dX1_kept_26 : decode cX1_kept 26 = .ok (.iload_n 2, 1) := dk_28 (dk_at dksX1_kept_1 2 rfl rfl)
theorem dX1_kept_27 : decode cX1_kept 27 = .ok (.invokestatic 242, 3) := dk_184 0 242 (dk_at dksX1_kept_1 3 rfl rfl)
theorem dX1_kept_30 : decode cX1_kept 30 = .ok (.ifCond .eq 24, 3) := dk_153 0 24 (dk_at dksX1_kept_1 6 rfl rfl)
theorem dX1_kept_33 : decode cX1_kept 33 = .ok (.aload 4, 2) := dk_25 4 (dk_at dksX1_kept_1 9 rfl rfl)
theorem dX1_kept_35 : decode cX1_kept 35 = .ok (.iload_n 3, 1) := dk_29 (dk_at dksX1_kept_1 11 rfl rfl)
theorem dX1_kept_36 : decode cX1_kept 36 = .ok (.invokestatic 246, 3) := dk_184 0 246 (dk_at dksX1_kept_1 12 rfl rfl)
theorem dX1_kept_39 : decode cX1_kept 39 = .ok (.ifCond .eq 15, 3) := dk_153 0 15 (dk_at dksX1_kept_1 15 rfl rfl)
theorem dX1_kept_42 : decode cX1_kept 42 = .ok (.aload 4, 2) := dk_25 4 (dk_at dksX1_kept_1 18 rfl rfl)
theorem dX1_kept_44 : decode cX1_kept 44 = .ok (.getfield 13, 3) := dk_180 0 13 (dk_at dksX1_kept_1 20 rfl rfl)
theorem dX1_kept_47 : decode cX1_kept 47 = .ok (.iload_n 2, 1) := dk_28 (dk_at dksX1_kept_1 23 rfl rfl)
theorem dX1_kept_48 : decode cX1_kept 48 = .ok (.aaload, 1) := dk_50 (dk_at dksX1_kept_2 0 rfl rfl)
theorem dX1_kept_49 : decode cX1_kept 49 = .ok (.iload_n 3, 1) := dk_29 (dk_at dksX1_kept_2 1 rfl rfl)
theorem dX1_kept_50 : decode cX1_kept 50 = .ok (.iaload, 1) := dk_46 (dk_at dksX1_kept_2 2 rfl rfl)
theorem dX1_kept_51 : decode cX1_kept 51 = .ok (.goto 5, 3) := dk_167 0 5 (dk_at dksX1_kept_2 3 rfl rfl)
theorem dX1_kept_54 : decode cX1_kept 54 = .ok (.ldc 188, 2) := dk_18 188 (dk_at dksX1_kept_2 6 rfl rfl)
theorem dX1_kept_56 : decode cX1_kept 56 = .ok (.ireturn, 1) := dk_172 (dk_at dksX1_kept_2 8 rfl rfl)
abbrev cX1_isKept : ByteArray := prog_1_method_41_code
def yX1_isKept : MethodName := ⟨RX1, "isKept", "(I)Z"⟩
def dkwX1_isKept_0 : List UInt8 := [27, 3, 42, 180, 0, 63, 182, 1, 30, 4, 100, 184, 0, 149, 172]
abbrev dktX1_isKept_0 : List UInt8 := dkwX1_isKept_0 ++ []
theorem dksX1_isKept_0 : cX1_isKept.data.toList.drop 0 = dktX1_isKept_0 := by decide +kernel
theorem dX1_isKept_0 : decode cX1_isKept 0 = .ok (.iload_n 1, 1) := dk_27 (dk_at dksX1_isKept_0 0 rfl rfl)
theorem dX1_isKept_1 : decode cX1_isKept 1 = .ok (.iconst 0, 1) := dk_3 (dk_at dksX1_isKept_0 1 rfl rfl)
theorem dX1_isKept_2 : decode cX1_isKept 2 = .ok (.aload_n 0, 1) := dk_42 (dk_at dksX1_isKept_0 2 rfl rfl)
theorem dX1_isKept_3 : decode cX1_isKept 3 = .ok (.getfield 63, 3) := dk_180 0 63 (dk_at dksX1_isKept_0 3 rfl rfl)
theorem dX1_isKept_6 : decode cX1_isKept 6 = .ok (.invokevirtual 286, 3) := dk_182 1 30 (dk_at dksX1_isKept_0 6 rfl rfl)
theorem dX1_isKept_9 : decode cX1_isKept 9 = .ok (.iconst 1, 1) := dk_4 (dk_at dksX1_isKept_0 9 rfl rfl)
theorem dX1_isKept_10 : decode cX1_isKept 10 = .ok (.isub, 1) := dk_100 (dk_at dksX1_isKept_0 10 rfl rfl)
theorem dX1_isKept_11 : decode cX1_isKept 11 = .ok (.invokestatic 149, 3) := dk_184 0 149 (dk_at dksX1_isKept_0 11 rfl rfl)
theorem dX1_isKept_14 : decode cX1_isKept 14 = .ok (.ireturn, 1) := dk_172 (dk_at dksX1_isKept_0 14 rfl rfl)
abbrev cX1_join : ByteArray := prog_1_method_46_code
def yX1_join : MethodName := ⟨RX1, "join", "(III)I"⟩
def dkwX1_join_3 : List UInt8 := [192, 0, 4, 184, 1, 52, 182, 1, 27, 42, 180, 0, 220, 180, 0, 17, 172]
abbrev dktX1_join_3 : List UInt8 := dkwX1_join_3 ++ []
def dkwX1_join_2 : List UInt8 := [167, 0, 28, 42, 180, 0, 63, 27, 182, 1, 40, 192, 0, 4, 42, 180, 0, 63, 28, 182, 1, 40]
abbrev dktX1_join_2 : List UInt8 := dkwX1_join_2 ++ dktX1_join_3
def dkwX1_join_1 : List UInt8 := [180, 0, 63, 27, 182, 1, 40, 192, 0, 4, 42, 180, 0, 63, 28, 182, 1, 40, 192, 0, 4, 184, 1, 48]
abbrev dktX1_join_1 : List UInt8 := dkwX1_join_1 ++ dktX1_join_2
def dkwX1_join_0 : List UInt8 := [42, 42, 27, 28, 29, 182, 1, 44, 182, 1, 15, 153, 0, 5, 2, 172, 42, 29, 154, 0, 31, 42]
abbrev dktX1_join_0 : List UInt8 := dkwX1_join_0 ++ dktX1_join_1
theorem dksX1_join_0 : cX1_join.data.toList.drop 0 = dktX1_join_0 := by decide +kernel
theorem dksX1_join_1 : cX1_join.data.toList.drop 22 = dktX1_join_1 := dk_seg dksX1_join_0 22 rfl rfl
theorem dksX1_join_2 : cX1_join.data.toList.drop 46 = dktX1_join_2 := dk_seg dksX1_join_1 24 rfl rfl
theorem dksX1_join_3 : cX1_join.data.toList.drop 68 = dktX1_join_3 := dk_seg dksX1_join_2 22 rfl rfl
theorem dX1_join_0 : decode cX1_join 0 = .ok (.aload_n 0, 1) := dk_42 (dk_at dksX1_join_0 0 rfl rfl)
theorem dX1_join_1 : decode cX1_join 1 = .ok (.aload_n 0, 1) := dk_42 (dk_at dksX1_join_0 1 rfl rfl)
theorem dX1_join_2 : decode cX1_join 2 = .ok (.iload_n 1, 1) := dk_27 (dk_at dksX1_join_0 2 rfl rfl)
theorem dX1_join_3 : decode cX1_join 3 = .ok (.iload_n 2, 1) := dk_28 (dk_at dksX1_join_0 3 rfl rfl)
theorem dX1_join_4 : decode cX1_join 4 = .ok (.iload_n 3, 1) := dk_29 (dk_at dksX1_join_0 4 rfl rfl)
theorem dX1_join_5 : decode cX1_join 5 = .ok (.invokevirtual 300, 3) := dk_182 1 44 (dk_at dksX1_join_0 5 rfl rfl)
theorem dX1_join_8 : decode cX1_join 8 = .ok (.invokevirtual 271, 3) := dk_182 1 15 (dk_at dksX1_join_0 8 rfl rfl)
theorem dX1_join_11 : decode cX1_join 11 = .ok (.ifCond .eq 5, 3) := dk_153 0 5 (dk_at dksX1_join_0 11 rfl rfl)
theorem dX1_join_14 : decode cX1_join 14 = .ok (.iconst (-1), 1) := dk_2 (dk_at dksX1_join_0 14 rfl rfl)
theorem dX1_join_15 : decode cX1_join 15 = .ok (.ireturn, 1) := dk_172 (dk_at dksX1_join_0 15 rfl rfl)
theorem dX1_join_16 : decode cX1_join 16 = .ok (.aload_n 0, 1) := dk_42 (dk_at dksX1_join_0 16 rfl rfl)
theorem dX1_join_17 : decode cX1_join 17 = .ok (.iload_n 3, 1) := dk_29 (dk_at dksX1_join_0 17 rfl rfl)
theorem dX1_join_18 : decode cX1_join 18 = .ok (.ifCond .ne 31, 3) := dk_154 0 31 (dk_at dksX1_join_0 18 rfl rfl)
theorem dX1_join_21 : decode cX1_join 21 = .ok (.aload_n 0, 1) := dk_42 (dk_at dksX1_join_0 21 rfl rfl)
theorem dX1_join_22 : decode cX1_join 22 = .ok (.getfield 63, 3) := dk_180 0 63 (dk_at dksX1_join_1 0 rfl rfl)
theorem dX1_join_25 : decode cX1_join 25 = .ok (.iload_n 1, 1) := dk_27 (dk_at dksX1_join_1 3 rfl rfl)
theorem dX1_join_26 : decode cX1_join 26 = .ok (.invokevirtual 296, 3) := dk_182 1 40 (dk_at dksX1_join_1 4 rfl rfl)
theorem dX1_join_29 : decode cX1_join 29 = .ok (.checkcast 4, 3) := dk_192 0 4 (dk_at dksX1_join_1 7 rfl rfl)
theorem dX1_join_32 : decode cX1_join 32 = .ok (.aload_n 0, 1) := dk_42 (dk_at dksX1_join_1 10 rfl rfl)
theorem dX1_join_33 : decode cX1_join 33 = .ok (.getfield 63, 3) := dk_180 0 63 (dk_at dksX1_join_1 11 rfl rfl)
theorem dX1_join_36 : decode cX1_join 36 = .ok (.iload_n 2, 1) := dk_28 (dk_at dksX1_join_1 14 rfl rfl)
theorem dX1_join_37 : decode cX1_join 37 = .ok (.invokevirtual 296, 3) := dk_182 1 40 (dk_at dksX1_join_1 15 rfl rfl)
theorem dX1_join_40 : decode cX1_join 40 = .ok (.checkcast 4, 3) := dk_192 0 4 (dk_at dksX1_join_1 18 rfl rfl)
theorem dX1_join_43 : decode cX1_join 43 = .ok (.invokestatic 304, 3) := dk_184 1 48 (dk_at dksX1_join_1 21 rfl rfl)
theorem dX1_join_46 : decode cX1_join 46 = .ok (.goto 28, 3) := dk_167 0 28 (dk_at dksX1_join_2 0 rfl rfl)
theorem dX1_join_49 : decode cX1_join 49 = .ok (.aload_n 0, 1) := dk_42 (dk_at dksX1_join_2 3 rfl rfl)
theorem dX1_join_50 : decode cX1_join 50 = .ok (.getfield 63, 3) := dk_180 0 63 (dk_at dksX1_join_2 4 rfl rfl)
theorem dX1_join_53 : decode cX1_join 53 = .ok (.iload_n 1, 1) := dk_27 (dk_at dksX1_join_2 7 rfl rfl)
theorem dX1_join_54 : decode cX1_join 54 = .ok (.invokevirtual 296, 3) := dk_182 1 40 (dk_at dksX1_join_2 8 rfl rfl)
theorem dX1_join_57 : decode cX1_join 57 = .ok (.checkcast 4, 3) := dk_192 0 4 (dk_at dksX1_join_2 11 rfl rfl)
theorem dX1_join_60 : decode cX1_join 60 = .ok (.aload_n 0, 1) := dk_42 (dk_at dksX1_join_2 14 rfl rfl)
theorem dX1_join_61 : decode cX1_join 61 = .ok (.getfield 63, 3) := dk_180 0 63 (dk_at dksX1_join_2 15 rfl rfl)
theorem dX1_join_64 : decode cX1_join 64 = .ok (.iload_n 2, 1) := dk_28 (dk_at dksX1_join_2 18 rfl rfl)
theorem dX1_join_65 : decode cX1_join 65 = .ok (.invokevirtual 296, 3) := dk_182 1 40 (dk_at dksX1_join_2 19 rfl rfl)
theorem dX1_join_68 : decode cX1_join 68 = .ok (.checkcast 4, 3) := dk_192 0 4 (dk_at dksX1_join_3 0 rfl rfl)
theorem dX1_join_71 : decode cX1_join 71 = .ok (.invokestatic 308, 3) := dk_184 1 52 (dk_at dksX1_join_3 3 rfl rfl)
theorem dX1_join_74 : decode cX1_join 74 = .ok (.invokevirtual 283, 3) := dk_182 1 27 (dk_at dksX1_join_3 6 rfl rfl)
theorem dX1_join_77 : decode cX1_join 77 = .ok (.aload_n 0, 1) := dk_42 (dk_at dksX1_join_3 9 rfl rfl)
theorem dX1_join_78 : decode cX1_join 78 = .ok (.getfield 220, 3) := dk_180 0 220 (dk_at dksX1_join_3 10 rfl rfl)
theorem dX1_join_81 : decode cX1_join 81 = .ok (.getfield 17, 3) := dk_180 0 17 (dk_at dksX1_join_3 13 rfl rfl)
theorem dX1_join_84 : decode cX1_join 84 = .ok (.ireturn, 1) := dk_172 (dk_at dksX1_join_3 16 rfl rfl)
abbrev cX1_whyNotJoined : ByteArray := prog_1_method_45_code
def yX1_whyNotJoined : MethodName := ⟨RX1, "whyNotJoined", "(III)I"⟩
def dkwX1_whyNotJoined_5 : List UInt8 := [167, 0, 4, 6, 172]
abbrev dktX1_whyNotJoined_5 : List UInt8 := dkwX1_whyNotJoined_5 ++ []
def dkwX1_whyNotJoined_4 : List UInt8 := [163, 0, 25, 25, 4, 180, 0, 9, 25, 5, 180, 0, 9, 96, 29, 100, 16, 6, 163, 0, 7, 2]
abbrev dktX1_whyNotJoined_4 : List UInt8 := dkwX1_whyNotJoined_4 ++ dktX1_whyNotJoined_5
def dkwX1_whyNotJoined_3 : List UInt8 := [180, 0, 17, 5, 162, 0, 5, 6, 172, 25, 4, 180, 0, 17, 25, 5, 180, 0, 17, 96, 29, 100, 16, 6]
abbrev dktX1_whyNotJoined_3 : List UInt8 := dkwX1_whyNotJoined_3 ++ dktX1_whyNotJoined_4
def dkwX1_whyNotJoined_2 : List UInt8 := [182, 1, 40, 192, 0, 4, 58, 5, 29, 4, 160, 0, 23, 25, 4, 180, 0, 9, 5, 161, 0, 12, 25, 5]
abbrev dktX1_whyNotJoined_2 : List UInt8 := dkwX1_whyNotJoined_2 ++ dktX1_whyNotJoined_3
def dkwX1_whyNotJoined_1 : List UInt8 := [154, 0, 5, 4, 172, 42, 180, 0, 63, 27, 182, 1, 40, 192, 0, 4, 58, 4, 42, 180, 0, 63, 28]
abbrev dktX1_whyNotJoined_1 : List UInt8 := dkwX1_whyNotJoined_1 ++ dktX1_whyNotJoined_2
def dkwX1_whyNotJoined_0 : List UInt8 := [42, 27, 182, 1, 37, 153, 0, 11, 42, 28, 182, 1, 37, 154, 0, 5, 3, 172, 29, 3, 4, 184, 0, 149]
abbrev dktX1_whyNotJoined_0 : List UInt8 := dkwX1_whyNotJoined_0 ++ dktX1_whyNotJoined_1
theorem dksX1_whyNotJoined_0 : cX1_whyNotJoined.data.toList.drop 0 = dktX1_whyNotJoined_0 := by decide +kernel
theorem dksX1_whyNotJoined_1 : cX1_whyNotJoined.data.toList.drop 24 = dktX1_whyNotJoined_1 := dk_seg dksX1_whyNotJoined_0 24 rfl rfl
theorem dksX1_whyNotJoined_2 : cX1_whyNotJoined.data.toList.drop 47 = dktX1_whyNotJoined_2 := dk_seg dksX1_whyNotJoined_1 23 rfl rfl
theorem dksX1_whyNotJoined_3 : cX1_whyNotJoined.data.toList.drop 71 = dktX1_whyNotJoined_3 := dk_seg dksX1_whyNotJoined_2 24 rfl rfl
theorem dksX1_whyNotJoined_4 : cX1_whyNotJoined.data.toList.drop 95 = dktX1_whyNotJoined_4 := dk_seg dksX1_whyNotJoined_3 24 rfl rfl
theorem dksX1_whyNotJoined_5 : cX1_whyNotJoined.data.toList.drop 117 = dktX1_whyNotJoined_5 := dk_seg dksX1_whyNotJoined_4 22 rfl rfl
theorem dX1_whyNotJoined_0 : decode cX1_whyNotJoined 0 = .ok (.aload_n 0, 1) := dk_42 (dk_at dksX1_whyNotJoined_0 0 rfl rfl)
theorem dX1_whyNotJoined_1 : decode cX1_whyNotJoined 1 = .ok (.iload_n 1, 1) := dk_27 (dk_at dksX1_whyNotJoined_0 1 rfl rfl)
theorem dX1_whyNotJoined_2 : decode cX1_whyNotJoined 2 = .ok (.invokevirtual 293, 3) := dk_182 1 37 (dk_at dksX1_whyNotJoined_0 2 rfl rfl)
theorem dX1_whyNotJoined_5 : decode cX1_whyNotJoined 5 = .ok (.ifCond .eq 11, 3) := dk_153 0 11 (dk_at dksX1_whyNotJoined_0 5 rfl rfl)
theorem dX1_whyNotJoined_8 : decode cX1_whyNotJoined 8 = .ok (.aload_n 0, 1) := dk_42 (dk_at dksX1_whyNotJoined_0 8 rfl rfl)
theorem dX1_whyNotJoined_9 : decode cX1_whyNotJoined 9 = .ok (.iload_n 2, 1) := dk_28 (dk_at dksX1_whyNotJoined_0 9 rfl rfl)
theorem dX1_whyNotJoined_10 : decode cX1_whyNotJoined 10 = .ok (.invokevirtual 293, 3) := dk_182 1 37 (dk_at dksX1_whyNotJoined_0 10 rfl rfl)
theorem dX1_whyNotJoined_13 : decode cX1_whyNotJoined 13 = .ok (.ifCond .ne 5, 3) := dk_154 0 5 (dk_at dksX1_whyNotJoined_0 13 rfl rfl)
theorem dX1_whyNotJoined_16 : decode cX1_whyNotJoined 16 = .ok (.iconst 0, 1) := dk_3 (dk_at dksX1_whyNotJoined_0 16 rfl rfl)
theorem dX1_whyNotJoined_17 : decode cX1_whyNotJoined 17 = .ok (.ireturn, 1) := dk_172 (dk_at dksX1_whyNotJoined_0 17 rfl rfl)
theorem dX1_whyNotJoined_18 : decode cX1_whyNotJoined 18 = .ok (.iload_n 3, 1) := dk_29 (dk_at dksX1_whyNotJoined_0 18 rfl rfl)
theorem dX1_whyNotJoined_19 : decode cX1_whyNotJoined 19 = .ok (.iconst 0, 1) := dk_3 (dk_at dksX1_whyNotJoined_0 19 rfl rfl)
theorem dX1_whyNotJoined_20 : decode cX1_whyNotJoined 20 = .ok (.iconst 1, 1) := dk_4 (dk_at dksX1_whyNotJoined_0 20 rfl rfl)
theorem dX1_whyNotJoined_21 : decode cX1_whyNotJoined 21 = .ok (.invokestatic 149, 3) := dk_184 0 149 (dk_at dksX1_whyNotJoined_0 21 rfl rfl)
theorem dX1_whyNotJoined_24 : decode cX1_whyNotJoined 24 = .ok (.ifCond .ne 5, 3) := dk_154 0 5 (dk_at dksX1_whyNotJoined_1 0 rfl rfl)
theorem dX1_whyNotJoined_27 : decode cX1_whyNotJoined 27 = .ok (.iconst 1, 1) := dk_4 (dk_at dksX1_whyNotJoined_1 3 rfl rfl)
theorem dX1_whyNotJoined_28 : decode cX1_whyNotJoined 28 = .ok (.ireturn, 1) := dk_172 (dk_at dksX1_whyNotJoined_1 4 rfl rfl)
theorem dX1_whyNotJoined_29 : decode cX1_whyNotJoined 29 = .ok (.aload_n 0, 1) := dk_42 (dk_at dksX1_whyNotJoined_1 5 rfl rfl)
theorem dX1_whyNotJoined_30 : decode cX1_whyNotJoined 30 = .ok (.getfield 63, 3) := dk_180 0 63 (dk_at dksX1_whyNotJoined_1 6 rfl rfl)
theorem dX1_whyNotJoined_33 : decode cX1_whyNotJoined 33 = .ok (.iload_n 1, 1) := dk_27 (dk_at dksX1_whyNotJoined_1 9 rfl rfl)
theorem dX1_whyNotJoined_34 : decode cX1_whyNotJoined 34 = .ok (.invokevirtual 296, 3) := dk_182 1 40 (dk_at dksX1_whyNotJoined_1 10 rfl rfl)
theorem dX1_whyNotJoined_37 : decode cX1_whyNotJoined 37 = .ok (.checkcast 4, 3) := dk_192 0 4 (dk_at dksX1_whyNotJoined_1 13 rfl rfl)
theorem dX1_whyNotJoined_40 : decode cX1_whyNotJoined 40 = .ok (.astore 4, 2) := dk_58 4 (dk_at dksX1_whyNotJoined_1 16 rfl rfl)
theorem dX1_whyNotJoined_42 : decode cX1_whyNotJoined 42 = .ok (.aload_n 0, 1) := dk_42 (dk_at dksX1_whyNotJoined_1 18 rfl rfl)
theorem dX1_whyNotJoined_43 : decode cX1_whyNotJoined 43 = .ok (.getfield 63, 3) := dk_180 0 63 (dk_at dksX1_whyNotJoined_1 19 rfl rfl)
theorem dX1_whyNotJoined_46 : decode cX1_whyNotJoined 46 = .ok (.iload_n 2, 1) := dk_28 (dk_at dksX1_whyNotJoined_1 22 rfl rfl)
theorem dX1_whyNotJoined_47 : decode cX1_whyNotJoined 47 = .ok (.invokevirtual 296, 3) := dk_182 1 40 (dk_at dksX1_whyNotJoined_2 0 rfl rfl)
theorem dX1_whyNotJoined_50 : decode cX1_whyNotJoined 50 = .ok (.checkcast 4, 3) := dk_192 0 4 (dk_at dksX1_whyNotJoined_2 3 rfl rfl)
theorem dX1_whyNotJoined_53 : decode cX1_whyNotJoined 53 = .ok (.astore 5, 2) := dk_58 5 (dk_at dksX1_whyNotJoined_2 6 rfl rfl)
theorem dX1_whyNotJoined_55 : decode cX1_whyNotJoined 55 = .ok (.iload_n 3, 1) := dk_29 (dk_at dksX1_whyNotJoined_2 8 rfl rfl)
theorem dX1_whyNotJoined_56 : decode cX1_whyNotJoined 56 = .ok (.iconst 1, 1) := dk_4 (dk_at dksX1_whyNotJoined_2 9 rfl rfl)
theorem dX1_whyNotJoined_57 : decode cX1_whyNotJoined 57 = .ok (.if_icmp .ne 23, 3) := dk_160 0 23 (dk_at dksX1_whyNotJoined_2 10 rfl rfl)
theorem dX1_whyNotJoined_60 : decode cX1_whyNotJoined 60 = .ok (.aload 4, 2) := dk_25 4 (dk_at dksX1_whyNotJoined_2 13 rfl rfl)
theorem dX1_whyNotJoined_62 : decode cX1_whyNotJoined 62 = .ok (.getfield 9, 3) := dk_180 0 9 (dk_at dksX1_whyNotJoined_2 15 rfl rfl)
theorem dX1_whyNotJoined_65 : decode cX1_whyNotJoined 65 = .ok (.iconst 2, 1) := dk_5 (dk_at dksX1_whyNotJoined_2 18 rfl rfl)
theorem dX1_whyNotJoined_66 : decode cX1_whyNotJoined 66 = .ok (.if_icmp .lt 12, 3) := dk_161 0 12 (dk_at dksX1_whyNotJoined_2 19 rfl rfl)
theorem dX1_whyNotJoined_69 : decode cX1_whyNotJoined 69 = .ok (.aload 5, 2) := dk_25 5 (dk_at dksX1_whyNotJoined_2 22 rfl rfl)
theorem dX1_whyNotJoined_71 : decode cX1_whyNotJoined 71 = .ok (.getfield 17, 3) := dk_180 0 17 (dk_at dksX1_whyNotJoined_3 0 rfl rfl)
theorem dX1_whyNotJoined_74 : decode cX1_whyNotJoined 74 = .ok (.iconst 2, 1) := dk_5 (dk_at dksX1_whyNotJoined_3 3 rfl rfl)
theorem dX1_whyNotJoined_75 : decode cX1_whyNotJoined 75 = .ok (.if_icmp .ge 5, 3) := dk_162 0 5 (dk_at dksX1_whyNotJoined_3 4 rfl rfl)
theorem dX1_whyNotJoined_78 : decode cX1_whyNotJoined 78 = .ok (.iconst 3, 1) := dk_6 (dk_at dksX1_whyNotJoined_3 7 rfl rfl)
theorem dX1_whyNotJoined_79 : decode cX1_whyNotJoined 79 = .ok (.ireturn, 1) := dk_172 (dk_at dksX1_whyNotJoined_3 8 rfl rfl)
theorem dX1_whyNotJoined_80 : decode cX1_whyNotJoined 80 = .ok (.aload 4, 2) := dk_25 4 (dk_at dksX1_whyNotJoined_3 9 rfl rfl)
theorem dX1_whyNotJoined_82 : decode cX1_whyNotJoined 82 = .ok (.getfield 17, 3) := dk_180 0 17 (dk_at dksX1_whyNotJoined_3 11 rfl rfl)
theorem dX1_whyNotJoined_85 : decode cX1_whyNotJoined 85 = .ok (.aload 5, 2) := dk_25 5 (dk_at dksX1_whyNotJoined_3 14 rfl rfl)
theorem dX1_whyNotJoined_87 : decode cX1_whyNotJoined 87 = .ok (.getfield 17, 3) := dk_180 0 17 (dk_at dksX1_whyNotJoined_3 16 rfl rfl)
theorem dX1_whyNotJoined_90 : decode cX1_whyNotJoined 90 = .ok (.iadd, 1) := dk_96 (dk_at dksX1_whyNotJoined_3 19 rfl rfl)
theorem dX1_whyNotJoined_91 : decode cX1_whyNotJoined 91 = .ok (.iload_n 3, 1) := dk_29 (dk_at dksX1_whyNotJoined_3 20 rfl rfl)
theorem dX1_whyNotJoined_92 : decode cX1_whyNotJoined 92 = .ok (.isub, 1) := dk_100 (dk_at dksX1_whyNotJoined_3 21 rfl rfl)
theorem dX1_whyNotJoined_93 : decode cX1_whyNotJoined 93 = .ok (.bipush 6, 2) := dk_16 6 (dk_at dksX1_whyNotJoined_3 22 rfl rfl)
theorem dX1_whyNotJoined_95 : decode cX1_whyNotJoined 95 = .ok (.if_icmp .gt 25, 3) := dk_163 0 25 (dk_at dksX1_whyNotJoined_4 0 rfl rfl)
theorem dX1_whyNotJoined_98 : decode cX1_whyNotJoined 98 = .ok (.aload 4, 2) := dk_25 4 (dk_at dksX1_whyNotJoined_4 3 rfl rfl)
theorem dX1_whyNotJoined_100 : decode cX1_whyNotJoined 100 = .ok (.getfield 9, 3) := dk_180 0 9 (dk_at dksX1_whyNotJoined_4 5 rfl rfl)
theorem dX1_whyNotJoined_103 : decode cX1_whyNotJoined 103 = .ok (.aload 5, 2) := dk_25 5 (dk_at dksX1_whyNotJoined_4 8 rfl rfl)
theorem dX1_whyNotJoined_105 : decode cX1_whyNotJoined 105 = .ok (.getfield 9, 3) := dk_180 0 9 (dk_at dksX1_whyNotJoined_4 10 rfl rfl)
theorem dX1_whyNotJoined_108 : decode cX1_whyNotJoined 108 = .ok (.iadd, 1) := dk_96 (dk_at dksX1_whyNotJoined_4 13 rfl rfl)
theorem dX1_whyNotJoined_109 : decode cX1_whyNotJoined 109 = .ok (.iload_n 3, 1) := dk_29 (dk_at dksX1_whyNotJoined_4 14 rfl rfl)
theorem dX1_whyNotJoined_110 : decode cX1_whyNotJoined 110 = .ok (.isub, 1) := dk_100 (dk_at dksX1_whyNotJoined_4 15 rfl rfl)
theorem dX1_whyNotJoined_111 : decode cX1_whyNotJoined 111 = .ok (.bipush 6, 2) := dk_16 6 (dk_at dksX1_whyNotJoined_4 16 rfl rfl)
theorem dX1_whyNotJoined_113 : decode cX1_whyNotJoined 113 = .ok (.if_icmp .gt 7, 3) := dk_163 0 7 (dk_at dksX1_whyNotJoined_4 18 rfl rfl)
theorem dX1_whyNotJoined_116 : decode cX1_whyNotJoined 116 = .ok (.iconst (-1), 1) := dk_2 (dk_at dksX1_whyNotJoined_4 21 rfl rfl)
theorem dX1_whyNotJoined_117 : decode cX1_whyNotJoined 117 = .ok (.goto 4, 3) := dk_167 0 4 (dk_at dksX1_whyNotJoined_5 0 rfl rfl)
theorem dX1_whyNotJoined_120 : decode cX1_whyNotJoined 120 = .ok (.iconst 3, 1) := dk_6 (dk_at dksX1_whyNotJoined_5 3 rfl rfl)
theorem dX1_whyNotJoined_121 : decode cX1_whyNotJoined 121 = .ok (.ireturn, 1) := dk_172 (dk_at dksX1_whyNotJoined_5 4 rfl rfl)
abbrev cX1_joined : ByteArray := prog_1_method_43_code
def yX1_joined : MethodName := ⟨RX1, "joined", "(LUnimodularTables$Table;LUnimodularTables$Table;)LUnimodularTables$Table;"⟩
def dkwX1_joined_6 : List UInt8 := [176]
abbrev dktX1_joined_6 : List UInt8 := dkwX1_joined_6 ++ []
def dkwX1_joined_5 : List UInt8 := [96, 43, 180, 0, 13, 29, 50, 21, 4, 46, 79, 132, 4, 1, 167, 255, 216, 132, 3, 1, 167, 255, 199, 44]
abbrev dktX1_joined_5 : List UInt8 := dkwX1_joined_5 ++ dktX1_joined_6
def dkwX1_joined_4 : List UInt8 := [43, 180, 0, 9, 162, 0, 37, 44, 180, 0, 13, 42, 180, 0, 17, 29, 96, 50, 42, 180, 0, 9, 21, 4]
abbrev dktX1_joined_4 : List UInt8 := dkwX1_joined_4 ++ dktX1_joined_5
def dkwX1_joined_3 : List UInt8 := [167, 255, 226, 132, 3, 1, 167, 255, 209, 3, 62, 29, 43, 180, 0, 17, 162, 0, 55, 3, 54, 4, 21, 4]
abbrev dktX1_joined_3 : List UInt8 := dkwX1_joined_3 ++ dktX1_joined_4
def dkwX1_joined_2 : List UInt8 := [162, 0, 27, 44, 180, 0, 13, 29, 50, 21, 4, 42, 180, 0, 13, 29, 50, 21, 4, 46, 79, 132, 4, 1]
abbrev dktX1_joined_2 : List UInt8 := dkwX1_joined_2 ++ dktX1_joined_3
def dkwX1_joined_1 : List UInt8 := [183, 0, 20, 77, 3, 62, 29, 42, 180, 0, 17, 162, 0, 45, 3, 54, 4, 21, 4, 42, 180, 0, 9]
abbrev dktX1_joined_1 : List UInt8 := dkwX1_joined_1 ++ dktX1_joined_2
def dkwX1_joined_0 : List UInt8 := [187, 0, 4, 89, 42, 180, 0, 17, 43, 180, 0, 17, 96, 42, 180, 0, 9, 43, 180, 0, 9, 96]
abbrev dktX1_joined_0 : List UInt8 := dkwX1_joined_0 ++ dktX1_joined_1
theorem dksX1_joined_0 : cX1_joined.data.toList.drop 0 = dktX1_joined_0 := by decide +kernel
theorem dksX1_joined_1 : cX1_joined.data.toList.drop 22 = dktX1_joined_1 := dk_seg dksX1_joined_0 22 rfl rfl
theorem dksX1_joined_2 : cX1_joined.data.toList.drop 45 = dktX1_joined_2 := dk_seg dksX1_joined_1 23 rfl rfl
theorem dksX1_joined_3 : cX1_joined.data.toList.drop 69 = dktX1_joined_3 := dk_seg dksX1_joined_2 24 rfl rfl
theorem dksX1_joined_4 : cX1_joined.data.toList.drop 93 = dktX1_joined_4 := dk_seg dksX1_joined_3 24 rfl rfl
theorem dksX1_joined_5 : cX1_joined.data.toList.drop 117 = dktX1_joined_5 := dk_seg dksX1_joined_4 24 rfl rfl
theorem dksX1_joined_6 : cX1_joined.data.toList.drop 141 = dktX1_joined_6 := dk_seg dksX1_joined_5 24 rfl rfl
theorem dX1_joined_0 : decode cX1_joined 0 = .ok (.new 4, 3) := dk_187 0 4 (dk_at dksX1_joined_0 0 rfl rfl)
theorem dX1_joined_3 : decode cX1_joined 3 = .ok (.dup, 1) := dk_89 (dk_at dksX1_joined_0 3 rfl rfl)
theorem dX1_joined_4 : decode cX1_joined 4 = .ok (.aload_n 0, 1) := dk_42 (dk_at dksX1_joined_0 4 rfl rfl)
theorem dX1_joined_5 : decode cX1_joined 5 = .ok (.getfield 17, 3) := dk_180 0 17 (dk_at dksX1_joined_0 5 rfl rfl)
theorem dX1_joined_8 : decode cX1_joined 8 = .ok (.aload_n 1, 1) := dk_43 (dk_at dksX1_joined_0 8 rfl rfl)
theorem dX1_joined_9 : decode cX1_joined 9 = .ok (.getfield 17, 3) := dk_180 0 17 (dk_at dksX1_joined_0 9 rfl rfl)
theorem dX1_joined_12 : decode cX1_joined 12 = .ok (.iadd, 1) := dk_96 (dk_at dksX1_joined_0 12 rfl rfl)
theorem dX1_joined_13 : decode cX1_joined 13 = .ok (.aload_n 0, 1) := dk_42 (dk_at dksX1_joined_0 13 rfl rfl)
theorem dX1_joined_14 : decode cX1_joined 14 = .ok (.getfield 9, 3) := dk_180 0 9 (dk_at dksX1_joined_0 14 rfl rfl)
theorem dX1_joined_17 : decode cX1_joined 17 = .ok (.aload_n 1, 1) := dk_43 (dk_at dksX1_joined_0 17 rfl rfl)
theorem dX1_joined_18 : decode cX1_joined 18 = .ok (.getfield 9, 3) := dk_180 0 9 (dk_at dksX1_joined_0 18 rfl rfl)
theorem dX1_joined_21 : decode cX1_joined 21 = .ok (.iadd, 1) := dk_96 (dk_at dksX1_joined_0 21 rfl rfl)
theorem dX1_joined_22 : decode cX1_joined 22 = .ok (.invokespecial 20, 3) := dk_183 0 20 (dk_at dksX1_joined_1 0 rfl rfl)
theorem dX1_joined_25 : decode cX1_joined 25 = .ok (.astore_n 2, 1) := dk_77 (dk_at dksX1_joined_1 3 rfl rfl)
theorem dX1_joined_26 : decode cX1_joined 26 = .ok (.iconst 0, 1) := dk_3 (dk_at dksX1_joined_1 4 rfl rfl)
theorem dX1_joined_27 : decode cX1_joined 27 = .ok (.istore_n 3, 1) := dk_62 (dk_at dksX1_joined_1 5 rfl rfl)
theorem dX1_joined_28 : decode cX1_joined 28 = .ok (.iload_n 3, 1) := dk_29 (dk_at dksX1_joined_1 6 rfl rfl)
theorem dX1_joined_29 : decode cX1_joined 29 = .ok (.aload_n 0, 1) := dk_42 (dk_at dksX1_joined_1 7 rfl rfl)
theorem dX1_joined_30 : decode cX1_joined 30 = .ok (.getfield 17, 3) := dk_180 0 17 (dk_at dksX1_joined_1 8 rfl rfl)
theorem dX1_joined_33 : decode cX1_joined 33 = .ok (.if_icmp .ge 45, 3) := dk_162 0 45 (dk_at dksX1_joined_1 11 rfl rfl)
theorem dX1_joined_36 : decode cX1_joined 36 = .ok (.iconst 0, 1) := dk_3 (dk_at dksX1_joined_1 14 rfl rfl)
theorem dX1_joined_37 : decode cX1_joined 37 = .ok (.istore 4, 2) := dk_54 4 (dk_at dksX1_joined_1 15 rfl rfl)
theorem dX1_joined_39 : decode cX1_joined 39 = .ok (.iload 4, 2) := dk_21 4 (dk_at dksX1_joined_1 17 rfl rfl)
theorem dX1_joined_41 : decode cX1_joined 41 = .ok (.aload_n 0, 1) := dk_42 (dk_at dksX1_joined_1 19 rfl rfl)
theorem dX1_joined_42 : decode cX1_joined 42 = .ok (.getfield 9, 3) := dk_180 0 9 (dk_at dksX1_joined_1 20 rfl rfl)
theorem dX1_joined_45 : decode cX1_joined 45 = .ok (.if_icmp .ge 27, 3) := dk_162 0 27 (dk_at dksX1_joined_2 0 rfl rfl)
theorem dX1_joined_48 : decode cX1_joined 48 = .ok (.aload_n 2, 1) := dk_44 (dk_at dksX1_joined_2 3 rfl rfl)
theorem dX1_joined_49 : decode cX1_joined 49 = .ok (.getfield 13, 3) := dk_180 0 13 (dk_at dksX1_joined_2 4 rfl rfl)
theorem dX1_joined_52 : decode cX1_joined 52 = .ok (.iload_n 3, 1) := dk_29 (dk_at dksX1_joined_2 7 rfl rfl)
theorem dX1_joined_53 : decode cX1_joined 53 = .ok (.aaload, 1) := dk_50 (dk_at dksX1_joined_2 8 rfl rfl)
theorem dX1_joined_54 : decode cX1_joined 54 = .ok (.iload 4, 2) := dk_21 4 (dk_at dksX1_joined_2 9 rfl rfl)
theorem dX1_joined_56 : decode cX1_joined 56 = .ok (.aload_n 0, 1) := dk_42 (dk_at dksX1_joined_2 11 rfl rfl)
theorem dX1_joined_57 : decode cX1_joined 57 = .ok (.getfield 13, 3) := dk_180 0 13 (dk_at dksX1_joined_2 12 rfl rfl)
theorem dX1_joined_60 : decode cX1_joined 60 = .ok (.iload_n 3, 1) := dk_29 (dk_at dksX1_joined_2 15 rfl rfl)
theorem dX1_joined_61 : decode cX1_joined 61 = .ok (.aaload, 1) := dk_50 (dk_at dksX1_joined_2 16 rfl rfl)
theorem dX1_joined_62 : decode cX1_joined 62 = .ok (.iload 4, 2) := dk_21 4 (dk_at dksX1_joined_2 17 rfl rfl)
theorem dX1_joined_64 : decode cX1_joined 64 = .ok (.iaload, 1) := dk_46 (dk_at dksX1_joined_2 19 rfl rfl)
theorem dX1_joined_65 : decode cX1_joined 65 = .ok (.iastore, 1) := dk_79 (dk_at dksX1_joined_2 20 rfl rfl)
theorem dX1_joined_66 : decode cX1_joined 66 = .ok (.iinc 4 1, 3) := dk_132 4 1 (dk_at dksX1_joined_2 21 rfl rfl)
theorem dX1_joined_69 : decode cX1_joined 69 = .ok (.goto (-30), 3) := dk_167 255 226 (dk_at dksX1_joined_3 0 rfl rfl)
theorem dX1_joined_72 : decode cX1_joined 72 = .ok (.iinc 3 1, 3) := dk_132 3 1 (dk_at dksX1_joined_3 3 rfl rfl)
theorem dX1_joined_75 : decode cX1_joined 75 = .ok (.goto (-47), 3) := dk_167 255 209 (dk_at dksX1_joined_3 6 rfl rfl)
theorem dX1_joined_78 : decode cX1_joined 78 = .ok (.iconst 0, 1) := dk_3 (dk_at dksX1_joined_3 9 rfl rfl)
theorem dX1_joined_79 : decode cX1_joined 79 = .ok (.istore_n 3, 1) := dk_62 (dk_at dksX1_joined_3 10 rfl rfl)
theorem dX1_joined_80 : decode cX1_joined 80 = .ok (.iload_n 3, 1) := dk_29 (dk_at dksX1_joined_3 11 rfl rfl)
theorem dX1_joined_81 : decode cX1_joined 81 = .ok (.aload_n 1, 1) := dk_43 (dk_at dksX1_joined_3 12 rfl rfl)
theorem dX1_joined_82 : decode cX1_joined 82 = .ok (.getfield 17, 3) := dk_180 0 17 (dk_at dksX1_joined_3 13 rfl rfl)
theorem dX1_joined_85 : decode cX1_joined 85 = .ok (.if_icmp .ge 55, 3) := dk_162 0 55 (dk_at dksX1_joined_3 16 rfl rfl)
theorem dX1_joined_88 : decode cX1_joined 88 = .ok (.iconst 0, 1) := dk_3 (dk_at dksX1_joined_3 19 rfl rfl)
theorem dX1_joined_89 : decode cX1_joined 89 = .ok (.istore 4, 2) := dk_54 4 (dk_at dksX1_joined_3 20 rfl rfl)
theorem dX1_joined_91 : decode cX1_joined 91 = .ok (.iload 4, 2) := dk_21 4 (dk_at dksX1_joined_3 22 rfl rfl)
theorem dX1_joined_93 : decode cX1_joined 93 = .ok (.aload_n 1, 1) := dk_43 (dk_at dksX1_joined_4 0 rfl rfl)
theorem dX1_joined_94 : decode cX1_joined 94 = .ok (.getfield 9, 3) := dk_180 0 9 (dk_at dksX1_joined_4 1 rfl rfl)
theorem dX1_joined_97 : decode cX1_joined 97 = .ok (.if_icmp .ge 37, 3) := dk_162 0 37 (dk_at dksX1_joined_4 4 rfl rfl)
theorem dX1_joined_100 : decode cX1_joined 100 = .ok (.aload_n 2, 1) := dk_44 (dk_at dksX1_joined_4 7 rfl rfl)
theorem dX1_joined_101 : decode cX1_joined 101 = .ok (.getfield 13, 3) := dk_180 0 13 (dk_at dksX1_joined_4 8 rfl rfl)
theorem dX1_joined_104 : decode cX1_joined 104 = .ok (.aload_n 0, 1) := dk_42 (dk_at dksX1_joined_4 11 rfl rfl)
theorem dX1_joined_105 : decode cX1_joined 105 = .ok (.getfield 17, 3) := dk_180 0 17 (dk_at dksX1_joined_4 12 rfl rfl)
theorem dX1_joined_108 : decode cX1_joined 108 = .ok (.iload_n 3, 1) := dk_29 (dk_at dksX1_joined_4 15 rfl rfl)
theorem dX1_joined_109 : decode cX1_joined 109 = .ok (.iadd, 1) := dk_96 (dk_at dksX1_joined_4 16 rfl rfl)
theorem dX1_joined_110 : decode cX1_joined 110 = .ok (.aaload, 1) := dk_50 (dk_at dksX1_joined_4 17 rfl rfl)
theorem dX1_joined_111 : decode cX1_joined 111 = .ok (.aload_n 0, 1) := dk_42 (dk_at dksX1_joined_4 18 rfl rfl)
theorem dX1_joined_112 : decode cX1_joined 112 = .ok (.getfield 9, 3) := dk_180 0 9 (dk_at dksX1_joined_4 19 rfl rfl)
theorem dX1_joined_115 : decode cX1_joined 115 = .ok (.iload 4, 2) := dk_21 4 (dk_at dksX1_joined_4 22 rfl rfl)
theorem dX1_joined_117 : decode cX1_joined 117 = .ok (.iadd, 1) := dk_96 (dk_at dksX1_joined_5 0 rfl rfl)
theorem dX1_joined_118 : decode cX1_joined 118 = .ok (.aload_n 1, 1) := dk_43 (dk_at dksX1_joined_5 1 rfl rfl)
theorem dX1_joined_119 : decode cX1_joined 119 = .ok (.getfield 13, 3) := dk_180 0 13 (dk_at dksX1_joined_5 2 rfl rfl)
theorem dX1_joined_122 : decode cX1_joined 122 = .ok (.iload_n 3, 1) := dk_29 (dk_at dksX1_joined_5 5 rfl rfl)
theorem dX1_joined_123 : decode cX1_joined 123 = .ok (.aaload, 1) := dk_50 (dk_at dksX1_joined_5 6 rfl rfl)
theorem dX1_joined_124 : decode cX1_joined 124 = .ok (.iload 4, 2) := dk_21 4 (dk_at dksX1_joined_5 7 rfl rfl)
theorem dX1_joined_126 : decode cX1_joined 126 = .ok (.iaload, 1) := dk_46 (dk_at dksX1_joined_5 9 rfl rfl)
theorem dX1_joined_127 : decode cX1_joined 127 = .ok (.iastore, 1) := dk_79 (dk_at dksX1_joined_5 10 rfl rfl)
theorem dX1_joined_128 : decode cX1_joined 128 = .ok (.iinc 4 1, 3) := dk_132 4 1 (dk_at dksX1_joined_5 11 rfl rfl)
theorem dX1_joined_131 : decode cX1_joined 131 = .ok (.goto (-40), 3) := dk_167 255 216 (dk_at dksX1_joined_5 14 rfl rfl)
theorem dX1_joined_134 : decode cX1_joined 134 = .ok (.iinc 3 1, 3) := dk_132 3 1 (dk_at dksX1_joined_5 17 rfl rfl)
theorem dX1_joined_137 : decode cX1_joined 137 = .ok (.goto (-57), 3) := dk_167 255 199 (dk_at dksX1_joined_5 20 rfl rfl)
theorem dX1_joined_140 : decode cX1_joined 140 = .ok (.aload_n 2, 1) := dk_44 (dk_at dksX1_joined_5 23 rfl rfl)
theorem dX1_joined_141 : decode cX1_joined 141 = .ok (.areturn, 1) := dk_176 (dk_at dksX1_joined_6 0 rfl rfl)
abbrev cX1_linked : ByteArray := prog_1_method_44_code
def yX1_linked : MethodName := ⟨RX1, "linked", "(LUnimodularTables$Table;LUnimodularTables$Table;)LUnimodularTables$Table;"⟩
def dkwX1_linked_8 : List UInt8 := [167, 255, 215, 132, 4, 1, 167, 255, 197, 45, 176]
abbrev dktX1_linked_8 : List UInt8 := dkwX1_linked_8 ++ []
def dkwX1_linked_7 : List UInt8 := [21, 4, 96, 4, 100, 50, 28, 21, 5, 96, 43, 180, 0, 13, 21, 4, 50, 21, 5, 46, 79, 132, 5, 1]
abbrev dktX1_linked_7 : List UInt8 := dkwX1_linked_7 ++ dktX1_linked_8
def dkwX1_linked_6 : List UInt8 := [162, 0, 56, 3, 54, 5, 21, 5, 43, 180, 0, 9, 162, 0, 38, 45, 180, 0, 13, 42, 180, 0, 17]
abbrev dktX1_linked_6 : List UInt8 := dkwX1_linked_6 ++ dktX1_linked_7
def dkwX1_linked_5 : List UInt8 := [46, 104, 79, 132, 5, 1, 167, 255, 213, 132, 4, 1, 167, 255, 160, 4, 54, 4, 21, 4, 43, 180, 0, 17]
abbrev dktX1_linked_5 : List UInt8 := dkwX1_linked_5 ++ dktX1_linked_6
def dkwX1_linked_4 : List UInt8 := [21, 4, 50, 28, 21, 5, 96, 42, 180, 0, 13, 21, 4, 50, 28, 46, 43, 180, 0, 13, 3, 50, 21, 5]
abbrev dktX1_linked_4 : List UInt8 := dkwX1_linked_4 ++ dktX1_linked_5
def dkwX1_linked_3 : List UInt8 := [46, 79, 132, 5, 1, 167, 255, 227, 3, 54, 5, 21, 5, 43, 180, 0, 9, 162, 0, 40, 45, 180, 0, 13]
abbrev dktX1_linked_3 : List UInt8 := dkwX1_linked_3 ++ dktX1_linked_4
def dkwX1_linked_2 : List UInt8 := [21, 5, 28, 162, 0, 29, 45, 180, 0, 13, 21, 4, 50, 21, 5, 42, 180, 0, 13, 21, 4, 50, 21, 5]
abbrev dktX1_linked_2 : List UInt8 := dkwX1_linked_2 ++ dktX1_linked_3
def dkwX1_linked_1 : List UInt8 := [180, 0, 9, 96, 183, 0, 20, 78, 3, 54, 4, 21, 4, 42, 180, 0, 17, 162, 0, 93, 3, 54, 5]
abbrev dktX1_linked_1 : List UInt8 := dkwX1_linked_1 ++ dktX1_linked_2
def dkwX1_linked_0 : List UInt8 := [42, 180, 0, 9, 4, 100, 61, 187, 0, 4, 89, 42, 180, 0, 17, 43, 180, 0, 17, 96, 4, 100, 28, 43]
abbrev dktX1_linked_0 : List UInt8 := dkwX1_linked_0 ++ dktX1_linked_1
theorem dksX1_linked_0 : cX1_linked.data.toList.drop 0 = dktX1_linked_0 := by decide +kernel
theorem dksX1_linked_1 : cX1_linked.data.toList.drop 24 = dktX1_linked_1 := dk_seg dksX1_linked_0 24 rfl rfl
theorem dksX1_linked_2 : cX1_linked.data.toList.drop 47 = dktX1_linked_2 := dk_seg dksX1_linked_1 23 rfl rfl
theorem dksX1_linked_3 : cX1_linked.data.toList.drop 71 = dktX1_linked_3 := dk_seg dksX1_linked_2 24 rfl rfl
theorem dksX1_linked_4 : cX1_linked.data.toList.drop 95 = dktX1_linked_4 := dk_seg dksX1_linked_3 24 rfl rfl
theorem dksX1_linked_5 : cX1_linked.data.toList.drop 119 = dktX1_linked_5 := dk_seg dksX1_linked_4 24 rfl rfl
theorem dksX1_linked_6 : cX1_linked.data.toList.drop 143 = dktX1_linked_6 := dk_seg dksX1_linked_5 24 rfl rfl
theorem dksX1_linked_7 : cX1_linked.data.toList.drop 166 = dktX1_linked_7 := dk_seg dksX1_linked_6 23 rfl rfl
theorem dksX1_linked_8 : cX1_linked.data.toList.drop 190 = dktX1_linked_8 := dk_seg dksX1_linked_7 24 rfl rfl
theorem dX1_linked_0 : decode cX1_linked 0 = .ok (.aload_n 0, 1) := dk_42 (dk_at dksX1_linked_0 0 rfl rfl)
theorem dX1_linked_1 : decode cX1_linked 1 = .ok (.getfield 9, 3) := dk_180 0 9 (dk_at dksX1_linked_0 1 rfl rfl)
theorem dX1_linked_4 : decode cX1_linked 4 = .ok (.iconst 1, 1) := dk_4 (dk_at dksX1_linked_0 4 rfl rfl)
theorem dX1_linked_5 : decode cX1_linked 5 = .ok (.isub, 1) := dk_100 (dk_at dksX1_linked_0 5 rfl rfl)
theorem dX1_linked_6 : decode cX1_linked 6 = .ok (.istore_n 2, 1) := dk_61 (dk_at dksX1_linked_0 6 rfl rfl)
theorem dX1_linked_7 : decode cX1_linked 7 = .ok (.new 4, 3) := dk_187 0 4 (dk_at dksX1_linked_0 7 rfl rfl)
theorem dX1_linked_10 : decode cX1_linked 10 = .ok (.dup, 1) := dk_89 (dk_at dksX1_linked_0 10 rfl rfl)
theorem dX1_linked_11 : decode cX1_linked 11 = .ok (.aload_n 0, 1) := dk_42 (dk_at dksX1_linked_0 11 rfl rfl)
theorem dX1_linked_12 : decode cX1_linked 12 = .ok (.getfield 17, 3) := dk_180 0 17 (dk_at dksX1_linked_0 12 rfl rfl)
theorem dX1_linked_15 : decode cX1_linked 15 = .ok (.aload_n 1, 1) := dk_43 (dk_at dksX1_linked_0 15 rfl rfl)
theorem dX1_linked_16 : decode cX1_linked 16 = .ok (.getfield 17, 3) := dk_180 0 17 (dk_at dksX1_linked_0 16 rfl rfl)
theorem dX1_linked_19 : decode cX1_linked 19 = .ok (.iadd, 1) := dk_96 (dk_at dksX1_linked_0 19 rfl rfl)
theorem dX1_linked_20 : decode cX1_linked 20 = .ok (.iconst 1, 1) := dk_4 (dk_at dksX1_linked_0 20 rfl rfl)
theorem dX1_linked_21 : decode cX1_linked 21 = .ok (.isub, 1) := dk_100 (dk_at dksX1_linked_0 21 rfl rfl)
theorem dX1_linked_22 : decode cX1_linked 22 = .ok (.iload_n 2, 1) := dk_28 (dk_at dksX1_linked_0 22 rfl rfl)
theorem dX1_linked_23 : decode cX1_linked 23 = .ok (.aload_n 1, 1) := dk_43 (dk_at dksX1_linked_0 23 rfl rfl)
theorem dX1_linked_24 : decode cX1_linked 24 = .ok (.getfield 9, 3) := dk_180 0 9 (dk_at dksX1_linked_1 0 rfl rfl)
theorem dX1_linked_27 : decode cX1_linked 27 = .ok (.iadd, 1) := dk_96 (dk_at dksX1_linked_1 3 rfl rfl)
theorem dX1_linked_28 : decode cX1_linked 28 = .ok (.invokespecial 20, 3) := dk_183 0 20 (dk_at dksX1_linked_1 4 rfl rfl)
theorem dX1_linked_31 : decode cX1_linked 31 = .ok (.astore_n 3, 1) := dk_78 (dk_at dksX1_linked_1 7 rfl rfl)
theorem dX1_linked_32 : decode cX1_linked 32 = .ok (.iconst 0, 1) := dk_3 (dk_at dksX1_linked_1 8 rfl rfl)
theorem dX1_linked_33 : decode cX1_linked 33 = .ok (.istore 4, 2) := dk_54 4 (dk_at dksX1_linked_1 9 rfl rfl)
theorem dX1_linked_35 : decode cX1_linked 35 = .ok (.iload 4, 2) := dk_21 4 (dk_at dksX1_linked_1 11 rfl rfl)
theorem dX1_linked_37 : decode cX1_linked 37 = .ok (.aload_n 0, 1) := dk_42 (dk_at dksX1_linked_1 13 rfl rfl)
theorem dX1_linked_38 : decode cX1_linked 38 = .ok (.getfield 17, 3) := dk_180 0 17 (dk_at dksX1_linked_1 14 rfl rfl)
theorem dX1_linked_41 : decode cX1_linked 41 = .ok (.if_icmp .ge 93, 3) := dk_162 0 93 (dk_at dksX1_linked_1 17 rfl rfl)
theorem dX1_linked_44 : decode cX1_linked 44 = .ok (.iconst 0, 1) := dk_3 (dk_at dksX1_linked_1 20 rfl rfl)
theorem dX1_linked_45 : decode cX1_linked 45 = .ok (.istore 5, 2) := dk_54 5 (dk_at dksX1_linked_1 21 rfl rfl)
theorem dX1_linked_47 : decode cX1_linked 47 = .ok (.iload 5, 2) := dk_21 5 (dk_at dksX1_linked_2 0 rfl rfl)
theorem dX1_linked_49 : decode cX1_linked 49 = .ok (.iload_n 2, 1) := dk_28 (dk_at dksX1_linked_2 2 rfl rfl)
theorem dX1_linked_50 : decode cX1_linked 50 = .ok (.if_icmp .ge 29, 3) := dk_162 0 29 (dk_at dksX1_linked_2 3 rfl rfl)
theorem dX1_linked_53 : decode cX1_linked 53 = .ok (.aload_n 3, 1) := dk_45 (dk_at dksX1_linked_2 6 rfl rfl)
theorem dX1_linked_54 : decode cX1_linked 54 = .ok (.getfield 13, 3) := dk_180 0 13 (dk_at dksX1_linked_2 7 rfl rfl)
theorem dX1_linked_57 : decode cX1_linked 57 = .ok (.iload 4, 2) := dk_21 4 (dk_at dksX1_linked_2 10 rfl rfl)
theorem dX1_linked_59 : decode cX1_linked 59 = .ok (.aaload, 1) := dk_50 (dk_at dksX1_linked_2 12 rfl rfl)
theorem dX1_linked_60 : decode cX1_linked 60 = .ok (.iload 5, 2) := dk_21 5 (dk_at dksX1_linked_2 13 rfl rfl)
theorem dX1_linked_62 : decode cX1_linked 62 = .ok (.aload_n 0, 1) := dk_42 (dk_at dksX1_linked_2 15 rfl rfl)
theorem dX1_linked_63 : decode cX1_linked 63 = .ok (.getfield 13, 3) := dk_180 0 13 (dk_at dksX1_linked_2 16 rfl rfl)
theorem dX1_linked_66 : decode cX1_linked 66 = .ok (.iload 4, 2) := dk_21 4 (dk_at dksX1_linked_2 19 rfl rfl)
theorem dX1_linked_68 : decode cX1_linked 68 = .ok (.aaload, 1) := dk_50 (dk_at dksX1_linked_2 21 rfl rfl)
theorem dX1_linked_69 : decode cX1_linked 69 = .ok (.iload 5, 2) := dk_21 5 (dk_at dksX1_linked_2 22 rfl rfl)
theorem dX1_linked_71 : decode cX1_linked 71 = .ok (.iaload, 1) := dk_46 (dk_at dksX1_linked_3 0 rfl rfl)
theorem dX1_linked_72 : decode cX1_linked 72 = .ok (.iastore, 1) := dk_79 (dk_at dksX1_linked_3 1 rfl rfl)
theorem dX1_linked_73 : decode cX1_linked 73 = .ok (.iinc 5 1, 3) := dk_132 5 1 (dk_at dksX1_linked_3 2 rfl rfl)
theorem dX1_linked_76 : decode cX1_linked 76 = .ok (.goto (-29), 3) := dk_167 255 227 (dk_at dksX1_linked_3 5 rfl rfl)
theorem dX1_linked_79 : decode cX1_linked 79 = .ok (.iconst 0, 1) := dk_3 (dk_at dksX1_linked_3 8 rfl rfl)
theorem dX1_linked_80 : decode cX1_linked 80 = .ok (.istore 5, 2) := dk_54 5 (dk_at dksX1_linked_3 9 rfl rfl)
theorem dX1_linked_82 : decode cX1_linked 82 = .ok (.iload 5, 2) := dk_21 5 (dk_at dksX1_linked_3 11 rfl rfl)
theorem dX1_linked_84 : decode cX1_linked 84 = .ok (.aload_n 1, 1) := dk_43 (dk_at dksX1_linked_3 13 rfl rfl)
theorem dX1_linked_85 : decode cX1_linked 85 = .ok (.getfield 9, 3) := dk_180 0 9 (dk_at dksX1_linked_3 14 rfl rfl)
theorem dX1_linked_88 : decode cX1_linked 88 = .ok (.if_icmp .ge 40, 3) := dk_162 0 40 (dk_at dksX1_linked_3 17 rfl rfl)
theorem dX1_linked_91 : decode cX1_linked 91 = .ok (.aload_n 3, 1) := dk_45 (dk_at dksX1_linked_3 20 rfl rfl)
theorem dX1_linked_92 : decode cX1_linked 92 = .ok (.getfield 13, 3) := dk_180 0 13 (dk_at dksX1_linked_3 21 rfl rfl)
theorem dX1_linked_95 : decode cX1_linked 95 = .ok (.iload 4, 2) := dk_21 4 (dk_at dksX1_linked_4 0 rfl rfl)
theorem dX1_linked_97 : decode cX1_linked 97 = .ok (.aaload, 1) := dk_50 (dk_at dksX1_linked_4 2 rfl rfl)
theorem dX1_linked_98 : decode cX1_linked 98 = .ok (.iload_n 2, 1) := dk_28 (dk_at dksX1_linked_4 3 rfl rfl)
theorem dX1_linked_99 : decode cX1_linked 99 = .ok (.iload 5, 2) := dk_21 5 (dk_at dksX1_linked_4 4 rfl rfl)
theorem dX1_linked_101 : decode cX1_linked 101 = .ok (.iadd, 1) := dk_96 (dk_at dksX1_linked_4 6 rfl rfl)
theorem dX1_linked_102 : decode cX1_linked 102 = .ok (.aload_n 0, 1) := dk_42 (dk_at dksX1_linked_4 7 rfl rfl)
theorem dX1_linked_103 : decode cX1_linked 103 = .ok (.getfield 13, 3) := dk_180 0 13 (dk_at dksX1_linked_4 8 rfl rfl)
theorem dX1_linked_106 : decode cX1_linked 106 = .ok (.iload 4, 2) := dk_21 4 (dk_at dksX1_linked_4 11 rfl rfl)
theorem dX1_linked_108 : decode cX1_linked 108 = .ok (.aaload, 1) := dk_50 (dk_at dksX1_linked_4 13 rfl rfl)
theorem dX1_linked_109 : decode cX1_linked 109 = .ok (.iload_n 2, 1) := dk_28 (dk_at dksX1_linked_4 14 rfl rfl)
theorem dX1_linked_110 : decode cX1_linked 110 = .ok (.iaload, 1) := dk_46 (dk_at dksX1_linked_4 15 rfl rfl)
theorem dX1_linked_111 : decode cX1_linked 111 = .ok (.aload_n 1, 1) := dk_43 (dk_at dksX1_linked_4 16 rfl rfl)
theorem dX1_linked_112 : decode cX1_linked 112 = .ok (.getfield 13, 3) := dk_180 0 13 (dk_at dksX1_linked_4 17 rfl rfl)
theorem dX1_linked_115 : decode cX1_linked 115 = .ok (.iconst 0, 1) := dk_3 (dk_at dksX1_linked_4 20 rfl rfl)
theorem dX1_linked_116 : decode cX1_linked 116 = .ok (.aaload, 1) := dk_50 (dk_at dksX1_linked_4 21 rfl rfl)
theorem dX1_linked_117 : decode cX1_linked 117 = .ok (.iload 5, 2) := dk_21 5 (dk_at dksX1_linked_4 22 rfl rfl)
theorem dX1_linked_119 : decode cX1_linked 119 = .ok (.iaload, 1) := dk_46 (dk_at dksX1_linked_5 0 rfl rfl)
theorem dX1_linked_120 : decode cX1_linked 120 = .ok (.imul, 1) := dk_104 (dk_at dksX1_linked_5 1 rfl rfl)
theorem dX1_linked_121 : decode cX1_linked 121 = .ok (.iastore, 1) := dk_79 (dk_at dksX1_linked_5 2 rfl rfl)
theorem dX1_linked_122 : decode cX1_linked 122 = .ok (.iinc 5 1, 3) := dk_132 5 1 (dk_at dksX1_linked_5 3 rfl rfl)
theorem dX1_linked_125 : decode cX1_linked 125 = .ok (.goto (-43), 3) := dk_167 255 213 (dk_at dksX1_linked_5 6 rfl rfl)
theorem dX1_linked_128 : decode cX1_linked 128 = .ok (.iinc 4 1, 3) := dk_132 4 1 (dk_at dksX1_linked_5 9 rfl rfl)
theorem dX1_linked_131 : decode cX1_linked 131 = .ok (.goto (-96), 3) := dk_167 255 160 (dk_at dksX1_linked_5 12 rfl rfl)
theorem dX1_linked_134 : decode cX1_linked 134 = .ok (.iconst 1, 1) := dk_4 (dk_at dksX1_linked_5 15 rfl rfl)
theorem dX1_linked_135 : decode cX1_linked 135 = .ok (.istore 4, 2) := dk_54 4 (dk_at dksX1_linked_5 16 rfl rfl)
theorem dX1_linked_137 : decode cX1_linked 137 = .ok (.iload 4, 2) := dk_21 4 (dk_at dksX1_linked_5 18 rfl rfl)
theorem dX1_linked_139 : decode cX1_linked 139 = .ok (.aload_n 1, 1) := dk_43 (dk_at dksX1_linked_5 20 rfl rfl)
theorem dX1_linked_140 : decode cX1_linked 140 = .ok (.getfield 17, 3) := dk_180 0 17 (dk_at dksX1_linked_5 21 rfl rfl)
theorem dX1_linked_143 : decode cX1_linked 143 = .ok (.if_icmp .ge 56, 3) := dk_162 0 56 (dk_at dksX1_linked_6 0 rfl rfl)
theorem dX1_linked_146 : decode cX1_linked 146 = .ok (.iconst 0, 1) := dk_3 (dk_at dksX1_linked_6 3 rfl rfl)
theorem dX1_linked_147 : decode cX1_linked 147 = .ok (.istore 5, 2) := dk_54 5 (dk_at dksX1_linked_6 4 rfl rfl)
theorem dX1_linked_149 : decode cX1_linked 149 = .ok (.iload 5, 2) := dk_21 5 (dk_at dksX1_linked_6 6 rfl rfl)
theorem dX1_linked_151 : decode cX1_linked 151 = .ok (.aload_n 1, 1) := dk_43 (dk_at dksX1_linked_6 8 rfl rfl)
theorem dX1_linked_152 : decode cX1_linked 152 = .ok (.getfield 9, 3) := dk_180 0 9 (dk_at dksX1_linked_6 9 rfl rfl)
theorem dX1_linked_155 : decode cX1_linked 155 = .ok (.if_icmp .ge 38, 3) := dk_162 0 38 (dk_at dksX1_linked_6 12 rfl rfl)
theorem dX1_linked_158 : decode cX1_linked 158 = .ok (.aload_n 3, 1) := dk_45 (dk_at dksX1_linked_6 15 rfl rfl)
theorem dX1_linked_159 : decode cX1_linked 159 = .ok (.getfield 13, 3) := dk_180 0 13 (dk_at dksX1_linked_6 16 rfl rfl)
theorem dX1_linked_162 : decode cX1_linked 162 = .ok (.aload_n 0, 1) := dk_42 (dk_at dksX1_linked_6 19 rfl rfl)
theorem dX1_linked_163 : decode cX1_linked 163 = .ok (.getfield 17, 3) := dk_180 0 17 (dk_at dksX1_linked_6 20 rfl rfl)
theorem dX1_linked_166 : decode cX1_linked 166 = .ok (.iload 4, 2) := dk_21 4 (dk_at dksX1_linked_7 0 rfl rfl)
theorem dX1_linked_168 : decode cX1_linked 168 = .ok (.iadd, 1) := dk_96 (dk_at dksX1_linked_7 2 rfl rfl)
theorem dX1_linked_169 : decode cX1_linked 169 = .ok (.iconst 1, 1) := dk_4 (dk_at dksX1_linked_7 3 rfl rfl)
theorem dX1_linked_170 : decode cX1_linked 170 = .ok (.isub, 1) := dk_100 (dk_at dksX1_linked_7 4 rfl rfl)
theorem dX1_linked_171 : decode cX1_linked 171 = .ok (.aaload, 1) := dk_50 (dk_at dksX1_linked_7 5 rfl rfl)
theorem dX1_linked_172 : decode cX1_linked 172 = .ok (.iload_n 2, 1) := dk_28 (dk_at dksX1_linked_7 6 rfl rfl)
theorem dX1_linked_173 : decode cX1_linked 173 = .ok (.iload 5, 2) := dk_21 5 (dk_at dksX1_linked_7 7 rfl rfl)
theorem dX1_linked_175 : decode cX1_linked 175 = .ok (.iadd, 1) := dk_96 (dk_at dksX1_linked_7 9 rfl rfl)
theorem dX1_linked_176 : decode cX1_linked 176 = .ok (.aload_n 1, 1) := dk_43 (dk_at dksX1_linked_7 10 rfl rfl)
theorem dX1_linked_177 : decode cX1_linked 177 = .ok (.getfield 13, 3) := dk_180 0 13 (dk_at dksX1_linked_7 11 rfl rfl)
theorem dX1_linked_180 : decode cX1_linked 180 = .ok (.iload 4, 2) := dk_21 4 (dk_at dksX1_linked_7 14 rfl rfl)
theorem dX1_linked_182 : decode cX1_linked 182 = .ok (.aaload, 1) := dk_50 (dk_at dksX1_linked_7 16 rfl rfl)
theorem dX1_linked_183 : decode cX1_linked 183 = .ok (.iload 5, 2) := dk_21 5 (dk_at dksX1_linked_7 17 rfl rfl)
theorem dX1_linked_185 : decode cX1_linked 185 = .ok (.iaload, 1) := dk_46 (dk_at dksX1_linked_7 19 rfl rfl)
theorem dX1_linked_186 : decode cX1_linked 186 = .ok (.iastore, 1) := dk_79 (dk_at dksX1_linked_7 20 rfl rfl)
theorem dX1_linked_187 : decode cX1_linked 187 = .ok (.iinc 5 1, 3) := dk_132 5 1 (dk_at dksX1_linked_7 21 rfl rfl)
theorem dX1_linked_190 : decode cX1_linked 190 = .ok (.goto (-41), 3) := dk_167 255 215 (dk_at dksX1_linked_8 0 rfl rfl)
theorem dX1_linked_193 : decode cX1_linked 193 = .ok (.iinc 4 1, 3) := dk_132 4 1 (dk_at dksX1_linked_8 3 rfl rfl)
theorem dX1_linked_196 : decode cX1_linked 196 = .ok (.goto (-59), 3) := dk_167 255 197 (dk_at dksX1_linked_8 6 rfl rfl)
theorem dX1_linked_199 : decode cX1_linked 199 = .ok (.aload_n 3, 1) := dk_45 (dk_at dksX1_linked_8 9 rfl rfl)
theorem dX1_linked_200 : decode cX1_linked 200 = .ok (.areturn, 1) := dk_176 (dk_at dksX1_linked_8 10 rfl rfl)
abbrev cX1_undo : ByteArray := prog_1_method_47_code
def yX1_undo : MethodName := ⟨RX1, "undo", "()I"⟩
def dkwX1_undo_1 : List UInt8 := [180, 0, 217, 50, 185, 1, 55, 1, 0, 42, 180, 0, 217, 172]
abbrev dktX1_undo_1 : List UInt8 := dkwX1_undo_1 ++ []
def dkwX1_undo_0 : List UInt8 := [42, 180, 0, 217, 154, 0, 5, 2, 172, 42, 89, 180, 0, 217, 4, 100, 181, 0, 217, 42, 180, 0, 56, 42]
abbrev dktX1_undo_0 : List UInt8 := dkwX1_undo_0 ++ dktX1_undo_1
theorem dksX1_undo_0 : cX1_undo.data.toList.drop 0 = dktX1_undo_0 := by decide +kernel
theorem dksX1_undo_1 : cX1_undo.data.toList.drop 24 = dktX1_undo_1 := dk_seg dksX1_undo_0 24 rfl rfl
theorem dX1_undo_0 : decode cX1_undo 0 = .ok (.aload_n 0, 1) := dk_42 (dk_at dksX1_undo_0 0 rfl rfl)
theorem dX1_undo_1 : decode cX1_undo 1 = .ok (.getfield 217, 3) := dk_180 0 217 (dk_at dksX1_undo_0 1 rfl rfl)
theorem dX1_undo_4 : decode cX1_undo 4 = .ok (.ifCond .ne 5, 3) := dk_154 0 5 (dk_at dksX1_undo_0 4 rfl rfl)
theorem dX1_undo_7 : decode cX1_undo 7 = .ok (.iconst (-1), 1) := dk_2 (dk_at dksX1_undo_0 7 rfl rfl)
theorem dX1_undo_8 : decode cX1_undo 8 = .ok (.ireturn, 1) := dk_172 (dk_at dksX1_undo_0 8 rfl rfl)
theorem dX1_undo_9 : decode cX1_undo 9 = .ok (.aload_n 0, 1) := dk_42 (dk_at dksX1_undo_0 9 rfl rfl)
theorem dX1_undo_10 : decode cX1_undo 10 = .ok (.dup, 1) := dk_89 (dk_at dksX1_undo_0 10 rfl rfl)
theorem dX1_undo_11 : decode cX1_undo 11 = .ok (.getfield 217, 3) := dk_180 0 217 (dk_at dksX1_undo_0 11 rfl rfl)
theorem dX1_undo_14 : decode cX1_undo 14 = .ok (.iconst 1, 1) := dk_4 (dk_at dksX1_undo_0 14 rfl rfl)
theorem dX1_undo_15 : decode cX1_undo 15 = .ok (.isub, 1) := dk_100 (dk_at dksX1_undo_0 15 rfl rfl)
theorem dX1_undo_16 : decode cX1_undo 16 = .ok (.putfield 217, 3) := dk_181 0 217 (dk_at dksX1_undo_0 16 rfl rfl)
theorem dX1_undo_19 : decode cX1_undo 19 = .ok (.aload_n 0, 1) := dk_42 (dk_at dksX1_undo_0 19 rfl rfl)
theorem dX1_undo_20 : decode cX1_undo 20 = .ok (.getfield 56, 3) := dk_180 0 56 (dk_at dksX1_undo_0 20 rfl rfl)
theorem dX1_undo_23 : decode cX1_undo 23 = .ok (.aload_n 0, 1) := dk_42 (dk_at dksX1_undo_0 23 rfl rfl)
theorem dX1_undo_24 : decode cX1_undo 24 = .ok (.getfield 217, 3) := dk_180 0 217 (dk_at dksX1_undo_1 0 rfl rfl)
theorem dX1_undo_27 : decode cX1_undo 27 = .ok (.aaload, 1) := dk_50 (dk_at dksX1_undo_1 3 rfl rfl)
theorem dX1_undo_28 : decode cX1_undo 28 = .ok (.invokeinterface 311 1, 5) := by decide +kernel
theorem dX1_undo_33 : decode cX1_undo 33 = .ok (.aload_n 0, 1) := dk_42 (dk_at dksX1_undo_1 9 rfl rfl)
theorem dX1_undo_34 : decode cX1_undo 34 = .ok (.getfield 217, 3) := dk_180 0 217 (dk_at dksX1_undo_1 10 rfl rfl)
theorem dX1_undo_37 : decode cX1_undo 37 = .ok (.ireturn, 1) := dk_172 (dk_at dksX1_undo_1 13 rfl rfl)
abbrev cX1_det : ByteArray := prog_1_method_55_code
def yX1_det : MethodName := ⟨RX1, "det", "(II)I"⟩
def dkwX1_det_1 : List UInt8 := [16, 64, 27, 104, 28, 96, 46, 167, 0, 5, 18, 188, 172]
abbrev dktX1_det_1 : List UInt8 := dkwX1_det_1 ++ []
def dkwX1_det_0 : List UInt8 := [42, 180, 0, 220, 198, 0, 29, 42, 180, 0, 220, 27, 28, 184, 1, 69, 153, 0, 17, 42, 182, 1, 89]
abbrev dktX1_det_0 : List UInt8 := dkwX1_det_0 ++ dktX1_det_1
theorem dksX1_det_0 : cX1_det.data.toList.drop 0 = dktX1_det_0 := by decide +kernel
theorem dksX1_det_1 : cX1_det.data.toList.drop 23 = dktX1_det_1 := dk_seg dksX1_det_0 23 rfl rfl
theorem dX1_det_0 : decode cX1_det 0 = .ok (.aload_n 0, 1) := dk_42 (dk_at dksX1_det_0 0 rfl rfl)
theorem dX1_det_1 : decode cX1_det 1 = .ok (.getfield 220, 3) := dk_180 0 220 (dk_at dksX1_det_0 1 rfl rfl)
theorem dX1_det_4 : decode cX1_det 4 = .ok (.ifnull 29, 3) := dk_198 0 29 (dk_at dksX1_det_0 4 rfl rfl)
theorem dX1_det_7 : decode cX1_det 7 = .ok (.aload_n 0, 1) := dk_42 (dk_at dksX1_det_0 7 rfl rfl)
theorem dX1_det_8 : decode cX1_det 8 = .ok (.getfield 220, 3) := dk_180 0 220 (dk_at dksX1_det_0 8 rfl rfl)
theorem dX1_det_11 : decode cX1_det 11 = .ok (.iload_n 1, 1) := dk_27 (dk_at dksX1_det_0 11 rfl rfl)
theorem dX1_det_12 : decode cX1_det 12 = .ok (.iload_n 2, 1) := dk_28 (dk_at dksX1_det_0 12 rfl rfl)
theorem dX1_det_13 : decode cX1_det 13 = .ok (.invokestatic 325, 3) := dk_184 1 69 (dk_at dksX1_det_0 13 rfl rfl)
theorem dX1_det_16 : decode cX1_det 16 = .ok (.ifCond .eq 17, 3) := dk_153 0 17 (dk_at dksX1_det_0 16 rfl rfl)
theorem dX1_det_19 : decode cX1_det 19 = .ok (.aload_n 0, 1) := dk_42 (dk_at dksX1_det_0 19 rfl rfl)
theorem dX1_det_20 : decode cX1_det 20 = .ok (.invokevirtual 345, 3) := dk_182 1 89 (dk_at dksX1_det_0 20 rfl rfl)
theorem dX1_det_23 : decode cX1_det 23 = .ok (.bipush 64, 2) := dk_16 64 (dk_at dksX1_det_1 0 rfl rfl)
theorem dX1_det_25 : decode cX1_det 25 = .ok (.iload_n 1, 1) := dk_27 (dk_at dksX1_det_1 2 rfl rfl)
theorem dX1_det_26 : decode cX1_det 26 = .ok (.imul, 1) := dk_104 (dk_at dksX1_det_1 3 rfl rfl)
theorem dX1_det_27 : decode cX1_det 27 = .ok (.iload_n 2, 1) := dk_28 (dk_at dksX1_det_1 4 rfl rfl)
theorem dX1_det_28 : decode cX1_det 28 = .ok (.iadd, 1) := dk_96 (dk_at dksX1_det_1 5 rfl rfl)
theorem dX1_det_29 : decode cX1_det 29 = .ok (.iaload, 1) := dk_46 (dk_at dksX1_det_1 6 rfl rfl)
theorem dX1_det_30 : decode cX1_det 30 = .ok (.goto 5, 3) := dk_167 0 5 (dk_at dksX1_det_1 7 rfl rfl)
theorem dX1_det_33 : decode cX1_det 33 = .ok (.ldc 188, 2) := dk_18 188 (dk_at dksX1_det_1 10 rfl rfl)
theorem dX1_det_35 : decode cX1_det 35 = .ok (.ireturn, 1) := dk_172 (dk_at dksX1_det_1 12 rfl rfl)
abbrev cX1_isSquare : ByteArray := prog_1_method_49_code
def yX1_isSquare : MethodName := ⟨RX1, "isSquare", "(LUnimodularTables$Table;II)Z"⟩
def dkwX1_isSquare_1 : List UInt8 := [120, 162, 0, 18, 27, 184, 1, 62, 28, 184, 1, 62, 160, 0, 7, 4, 167, 0, 4, 3, 172]
abbrev dktX1_isSquare_1 : List UInt8 := dkwX1_isSquare_1 ++ []
def dkwX1_isSquare_0 : List UInt8 := [27, 158, 0, 42, 28, 158, 0, 38, 27, 4, 42, 180, 0, 17, 120, 162, 0, 28, 28, 4, 42, 180, 0, 9]
abbrev dktX1_isSquare_0 : List UInt8 := dkwX1_isSquare_0 ++ dktX1_isSquare_1
theorem dksX1_isSquare_0 : cX1_isSquare.data.toList.drop 0 = dktX1_isSquare_0 := by decide +kernel
theorem dksX1_isSquare_1 : cX1_isSquare.data.toList.drop 24 = dktX1_isSquare_1 := dk_seg dksX1_isSquare_0 24 rfl rfl
theorem dX1_isSquare_0 : decode cX1_isSquare 0 = .ok (.iload_n 1, 1) := dk_27 (dk_at dksX1_isSquare_0 0 rfl rfl)
theorem dX1_isSquare_1 : decode cX1_isSquare 1 = .ok (.ifCond .le 42, 3) := dk_158 0 42 (dk_at dksX1_isSquare_0 1 rfl rfl)
theorem dX1_isSquare_4 : decode cX1_isSquare 4 = .ok (.iload_n 2, 1) := dk_28 (dk_at dksX1_isSquare_0 4 rfl rfl)
theorem dX1_isSquare_5 : decode cX1_isSquare 5 = .ok (.ifCond .le 38, 3) := dk_158 0 38 (dk_at dksX1_isSquare_0 5 rfl rfl)
theorem dX1_isSquare_8 : decode cX1_isSquare 8 = .ok (.iload_n 1, 1) := dk_27 (dk_at dksX1_isSquare_0 8 rfl rfl)
theorem dX1_isSquare_9 : decode cX1_isSquare 9 = .ok (.iconst 1, 1) := dk_4 (dk_at dksX1_isSquare_0 9 rfl rfl)
theorem dX1_isSquare_10 : decode cX1_isSquare 10 = .ok (.aload_n 0, 1) := dk_42 (dk_at dksX1_isSquare_0 10 rfl rfl)
theorem dX1_isSquare_11 : decode cX1_isSquare 11 = .ok (.getfield 17, 3) := dk_180 0 17 (dk_at dksX1_isSquare_0 11 rfl rfl)
theorem dX1_isSquare_14 : decode cX1_isSquare 14 = .ok (.ishl, 1) := dk_120 (dk_at dksX1_isSquare_0 14 rfl rfl)
theorem dX1_isSquare_15 : decode cX1_isSquare 15 = .ok (.if_icmp .ge 28, 3) := dk_162 0 28 (dk_at dksX1_isSquare_0 15 rfl rfl)
theorem dX1_isSquare_18 : decode cX1_isSquare 18 = .ok (.iload_n 2, 1) := dk_28 (dk_at dksX1_isSquare_0 18 rfl rfl)
theorem dX1_isSquare_19 : decode cX1_isSquare 19 = .ok (.iconst 1, 1) := dk_4 (dk_at dksX1_isSquare_0 19 rfl rfl)
theorem dX1_isSquare_20 : decode cX1_isSquare 20 = .ok (.aload_n 0, 1) := dk_42 (dk_at dksX1_isSquare_0 20 rfl rfl)
theorem dX1_isSquare_21 : decode cX1_isSquare 21 = .ok (.getfield 9, 3) := dk_180 0 9 (dk_at dksX1_isSquare_0 21 rfl rfl)
theorem dX1_isSquare_24 : decode cX1_isSquare 24 = .ok (.ishl, 1) := dk_120 (dk_at dksX1_isSquare_1 0 rfl rfl)
theorem dX1_isSquare_25 : decode cX1_isSquare 25 = .ok (.if_icmp .ge 18, 3) := dk_162 0 18 (dk_at dksX1_isSquare_1 1 rfl rfl)
theorem dX1_isSquare_28 : decode cX1_isSquare 28 = .ok (.iload_n 1, 1) := dk_27 (dk_at dksX1_isSquare_1 4 rfl rfl)
theorem dX1_isSquare_29 : decode cX1_isSquare 29 = .ok (.invokestatic 318, 3) := dk_184 1 62 (dk_at dksX1_isSquare_1 5 rfl rfl)
theorem dX1_isSquare_32 : decode cX1_isSquare 32 = .ok (.iload_n 2, 1) := dk_28 (dk_at dksX1_isSquare_1 8 rfl rfl)
theorem dX1_isSquare_33 : decode cX1_isSquare 33 = .ok (.invokestatic 318, 3) := dk_184 1 62 (dk_at dksX1_isSquare_1 9 rfl rfl)
theorem dX1_isSquare_36 : decode cX1_isSquare 36 = .ok (.if_icmp .ne 7, 3) := dk_160 0 7 (dk_at dksX1_isSquare_1 12 rfl rfl)
theorem dX1_isSquare_39 : decode cX1_isSquare 39 = .ok (.iconst 1, 1) := dk_4 (dk_at dksX1_isSquare_1 15 rfl rfl)
theorem dX1_isSquare_40 : decode cX1_isSquare 40 = .ok (.goto 4, 3) := dk_167 0 4 (dk_at dksX1_isSquare_1 16 rfl rfl)
theorem dX1_isSquare_43 : decode cX1_isSquare 43 = .ok (.iconst 0, 1) := dk_3 (dk_at dksX1_isSquare_1 19 rfl rfl)
theorem dX1_isSquare_44 : decode cX1_isSquare 44 = .ok (.ireturn, 1) := dk_172 (dk_at dksX1_isSquare_1 20 rfl rfl)
abbrev cX1_detsNow : ByteArray := prog_1_method_53_code
def yX1_detsNow : MethodName := ⟨RX1, "detsNow", "()[I"⟩
def dkwX1_detsNow_1 : List UInt8 := [180, 0, 70, 176]
abbrev dktX1_detsNow_1 : List UInt8 := dkwX1_detsNow_1 ++ []
def dkwX1_detsNow_0 : List UInt8 := [42, 180, 0, 223, 154, 0, 14, 42, 180, 0, 220, 42, 180, 0, 70, 184, 1, 78, 42, 4, 181, 0, 223, 42]
abbrev dktX1_detsNow_0 : List UInt8 := dkwX1_detsNow_0 ++ dktX1_detsNow_1
theorem dksX1_detsNow_0 : cX1_detsNow.data.toList.drop 0 = dktX1_detsNow_0 := by decide +kernel
theorem dksX1_detsNow_1 : cX1_detsNow.data.toList.drop 24 = dktX1_detsNow_1 := dk_seg dksX1_detsNow_0 24 rfl rfl
theorem dX1_detsNow_0 : decode cX1_detsNow 0 = .ok (.aload_n 0, 1) := dk_42 (dk_at dksX1_detsNow_0 0 rfl rfl)
theorem dX1_detsNow_1 : decode cX1_detsNow 1 = .ok (.getfield 223, 3) := dk_180 0 223 (dk_at dksX1_detsNow_0 1 rfl rfl)
theorem dX1_detsNow_4 : decode cX1_detsNow 4 = .ok (.ifCond .ne 14, 3) := dk_154 0 14 (dk_at dksX1_detsNow_0 4 rfl rfl)
theorem dX1_detsNow_7 : decode cX1_detsNow 7 = .ok (.aload_n 0, 1) := dk_42 (dk_at dksX1_detsNow_0 7 rfl rfl)
theorem dX1_detsNow_8 : decode cX1_detsNow 8 = .ok (.getfield 220, 3) := dk_180 0 220 (dk_at dksX1_detsNow_0 8 rfl rfl)
theorem dX1_detsNow_11 : decode cX1_detsNow 11 = .ok (.aload_n 0, 1) := dk_42 (dk_at dksX1_detsNow_0 11 rfl rfl)
theorem dX1_detsNow_12 : decode cX1_detsNow 12 = .ok (.getfield 70, 3) := dk_180 0 70 (dk_at dksX1_detsNow_0 12 rfl rfl)
theorem dX1_detsNow_15 : decode cX1_detsNow 15 = .ok (.invokestatic 334, 3) := dk_184 1 78 (dk_at dksX1_detsNow_0 15 rfl rfl)
theorem dX1_detsNow_18 : decode cX1_detsNow 18 = .ok (.aload_n 0, 1) := dk_42 (dk_at dksX1_detsNow_0 18 rfl rfl)
theorem dX1_detsNow_19 : decode cX1_detsNow 19 = .ok (.iconst 1, 1) := dk_4 (dk_at dksX1_detsNow_0 19 rfl rfl)
theorem dX1_detsNow_20 : decode cX1_detsNow 20 = .ok (.putfield 223, 3) := dk_181 0 223 (dk_at dksX1_detsNow_0 20 rfl rfl)
theorem dX1_detsNow_23 : decode cX1_detsNow 23 = .ok (.aload_n 0, 1) := dk_42 (dk_at dksX1_detsNow_0 23 rfl rfl)
theorem dX1_detsNow_24 : decode cX1_detsNow 24 = .ok (.getfield 70, 3) := dk_180 0 70 (dk_at dksX1_detsNow_1 0 rfl rfl)
theorem dX1_detsNow_27 : decode cX1_detsNow 27 = .ok (.areturn, 1) := dk_176 (dk_at dksX1_detsNow_1 3 rfl rfl)
abbrev cX1_layDets : ByteArray := prog_1_method_48_code
def yX1_layDets : MethodName := ⟨RX1, "layDets", "(LUnimodularTables$Table;[I)V"⟩
def dkwX1_layDets_6 : List UInt8 := [132, 4, 1, 167, 255, 136, 132, 2, 1, 167, 255, 112, 177]
abbrev dktX1_layDets_6 : List UInt8 := dkwX1_layDets_6 ++ []
def dkwX1_layDets_5 : List UInt8 := [54, 5, 21, 6, 116, 54, 6, 132, 7, 1, 167, 255, 188, 43, 16, 64, 28, 104, 21, 4, 96, 21, 5, 79]
abbrev dktX1_layDets_5 : List UInt8 := dkwX1_layDets_5 ++ dktX1_layDets_6
def dkwX1_layDets_4 : List UInt8 := [104, 43, 16, 64, 28, 28, 4, 100, 126, 104, 21, 4, 4, 21, 7, 120, 2, 130, 126, 96, 46, 104, 96]
abbrev dktX1_layDets_4 : List UInt8 := dkwX1_layDets_4 ++ dktX1_layDets_5
def dkwX1_layDets_3 : List UInt8 := [21, 7, 184, 1, 65, 154, 0, 6, 167, 0, 46, 21, 5, 21, 6, 42, 180, 0, 13, 29, 50, 21, 7, 46]
abbrev dktX1_layDets_3 : List UInt8 := dkwX1_layDets_3 ++ dktX1_layDets_4
def dkwX1_layDets_2 : List UInt8 := [167, 0, 94, 3, 54, 5, 4, 54, 6, 3, 54, 7, 21, 7, 42, 180, 0, 9, 162, 0, 65, 21, 4]
abbrev dktX1_layDets_2 : List UInt8 := dkwX1_layDets_2 ++ dktX1_layDets_3
def dkwX1_layDets_1 : List UInt8 := [21, 4, 4, 42, 180, 0, 9, 120, 162, 0, 115, 28, 184, 1, 62, 21, 4, 184, 1, 62, 159, 0, 6]
abbrev dktX1_layDets_1 : List UInt8 := dkwX1_layDets_1 ++ dktX1_layDets_2
def dkwX1_layDets_0 : List UInt8 := [43, 3, 4, 79, 4, 61, 28, 4, 42, 180, 0, 17, 120, 162, 0, 140, 28, 184, 1, 57, 62, 4, 54, 4]
abbrev dktX1_layDets_0 : List UInt8 := dkwX1_layDets_0 ++ dktX1_layDets_1
theorem dksX1_layDets_0 : cX1_layDets.data.toList.drop 0 = dktX1_layDets_0 := by decide +kernel
theorem dksX1_layDets_1 : cX1_layDets.data.toList.drop 24 = dktX1_layDets_1 := dk_seg dksX1_layDets_0 24 rfl rfl
theorem dksX1_layDets_2 : cX1_layDets.data.toList.drop 47 = dktX1_layDets_2 := dk_seg dksX1_layDets_1 23 rfl rfl
theorem dksX1_layDets_3 : cX1_layDets.data.toList.drop 70 = dktX1_layDets_3 := dk_seg dksX1_layDets_2 23 rfl rfl
theorem dksX1_layDets_4 : cX1_layDets.data.toList.drop 94 = dktX1_layDets_4 := dk_seg dksX1_layDets_3 24 rfl rfl
theorem dksX1_layDets_5 : cX1_layDets.data.toList.drop 117 = dktX1_layDets_5 := dk_seg dksX1_layDets_4 23 rfl rfl
theorem dksX1_layDets_6 : cX1_layDets.data.toList.drop 141 = dktX1_layDets_6 := dk_seg dksX1_layDets_5 24 rfl rfl
theorem dX1_layDets_0 : decode cX1_layDets 0 = .ok (.aload_n 1, 1) := dk_43 (dk_at dksX1_layDets_0 0 rfl rfl)
theorem dX1_layDets_1 : decode cX1_layDets 1 = .ok (.iconst 0, 1) := dk_3 (dk_at dksX1_layDets_0 1 rfl rfl)
theorem dX1_layDets_2 : decode cX1_layDets 2 = .ok (.iconst 1, 1) := dk_4 (dk_at dksX1_layDets_0 2 rfl rfl)
theorem dX1_layDets_3 : decode cX1_layDets 3 = .ok (.iastore, 1) := dk_79 (dk_at dksX1_layDets_0 3 rfl rfl)
theorem dX1_layDets_4 : decode cX1_layDets 4 = .ok (.iconst 1, 1) := dk_4 (dk_at dksX1_layDets_0 4 rfl rfl)
theorem dX1_layDets_5 : decode cX1_layDets 5 = .ok (.istore_n 2, 1) := dk_61 (dk_at dksX1_layDets_0 5 rfl rfl)
theorem dX1_layDets_6 : decode cX1_layDets 6 = .ok (.iload_n 2, 1) := dk_28 (dk_at dksX1_layDets_0 6 rfl rfl)
theorem dX1_layDets_7 : decode cX1_layDets 7 = .ok (.iconst 1, 1) := dk_4 (dk_at dksX1_layDets_0 7 rfl rfl)
theorem dX1_layDets_8 : decode cX1_layDets 8 = .ok (.aload_n 0, 1) := dk_42 (dk_at dksX1_layDets_0 8 rfl rfl)
theorem dX1_layDets_9 : decode cX1_layDets 9 = .ok (.getfield 17, 3) := dk_180 0 17 (dk_at dksX1_layDets_0 9 rfl rfl)
theorem dX1_layDets_12 : decode cX1_layDets 12 = .ok (.ishl, 1) := dk_120 (dk_at dksX1_layDets_0 12 rfl rfl)
theorem dX1_layDets_13 : decode cX1_layDets 13 = .ok (.if_icmp .ge 140, 3) := dk_162 0 140 (dk_at dksX1_layDets_0 13 rfl rfl)
theorem dX1_layDets_16 : decode cX1_layDets 16 = .ok (.iload_n 2, 1) := dk_28 (dk_at dksX1_layDets_0 16 rfl rfl)
theorem dX1_layDets_17 : decode cX1_layDets 17 = .ok (.invokestatic 313, 3) := dk_184 1 57 (dk_at dksX1_layDets_0 17 rfl rfl)
theorem dX1_layDets_20 : decode cX1_layDets 20 = .ok (.istore_n 3, 1) := dk_62 (dk_at dksX1_layDets_0 20 rfl rfl)
theorem dX1_layDets_21 : decode cX1_layDets 21 = .ok (.iconst 1, 1) := dk_4 (dk_at dksX1_layDets_0 21 rfl rfl)
theorem dX1_layDets_22 : decode cX1_layDets 22 = .ok (.istore 4, 2) := dk_54 4 (dk_at dksX1_layDets_0 22 rfl rfl)
theorem dX1_layDets_24 : decode cX1_layDets 24 = .ok (.iload 4, 2) := dk_21 4 (dk_at dksX1_layDets_1 0 rfl rfl)
theorem dX1_layDets_26 : decode cX1_layDets 26 = .ok (.iconst 1, 1) := dk_4 (dk_at dksX1_layDets_1 2 rfl rfl)
theorem dX1_layDets_27 : decode cX1_layDets 27 = .ok (.aload_n 0, 1) := dk_42 (dk_at dksX1_layDets_1 3 rfl rfl)
theorem dX1_layDets_28 : decode cX1_layDets 28 = .ok (.getfield 9, 3) := dk_180 0 9 (dk_at dksX1_layDets_1 4 rfl rfl)
theorem dX1_layDets_31 : decode cX1_layDets 31 = .ok (.ishl, 1) := dk_120 (dk_at dksX1_layDets_1 7 rfl rfl)
theorem dX1_layDets_32 : decode cX1_layDets 32 = .ok (.if_icmp .ge 115, 3) := dk_162 0 115 (dk_at dksX1_layDets_1 8 rfl rfl)
theorem dX1_layDets_35 : decode cX1_layDets 35 = .ok (.iload_n 2, 1) := dk_28 (dk_at dksX1_layDets_1 11 rfl rfl)
theorem dX1_layDets_36 : decode cX1_layDets 36 = .ok (.invokestatic 318, 3) := dk_184 1 62 (dk_at dksX1_layDets_1 12 rfl rfl)
theorem dX1_layDets_39 : decode cX1_layDets 39 = .ok (.iload 4, 2) := dk_21 4 (dk_at dksX1_layDets_1 15 rfl rfl)
theorem dX1_layDets_41 : decode cX1_layDets 41 = .ok (.invokestatic 318, 3) := dk_184 1 62 (dk_at dksX1_layDets_1 17 rfl rfl)
theorem dX1_layDets_44 : decode cX1_layDets 44 = .ok (.if_icmp .eq 6, 3) := dk_159 0 6 (dk_at dksX1_layDets_1 20 rfl rfl)
theorem dX1_layDets_47 : decode cX1_layDets 47 = .ok (.goto 94, 3) := dk_167 0 94 (dk_at dksX1_layDets_2 0 rfl rfl)
theorem dX1_layDets_50 : decode cX1_layDets 50 = .ok (.iconst 0, 1) := dk_3 (dk_at dksX1_layDets_2 3 rfl rfl)
theorem dX1_layDets_51 : decode cX1_layDets 51 = .ok (.istore 5, 2) := dk_54 5 (dk_at dksX1_layDets_2 4 rfl rfl)
theorem dX1_layDets_53 : decode cX1_layDets 53 = .ok (.iconst 1, 1) := dk_4 (dk_at dksX1_layDets_2 6 rfl rfl)
theorem dX1_layDets_54 : decode cX1_layDets 54 = .ok (.istore 6, 2) := dk_54 6 (dk_at dksX1_layDets_2 7 rfl rfl)
theorem dX1_layDets_56 : decode cX1_layDets 56 = .ok (.iconst 0, 1) := dk_3 (dk_at dksX1_layDets_2 9 rfl rfl)
theorem dX1_layDets_57 : decode cX1_layDets 57 = .ok (.istore 7, 2) := dk_54 7 (dk_at dksX1_layDets_2 10 rfl rfl)
theorem dX1_layDets_59 : decode cX1_layDets 59 = .ok (.iload 7, 2) := dk_21 7 (dk_at dksX1_layDets_2 12 rfl rfl)
theorem dX1_layDets_61 : decode cX1_layDets 61 = .ok (.aload_n 0, 1) := dk_42 (dk_at dksX1_layDets_2 14 rfl rfl)
theorem dX1_layDets_62 : decode cX1_layDets 62 = .ok (.getfield 9, 3) := dk_180 0 9 (dk_at dksX1_layDets_2 15 rfl rfl)
theorem dX1_layDets_65 : decode cX1_layDets 65 = .ok (.if_icmp .ge 65, 3) := dk_162 0 65 (dk_at dksX1_layDets_2 18 rfl rfl)
theorem dX1_layDets_68 : decode cX1_layDets 68 = .ok (.iload 4, 2) := dk_21 4 (dk_at dksX1_layDets_2 21 rfl rfl)
theorem dX1_layDets_70 : decode cX1_layDets 70 = .ok (.iload 7, 2) := dk_21 7 (dk_at dksX1_layDets_3 0 rfl rfl)
theorem dX1_layDets_72 : decode cX1_layDets 72 = .ok (.invokestatic 321, 3) := dk_184 1 65 (dk_at dksX1_layDets_3 2 rfl rfl)
theorem dX1_layDets_75 : decode cX1_layDets 75 = .ok (.ifCond .ne 6, 3) := dk_154 0 6 (dk_at dksX1_layDets_3 5 rfl rfl)
theorem dX1_layDets_78 : decode cX1_layDets 78 = .ok (.goto 46, 3) := dk_167 0 46 (dk_at dksX1_layDets_3 8 rfl rfl)
theorem dX1_layDets_81 : decode cX1_layDets 81 = .ok (.iload 5, 2) := dk_21 5 (dk_at dksX1_layDets_3 11 rfl rfl)
theorem dX1_layDets_83 : decode cX1_layDets 83 = .ok (.iload 6, 2) := dk_21 6 (dk_at dksX1_layDets_3 13 rfl rfl)
theorem dX1_layDets_85 : decode cX1_layDets 85 = .ok (.aload_n 0, 1) := dk_42 (dk_at dksX1_layDets_3 15 rfl rfl)
theorem dX1_layDets_86 : decode cX1_layDets 86 = .ok (.getfield 13, 3) := dk_180 0 13 (dk_at dksX1_layDets_3 16 rfl rfl)
theorem dX1_layDets_89 : decode cX1_layDets 89 = .ok (.iload_n 3, 1) := dk_29 (dk_at dksX1_layDets_3 19 rfl rfl)
theorem dX1_layDets_90 : decode cX1_layDets 90 = .ok (.aaload, 1) := dk_50 (dk_at dksX1_layDets_3 20 rfl rfl)
theorem dX1_layDets_91 : decode cX1_layDets 91 = .ok (.iload 7, 2) := dk_21 7 (dk_at dksX1_layDets_3 21 rfl rfl)
theorem dX1_layDets_93 : decode cX1_layDets 93 = .ok (.iaload, 1) := dk_46 (dk_at dksX1_layDets_3 23 rfl rfl)
theorem dX1_layDets_94 : decode cX1_layDets 94 = .ok (.imul, 1) := dk_104 (dk_at dksX1_layDets_4 0 rfl rfl)
theorem dX1_layDets_95 : decode cX1_layDets 95 = .ok (.aload_n 1, 1) := dk_43 (dk_at dksX1_layDets_4 1 rfl rfl)
theorem dX1_layDets_96 : decode cX1_layDets 96 = .ok (.bipush 64, 2) := dk_16 64 (dk_at dksX1_layDets_4 2 rfl rfl)
theorem dX1_layDets_98 : decode cX1_layDets 98 = .ok (.iload_n 2, 1) := dk_28 (dk_at dksX1_layDets_4 4 rfl rfl)
theorem dX1_layDets_99 : decode cX1_layDets 99 = .ok (.iload_n 2, 1) := dk_28 (dk_at dksX1_layDets_4 5 rfl rfl)
theorem dX1_layDets_100 : decode cX1_layDets 100 = .ok (.iconst 1, 1) := dk_4 (dk_at dksX1_layDets_4 6 rfl rfl)
theorem dX1_layDets_101 : decode cX1_layDets 101 = .ok (.isub, 1) := dk_100 (dk_at dksX1_layDets_4 7 rfl rfl)
theorem dX1_layDets_102 : decode cX1_layDets 102 = .ok (.iand, 1) := dk_126 (dk_at dksX1_layDets_4 8 rfl rfl)
theorem dX1_layDets_103 : decode cX1_layDets 103 = .ok (.imul, 1) := dk_104 (dk_at dksX1_layDets_4 9 rfl rfl)
theorem dX1_layDets_104 : decode cX1_layDets 104 = .ok (.iload 4, 2) := dk_21 4 (dk_at dksX1_layDets_4 10 rfl rfl)
theorem dX1_layDets_106 : decode cX1_layDets 106 = .ok (.iconst 1, 1) := dk_4 (dk_at dksX1_layDets_4 12 rfl rfl)
theorem dX1_layDets_107 : decode cX1_layDets 107 = .ok (.iload 7, 2) := dk_21 7 (dk_at dksX1_layDets_4 13 rfl rfl)
theorem dX1_layDets_109 : decode cX1_layDets 109 = .ok (.ishl, 1) := dk_120 (dk_at dksX1_layDets_4 15 rfl rfl)
theorem dX1_layDets_110 : decode cX1_layDets 110 = .ok (.iconst (-1), 1) := dk_2 (dk_at dksX1_layDets_4 16 rfl rfl)
theorem dX1_layDets_111 : decode cX1_layDets 111 = .ok (.ixor, 1) := dk_130 (dk_at dksX1_layDets_4 17 rfl rfl)
theorem dX1_layDets_112 : decode cX1_layDets 112 = .ok (.iand, 1) := dk_126 (dk_at dksX1_layDets_4 18 rfl rfl)
theorem dX1_layDets_113 : decode cX1_layDets 113 = .ok (.iadd, 1) := dk_96 (dk_at dksX1_layDets_4 19 rfl rfl)
theorem dX1_layDets_114 : decode cX1_layDets 114 = .ok (.iaload, 1) := dk_46 (dk_at dksX1_layDets_4 20 rfl rfl)
theorem dX1_layDets_115 : decode cX1_layDets 115 = .ok (.imul, 1) := dk_104 (dk_at dksX1_layDets_4 21 rfl rfl)
theorem dX1_layDets_116 : decode cX1_layDets 116 = .ok (.iadd, 1) := dk_96 (dk_at dksX1_layDets_4 22 rfl rfl)
theorem dX1_layDets_117 : decode cX1_layDets 117 = .ok (.istore 5, 2) := dk_54 5 (dk_at dksX1_layDets_5 0 rfl rfl)
theorem dX1_layDets_119 : decode cX1_layDets 119 = .ok (.iload 6, 2) := dk_21 6 (dk_at dksX1_layDets_5 2 rfl rfl)
theorem dX1_layDets_121 : decode cX1_layDets 121 = .ok (.ineg, 1) := dk_116 (dk_at dksX1_layDets_5 4 rfl rfl)
theorem dX1_layDets_122 : decode cX1_layDets 122 = .ok (.istore 6, 2) := dk_54 6 (dk_at dksX1_layDets_5 5 rfl rfl)
theorem dX1_layDets_124 : decode cX1_layDets 124 = .ok (.iinc 7 1, 3) := dk_132 7 1 (dk_at dksX1_layDets_5 7 rfl rfl)
theorem dX1_layDets_127 : decode cX1_layDets 127 = .ok (.goto (-68), 3) := dk_167 255 188 (dk_at dksX1_layDets_5 10 rfl rfl)
theorem dX1_layDets_130 : decode cX1_layDets 130 = .ok (.aload_n 1, 1) := dk_43 (dk_at dksX1_layDets_5 13 rfl rfl)
theorem dX1_layDets_131 : decode cX1_layDets 131 = .ok (.bipush 64, 2) := dk_16 64 (dk_at dksX1_layDets_5 14 rfl rfl)
theorem dX1_layDets_133 : decode cX1_layDets 133 = .ok (.iload_n 2, 1) := dk_28 (dk_at dksX1_layDets_5 16 rfl rfl)
theorem dX1_layDets_134 : decode cX1_layDets 134 = .ok (.imul, 1) := dk_104 (dk_at dksX1_layDets_5 17 rfl rfl)
theorem dX1_layDets_135 : decode cX1_layDets 135 = .ok (.iload 4, 2) := dk_21 4 (dk_at dksX1_layDets_5 18 rfl rfl)
theorem dX1_layDets_137 : decode cX1_layDets 137 = .ok (.iadd, 1) := dk_96 (dk_at dksX1_layDets_5 20 rfl rfl)
theorem dX1_layDets_138 : decode cX1_layDets 138 = .ok (.iload 5, 2) := dk_21 5 (dk_at dksX1_layDets_5 21 rfl rfl)
theorem dX1_layDets_140 : decode cX1_layDets 140 = .ok (.iastore, 1) := dk_79 (dk_at dksX1_layDets_5 23 rfl rfl)
theorem dX1_layDets_141 : decode cX1_layDets 141 = .ok (.iinc 4 1, 3) := dk_132 4 1 (dk_at dksX1_layDets_6 0 rfl rfl)
theorem dX1_layDets_144 : decode cX1_layDets 144 = .ok (.goto (-120), 3) := dk_167 255 136 (dk_at dksX1_layDets_6 3 rfl rfl)
theorem dX1_layDets_147 : decode cX1_layDets 147 = .ok (.iinc 2 1, 3) := dk_132 2 1 (dk_at dksX1_layDets_6 6 rfl rfl)
theorem dX1_layDets_150 : decode cX1_layDets 150 = .ok (.goto (-144), 3) := dk_167 255 112 (dk_at dksX1_layDets_6 9 rfl rfl)
theorem dX1_layDets_153 : decode cX1_layDets 153 = .ok (.return_, 1) := dk_177 (dk_at dksX1_layDets_6 12 rfl rfl)
abbrev cX1_has : ByteArray := prog_1_method_2_code
def yX1_has : MethodName := ⟨RX1, "has", "(II)Z"⟩
def dkwX1_has_0 : List UInt8 := [26, 27, 122, 4, 126, 4, 160, 0, 7, 4, 167, 0, 4, 3, 172]
abbrev dktX1_has_0 : List UInt8 := dkwX1_has_0 ++ []
theorem dksX1_has_0 : cX1_has.data.toList.drop 0 = dktX1_has_0 := by decide +kernel
theorem dX1_has_0 : decode cX1_has 0 = .ok (.iload_n 0, 1) := dk_26 (dk_at dksX1_has_0 0 rfl rfl)
theorem dX1_has_1 : decode cX1_has 1 = .ok (.iload_n 1, 1) := dk_27 (dk_at dksX1_has_0 1 rfl rfl)
theorem dX1_has_2 : decode cX1_has 2 = .ok (.ishr, 1) := dk_122 (dk_at dksX1_has_0 2 rfl rfl)
theorem dX1_has_3 : decode cX1_has 3 = .ok (.iconst 1, 1) := dk_4 (dk_at dksX1_has_0 3 rfl rfl)
theorem dX1_has_4 : decode cX1_has 4 = .ok (.iand, 1) := dk_126 (dk_at dksX1_has_0 4 rfl rfl)
theorem dX1_has_5 : decode cX1_has 5 = .ok (.iconst 1, 1) := dk_4 (dk_at dksX1_has_0 5 rfl rfl)
theorem dX1_has_6 : decode cX1_has 6 = .ok (.if_icmp .ne 7, 3) := dk_160 0 7 (dk_at dksX1_has_0 6 rfl rfl)
theorem dX1_has_9 : decode cX1_has 9 = .ok (.iconst 1, 1) := dk_4 (dk_at dksX1_has_0 9 rfl rfl)
theorem dX1_has_10 : decode cX1_has 10 = .ok (.goto 4, 3) := dk_167 0 4 (dk_at dksX1_has_0 10 rfl rfl)
theorem dX1_has_13 : decode cX1_has 13 = .ok (.iconst 0, 1) := dk_3 (dk_at dksX1_has_0 13 rfl rfl)
theorem dX1_has_14 : decode cX1_has 14 = .ok (.ireturn, 1) := dk_172 (dk_at dksX1_has_0 14 rfl rfl)
abbrev cX1_squares : ByteArray := prog_1_method_57_code
def yX1_squares : MethodName := ⟨RX1, "squares", "(II)I"⟩
def dkwX1_squares_1 : List UInt8 := [153, 0, 22, 42, 180, 0, 220, 42, 182, 1, 89, 27, 28, 184, 1, 95, 184, 1, 85, 167, 0, 4, 2, 172]
abbrev dktX1_squares_1 : List UInt8 := dkwX1_squares_1 ++ []
def dkwX1_squares_0 : List UInt8 := [42, 180, 0, 220, 198, 0, 41, 27, 4, 16, 6, 184, 0, 149, 153, 0, 31, 28, 3, 5, 184, 0, 149]
abbrev dktX1_squares_0 : List UInt8 := dkwX1_squares_0 ++ dktX1_squares_1
theorem dksX1_squares_0 : cX1_squares.data.toList.drop 0 = dktX1_squares_0 := by decide +kernel
theorem dksX1_squares_1 : cX1_squares.data.toList.drop 23 = dktX1_squares_1 := dk_seg dksX1_squares_0 23 rfl rfl
theorem dX1_squares_0 : decode cX1_squares 0 = .ok (.aload_n 0, 1) := dk_42 (dk_at dksX1_squares_0 0 rfl rfl)
theorem dX1_squares_1 : decode cX1_squares 1 = .ok (.getfield 220, 3) := dk_180 0 220 (dk_at dksX1_squares_0 1 rfl rfl)
theorem dX1_squares_4 : decode cX1_squares 4 = .ok (.ifnull 41, 3) := dk_198 0 41 (dk_at dksX1_squares_0 4 rfl rfl)
theorem dX1_squares_7 : decode cX1_squares 7 = .ok (.iload_n 1, 1) := dk_27 (dk_at dksX1_squares_0 7 rfl rfl)
theorem dX1_squares_8 : decode cX1_squares 8 = .ok (.iconst 1, 1) := dk_4 (dk_at dksX1_squares_0 8 rfl rfl)
theorem dX1_squares_9 : decode cX1_squares 9 = .ok (.bipush 6, 2) := dk_16 6 (dk_at dksX1_squares_0 9 rfl rfl)
theorem dX1_squares_11 : decode cX1_squares 11 = .ok (.invokestatic 149, 3) := dk_184 0 149 (dk_at dksX1_squares_0 11 rfl rfl)
theorem dX1_squares_14 : decode cX1_squares 14 = .ok (.ifCond .eq 31, 3) := dk_153 0 31 (dk_at dksX1_squares_0 14 rfl rfl)
theorem dX1_squares_17 : decode cX1_squares 17 = .ok (.iload_n 2, 1) := dk_28 (dk_at dksX1_squares_0 17 rfl rfl)
theorem dX1_squares_18 : decode cX1_squares 18 = .ok (.iconst 0, 1) := dk_3 (dk_at dksX1_squares_0 18 rfl rfl)
theorem dX1_squares_19 : decode cX1_squares 19 = .ok (.iconst 2, 1) := dk_5 (dk_at dksX1_squares_0 19 rfl rfl)
theorem dX1_squares_20 : decode cX1_squares 20 = .ok (.invokestatic 149, 3) := dk_184 0 149 (dk_at dksX1_squares_0 20 rfl rfl)
theorem dX1_squares_23 : decode cX1_squares 23 = .ok (.ifCond .eq 22, 3) := dk_153 0 22 (dk_at dksX1_squares_1 0 rfl rfl)
theorem dX1_squares_26 : decode cX1_squares 26 = .ok (.aload_n 0, 1) := dk_42 (dk_at dksX1_squares_1 3 rfl rfl)
theorem dX1_squares_27 : decode cX1_squares 27 = .ok (.getfield 220, 3) := dk_180 0 220 (dk_at dksX1_squares_1 4 rfl rfl)
theorem dX1_squares_30 : decode cX1_squares 30 = .ok (.aload_n 0, 1) := dk_42 (dk_at dksX1_squares_1 7 rfl rfl)
theorem dX1_squares_31 : decode cX1_squares 31 = .ok (.invokevirtual 345, 3) := dk_182 1 89 (dk_at dksX1_squares_1 8 rfl rfl)
theorem dX1_squares_34 : decode cX1_squares 34 = .ok (.iload_n 1, 1) := dk_27 (dk_at dksX1_squares_1 11 rfl rfl)
theorem dX1_squares_35 : decode cX1_squares 35 = .ok (.iload_n 2, 1) := dk_28 (dk_at dksX1_squares_1 12 rfl rfl)
theorem dX1_squares_36 : decode cX1_squares 36 = .ok (.invokestatic 351, 3) := dk_184 1 95 (dk_at dksX1_squares_1 13 rfl rfl)
theorem dX1_squares_39 : decode cX1_squares 39 = .ok (.invokestatic 341, 3) := dk_184 1 85 (dk_at dksX1_squares_1 16 rfl rfl)
theorem dX1_squares_42 : decode cX1_squares 42 = .ok (.goto 4, 3) := dk_167 0 4 (dk_at dksX1_squares_1 19 rfl rfl)
theorem dX1_squares_45 : decode cX1_squares 45 = .ok (.iconst (-1), 1) := dk_2 (dk_at dksX1_squares_1 22 rfl rfl)
theorem dX1_squares_46 : decode cX1_squares 46 = .ok (.ireturn, 1) := dk_172 (dk_at dksX1_squares_1 23 rfl rfl)
abbrev cX1_asker : ByteArray := prog_1_method_56_code
def yX1_asker : MethodName := ⟨RX1, "asker", "(I)LUnimodularTables$Asker;"⟩
def dkwX1_asker_1 : List UInt8 := [186, 1, 82, 0, 0, 176]
abbrev dktX1_asker_1 : List UInt8 := dkwX1_asker_1 ++ []
def dkwX1_asker_0 : List UInt8 := [26, 154, 0, 9, 186, 1, 93, 0, 0, 176, 26, 4, 160, 0, 9, 186, 1, 94, 0, 0, 176]
abbrev dktX1_asker_0 : List UInt8 := dkwX1_asker_0 ++ dktX1_asker_1
theorem dksX1_asker_0 : cX1_asker.data.toList.drop 0 = dktX1_asker_0 := by decide +kernel
theorem dksX1_asker_1 : cX1_asker.data.toList.drop 21 = dktX1_asker_1 := dk_seg dksX1_asker_0 21 rfl rfl
theorem dX1_asker_0 : decode cX1_asker 0 = .ok (.iload_n 0, 1) := dk_26 (dk_at dksX1_asker_0 0 rfl rfl)
theorem dX1_asker_1 : decode cX1_asker 1 = .ok (.ifCond .ne 9, 3) := dk_154 0 9 (dk_at dksX1_asker_0 1 rfl rfl)
theorem dX1_asker_4 : decode cX1_asker 4 = .ok (.invokedynamic 349, 5) := by decide +kernel
theorem dX1_asker_9 : decode cX1_asker 9 = .ok (.areturn, 1) := dk_176 (dk_at dksX1_asker_0 9 rfl rfl)
theorem dX1_asker_10 : decode cX1_asker 10 = .ok (.iload_n 0, 1) := dk_26 (dk_at dksX1_asker_0 10 rfl rfl)
theorem dX1_asker_11 : decode cX1_asker 11 = .ok (.iconst 1, 1) := dk_4 (dk_at dksX1_asker_0 11 rfl rfl)
theorem dX1_asker_12 : decode cX1_asker 12 = .ok (.if_icmp .ne 9, 3) := dk_160 0 9 (dk_at dksX1_asker_0 12 rfl rfl)
theorem dX1_asker_15 : decode cX1_asker 15 = .ok (.invokedynamic 350, 5) := by decide +kernel
theorem dX1_asker_20 : decode cX1_asker 20 = .ok (.areturn, 1) := dk_176 (dk_at dksX1_asker_0 20 rfl rfl)
theorem dX1_asker_21 : decode cX1_asker 21 = .ok (.invokedynamic 338, 5) := by decide +kernel
theorem dX1_asker_26 : decode cX1_asker 26 = .ok (.areturn, 1) := dk_176 (dk_at dksX1_asker_1 5 rfl rfl)
abbrev cX1_lambda_asker_3 : ByteArray := prog_1_method_121_code
def yX1_lambda_asker_3 : MethodName := ⟨RX1, "lambda$asker$3", "(I)Z"⟩
def dkwX1_lambda_asker_3_0 : List UInt8 := [26, 154, 0, 7, 4, 167, 0, 4, 3, 172]
abbrev dktX1_lambda_asker_3_0 : List UInt8 := dkwX1_lambda_asker_3_0 ++ []
theorem dksX1_lambda_asker_3_0 : cX1_lambda_asker_3.data.toList.drop 0 = dktX1_lambda_asker_3_0 := by decide +kernel
theorem dX1_lambda_asker_3_0 : decode cX1_lambda_asker_3 0 = .ok (.iload_n 0, 1) := dk_26 (dk_at dksX1_lambda_asker_3_0 0 rfl rfl)
theorem dX1_lambda_asker_3_1 : decode cX1_lambda_asker_3 1 = .ok (.ifCond .ne 7, 3) := dk_154 0 7 (dk_at dksX1_lambda_asker_3_0 1 rfl rfl)
theorem dX1_lambda_asker_3_4 : decode cX1_lambda_asker_3 4 = .ok (.iconst 1, 1) := dk_4 (dk_at dksX1_lambda_asker_3_0 4 rfl rfl)
theorem dX1_lambda_asker_3_5 : decode cX1_lambda_asker_3 5 = .ok (.goto 4, 3) := dk_167 0 4 (dk_at dksX1_lambda_asker_3_0 5 rfl rfl)
theorem dX1_lambda_asker_3_8 : decode cX1_lambda_asker_3 8 = .ok (.iconst 0, 1) := dk_3 (dk_at dksX1_lambda_asker_3_0 8 rfl rfl)
theorem dX1_lambda_asker_3_9 : decode cX1_lambda_asker_3 9 = .ok (.ireturn, 1) := dk_172 (dk_at dksX1_lambda_asker_3_0 9 rfl rfl)
abbrev cX1_lambda_asker_4 : ByteArray := prog_1_method_120_code
def yX1_lambda_asker_4 : MethodName := ⟨RX1, "lambda$asker$4", "(I)Z"⟩
def dkwX1_lambda_asker_4_0 : List UInt8 := [26, 4, 159, 0, 8, 26, 2, 160, 0, 7, 4, 167, 0, 4, 3, 172]
abbrev dktX1_lambda_asker_4_0 : List UInt8 := dkwX1_lambda_asker_4_0 ++ []
theorem dksX1_lambda_asker_4_0 : cX1_lambda_asker_4.data.toList.drop 0 = dktX1_lambda_asker_4_0 := by decide +kernel
theorem dX1_lambda_asker_4_0 : decode cX1_lambda_asker_4 0 = .ok (.iload_n 0, 1) := dk_26 (dk_at dksX1_lambda_asker_4_0 0 rfl rfl)
theorem dX1_lambda_asker_4_1 : decode cX1_lambda_asker_4 1 = .ok (.iconst 1, 1) := dk_4 (dk_at dksX1_lambda_asker_4_0 1 rfl rfl)
theorem dX1_lambda_asker_4_2 : decode cX1_lambda_asker_4 2 = .ok (.if_icmp .eq 8, 3) := dk_159 0 8 (dk_at dksX1_lambda_asker_4_0 2 rfl rfl)
theorem dX1_lambda_asker_4_5 : decode cX1_lambda_asker_4 5 = .ok (.iload_n 0, 1) := dk_26 (dk_at dksX1_lambda_asker_4_0 5 rfl rfl)
theorem dX1_lambda_asker_4_6 : decode cX1_lambda_asker_4 6 = .ok (.iconst (-1), 1) := dk_2 (dk_at dksX1_lambda_asker_4_0 6 rfl rfl)
theorem dX1_lambda_asker_4_7 : decode cX1_lambda_asker_4 7 = .ok (.if_icmp .ne 7, 3) := dk_160 0 7 (dk_at dksX1_lambda_asker_4_0 7 rfl rfl)
theorem dX1_lambda_asker_4_10 : decode cX1_lambda_asker_4 10 = .ok (.iconst 1, 1) := dk_4 (dk_at dksX1_lambda_asker_4_0 10 rfl rfl)
theorem dX1_lambda_asker_4_11 : decode cX1_lambda_asker_4 11 = .ok (.goto 4, 3) := dk_167 0 4 (dk_at dksX1_lambda_asker_4_0 11 rfl rfl)
theorem dX1_lambda_asker_4_14 : decode cX1_lambda_asker_4 14 = .ok (.iconst 0, 1) := dk_3 (dk_at dksX1_lambda_asker_4_0 14 rfl rfl)
theorem dX1_lambda_asker_4_15 : decode cX1_lambda_asker_4 15 = .ok (.ireturn, 1) := dk_172 (dk_at dksX1_lambda_asker_4_0 15 rfl rfl)
abbrev cX1_isBeyond : ByteArray := prog_1_method_51_code
def yX1_isBeyond : MethodName := ⟨RX1, "isBeyond", "(I)Z"⟩
def dkwX1_isBeyond_0 : List UInt8 := [26, 2, 4, 184, 0, 149, 154, 0, 7, 4, 167, 0, 4, 3, 172]
abbrev dktX1_isBeyond_0 : List UInt8 := dkwX1_isBeyond_0 ++ []
theorem dksX1_isBeyond_0 : cX1_isBeyond.data.toList.drop 0 = dktX1_isBeyond_0 := by decide +kernel
theorem dX1_isBeyond_0 : decode cX1_isBeyond 0 = .ok (.iload_n 0, 1) := dk_26 (dk_at dksX1_isBeyond_0 0 rfl rfl)
theorem dX1_isBeyond_1 : decode cX1_isBeyond 1 = .ok (.iconst (-1), 1) := dk_2 (dk_at dksX1_isBeyond_0 1 rfl rfl)
theorem dX1_isBeyond_2 : decode cX1_isBeyond 2 = .ok (.iconst 1, 1) := dk_4 (dk_at dksX1_isBeyond_0 2 rfl rfl)
theorem dX1_isBeyond_3 : decode cX1_isBeyond 3 = .ok (.invokestatic 149, 3) := dk_184 0 149 (dk_at dksX1_isBeyond_0 3 rfl rfl)
theorem dX1_isBeyond_6 : decode cX1_isBeyond 6 = .ok (.ifCond .ne 7, 3) := dk_154 0 7 (dk_at dksX1_isBeyond_0 6 rfl rfl)
theorem dX1_isBeyond_9 : decode cX1_isBeyond 9 = .ok (.iconst 1, 1) := dk_4 (dk_at dksX1_isBeyond_0 9 rfl rfl)
theorem dX1_isBeyond_10 : decode cX1_isBeyond 10 = .ok (.goto 4, 3) := dk_167 0 4 (dk_at dksX1_isBeyond_0 10 rfl rfl)
theorem dX1_isBeyond_13 : decode cX1_isBeyond 13 = .ok (.iconst 0, 1) := dk_3 (dk_at dksX1_isBeyond_0 13 rfl rfl)
theorem dX1_isBeyond_14 : decode cX1_isBeyond 14 = .ok (.ireturn, 1) := dk_172 (dk_at dksX1_isBeyond_0 14 rfl rfl)
abbrev cX1_many : ByteArray := prog_1_method_50_code
def yX1_many : MethodName := ⟨RX1, "many", "(LUnimodularTables$Table;[IILUnimodularTables$Asker;)I"⟩
def dkwX1_many_4 : List UInt8 := [21, 4, 172]
abbrev dktX1_many_4 : List UInt8 := dkwX1_many_4 ++ []
def dkwX1_many_3 : List UInt8 := [185, 1, 73, 2, 0, 153, 0, 6, 132, 4, 1, 132, 6, 1, 167, 255, 209, 132, 5, 1, 167, 255, 173]
abbrev dktX1_many_3 : List UInt8 := dkwX1_many_3 ++ dktX1_many_4
def dkwX1_many_2 : List UInt8 := [42, 21, 5, 21, 6, 184, 1, 69, 153, 0, 25, 45, 43, 16, 64, 21, 5, 104, 21, 6, 96, 46]
abbrev dktX1_many_2 : List UInt8 := dkwX1_many_2 ++ dktX1_many_3
def dkwX1_many_1 : List UInt8 := [184, 1, 62, 28, 159, 0, 6, 167, 0, 56, 4, 54, 6, 21, 6, 4, 42, 180, 0, 9, 120, 162, 0, 42]
abbrev dktX1_many_1 : List UInt8 := dkwX1_many_1 ++ dktX1_many_2
def dkwX1_many_0 : List UInt8 := [3, 54, 4, 4, 54, 5, 21, 5, 4, 42, 180, 0, 17, 120, 162, 0, 78, 28, 158, 0, 15, 21, 5]
abbrev dktX1_many_0 : List UInt8 := dkwX1_many_0 ++ dktX1_many_1
theorem dksX1_many_0 : cX1_many.data.toList.drop 0 = dktX1_many_0 := by decide +kernel
theorem dksX1_many_1 : cX1_many.data.toList.drop 23 = dktX1_many_1 := dk_seg dksX1_many_0 23 rfl rfl
theorem dksX1_many_2 : cX1_many.data.toList.drop 47 = dktX1_many_2 := dk_seg dksX1_many_1 24 rfl rfl
theorem dksX1_many_3 : cX1_many.data.toList.drop 69 = dktX1_many_3 := dk_seg dksX1_many_2 22 rfl rfl
theorem dksX1_many_4 : cX1_many.data.toList.drop 92 = dktX1_many_4 := dk_seg dksX1_many_3 23 rfl rfl
theorem dX1_many_0 : decode cX1_many 0 = .ok (.iconst 0, 1) := dk_3 (dk_at dksX1_many_0 0 rfl rfl)
theorem dX1_many_1 : decode cX1_many 1 = .ok (.istore 4, 2) := dk_54 4 (dk_at dksX1_many_0 1 rfl rfl)
theorem dX1_many_3 : decode cX1_many 3 = .ok (.iconst 1, 1) := dk_4 (dk_at dksX1_many_0 3 rfl rfl)
theorem dX1_many_4 : decode cX1_many 4 = .ok (.istore 5, 2) := dk_54 5 (dk_at dksX1_many_0 4 rfl rfl)
theorem dX1_many_6 : decode cX1_many 6 = .ok (.iload 5, 2) := dk_21 5 (dk_at dksX1_many_0 6 rfl rfl)
theorem dX1_many_8 : decode cX1_many 8 = .ok (.iconst 1, 1) := dk_4 (dk_at dksX1_many_0 8 rfl rfl)
theorem dX1_many_9 : decode cX1_many 9 = .ok (.aload_n 0, 1) := dk_42 (dk_at dksX1_many_0 9 rfl rfl)
theorem dX1_many_10 : decode cX1_many 10 = .ok (.getfield 17, 3) := dk_180 0 17 (dk_at dksX1_many_0 10 rfl rfl)
theorem dX1_many_13 : decode cX1_many 13 = .ok (.ishl, 1) := dk_120 (dk_at dksX1_many_0 13 rfl rfl)
theorem dX1_many_14 : decode cX1_many 14 = .ok (.if_icmp .ge 78, 3) := dk_162 0 78 (dk_at dksX1_many_0 14 rfl rfl)
theorem dX1_many_17 : decode cX1_many 17 = .ok (.iload_n 2, 1) := dk_28 (dk_at dksX1_many_0 17 rfl rfl)
theorem dX1_many_18 : decode cX1_many 18 = .ok (.ifCond .le 15, 3) := dk_158 0 15 (dk_at dksX1_many_0 18 rfl rfl)
theorem dX1_many_21 : decode cX1_many 21 = .ok (.iload 5, 2) := dk_21 5 (dk_at dksX1_many_0 21 rfl rfl)
theorem dX1_many_23 : decode cX1_many 23 = .ok (.invokestatic 318, 3) := dk_184 1 62 (dk_at dksX1_many_1 0 rfl rfl)
theorem dX1_many_26 : decode cX1_many 26 = .ok (.iload_n 2, 1) := dk_28 (dk_at dksX1_many_1 3 rfl rfl)
theorem dX1_many_27 : decode cX1_many 27 = .ok (.if_icmp .eq 6, 3) := dk_159 0 6 (dk_at dksX1_many_1 4 rfl rfl)
theorem dX1_many_30 : decode cX1_many 30 = .ok (.goto 56, 3) := dk_167 0 56 (dk_at dksX1_many_1 7 rfl rfl)
theorem dX1_many_33 : decode cX1_many 33 = .ok (.iconst 1, 1) := dk_4 (dk_at dksX1_many_1 10 rfl rfl)
theorem dX1_many_34 : decode cX1_many 34 = .ok (.istore 6, 2) := dk_54 6 (dk_at dksX1_many_1 11 rfl rfl)
theorem dX1_many_36 : decode cX1_many 36 = .ok (.iload 6, 2) := dk_21 6 (dk_at dksX1_many_1 13 rfl rfl)
theorem dX1_many_38 : decode cX1_many 38 = .ok (.iconst 1, 1) := dk_4 (dk_at dksX1_many_1 15 rfl rfl)
theorem dX1_many_39 : decode cX1_many 39 = .ok (.aload_n 0, 1) := dk_42 (dk_at dksX1_many_1 16 rfl rfl)
theorem dX1_many_40 : decode cX1_many 40 = .ok (.getfield 9, 3) := dk_180 0 9 (dk_at dksX1_many_1 17 rfl rfl)
theorem dX1_many_43 : decode cX1_many 43 = .ok (.ishl, 1) := dk_120 (dk_at dksX1_many_1 20 rfl rfl)
theorem dX1_many_44 : decode cX1_many 44 = .ok (.if_icmp .ge 42, 3) := dk_162 0 42 (dk_at dksX1_many_1 21 rfl rfl)
theorem dX1_many_47 : decode cX1_many 47 = .ok (.aload_n 0, 1) := dk_42 (dk_at dksX1_many_2 0 rfl rfl)
theorem dX1_many_48 : decode cX1_many 48 = .ok (.iload 5, 2) := dk_21 5 (dk_at dksX1_many_2 1 rfl rfl)
theorem dX1_many_50 : decode cX1_many 50 = .ok (.iload 6, 2) := dk_21 6 (dk_at dksX1_many_2 3 rfl rfl)
theorem dX1_many_52 : decode cX1_many 52 = .ok (.invokestatic 325, 3) := dk_184 1 69 (dk_at dksX1_many_2 5 rfl rfl)
theorem dX1_many_55 : decode cX1_many 55 = .ok (.ifCond .eq 25, 3) := dk_153 0 25 (dk_at dksX1_many_2 8 rfl rfl)
theorem dX1_many_58 : decode cX1_many 58 = .ok (.aload_n 3, 1) := dk_45 (dk_at dksX1_many_2 11 rfl rfl)
theorem dX1_many_59 : decode cX1_many 59 = .ok (.aload_n 1, 1) := dk_43 (dk_at dksX1_many_2 12 rfl rfl)
theorem dX1_many_60 : decode cX1_many 60 = .ok (.bipush 64, 2) := dk_16 64 (dk_at dksX1_many_2 13 rfl rfl)
theorem dX1_many_62 : decode cX1_many 62 = .ok (.iload 5, 2) := dk_21 5 (dk_at dksX1_many_2 15 rfl rfl)
theorem dX1_many_64 : decode cX1_many 64 = .ok (.imul, 1) := dk_104 (dk_at dksX1_many_2 17 rfl rfl)
theorem dX1_many_65 : decode cX1_many 65 = .ok (.iload 6, 2) := dk_21 6 (dk_at dksX1_many_2 18 rfl rfl)
theorem dX1_many_67 : decode cX1_many 67 = .ok (.iadd, 1) := dk_96 (dk_at dksX1_many_2 20 rfl rfl)
theorem dX1_many_68 : decode cX1_many 68 = .ok (.iaload, 1) := dk_46 (dk_at dksX1_many_2 21 rfl rfl)
theorem dX1_many_69 : decode cX1_many 69 = .ok (.invokeinterface 329 2, 5) := by decide +kernel
theorem dX1_many_74 : decode cX1_many 74 = .ok (.ifCond .eq 6, 3) := dk_153 0 6 (dk_at dksX1_many_3 5 rfl rfl)
theorem dX1_many_77 : decode cX1_many 77 = .ok (.iinc 4 1, 3) := dk_132 4 1 (dk_at dksX1_many_3 8 rfl rfl)
theorem dX1_many_80 : decode cX1_many 80 = .ok (.iinc 6 1, 3) := dk_132 6 1 (dk_at dksX1_many_3 11 rfl rfl)
theorem dX1_many_83 : decode cX1_many 83 = .ok (.goto (-47), 3) := dk_167 255 209 (dk_at dksX1_many_3 14 rfl rfl)
theorem dX1_many_86 : decode cX1_many 86 = .ok (.iinc 5 1, 3) := dk_132 5 1 (dk_at dksX1_many_3 17 rfl rfl)
theorem dX1_many_89 : decode cX1_many 89 = .ok (.goto (-83), 3) := dk_167 255 173 (dk_at dksX1_many_3 20 rfl rfl)
theorem dX1_many_92 : decode cX1_many 92 = .ok (.iload 4, 2) := dk_21 4 (dk_at dksX1_many_4 0 rfl rfl)
theorem dX1_many_94 : decode cX1_many 94 = .ok (.ireturn, 1) := dk_172 (dk_at dksX1_many_4 2 rfl rfl)
abbrev cX1_total : ByteArray := prog_1_method_58_code
def yX1_total : MethodName := ⟨RX1, "total", "()I"⟩
def dkwX1_total_0 : List UInt8 := [42, 180, 0, 220, 199, 0, 7, 2, 167, 0, 15, 42, 182, 1, 99, 153, 0, 7, 4, 167, 0, 4, 3, 172]
abbrev dktX1_total_0 : List UInt8 := dkwX1_total_0 ++ []
theorem dksX1_total_0 : cX1_total.data.toList.drop 0 = dktX1_total_0 := by decide +kernel
theorem dX1_total_0 : decode cX1_total 0 = .ok (.aload_n 0, 1) := dk_42 (dk_at dksX1_total_0 0 rfl rfl)
theorem dX1_total_1 : decode cX1_total 1 = .ok (.getfield 220, 3) := dk_180 0 220 (dk_at dksX1_total_0 1 rfl rfl)
theorem dX1_total_4 : decode cX1_total 4 = .ok (.ifnonnull 7, 3) := dk_199 0 7 (dk_at dksX1_total_0 4 rfl rfl)
theorem dX1_total_7 : decode cX1_total 7 = .ok (.iconst (-1), 1) := dk_2 (dk_at dksX1_total_0 7 rfl rfl)
theorem dX1_total_8 : decode cX1_total 8 = .ok (.goto 15, 3) := dk_167 0 15 (dk_at dksX1_total_0 8 rfl rfl)
theorem dX1_total_11 : decode cX1_total 11 = .ok (.aload_n 0, 1) := dk_42 (dk_at dksX1_total_0 11 rfl rfl)
theorem dX1_total_12 : decode cX1_total 12 = .ok (.invokevirtual 355, 3) := dk_182 1 99 (dk_at dksX1_total_0 12 rfl rfl)
theorem dX1_total_15 : decode cX1_total 15 = .ok (.ifCond .eq 7, 3) := dk_153 0 7 (dk_at dksX1_total_0 15 rfl rfl)
theorem dX1_total_18 : decode cX1_total 18 = .ok (.iconst 1, 1) := dk_4 (dk_at dksX1_total_0 18 rfl rfl)
theorem dX1_total_19 : decode cX1_total 19 = .ok (.goto 4, 3) := dk_167 0 4 (dk_at dksX1_total_0 19 rfl rfl)
theorem dX1_total_22 : decode cX1_total 22 = .ok (.iconst 0, 1) := dk_3 (dk_at dksX1_total_0 22 rfl rfl)
theorem dX1_total_23 : decode cX1_total 23 = .ok (.ireturn, 1) := dk_172 (dk_at dksX1_total_0 23 rfl rfl)
abbrev cX1_isTotalNow : ByteArray := prog_1_method_54_code
def yX1_isTotalNow : MethodName := ⟨RX1, "isTotalNow", "()Z"⟩
def dkwX1_isTotalNow_1 : List UInt8 := [3, 172]
abbrev dktX1_isTotalNow_1 : List UInt8 := dkwX1_isTotalNow_1 ++ []
def dkwX1_isTotalNow_0 : List UInt8 := [42, 180, 0, 220, 42, 182, 1, 89, 3, 186, 1, 82, 0, 0, 184, 1, 85, 154, 0, 7, 4, 167, 0, 4]
abbrev dktX1_isTotalNow_0 : List UInt8 := dkwX1_isTotalNow_0 ++ dktX1_isTotalNow_1
theorem dksX1_isTotalNow_0 : cX1_isTotalNow.data.toList.drop 0 = dktX1_isTotalNow_0 := by decide +kernel
theorem dksX1_isTotalNow_1 : cX1_isTotalNow.data.toList.drop 24 = dktX1_isTotalNow_1 := dk_seg dksX1_isTotalNow_0 24 rfl rfl
theorem dX1_isTotalNow_0 : decode cX1_isTotalNow 0 = .ok (.aload_n 0, 1) := dk_42 (dk_at dksX1_isTotalNow_0 0 rfl rfl)
theorem dX1_isTotalNow_1 : decode cX1_isTotalNow 1 = .ok (.getfield 220, 3) := dk_180 0 220 (dk_at dksX1_isTotalNow_0 1 rfl rfl)
theorem dX1_isTotalNow_4 : decode cX1_isTotalNow 4 = .ok (.aload_n 0, 1) := dk_42 (dk_at dksX1_isTotalNow_0 4 rfl rfl)
theorem dX1_isTotalNow_5 : decode cX1_isTotalNow 5 = .ok (.invokevirtual 345, 3) := dk_182 1 89 (dk_at dksX1_isTotalNow_0 5 rfl rfl)
theorem dX1_isTotalNow_8 : decode cX1_isTotalNow 8 = .ok (.iconst 0, 1) := dk_3 (dk_at dksX1_isTotalNow_0 8 rfl rfl)
theorem dX1_isTotalNow_9 : decode cX1_isTotalNow 9 = .ok (.invokedynamic 338, 5) := by decide +kernel
theorem dX1_isTotalNow_14 : decode cX1_isTotalNow 14 = .ok (.invokestatic 341, 3) := dk_184 1 85 (dk_at dksX1_isTotalNow_0 14 rfl rfl)
theorem dX1_isTotalNow_17 : decode cX1_isTotalNow 17 = .ok (.ifCond .ne 7, 3) := dk_154 0 7 (dk_at dksX1_isTotalNow_0 17 rfl rfl)
theorem dX1_isTotalNow_20 : decode cX1_isTotalNow 20 = .ok (.iconst 1, 1) := dk_4 (dk_at dksX1_isTotalNow_0 20 rfl rfl)
theorem dX1_isTotalNow_21 : decode cX1_isTotalNow 21 = .ok (.goto 4, 3) := dk_167 0 4 (dk_at dksX1_isTotalNow_0 21 rfl rfl)
theorem dX1_isTotalNow_24 : decode cX1_isTotalNow 24 = .ok (.iconst 0, 1) := dk_3 (dk_at dksX1_isTotalNow_1 0 rfl rfl)
theorem dX1_isTotalNow_25 : decode cX1_isTotalNow 25 = .ok (.ireturn, 1) := dk_172 (dk_at dksX1_isTotalNow_1 1 rfl rfl)
abbrev cX1_witness : ByteArray := prog_1_method_60_code
def yX1_witness : MethodName := ⟨RX1, "witness", "(I)I"⟩
def dkwX1_witness_4 : List UInt8 := [42, 182, 1, 89, 16, 64, 42, 180, 1, 106, 104, 42, 180, 1, 109, 96, 46, 172]
abbrev dktX1_witness_4 : List UInt8 := dkwX1_witness_4 ++ []
def dkwX1_witness_3 : List UInt8 := [42, 180, 1, 106, 184, 1, 62, 167, 0, 34, 42, 180, 1, 106, 167, 0, 27, 42, 180, 1, 109, 167, 0, 20]
abbrev dktX1_witness_3 : List UInt8 := dkwX1_witness_3 ++ dktX1_witness_4
def dkwX1_witness_2 : List UInt8 := [170, 0, 0, 0, 49, 0, 0, 0, 0, 0, 0, 0, 2, 0, 0, 0, 25, 0, 0, 0, 35, 0, 0, 0, 42]
abbrev dktX1_witness_2 : List UInt8 := dkwX1_witness_2 ++ dktX1_witness_3
def dkwX1_witness_1 : List UInt8 := [18, 188, 172, 27]
abbrev dktX1_witness_1 : List UInt8 := dkwX1_witness_1 ++ dktX1_witness_2
def dkwX1_witness_0 : List UInt8 := [42, 180, 0, 220, 198, 0, 19, 27, 3, 6, 184, 0, 149, 153, 0, 10, 42, 182, 1, 112, 154, 0, 6]
abbrev dktX1_witness_0 : List UInt8 := dkwX1_witness_0 ++ dktX1_witness_1
theorem dksX1_witness_0 : cX1_witness.data.toList.drop 0 = dktX1_witness_0 := by decide +kernel
theorem dksX1_witness_1 : cX1_witness.data.toList.drop 23 = dktX1_witness_1 := dk_seg dksX1_witness_0 23 rfl rfl
theorem dksX1_witness_2 : cX1_witness.data.toList.drop 27 = dktX1_witness_2 := dk_seg dksX1_witness_1 4 rfl rfl
theorem dksX1_witness_3 : cX1_witness.data.toList.drop 52 = dktX1_witness_3 := dk_seg dksX1_witness_2 25 rfl rfl
theorem dksX1_witness_4 : cX1_witness.data.toList.drop 76 = dktX1_witness_4 := dk_seg dksX1_witness_3 24 rfl rfl
theorem dX1_witness_0 : decode cX1_witness 0 = .ok (.aload_n 0, 1) := dk_42 (dk_at dksX1_witness_0 0 rfl rfl)
theorem dX1_witness_1 : decode cX1_witness 1 = .ok (.getfield 220, 3) := dk_180 0 220 (dk_at dksX1_witness_0 1 rfl rfl)
theorem dX1_witness_4 : decode cX1_witness 4 = .ok (.ifnull 19, 3) := dk_198 0 19 (dk_at dksX1_witness_0 4 rfl rfl)
theorem dX1_witness_7 : decode cX1_witness 7 = .ok (.iload_n 1, 1) := dk_27 (dk_at dksX1_witness_0 7 rfl rfl)
theorem dX1_witness_8 : decode cX1_witness 8 = .ok (.iconst 0, 1) := dk_3 (dk_at dksX1_witness_0 8 rfl rfl)
theorem dX1_witness_9 : decode cX1_witness 9 = .ok (.iconst 3, 1) := dk_6 (dk_at dksX1_witness_0 9 rfl rfl)
theorem dX1_witness_10 : decode cX1_witness 10 = .ok (.invokestatic 149, 3) := dk_184 0 149 (dk_at dksX1_witness_0 10 rfl rfl)
theorem dX1_witness_13 : decode cX1_witness 13 = .ok (.ifCond .eq 10, 3) := dk_153 0 10 (dk_at dksX1_witness_0 13 rfl rfl)
theorem dX1_witness_16 : decode cX1_witness 16 = .ok (.aload_n 0, 1) := dk_42 (dk_at dksX1_witness_0 16 rfl rfl)
theorem dX1_witness_17 : decode cX1_witness 17 = .ok (.invokevirtual 368, 3) := dk_182 1 112 (dk_at dksX1_witness_0 17 rfl rfl)
theorem dX1_witness_20 : decode cX1_witness 20 = .ok (.ifCond .ne 6, 3) := dk_154 0 6 (dk_at dksX1_witness_0 20 rfl rfl)
theorem dX1_witness_23 : decode cX1_witness 23 = .ok (.ldc 188, 2) := dk_18 188 (dk_at dksX1_witness_1 0 rfl rfl)
theorem dX1_witness_25 : decode cX1_witness 25 = .ok (.ireturn, 1) := dk_172 (dk_at dksX1_witness_1 2 rfl rfl)
theorem dX1_witness_26 : decode cX1_witness 26 = .ok (.iload_n 1, 1) := dk_27 (dk_at dksX1_witness_1 3 rfl rfl)
theorem dX1_witness_27 : decode cX1_witness 27 = .ok (.tableswitch 49 0 2 #[25, 35, 42], 25) := by decide +kernel
theorem dX1_witness_52 : decode cX1_witness 52 = .ok (.aload_n 0, 1) := dk_42 (dk_at dksX1_witness_3 0 rfl rfl)
theorem dX1_witness_53 : decode cX1_witness 53 = .ok (.getfield 362, 3) := dk_180 1 106 (dk_at dksX1_witness_3 1 rfl rfl)
theorem dX1_witness_56 : decode cX1_witness 56 = .ok (.invokestatic 318, 3) := dk_184 1 62 (dk_at dksX1_witness_3 4 rfl rfl)
theorem dX1_witness_59 : decode cX1_witness 59 = .ok (.goto 34, 3) := dk_167 0 34 (dk_at dksX1_witness_3 7 rfl rfl)
theorem dX1_witness_62 : decode cX1_witness 62 = .ok (.aload_n 0, 1) := dk_42 (dk_at dksX1_witness_3 10 rfl rfl)
theorem dX1_witness_63 : decode cX1_witness 63 = .ok (.getfield 362, 3) := dk_180 1 106 (dk_at dksX1_witness_3 11 rfl rfl)
theorem dX1_witness_66 : decode cX1_witness 66 = .ok (.goto 27, 3) := dk_167 0 27 (dk_at dksX1_witness_3 14 rfl rfl)
theorem dX1_witness_69 : decode cX1_witness 69 = .ok (.aload_n 0, 1) := dk_42 (dk_at dksX1_witness_3 17 rfl rfl)
theorem dX1_witness_70 : decode cX1_witness 70 = .ok (.getfield 365, 3) := dk_180 1 109 (dk_at dksX1_witness_3 18 rfl rfl)
theorem dX1_witness_73 : decode cX1_witness 73 = .ok (.goto 20, 3) := dk_167 0 20 (dk_at dksX1_witness_3 21 rfl rfl)
theorem dX1_witness_76 : decode cX1_witness 76 = .ok (.aload_n 0, 1) := dk_42 (dk_at dksX1_witness_4 0 rfl rfl)
theorem dX1_witness_77 : decode cX1_witness 77 = .ok (.invokevirtual 345, 3) := dk_182 1 89 (dk_at dksX1_witness_4 1 rfl rfl)
theorem dX1_witness_80 : decode cX1_witness 80 = .ok (.bipush 64, 2) := dk_16 64 (dk_at dksX1_witness_4 4 rfl rfl)
theorem dX1_witness_82 : decode cX1_witness 82 = .ok (.aload_n 0, 1) := dk_42 (dk_at dksX1_witness_4 6 rfl rfl)
theorem dX1_witness_83 : decode cX1_witness 83 = .ok (.getfield 362, 3) := dk_180 1 106 (dk_at dksX1_witness_4 7 rfl rfl)
theorem dX1_witness_86 : decode cX1_witness 86 = .ok (.imul, 1) := dk_104 (dk_at dksX1_witness_4 10 rfl rfl)
theorem dX1_witness_87 : decode cX1_witness 87 = .ok (.aload_n 0, 1) := dk_42 (dk_at dksX1_witness_4 11 rfl rfl)
theorem dX1_witness_88 : decode cX1_witness 88 = .ok (.getfield 365, 3) := dk_180 1 109 (dk_at dksX1_witness_4 12 rfl rfl)
theorem dX1_witness_91 : decode cX1_witness 91 = .ok (.iadd, 1) := dk_96 (dk_at dksX1_witness_4 15 rfl rfl)
theorem dX1_witness_92 : decode cX1_witness 92 = .ok (.iaload, 1) := dk_46 (dk_at dksX1_witness_4 16 rfl rfl)
theorem dX1_witness_93 : decode cX1_witness 93 = .ok (.ireturn, 1) := dk_172 (dk_at dksX1_witness_4 17 rfl rfl)
abbrev cX1_layWitness : ByteArray := prog_1_method_59_code
def yX1_layWitness : MethodName := ⟨RX1, "layWitness", "()Z"⟩
def dkwX1_layWitness_5 : List UInt8 := [167, 0, 4, 3, 172]
abbrev dktX1_layWitness_5 : List UInt8 := dkwX1_layWitness_5 ++ []
def dkwX1_layWitness_4 : List UInt8 := [167, 0, 9, 132, 3, 1, 167, 255, 190, 132, 2, 1, 167, 255, 158, 27, 16, 6, 163, 0, 7, 4]
abbrev dktX1_layWitness_4 : List UInt8 := dkwX1_layWitness_4 ++ dktX1_layWitness_5
def dkwX1_layWitness_3 : List UInt8 := [184, 1, 103, 154, 0, 6, 167, 0, 21, 28, 184, 1, 62, 60, 42, 28, 181, 1, 106, 42, 29, 181, 1, 109]
abbrev dktX1_layWitness_3 : List UInt8 := dkwX1_layWitness_3 ++ dktX1_layWitness_4
def dkwX1_layWitness_2 : List UInt8 := [180, 0, 220, 28, 29, 184, 1, 69, 153, 0, 41, 42, 182, 1, 89, 16, 64, 28, 104, 29, 96, 46]
abbrev dktX1_layWitness_2 : List UInt8 := dkwX1_layWitness_2 ++ dktX1_layWitness_3
def dkwX1_layWitness_1 : List UInt8 := [161, 0, 6, 167, 0, 74, 4, 62, 29, 4, 42, 180, 0, 220, 180, 0, 9, 120, 162, 0, 59, 42]
abbrev dktX1_layWitness_1 : List UInt8 := dkwX1_layWitness_1 ++ dktX1_layWitness_2
def dkwX1_layWitness_0 : List UInt8 := [16, 7, 60, 4, 61, 28, 4, 42, 180, 0, 220, 180, 0, 17, 120, 162, 0, 91, 28, 184, 1, 62, 27]
abbrev dktX1_layWitness_0 : List UInt8 := dkwX1_layWitness_0 ++ dktX1_layWitness_1
theorem dksX1_layWitness_0 : cX1_layWitness.data.toList.drop 0 = dktX1_layWitness_0 := by decide +kernel
theorem dksX1_layWitness_1 : cX1_layWitness.data.toList.drop 23 = dktX1_layWitness_1 := dk_seg dksX1_layWitness_0 23 rfl rfl
theorem dksX1_layWitness_2 : cX1_layWitness.data.toList.drop 45 = dktX1_layWitness_2 := dk_seg dksX1_layWitness_1 22 rfl rfl
theorem dksX1_layWitness_3 : cX1_layWitness.data.toList.drop 67 = dktX1_layWitness_3 := dk_seg dksX1_layWitness_2 22 rfl rfl
theorem dksX1_layWitness_4 : cX1_layWitness.data.toList.drop 91 = dktX1_layWitness_4 := dk_seg dksX1_layWitness_3 24 rfl rfl
theorem dksX1_layWitness_5 : cX1_layWitness.data.toList.drop 113 = dktX1_layWitness_5 := dk_seg dksX1_layWitness_4 22 rfl rfl
theorem dX1_layWitness_0 : decode cX1_layWitness 0 = .ok (.bipush 7, 2) := dk_16 7 (dk_at dksX1_layWitness_0 0 rfl rfl)
theorem dX1_layWitness_2 : decode cX1_layWitness 2 = .ok (.istore_n 1, 1) := dk_60 (dk_at dksX1_layWitness_0 2 rfl rfl)
theorem dX1_layWitness_3 : decode cX1_layWitness 3 = .ok (.iconst 1, 1) := dk_4 (dk_at dksX1_layWitness_0 3 rfl rfl)
theorem dX1_layWitness_4 : decode cX1_layWitness 4 = .ok (.istore_n 2, 1) := dk_61 (dk_at dksX1_layWitness_0 4 rfl rfl)
theorem dX1_layWitness_5 : decode cX1_layWitness 5 = .ok (.iload_n 2, 1) := dk_28 (dk_at dksX1_layWitness_0 5 rfl rfl)
theorem dX1_layWitness_6 : decode cX1_layWitness 6 = .ok (.iconst 1, 1) := dk_4 (dk_at dksX1_layWitness_0 6 rfl rfl)
theorem dX1_layWitness_7 : decode cX1_layWitness 7 = .ok (.aload_n 0, 1) := dk_42 (dk_at dksX1_layWitness_0 7 rfl rfl)
theorem dX1_layWitness_8 : decode cX1_layWitness 8 = .ok (.getfield 220, 3) := dk_180 0 220 (dk_at dksX1_layWitness_0 8 rfl rfl)
theorem dX1_layWitness_11 : decode cX1_layWitness 11 = .ok (.getfield 17, 3) := dk_180 0 17 (dk_at dksX1_layWitness_0 11 rfl rfl)
theorem dX1_layWitness_14 : decode cX1_layWitness 14 = .ok (.ishl, 1) := dk_120 (dk_at dksX1_layWitness_0 14 rfl rfl)
theorem dX1_layWitness_15 : decode cX1_layWitness 15 = .ok (.if_icmp .ge 91, 3) := dk_162 0 91 (dk_at dksX1_layWitness_0 15 rfl rfl)
theorem dX1_layWitness_18 : decode cX1_layWitness 18 = .ok (.iload_n 2, 1) := dk_28 (dk_at dksX1_layWitness_0 18 rfl rfl)
theorem dX1_layWitness_19 : decode cX1_layWitness 19 = .ok (.invokestatic 318, 3) := dk_184 1 62 (dk_at dksX1_layWitness_0 19 rfl rfl)
theorem dX1_layWitness_22 : decode cX1_layWitness 22 = .ok (.iload_n 1, 1) := dk_27 (dk_at dksX1_layWitness_0 22 rfl rfl)
theorem dX1_layWitness_23 : decode cX1_layWitness 23 = .ok (.if_icmp .lt 6, 3) := dk_161 0 6 (dk_at dksX1_layWitness_1 0 rfl rfl)
theorem dX1_layWitness_26 : decode cX1_layWitness 26 = .ok (.goto 74, 3) := dk_167 0 74 (dk_at dksX1_layWitness_1 3 rfl rfl)
theorem dX1_layWitness_29 : decode cX1_layWitness 29 = .ok (.iconst 1, 1) := dk_4 (dk_at dksX1_layWitness_1 6 rfl rfl)
theorem dX1_layWitness_30 : decode cX1_layWitness 30 = .ok (.istore_n 3, 1) := dk_62 (dk_at dksX1_layWitness_1 7 rfl rfl)
theorem dX1_layWitness_31 : decode cX1_layWitness 31 = .ok (.iload_n 3, 1) := dk_29 (dk_at dksX1_layWitness_1 8 rfl rfl)
theorem dX1_layWitness_32 : decode cX1_layWitness 32 = .ok (.iconst 1, 1) := dk_4 (dk_at dksX1_layWitness_1 9 rfl rfl)
theorem dX1_layWitness_33 : decode cX1_layWitness 33 = .ok (.aload_n 0, 1) := dk_42 (dk_at dksX1_layWitness_1 10 rfl rfl)
theorem dX1_layWitness_34 : decode cX1_layWitness 34 = .ok (.getfield 220, 3) := dk_180 0 220 (dk_at dksX1_layWitness_1 11 rfl rfl)
theorem dX1_layWitness_37 : decode cX1_layWitness 37 = .ok (.getfield 9, 3) := dk_180 0 9 (dk_at dksX1_layWitness_1 14 rfl rfl)
theorem dX1_layWitness_40 : decode cX1_layWitness 40 = .ok (.ishl, 1) := dk_120 (dk_at dksX1_layWitness_1 17 rfl rfl)
theorem dX1_layWitness_41 : decode cX1_layWitness 41 = .ok (.if_icmp .ge 59, 3) := dk_162 0 59 (dk_at dksX1_layWitness_1 18 rfl rfl)
theorem dX1_layWitness_44 : decode cX1_layWitness 44 = .ok (.aload_n 0, 1) := dk_42 (dk_at dksX1_layWitness_1 21 rfl rfl)
theorem dX1_layWitness_45 : decode cX1_layWitness 45 = .ok (.getfield 220, 3) := dk_180 0 220 (dk_at dksX1_layWitness_2 0 rfl rfl)
theorem dX1_layWitness_48 : decode cX1_layWitness 48 = .ok (.iload_n 2, 1) := dk_28 (dk_at dksX1_layWitness_2 3 rfl rfl)
theorem dX1_layWitness_49 : decode cX1_layWitness 49 = .ok (.iload_n 3, 1) := dk_29 (dk_at dksX1_layWitness_2 4 rfl rfl)
theorem dX1_layWitness_50 : decode cX1_layWitness 50 = .ok (.invokestatic 325, 3) := dk_184 1 69 (dk_at dksX1_layWitness_2 5 rfl rfl)
theorem dX1_layWitness_53 : decode cX1_layWitness 53 = .ok (.ifCond .eq 41, 3) := dk_153 0 41 (dk_at dksX1_layWitness_2 8 rfl rfl)
theorem dX1_layWitness_56 : decode cX1_layWitness 56 = .ok (.aload_n 0, 1) := dk_42 (dk_at dksX1_layWitness_2 11 rfl rfl)
theorem dX1_layWitness_57 : decode cX1_layWitness 57 = .ok (.invokevirtual 345, 3) := dk_182 1 89 (dk_at dksX1_layWitness_2 12 rfl rfl)
theorem dX1_layWitness_60 : decode cX1_layWitness 60 = .ok (.bipush 64, 2) := dk_16 64 (dk_at dksX1_layWitness_2 15 rfl rfl)
theorem dX1_layWitness_62 : decode cX1_layWitness 62 = .ok (.iload_n 2, 1) := dk_28 (dk_at dksX1_layWitness_2 17 rfl rfl)
theorem dX1_layWitness_63 : decode cX1_layWitness 63 = .ok (.imul, 1) := dk_104 (dk_at dksX1_layWitness_2 18 rfl rfl)
theorem dX1_layWitness_64 : decode cX1_layWitness 64 = .ok (.iload_n 3, 1) := dk_29 (dk_at dksX1_layWitness_2 19 rfl rfl)
theorem dX1_layWitness_65 : decode cX1_layWitness 65 = .ok (.iadd, 1) := dk_96 (dk_at dksX1_layWitness_2 20 rfl rfl)
theorem dX1_layWitness_66 : decode cX1_layWitness 66 = .ok (.iaload, 1) := dk_46 (dk_at dksX1_layWitness_2 21 rfl rfl)
theorem dX1_layWitness_67 : decode cX1_layWitness 67 = .ok (.invokestatic 359, 3) := dk_184 1 103 (dk_at dksX1_layWitness_3 0 rfl rfl)
theorem dX1_layWitness_70 : decode cX1_layWitness 70 = .ok (.ifCond .ne 6, 3) := dk_154 0 6 (dk_at dksX1_layWitness_3 3 rfl rfl)
theorem dX1_layWitness_73 : decode cX1_layWitness 73 = .ok (.goto 21, 3) := dk_167 0 21 (dk_at dksX1_layWitness_3 6 rfl rfl)
theorem dX1_layWitness_76 : decode cX1_layWitness 76 = .ok (.iload_n 2, 1) := dk_28 (dk_at dksX1_layWitness_3 9 rfl rfl)
theorem dX1_layWitness_77 : decode cX1_layWitness 77 = .ok (.invokestatic 318, 3) := dk_184 1 62 (dk_at dksX1_layWitness_3 10 rfl rfl)
theorem dX1_layWitness_80 : decode cX1_layWitness 80 = .ok (.istore_n 1, 1) := dk_60 (dk_at dksX1_layWitness_3 13 rfl rfl)
theorem dX1_layWitness_81 : decode cX1_layWitness 81 = .ok (.aload_n 0, 1) := dk_42 (dk_at dksX1_layWitness_3 14 rfl rfl)
theorem dX1_layWitness_82 : decode cX1_layWitness 82 = .ok (.iload_n 2, 1) := dk_28 (dk_at dksX1_layWitness_3 15 rfl rfl)
theorem dX1_layWitness_83 : decode cX1_layWitness 83 = .ok (.putfield 362, 3) := dk_181 1 106 (dk_at dksX1_layWitness_3 16 rfl rfl)
theorem dX1_layWitness_86 : decode cX1_layWitness 86 = .ok (.aload_n 0, 1) := dk_42 (dk_at dksX1_layWitness_3 19 rfl rfl)
theorem dX1_layWitness_87 : decode cX1_layWitness 87 = .ok (.iload_n 3, 1) := dk_29 (dk_at dksX1_layWitness_3 20 rfl rfl)
theorem dX1_layWitness_88 : decode cX1_layWitness 88 = .ok (.putfield 365, 3) := dk_181 1 109 (dk_at dksX1_layWitness_3 21 rfl rfl)
theorem dX1_layWitness_91 : decode cX1_layWitness 91 = .ok (.goto 9, 3) := dk_167 0 9 (dk_at dksX1_layWitness_4 0 rfl rfl)
theorem dX1_layWitness_94 : decode cX1_layWitness 94 = .ok (.iinc 3 1, 3) := dk_132 3 1 (dk_at dksX1_layWitness_4 3 rfl rfl)
theorem dX1_layWitness_97 : decode cX1_layWitness 97 = .ok (.goto (-66), 3) := dk_167 255 190 (dk_at dksX1_layWitness_4 6 rfl rfl)
theorem dX1_layWitness_100 : decode cX1_layWitness 100 = .ok (.iinc 2 1, 3) := dk_132 2 1 (dk_at dksX1_layWitness_4 9 rfl rfl)
theorem dX1_layWitness_103 : decode cX1_layWitness 103 = .ok (.goto (-98), 3) := dk_167 255 158 (dk_at dksX1_layWitness_4 12 rfl rfl)
theorem dX1_layWitness_106 : decode cX1_layWitness 106 = .ok (.iload_n 1, 1) := dk_27 (dk_at dksX1_layWitness_4 15 rfl rfl)
theorem dX1_layWitness_107 : decode cX1_layWitness 107 = .ok (.bipush 6, 2) := dk_16 6 (dk_at dksX1_layWitness_4 16 rfl rfl)
theorem dX1_layWitness_109 : decode cX1_layWitness 109 = .ok (.if_icmp .gt 7, 3) := dk_163 0 7 (dk_at dksX1_layWitness_4 18 rfl rfl)
theorem dX1_layWitness_112 : decode cX1_layWitness 112 = .ok (.iconst 1, 1) := dk_4 (dk_at dksX1_layWitness_4 21 rfl rfl)
theorem dX1_layWitness_113 : decode cX1_layWitness 113 = .ok (.goto 4, 3) := dk_167 0 4 (dk_at dksX1_layWitness_5 0 rfl rfl)
theorem dX1_layWitness_116 : decode cX1_layWitness 116 = .ok (.iconst 0, 1) := dk_3 (dk_at dksX1_layWitness_5 3 rfl rfl)
theorem dX1_layWitness_117 : decode cX1_layWitness 117 = .ok (.ireturn, 1) := dk_172 (dk_at dksX1_layWitness_5 4 rfl rfl)
abbrev cX1_halves : ByteArray := prog_1_method_63_code
def yX1_halves : MethodName := ⟨RX1, "halves", "(I)I"⟩
def dkwX1_halves_1 : List UInt8 := [153, 0, 11, 42, 27, 182, 1, 118, 167, 0, 4, 2, 172]
abbrev dktX1_halves_1 : List UInt8 := dkwX1_halves_1 ++ []
def dkwX1_halves_0 : List UInt8 := [42, 180, 0, 220, 198, 0, 30, 27, 3, 4, 42, 180, 0, 220, 180, 0, 17, 120, 4, 100, 184, 0, 149]
abbrev dktX1_halves_0 : List UInt8 := dkwX1_halves_0 ++ dktX1_halves_1
theorem dksX1_halves_0 : cX1_halves.data.toList.drop 0 = dktX1_halves_0 := by decide +kernel
theorem dksX1_halves_1 : cX1_halves.data.toList.drop 23 = dktX1_halves_1 := dk_seg dksX1_halves_0 23 rfl rfl
theorem dX1_halves_0 : decode cX1_halves 0 = .ok (.aload_n 0, 1) := dk_42 (dk_at dksX1_halves_0 0 rfl rfl)
theorem dX1_halves_1 : decode cX1_halves 1 = .ok (.getfield 220, 3) := dk_180 0 220 (dk_at dksX1_halves_0 1 rfl rfl)
theorem dX1_halves_4 : decode cX1_halves 4 = .ok (.ifnull 30, 3) := dk_198 0 30 (dk_at dksX1_halves_0 4 rfl rfl)
theorem dX1_halves_7 : decode cX1_halves 7 = .ok (.iload_n 1, 1) := dk_27 (dk_at dksX1_halves_0 7 rfl rfl)
theorem dX1_halves_8 : decode cX1_halves 8 = .ok (.iconst 0, 1) := dk_3 (dk_at dksX1_halves_0 8 rfl rfl)
theorem dX1_halves_9 : decode cX1_halves 9 = .ok (.iconst 1, 1) := dk_4 (dk_at dksX1_halves_0 9 rfl rfl)
theorem dX1_halves_10 : decode cX1_halves 10 = .ok (.aload_n 0, 1) := dk_42 (dk_at dksX1_halves_0 10 rfl rfl)
theorem dX1_halves_11 : decode cX1_halves 11 = .ok (.getfield 220, 3) := dk_180 0 220 (dk_at dksX1_halves_0 11 rfl rfl)
theorem dX1_halves_14 : decode cX1_halves 14 = .ok (.getfield 17, 3) := dk_180 0 17 (dk_at dksX1_halves_0 14 rfl rfl)
theorem dX1_halves_17 : decode cX1_halves 17 = .ok (.ishl, 1) := dk_120 (dk_at dksX1_halves_0 17 rfl rfl)
theorem dX1_halves_18 : decode cX1_halves 18 = .ok (.iconst 1, 1) := dk_4 (dk_at dksX1_halves_0 18 rfl rfl)
theorem dX1_halves_19 : decode cX1_halves 19 = .ok (.isub, 1) := dk_100 (dk_at dksX1_halves_0 19 rfl rfl)
theorem dX1_halves_20 : decode cX1_halves 20 = .ok (.invokestatic 149, 3) := dk_184 0 149 (dk_at dksX1_halves_0 20 rfl rfl)
theorem dX1_halves_23 : decode cX1_halves 23 = .ok (.ifCond .eq 11, 3) := dk_153 0 11 (dk_at dksX1_halves_1 0 rfl rfl)
theorem dX1_halves_26 : decode cX1_halves 26 = .ok (.aload_n 0, 1) := dk_42 (dk_at dksX1_halves_1 3 rfl rfl)
theorem dX1_halves_27 : decode cX1_halves 27 = .ok (.iload_n 1, 1) := dk_27 (dk_at dksX1_halves_1 4 rfl rfl)
theorem dX1_halves_28 : decode cX1_halves 28 = .ok (.invokevirtual 374, 3) := dk_182 1 118 (dk_at dksX1_halves_1 5 rfl rfl)
theorem dX1_halves_31 : decode cX1_halves 31 = .ok (.goto 4, 3) := dk_167 0 4 (dk_at dksX1_halves_1 8 rfl rfl)
theorem dX1_halves_34 : decode cX1_halves 34 = .ok (.iconst (-1), 1) := dk_2 (dk_at dksX1_halves_1 11 rfl rfl)
theorem dX1_halves_35 : decode cX1_halves 35 = .ok (.ireturn, 1) := dk_172 (dk_at dksX1_halves_1 12 rfl rfl)
abbrev cX1_halvesOf : ByteArray := prog_1_method_62_code
def yX1_halvesOf : MethodName := ⟨RX1, "halvesOf", "(I)I"⟩
def dkwX1_halvesOf_1 : List UInt8 := [28, 172, 132, 2, 1, 167, 255, 229, 2, 172]
abbrev dktX1_halvesOf_1 : List UInt8 := dkwX1_halvesOf_1 ++ []
def dkwX1_halvesOf_0 : List UInt8 := [3, 61, 28, 27, 163, 0, 28, 28, 27, 2, 130, 126, 154, 0, 14, 42, 27, 28, 182, 1, 115, 153, 0, 5]
abbrev dktX1_halvesOf_0 : List UInt8 := dkwX1_halvesOf_0 ++ dktX1_halvesOf_1
theorem dksX1_halvesOf_0 : cX1_halvesOf.data.toList.drop 0 = dktX1_halvesOf_0 := by decide +kernel
theorem dksX1_halvesOf_1 : cX1_halvesOf.data.toList.drop 24 = dktX1_halvesOf_1 := dk_seg dksX1_halvesOf_0 24 rfl rfl
theorem dX1_halvesOf_0 : decode cX1_halvesOf 0 = .ok (.iconst 0, 1) := dk_3 (dk_at dksX1_halvesOf_0 0 rfl rfl)
theorem dX1_halvesOf_1 : decode cX1_halvesOf 1 = .ok (.istore_n 2, 1) := dk_61 (dk_at dksX1_halvesOf_0 1 rfl rfl)
theorem dX1_halvesOf_2 : decode cX1_halvesOf 2 = .ok (.iload_n 2, 1) := dk_28 (dk_at dksX1_halvesOf_0 2 rfl rfl)
theorem dX1_halvesOf_3 : decode cX1_halvesOf 3 = .ok (.iload_n 1, 1) := dk_27 (dk_at dksX1_halvesOf_0 3 rfl rfl)
theorem dX1_halvesOf_4 : decode cX1_halvesOf 4 = .ok (.if_icmp .gt 28, 3) := dk_163 0 28 (dk_at dksX1_halvesOf_0 4 rfl rfl)
theorem dX1_halvesOf_7 : decode cX1_halvesOf 7 = .ok (.iload_n 2, 1) := dk_28 (dk_at dksX1_halvesOf_0 7 rfl rfl)
theorem dX1_halvesOf_8 : decode cX1_halvesOf 8 = .ok (.iload_n 1, 1) := dk_27 (dk_at dksX1_halvesOf_0 8 rfl rfl)
theorem dX1_halvesOf_9 : decode cX1_halvesOf 9 = .ok (.iconst (-1), 1) := dk_2 (dk_at dksX1_halvesOf_0 9 rfl rfl)
theorem dX1_halvesOf_10 : decode cX1_halvesOf 10 = .ok (.ixor, 1) := dk_130 (dk_at dksX1_halvesOf_0 10 rfl rfl)
theorem dX1_halvesOf_11 : decode cX1_halvesOf 11 = .ok (.iand, 1) := dk_126 (dk_at dksX1_halvesOf_0 11 rfl rfl)
theorem dX1_halvesOf_12 : decode cX1_halvesOf 12 = .ok (.ifCond .ne 14, 3) := dk_154 0 14 (dk_at dksX1_halvesOf_0 12 rfl rfl)
theorem dX1_halvesOf_15 : decode cX1_halvesOf 15 = .ok (.aload_n 0, 1) := dk_42 (dk_at dksX1_halvesOf_0 15 rfl rfl)
theorem dX1_halvesOf_16 : decode cX1_halvesOf 16 = .ok (.iload_n 1, 1) := dk_27 (dk_at dksX1_halvesOf_0 16 rfl rfl)
theorem dX1_halvesOf_17 : decode cX1_halvesOf 17 = .ok (.iload_n 2, 1) := dk_28 (dk_at dksX1_halvesOf_0 17 rfl rfl)
theorem dX1_halvesOf_18 : decode cX1_halvesOf 18 = .ok (.invokevirtual 371, 3) := dk_182 1 115 (dk_at dksX1_halvesOf_0 18 rfl rfl)
theorem dX1_halvesOf_21 : decode cX1_halvesOf 21 = .ok (.ifCond .eq 5, 3) := dk_153 0 5 (dk_at dksX1_halvesOf_0 21 rfl rfl)
theorem dX1_halvesOf_24 : decode cX1_halvesOf 24 = .ok (.iload_n 2, 1) := dk_28 (dk_at dksX1_halvesOf_1 0 rfl rfl)
theorem dX1_halvesOf_25 : decode cX1_halvesOf 25 = .ok (.ireturn, 1) := dk_172 (dk_at dksX1_halvesOf_1 1 rfl rfl)
theorem dX1_halvesOf_26 : decode cX1_halvesOf 26 = .ok (.iinc 2 1, 3) := dk_132 2 1 (dk_at dksX1_halvesOf_1 2 rfl rfl)
theorem dX1_halvesOf_29 : decode cX1_halvesOf 29 = .ok (.goto (-27), 3) := dk_167 255 229 (dk_at dksX1_halvesOf_1 5 rfl rfl)
theorem dX1_halvesOf_32 : decode cX1_halvesOf 32 = .ok (.iconst (-1), 1) := dk_2 (dk_at dksX1_halvesOf_1 8 rfl rfl)
theorem dX1_halvesOf_33 : decode cX1_halvesOf 33 = .ok (.ireturn, 1) := dk_172 (dk_at dksX1_halvesOf_1 9 rfl rfl)
abbrev cX1_doesHalve : ByteArray := prog_1_method_61_code
def yX1_doesHalve : MethodName := ⟨RX1, "doesHalve", "(II)Z"⟩
def dkwX1_doesHalve_4 : List UInt8 := [4, 184, 0, 149, 154, 0, 5, 3, 172, 132, 3, 1, 167, 255, 155, 4, 172]
abbrev dktX1_doesHalve_4 : List UInt8 := dkwX1_doesHalve_4 ++ []
def dkwX1_doesHalve_3 : List UInt8 := [180, 0, 220, 180, 0, 13, 21, 5, 50, 29, 46, 116, 96, 54, 4, 132, 5, 1, 167, 255, 190, 21, 4, 2]
abbrev dktX1_doesHalve_3 : List UInt8 := dkwX1_doesHalve_3 ++ dktX1_doesHalve_4
def dkwX1_doesHalve_2 : List UInt8 := [184, 1, 65, 153, 0, 18, 42, 180, 0, 220, 180, 0, 13, 21, 5, 50, 29, 46, 167, 0, 16, 42]
abbrev dktX1_doesHalve_2 : List UInt8 := dkwX1_doesHalve_2 ++ dktX1_doesHalve_3
def dkwX1_doesHalve_1 : List UInt8 := [180, 0, 220, 180, 0, 17, 162, 0, 60, 27, 21, 5, 184, 1, 65, 153, 0, 45, 21, 4, 28, 21, 5]
abbrev dktX1_doesHalve_1 : List UInt8 := dkwX1_doesHalve_1 ++ dktX1_doesHalve_2
def dkwX1_doesHalve_0 : List UInt8 := [3, 62, 29, 42, 180, 0, 220, 180, 0, 9, 162, 0, 96, 3, 54, 4, 3, 54, 5, 21, 5, 42]
abbrev dktX1_doesHalve_0 : List UInt8 := dkwX1_doesHalve_0 ++ dktX1_doesHalve_1
theorem dksX1_doesHalve_0 : cX1_doesHalve.data.toList.drop 0 = dktX1_doesHalve_0 := by decide +kernel
theorem dksX1_doesHalve_1 : cX1_doesHalve.data.toList.drop 22 = dktX1_doesHalve_1 := dk_seg dksX1_doesHalve_0 22 rfl rfl
theorem dksX1_doesHalve_2 : cX1_doesHalve.data.toList.drop 45 = dktX1_doesHalve_2 := dk_seg dksX1_doesHalve_1 23 rfl rfl
theorem dksX1_doesHalve_3 : cX1_doesHalve.data.toList.drop 67 = dktX1_doesHalve_3 := dk_seg dksX1_doesHalve_2 22 rfl rfl
theorem dksX1_doesHalve_4 : cX1_doesHalve.data.toList.drop 91 = dktX1_doesHalve_4 := dk_seg dksX1_doesHalve_3 24 rfl rfl
theorem dX1_doesHalve_0 : decode cX1_doesHalve 0 = .ok (.iconst 0, 1) := dk_3 (dk_at dksX1_doesHalve_0 0 rfl rfl)
theorem dX1_doesHalve_1 : decode cX1_doesHalve 1 = .ok (.istore_n 3, 1) := dk_62 (dk_at dksX1_doesHalve_0 1 rfl rfl)
theorem dX1_doesHalve_2 : decode cX1_doesHalve 2 = .ok (.iload_n 3, 1) := dk_29 (dk_at dksX1_doesHalve_0 2 rfl rfl)
theorem dX1_doesHalve_3 : decode cX1_doesHalve 3 = .ok (.aload_n 0, 1) := dk_42 (dk_at dksX1_doesHalve_0 3 rfl rfl)
theorem dX1_doesHalve_4 : decode cX1_doesHalve 4 = .ok (.getfield 220, 3) := dk_180 0 220 (dk_at dksX1_doesHalve_0 4 rfl rfl)
theorem dX1_doesHalve_7 : decode cX1_doesHalve 7 = .ok (.getfield 9, 3) := dk_180 0 9 (dk_at dksX1_doesHalve_0 7 rfl rfl)
theorem dX1_doesHalve_10 : decode cX1_doesHalve 10 = .ok (.if_icmp .ge 96, 3) := dk_162 0 96 (dk_at dksX1_doesHalve_0 10 rfl rfl)
theorem dX1_doesHalve_13 : decode cX1_doesHalve 13 = .ok (.iconst 0, 1) := dk_3 (dk_at dksX1_doesHalve_0 13 rfl rfl)
theorem dX1_doesHalve_14 : decode cX1_doesHalve 14 = .ok (.istore 4, 2) := dk_54 4 (dk_at dksX1_doesHalve_0 14 rfl rfl)
theorem dX1_doesHalve_16 : decode cX1_doesHalve 16 = .ok (.iconst 0, 1) := dk_3 (dk_at dksX1_doesHalve_0 16 rfl rfl)
theorem dX1_doesHalve_17 : decode cX1_doesHalve 17 = .ok (.istore 5, 2) := dk_54 5 (dk_at dksX1_doesHalve_0 17 rfl rfl)
theorem dX1_doesHalve_19 : decode cX1_doesHalve 19 = .ok (.iload 5, 2) := dk_21 5 (dk_at dksX1_doesHalve_0 19 rfl rfl)
theorem dX1_doesHalve_21 : decode cX1_doesHalve 21 = .ok (.aload_n 0, 1) := dk_42 (dk_at dksX1_doesHalve_0 21 rfl rfl)
theorem dX1_doesHalve_22 : decode cX1_doesHalve 22 = .ok (.getfield 220, 3) := dk_180 0 220 (dk_at dksX1_doesHalve_1 0 rfl rfl)
theorem dX1_doesHalve_25 : decode cX1_doesHalve 25 = .ok (.getfield 17, 3) := dk_180 0 17 (dk_at dksX1_doesHalve_1 3 rfl rfl)
theorem dX1_doesHalve_28 : decode cX1_doesHalve 28 = .ok (.if_icmp .ge 60, 3) := dk_162 0 60 (dk_at dksX1_doesHalve_1 6 rfl rfl)
theorem dX1_doesHalve_31 : decode cX1_doesHalve 31 = .ok (.iload_n 1, 1) := dk_27 (dk_at dksX1_doesHalve_1 9 rfl rfl)
theorem dX1_doesHalve_32 : decode cX1_doesHalve 32 = .ok (.iload 5, 2) := dk_21 5 (dk_at dksX1_doesHalve_1 10 rfl rfl)
theorem dX1_doesHalve_34 : decode cX1_doesHalve 34 = .ok (.invokestatic 321, 3) := dk_184 1 65 (dk_at dksX1_doesHalve_1 12 rfl rfl)
theorem dX1_doesHalve_37 : decode cX1_doesHalve 37 = .ok (.ifCond .eq 45, 3) := dk_153 0 45 (dk_at dksX1_doesHalve_1 15 rfl rfl)
theorem dX1_doesHalve_40 : decode cX1_doesHalve 40 = .ok (.iload 4, 2) := dk_21 4 (dk_at dksX1_doesHalve_1 18 rfl rfl)
theorem dX1_doesHalve_42 : decode cX1_doesHalve 42 = .ok (.iload_n 2, 1) := dk_28 (dk_at dksX1_doesHalve_1 20 rfl rfl)
theorem dX1_doesHalve_43 : decode cX1_doesHalve 43 = .ok (.iload 5, 2) := dk_21 5 (dk_at dksX1_doesHalve_1 21 rfl rfl)
theorem dX1_doesHalve_45 : decode cX1_doesHalve 45 = .ok (.invokestatic 321, 3) := dk_184 1 65 (dk_at dksX1_doesHalve_2 0 rfl rfl)
theorem dX1_doesHalve_48 : decode cX1_doesHalve 48 = .ok (.ifCond .eq 18, 3) := dk_153 0 18 (dk_at dksX1_doesHalve_2 3 rfl rfl)
theorem dX1_doesHalve_51 : decode cX1_doesHalve 51 = .ok (.aload_n 0, 1) := dk_42 (dk_at dksX1_doesHalve_2 6 rfl rfl)
theorem dX1_doesHalve_52 : decode cX1_doesHalve 52 = .ok (.getfield 220, 3) := dk_180 0 220 (dk_at dksX1_doesHalve_2 7 rfl rfl)
theorem dX1_doesHalve_55 : decode cX1_doesHalve 55 = .ok (.getfield 13, 3) := dk_180 0 13 (dk_at dksX1_doesHalve_2 10 rfl rfl)
theorem dX1_doesHalve_58 : decode cX1_doesHalve 58 = .ok (.iload 5, 2) := dk_21 5 (dk_at dksX1_doesHalve_2 13 rfl rfl)
theorem dX1_doesHalve_60 : decode cX1_doesHalve 60 = .ok (.aaload, 1) := dk_50 (dk_at dksX1_doesHalve_2 15 rfl rfl)
theorem dX1_doesHalve_61 : decode cX1_doesHalve 61 = .ok (.iload_n 3, 1) := dk_29 (dk_at dksX1_doesHalve_2 16 rfl rfl)
theorem dX1_doesHalve_62 : decode cX1_doesHalve 62 = .ok (.iaload, 1) := dk_46 (dk_at dksX1_doesHalve_2 17 rfl rfl)
theorem dX1_doesHalve_63 : decode cX1_doesHalve 63 = .ok (.goto 16, 3) := dk_167 0 16 (dk_at dksX1_doesHalve_2 18 rfl rfl)
theorem dX1_doesHalve_66 : decode cX1_doesHalve 66 = .ok (.aload_n 0, 1) := dk_42 (dk_at dksX1_doesHalve_2 21 rfl rfl)
theorem dX1_doesHalve_67 : decode cX1_doesHalve 67 = .ok (.getfield 220, 3) := dk_180 0 220 (dk_at dksX1_doesHalve_3 0 rfl rfl)
theorem dX1_doesHalve_70 : decode cX1_doesHalve 70 = .ok (.getfield 13, 3) := dk_180 0 13 (dk_at dksX1_doesHalve_3 3 rfl rfl)
theorem dX1_doesHalve_73 : decode cX1_doesHalve 73 = .ok (.iload 5, 2) := dk_21 5 (dk_at dksX1_doesHalve_3 6 rfl rfl)
theorem dX1_doesHalve_75 : decode cX1_doesHalve 75 = .ok (.aaload, 1) := dk_50 (dk_at dksX1_doesHalve_3 8 rfl rfl)
theorem dX1_doesHalve_76 : decode cX1_doesHalve 76 = .ok (.iload_n 3, 1) := dk_29 (dk_at dksX1_doesHalve_3 9 rfl rfl)
theorem dX1_doesHalve_77 : decode cX1_doesHalve 77 = .ok (.iaload, 1) := dk_46 (dk_at dksX1_doesHalve_3 10 rfl rfl)
theorem dX1_doesHalve_78 : decode cX1_doesHalve 78 = .ok (.ineg, 1) := dk_116 (dk_at dksX1_doesHalve_3 11 rfl rfl)
theorem dX1_doesHalve_79 : decode cX1_doesHalve 79 = .ok (.iadd, 1) := dk_96 (dk_at dksX1_doesHalve_3 12 rfl rfl)
theorem dX1_doesHalve_80 : decode cX1_doesHalve 80 = .ok (.istore 4, 2) := dk_54 4 (dk_at dksX1_doesHalve_3 13 rfl rfl)
theorem dX1_doesHalve_82 : decode cX1_doesHalve 82 = .ok (.iinc 5 1, 3) := dk_132 5 1 (dk_at dksX1_doesHalve_3 15 rfl rfl)
theorem dX1_doesHalve_85 : decode cX1_doesHalve 85 = .ok (.goto (-66), 3) := dk_167 255 190 (dk_at dksX1_doesHalve_3 18 rfl rfl)
theorem dX1_doesHalve_88 : decode cX1_doesHalve 88 = .ok (.iload 4, 2) := dk_21 4 (dk_at dksX1_doesHalve_3 21 rfl rfl)
theorem dX1_doesHalve_90 : decode cX1_doesHalve 90 = .ok (.iconst (-1), 1) := dk_2 (dk_at dksX1_doesHalve_3 23 rfl rfl)
theorem dX1_doesHalve_91 : decode cX1_doesHalve 91 = .ok (.iconst 1, 1) := dk_4 (dk_at dksX1_doesHalve_4 0 rfl rfl)
theorem dX1_doesHalve_92 : decode cX1_doesHalve 92 = .ok (.invokestatic 149, 3) := dk_184 0 149 (dk_at dksX1_doesHalve_4 1 rfl rfl)
theorem dX1_doesHalve_95 : decode cX1_doesHalve 95 = .ok (.ifCond .ne 5, 3) := dk_154 0 5 (dk_at dksX1_doesHalve_4 4 rfl rfl)
theorem dX1_doesHalve_98 : decode cX1_doesHalve 98 = .ok (.iconst 0, 1) := dk_3 (dk_at dksX1_doesHalve_4 7 rfl rfl)
theorem dX1_doesHalve_99 : decode cX1_doesHalve 99 = .ok (.ireturn, 1) := dk_172 (dk_at dksX1_doesHalve_4 8 rfl rfl)
theorem dX1_doesHalve_100 : decode cX1_doesHalve 100 = .ok (.iinc 3 1, 3) := dk_132 3 1 (dk_at dksX1_doesHalve_4 9 rfl rfl)
theorem dX1_doesHalve_103 : decode cX1_doesHalve 103 = .ok (.goto (-101), 3) := dk_167 255 155 (dk_at dksX1_doesHalve_4 12 rfl rfl)
theorem dX1_doesHalve_106 : decode cX1_doesHalve 106 = .ok (.iconst 1, 1) := dk_4 (dk_at dksX1_doesHalve_4 15 rfl rfl)
theorem dX1_doesHalve_107 : decode cX1_doesHalve 107 = .ok (.ireturn, 1) := dk_172 (dk_at dksX1_doesHalve_4 16 rfl rfl)
abbrev cX1_unhalved : ByteArray := prog_1_method_64_code
def yX1_unhalved : MethodName := ⟨RX1, "unhalved", "()I"⟩
def dkwX1_unhalved_1 : List UInt8 := [42, 27, 182, 1, 118, 2, 160, 0, 5, 27, 172, 132, 1, 1, 167, 255, 229, 2, 172]
abbrev dktX1_unhalved_1 : List UInt8 := dkwX1_unhalved_1 ++ []
def dkwX1_unhalved_0 : List UInt8 := [42, 180, 0, 220, 199, 0, 5, 2, 172, 3, 60, 27, 4, 42, 180, 0, 220, 180, 0, 17, 120, 162, 0, 20]
abbrev dktX1_unhalved_0 : List UInt8 := dkwX1_unhalved_0 ++ dktX1_unhalved_1
theorem dksX1_unhalved_0 : cX1_unhalved.data.toList.drop 0 = dktX1_unhalved_0 := by decide +kernel
theorem dksX1_unhalved_1 : cX1_unhalved.data.toList.drop 24 = dktX1_unhalved_1 := dk_seg dksX1_unhalved_0 24 rfl rfl
theorem dX1_unhalved_0 : decode cX1_unhalved 0 = .ok (.aload_n 0, 1) := dk_42 (dk_at dksX1_unhalved_0 0 rfl rfl)
theorem dX1_unhalved_1 : decode cX1_unhalved 1 = .ok (.getfield 220, 3) := dk_180 0 220 (dk_at dksX1_unhalved_0 1 rfl rfl)
theorem dX1_unhalved_4 : decode cX1_unhalved 4 = .ok (.ifnonnull 5, 3) := dk_199 0 5 (dk_at dksX1_unhalved_0 4 rfl rfl)
theorem dX1_unhalved_7 : decode cX1_unhalved 7 = .ok (.iconst (-1), 1) := dk_2 (dk_at dksX1_unhalved_0 7 rfl rfl)
theorem dX1_unhalved_8 : decode cX1_unhalved 8 = .ok (.ireturn, 1) := dk_172 (dk_at dksX1_unhalved_0 8 rfl rfl)
theorem dX1_unhalved_9 : decode cX1_unhalved 9 = .ok (.iconst 0, 1) := dk_3 (dk_at dksX1_unhalved_0 9 rfl rfl)
theorem dX1_unhalved_10 : decode cX1_unhalved 10 = .ok (.istore_n 1, 1) := dk_60 (dk_at dksX1_unhalved_0 10 rfl rfl)
theorem dX1_unhalved_11 : decode cX1_unhalved 11 = .ok (.iload_n 1, 1) := dk_27 (dk_at dksX1_unhalved_0 11 rfl rfl)
theorem dX1_unhalved_12 : decode cX1_unhalved 12 = .ok (.iconst 1, 1) := dk_4 (dk_at dksX1_unhalved_0 12 rfl rfl)
theorem dX1_unhalved_13 : decode cX1_unhalved 13 = .ok (.aload_n 0, 1) := dk_42 (dk_at dksX1_unhalved_0 13 rfl rfl)
theorem dX1_unhalved_14 : decode cX1_unhalved 14 = .ok (.getfield 220, 3) := dk_180 0 220 (dk_at dksX1_unhalved_0 14 rfl rfl)
theorem dX1_unhalved_17 : decode cX1_unhalved 17 = .ok (.getfield 17, 3) := dk_180 0 17 (dk_at dksX1_unhalved_0 17 rfl rfl)
theorem dX1_unhalved_20 : decode cX1_unhalved 20 = .ok (.ishl, 1) := dk_120 (dk_at dksX1_unhalved_0 20 rfl rfl)
theorem dX1_unhalved_21 : decode cX1_unhalved 21 = .ok (.if_icmp .ge 20, 3) := dk_162 0 20 (dk_at dksX1_unhalved_0 21 rfl rfl)
theorem dX1_unhalved_24 : decode cX1_unhalved 24 = .ok (.aload_n 0, 1) := dk_42 (dk_at dksX1_unhalved_1 0 rfl rfl)
theorem dX1_unhalved_25 : decode cX1_unhalved 25 = .ok (.iload_n 1, 1) := dk_27 (dk_at dksX1_unhalved_1 1 rfl rfl)
theorem dX1_unhalved_26 : decode cX1_unhalved 26 = .ok (.invokevirtual 374, 3) := dk_182 1 118 (dk_at dksX1_unhalved_1 2 rfl rfl)
theorem dX1_unhalved_29 : decode cX1_unhalved 29 = .ok (.iconst (-1), 1) := dk_2 (dk_at dksX1_unhalved_1 5 rfl rfl)
theorem dX1_unhalved_30 : decode cX1_unhalved 30 = .ok (.if_icmp .ne 5, 3) := dk_160 0 5 (dk_at dksX1_unhalved_1 6 rfl rfl)
theorem dX1_unhalved_33 : decode cX1_unhalved 33 = .ok (.iload_n 1, 1) := dk_27 (dk_at dksX1_unhalved_1 9 rfl rfl)
theorem dX1_unhalved_34 : decode cX1_unhalved 34 = .ok (.ireturn, 1) := dk_172 (dk_at dksX1_unhalved_1 10 rfl rfl)
theorem dX1_unhalved_35 : decode cX1_unhalved 35 = .ok (.iinc 1 1, 3) := dk_132 1 1 (dk_at dksX1_unhalved_1 11 rfl rfl)
theorem dX1_unhalved_38 : decode cX1_unhalved 38 = .ok (.goto (-27), 3) := dk_167 255 229 (dk_at dksX1_unhalved_1 14 rfl rfl)
theorem dX1_unhalved_41 : decode cX1_unhalved 41 = .ok (.iconst (-1), 1) := dk_2 (dk_at dksX1_unhalved_1 17 rfl rfl)
theorem dX1_unhalved_42 : decode cX1_unhalved 42 = .ok (.ireturn, 1) := dk_172 (dk_at dksX1_unhalved_1 18 rfl rfl)
abbrev cX1_network : ByteArray := prog_1_method_66_code
def yX1_network : MethodName := ⟨RX1, "network", "(I)I"⟩
def dkwX1_network_1 : List UInt8 := [182, 1, 127, 153, 0, 7, 4, 167, 0, 4, 3, 172]
abbrev dktX1_network_1 : List UInt8 := dkwX1_network_1 ++ []
def dkwX1_network_0 : List UInt8 := [42, 180, 0, 220, 198, 0, 12, 27, 3, 4, 184, 0, 149, 154, 0, 7, 2, 167, 0, 16, 42, 27]
abbrev dktX1_network_0 : List UInt8 := dkwX1_network_0 ++ dktX1_network_1
theorem dksX1_network_0 : cX1_network.data.toList.drop 0 = dktX1_network_0 := by decide +kernel
theorem dksX1_network_1 : cX1_network.data.toList.drop 22 = dktX1_network_1 := dk_seg dksX1_network_0 22 rfl rfl
theorem dX1_network_0 : decode cX1_network 0 = .ok (.aload_n 0, 1) := dk_42 (dk_at dksX1_network_0 0 rfl rfl)
theorem dX1_network_1 : decode cX1_network 1 = .ok (.getfield 220, 3) := dk_180 0 220 (dk_at dksX1_network_0 1 rfl rfl)
theorem dX1_network_4 : decode cX1_network 4 = .ok (.ifnull 12, 3) := dk_198 0 12 (dk_at dksX1_network_0 4 rfl rfl)
theorem dX1_network_7 : decode cX1_network 7 = .ok (.iload_n 1, 1) := dk_27 (dk_at dksX1_network_0 7 rfl rfl)
theorem dX1_network_8 : decode cX1_network 8 = .ok (.iconst 0, 1) := dk_3 (dk_at dksX1_network_0 8 rfl rfl)
theorem dX1_network_9 : decode cX1_network 9 = .ok (.iconst 1, 1) := dk_4 (dk_at dksX1_network_0 9 rfl rfl)
theorem dX1_network_10 : decode cX1_network 10 = .ok (.invokestatic 149, 3) := dk_184 0 149 (dk_at dksX1_network_0 10 rfl rfl)
theorem dX1_network_13 : decode cX1_network 13 = .ok (.ifCond .ne 7, 3) := dk_154 0 7 (dk_at dksX1_network_0 13 rfl rfl)
theorem dX1_network_16 : decode cX1_network 16 = .ok (.iconst (-1), 1) := dk_2 (dk_at dksX1_network_0 16 rfl rfl)
theorem dX1_network_17 : decode cX1_network 17 = .ok (.goto 16, 3) := dk_167 0 16 (dk_at dksX1_network_0 17 rfl rfl)
theorem dX1_network_20 : decode cX1_network 20 = .ok (.aload_n 0, 1) := dk_42 (dk_at dksX1_network_0 20 rfl rfl)
theorem dX1_network_21 : decode cX1_network 21 = .ok (.iload_n 1, 1) := dk_27 (dk_at dksX1_network_0 21 rfl rfl)
theorem dX1_network_22 : decode cX1_network 22 = .ok (.invokevirtual 383, 3) := dk_182 1 127 (dk_at dksX1_network_1 0 rfl rfl)
theorem dX1_network_25 : decode cX1_network 25 = .ok (.ifCond .eq 7, 3) := dk_153 0 7 (dk_at dksX1_network_1 3 rfl rfl)
theorem dX1_network_28 : decode cX1_network 28 = .ok (.iconst 1, 1) := dk_4 (dk_at dksX1_network_1 6 rfl rfl)
theorem dX1_network_29 : decode cX1_network 29 = .ok (.goto 4, 3) := dk_167 0 4 (dk_at dksX1_network_1 7 rfl rfl)
theorem dX1_network_32 : decode cX1_network 32 = .ok (.iconst 0, 1) := dk_3 (dk_at dksX1_network_1 10 rfl rfl)
theorem dX1_network_33 : decode cX1_network 33 = .ok (.ireturn, 1) := dk_172 (dk_at dksX1_network_1 11 rfl rfl)
abbrev cX1_isGrown : ByteArray := prog_1_method_65_code
def yX1_isGrown : MethodName := ⟨RX1, "isGrown", "(I)Z"⟩
def dkwX1_isGrown_2 : List UInt8 := [153, 0, 7, 4, 167, 0, 4, 3, 172]
abbrev dktX1_isGrown_2 : List UInt8 := dkwX1_isGrown_2 ++ []
def dkwX1_isGrown_1 : List UInt8 := [154, 0, 10, 42, 180, 0, 220, 167, 0, 12, 42, 180, 0, 220, 3, 3, 184, 1, 121, 182, 1, 124]
abbrev dktX1_isGrown_1 : List UInt8 := dkwX1_isGrown_1 ++ dktX1_isGrown_2
def dkwX1_isGrown_0 : List UInt8 := [42, 180, 0, 220, 198, 0, 48, 27, 3, 4, 184, 0, 149, 153, 0, 39, 42, 180, 0, 81, 27, 50, 27]
abbrev dktX1_isGrown_0 : List UInt8 := dkwX1_isGrown_0 ++ dktX1_isGrown_1
theorem dksX1_isGrown_0 : cX1_isGrown.data.toList.drop 0 = dktX1_isGrown_0 := by decide +kernel
theorem dksX1_isGrown_1 : cX1_isGrown.data.toList.drop 23 = dktX1_isGrown_1 := dk_seg dksX1_isGrown_0 23 rfl rfl
theorem dksX1_isGrown_2 : cX1_isGrown.data.toList.drop 45 = dktX1_isGrown_2 := dk_seg dksX1_isGrown_1 22 rfl rfl
theorem dX1_isGrown_0 : decode cX1_isGrown 0 = .ok (.aload_n 0, 1) := dk_42 (dk_at dksX1_isGrown_0 0 rfl rfl)
theorem dX1_isGrown_1 : decode cX1_isGrown 1 = .ok (.getfield 220, 3) := dk_180 0 220 (dk_at dksX1_isGrown_0 1 rfl rfl)
theorem dX1_isGrown_4 : decode cX1_isGrown 4 = .ok (.ifnull 48, 3) := dk_198 0 48 (dk_at dksX1_isGrown_0 4 rfl rfl)
theorem dX1_isGrown_7 : decode cX1_isGrown 7 = .ok (.iload_n 1, 1) := dk_27 (dk_at dksX1_isGrown_0 7 rfl rfl)
theorem dX1_isGrown_8 : decode cX1_isGrown 8 = .ok (.iconst 0, 1) := dk_3 (dk_at dksX1_isGrown_0 8 rfl rfl)
theorem dX1_isGrown_9 : decode cX1_isGrown 9 = .ok (.iconst 1, 1) := dk_4 (dk_at dksX1_isGrown_0 9 rfl rfl)
theorem dX1_isGrown_10 : decode cX1_isGrown 10 = .ok (.invokestatic 149, 3) := dk_184 0 149 (dk_at dksX1_isGrown_0 10 rfl rfl)
theorem dX1_isGrown_13 : decode cX1_isGrown 13 = .ok (.ifCond .eq 39, 3) := dk_153 0 39 (dk_at dksX1_isGrown_0 13 rfl rfl)
theorem dX1_isGrown_16 : decode cX1_isGrown 16 = .ok (.aload_n 0, 1) := dk_42 (dk_at dksX1_isGrown_0 16 rfl rfl)
theorem dX1_isGrown_17 : decode cX1_isGrown 17 = .ok (.getfield 81, 3) := dk_180 0 81 (dk_at dksX1_isGrown_0 17 rfl rfl)
theorem dX1_isGrown_20 : decode cX1_isGrown 20 = .ok (.iload_n 1, 1) := dk_27 (dk_at dksX1_isGrown_0 20 rfl rfl)
theorem dX1_isGrown_21 : decode cX1_isGrown 21 = .ok (.aaload, 1) := dk_50 (dk_at dksX1_isGrown_0 21 rfl rfl)
theorem dX1_isGrown_22 : decode cX1_isGrown 22 = .ok (.iload_n 1, 1) := dk_27 (dk_at dksX1_isGrown_0 22 rfl rfl)
theorem dX1_isGrown_23 : decode cX1_isGrown 23 = .ok (.ifCond .ne 10, 3) := dk_154 0 10 (dk_at dksX1_isGrown_1 0 rfl rfl)
theorem dX1_isGrown_26 : decode cX1_isGrown 26 = .ok (.aload_n 0, 1) := dk_42 (dk_at dksX1_isGrown_1 3 rfl rfl)
theorem dX1_isGrown_27 : decode cX1_isGrown 27 = .ok (.getfield 220, 3) := dk_180 0 220 (dk_at dksX1_isGrown_1 4 rfl rfl)
theorem dX1_isGrown_30 : decode cX1_isGrown 30 = .ok (.goto 12, 3) := dk_167 0 12 (dk_at dksX1_isGrown_1 7 rfl rfl)
theorem dX1_isGrown_33 : decode cX1_isGrown 33 = .ok (.aload_n 0, 1) := dk_42 (dk_at dksX1_isGrown_1 10 rfl rfl)
theorem dX1_isGrown_34 : decode cX1_isGrown 34 = .ok (.getfield 220, 3) := dk_180 0 220 (dk_at dksX1_isGrown_1 11 rfl rfl)
theorem dX1_isGrown_37 : decode cX1_isGrown 37 = .ok (.iconst 0, 1) := dk_3 (dk_at dksX1_isGrown_1 14 rfl rfl)
theorem dX1_isGrown_38 : decode cX1_isGrown 38 = .ok (.iconst 0, 1) := dk_3 (dk_at dksX1_isGrown_1 15 rfl rfl)
theorem dX1_isGrown_39 : decode cX1_isGrown 39 = .ok (.invokestatic 377, 3) := dk_184 1 121 (dk_at dksX1_isGrown_1 16 rfl rfl)
theorem dX1_isGrown_42 : decode cX1_isGrown 42 = .ok (.invokevirtual 380, 3) := dk_182 1 124 (dk_at dksX1_isGrown_1 19 rfl rfl)
theorem dX1_isGrown_45 : decode cX1_isGrown 45 = .ok (.ifCond .eq 7, 3) := dk_153 0 7 (dk_at dksX1_isGrown_2 0 rfl rfl)
theorem dX1_isGrown_48 : decode cX1_isGrown 48 = .ok (.iconst 1, 1) := dk_4 (dk_at dksX1_isGrown_2 3 rfl rfl)
theorem dX1_isGrown_49 : decode cX1_isGrown 49 = .ok (.goto 4, 3) := dk_167 0 4 (dk_at dksX1_isGrown_2 4 rfl rfl)
theorem dX1_isGrown_52 : decode cX1_isGrown 52 = .ok (.iconst 0, 1) := dk_3 (dk_at dksX1_isGrown_2 7 rfl rfl)
theorem dX1_isGrown_53 : decode cX1_isGrown 53 = .ok (.ireturn, 1) := dk_172 (dk_at dksX1_isGrown_2 8 rfl rfl)
abbrev cX1_isTotal : ByteArray := prog_1_method_52_code
def yX1_isTotal : MethodName := ⟨RX1, "isTotal", "(LUnimodularTables$Table;)Z"⟩
def dkwX1_isTotal_1 : List UInt8 := [154, 0, 7, 4, 167, 0, 4, 3, 172]
abbrev dktX1_isTotal_1 : List UInt8 := dkwX1_isTotal_1 ++ []
def dkwX1_isTotal_0 : List UInt8 := [43, 42, 180, 0, 73, 184, 1, 78, 43, 42, 180, 0, 73, 3, 186, 1, 82, 0, 0, 184, 1, 85]
abbrev dktX1_isTotal_0 : List UInt8 := dkwX1_isTotal_0 ++ dktX1_isTotal_1
theorem dksX1_isTotal_0 : cX1_isTotal.data.toList.drop 0 = dktX1_isTotal_0 := by decide +kernel
theorem dksX1_isTotal_1 : cX1_isTotal.data.toList.drop 22 = dktX1_isTotal_1 := dk_seg dksX1_isTotal_0 22 rfl rfl
theorem dX1_isTotal_0 : decode cX1_isTotal 0 = .ok (.aload_n 1, 1) := dk_43 (dk_at dksX1_isTotal_0 0 rfl rfl)
theorem dX1_isTotal_1 : decode cX1_isTotal 1 = .ok (.aload_n 0, 1) := dk_42 (dk_at dksX1_isTotal_0 1 rfl rfl)
theorem dX1_isTotal_2 : decode cX1_isTotal 2 = .ok (.getfield 73, 3) := dk_180 0 73 (dk_at dksX1_isTotal_0 2 rfl rfl)
theorem dX1_isTotal_5 : decode cX1_isTotal 5 = .ok (.invokestatic 334, 3) := dk_184 1 78 (dk_at dksX1_isTotal_0 5 rfl rfl)
theorem dX1_isTotal_8 : decode cX1_isTotal 8 = .ok (.aload_n 1, 1) := dk_43 (dk_at dksX1_isTotal_0 8 rfl rfl)
theorem dX1_isTotal_9 : decode cX1_isTotal 9 = .ok (.aload_n 0, 1) := dk_42 (dk_at dksX1_isTotal_0 9 rfl rfl)
theorem dX1_isTotal_10 : decode cX1_isTotal 10 = .ok (.getfield 73, 3) := dk_180 0 73 (dk_at dksX1_isTotal_0 10 rfl rfl)
theorem dX1_isTotal_13 : decode cX1_isTotal 13 = .ok (.iconst 0, 1) := dk_3 (dk_at dksX1_isTotal_0 13 rfl rfl)
theorem dX1_isTotal_14 : decode cX1_isTotal 14 = .ok (.invokedynamic 338, 5) := by decide +kernel
theorem dX1_isTotal_19 : decode cX1_isTotal 19 = .ok (.invokestatic 341, 3) := dk_184 1 85 (dk_at dksX1_isTotal_0 19 rfl rfl)
theorem dX1_isTotal_22 : decode cX1_isTotal 22 = .ok (.ifCond .ne 7, 3) := dk_154 0 7 (dk_at dksX1_isTotal_1 0 rfl rfl)
theorem dX1_isTotal_25 : decode cX1_isTotal 25 = .ok (.iconst 1, 1) := dk_4 (dk_at dksX1_isTotal_1 3 rfl rfl)
theorem dX1_isTotal_26 : decode cX1_isTotal 26 = .ok (.goto 4, 3) := dk_167 0 4 (dk_at dksX1_isTotal_1 4 rfl rfl)
theorem dX1_isTotal_29 : decode cX1_isTotal 29 = .ok (.iconst 0, 1) := dk_3 (dk_at dksX1_isTotal_1 7 rfl rfl)
theorem dX1_isTotal_30 : decode cX1_isTotal 30 = .ok (.ireturn, 1) := dk_172 (dk_at dksX1_isTotal_1 8 rfl rfl)
abbrev cX1_arc : ByteArray := prog_1_method_67_code
def yX1_arc : MethodName := ⟨RX1, "arc", "(III)I"⟩
def dkwX1_arc_2 : List UInt8 := [28, 46, 167, 0, 14, 42, 180, 0, 81, 27, 50, 180, 1, 135, 28, 46, 172]
abbrev dktX1_arc_2 : List UInt8 := dkwX1_arc_2 ++ []
def dkwX1_arc_1 : List UInt8 := [29, 3, 4, 184, 0, 149, 154, 0, 5, 2, 172, 29, 154, 0, 17, 42, 180, 0, 81, 27, 50, 180, 1, 132]
abbrev dktX1_arc_1 : List UInt8 := dkwX1_arc_1 ++ dktX1_arc_2
def dkwX1_arc_0 : List UInt8 := [42, 27, 182, 1, 127, 153, 0, 28, 42, 180, 0, 81, 27, 50, 180, 1, 130, 28, 184, 0, 242, 153, 0, 12]
abbrev dktX1_arc_0 : List UInt8 := dkwX1_arc_0 ++ dktX1_arc_1
theorem dksX1_arc_0 : cX1_arc.data.toList.drop 0 = dktX1_arc_0 := by decide +kernel
theorem dksX1_arc_1 : cX1_arc.data.toList.drop 24 = dktX1_arc_1 := dk_seg dksX1_arc_0 24 rfl rfl
theorem dksX1_arc_2 : cX1_arc.data.toList.drop 48 = dktX1_arc_2 := dk_seg dksX1_arc_1 24 rfl rfl
theorem dX1_arc_0 : decode cX1_arc 0 = .ok (.aload_n 0, 1) := dk_42 (dk_at dksX1_arc_0 0 rfl rfl)
theorem dX1_arc_1 : decode cX1_arc 1 = .ok (.iload_n 1, 1) := dk_27 (dk_at dksX1_arc_0 1 rfl rfl)
theorem dX1_arc_2 : decode cX1_arc 2 = .ok (.invokevirtual 383, 3) := dk_182 1 127 (dk_at dksX1_arc_0 2 rfl rfl)
theorem dX1_arc_5 : decode cX1_arc 5 = .ok (.ifCond .eq 28, 3) := dk_153 0 28 (dk_at dksX1_arc_0 5 rfl rfl)
theorem dX1_arc_8 : decode cX1_arc 8 = .ok (.aload_n 0, 1) := dk_42 (dk_at dksX1_arc_0 8 rfl rfl)
theorem dX1_arc_9 : decode cX1_arc 9 = .ok (.getfield 81, 3) := dk_180 0 81 (dk_at dksX1_arc_0 9 rfl rfl)
theorem dX1_arc_12 : decode cX1_arc 12 = .ok (.iload_n 1, 1) := dk_27 (dk_at dksX1_arc_0 12 rfl rfl)
theorem dX1_arc_13 : decode cX1_arc 13 = .ok (.aaload, 1) := dk_50 (dk_at dksX1_arc_0 13 rfl rfl)
theorem dX1_arc_14 : decode cX1_arc 14 = .ok (.getfield 386, 3) := dk_180 1 130 (dk_at dksX1_arc_0 14 rfl rfl)
theorem dX1_arc_17 : decode cX1_arc 17 = .ok (.iload_n 2, 1) := dk_28 (dk_at dksX1_arc_0 17 rfl rfl)
theorem dX1_arc_18 : decode cX1_arc 18 = .ok (.invokestatic 242, 3) := dk_184 0 242 (dk_at dksX1_arc_0 18 rfl rfl)
theorem dX1_arc_21 : decode cX1_arc 21 = .ok (.ifCond .eq 12, 3) := dk_153 0 12 (dk_at dksX1_arc_0 21 rfl rfl)
theorem dX1_arc_24 : decode cX1_arc 24 = .ok (.iload_n 3, 1) := dk_29 (dk_at dksX1_arc_1 0 rfl rfl)
theorem dX1_arc_25 : decode cX1_arc 25 = .ok (.iconst 0, 1) := dk_3 (dk_at dksX1_arc_1 1 rfl rfl)
theorem dX1_arc_26 : decode cX1_arc 26 = .ok (.iconst 1, 1) := dk_4 (dk_at dksX1_arc_1 2 rfl rfl)
theorem dX1_arc_27 : decode cX1_arc 27 = .ok (.invokestatic 149, 3) := dk_184 0 149 (dk_at dksX1_arc_1 3 rfl rfl)
theorem dX1_arc_30 : decode cX1_arc 30 = .ok (.ifCond .ne 5, 3) := dk_154 0 5 (dk_at dksX1_arc_1 6 rfl rfl)
theorem dX1_arc_33 : decode cX1_arc 33 = .ok (.iconst (-1), 1) := dk_2 (dk_at dksX1_arc_1 9 rfl rfl)
theorem dX1_arc_34 : decode cX1_arc 34 = .ok (.ireturn, 1) := dk_172 (dk_at dksX1_arc_1 10 rfl rfl)
theorem dX1_arc_35 : decode cX1_arc 35 = .ok (.iload_n 3, 1) := dk_29 (dk_at dksX1_arc_1 11 rfl rfl)
theorem dX1_arc_36 : decode cX1_arc 36 = .ok (.ifCond .ne 17, 3) := dk_154 0 17 (dk_at dksX1_arc_1 12 rfl rfl)
theorem dX1_arc_39 : decode cX1_arc 39 = .ok (.aload_n 0, 1) := dk_42 (dk_at dksX1_arc_1 15 rfl rfl)
theorem dX1_arc_40 : decode cX1_arc 40 = .ok (.getfield 81, 3) := dk_180 0 81 (dk_at dksX1_arc_1 16 rfl rfl)
theorem dX1_arc_43 : decode cX1_arc 43 = .ok (.iload_n 1, 1) := dk_27 (dk_at dksX1_arc_1 19 rfl rfl)
theorem dX1_arc_44 : decode cX1_arc 44 = .ok (.aaload, 1) := dk_50 (dk_at dksX1_arc_1 20 rfl rfl)
theorem dX1_arc_45 : decode cX1_arc 45 = .ok (.getfield 388, 3) := dk_180 1 132 (dk_at dksX1_arc_1 21 rfl rfl)
theorem dX1_arc_48 : decode cX1_arc 48 = .ok (.iload_n 2, 1) := dk_28 (dk_at dksX1_arc_2 0 rfl rfl)
theorem dX1_arc_49 : decode cX1_arc 49 = .ok (.iaload, 1) := dk_46 (dk_at dksX1_arc_2 1 rfl rfl)
theorem dX1_arc_50 : decode cX1_arc 50 = .ok (.goto 14, 3) := dk_167 0 14 (dk_at dksX1_arc_2 2 rfl rfl)
theorem dX1_arc_53 : decode cX1_arc 53 = .ok (.aload_n 0, 1) := dk_42 (dk_at dksX1_arc_2 5 rfl rfl)
theorem dX1_arc_54 : decode cX1_arc 54 = .ok (.getfield 81, 3) := dk_180 0 81 (dk_at dksX1_arc_2 6 rfl rfl)
theorem dX1_arc_57 : decode cX1_arc 57 = .ok (.iload_n 1, 1) := dk_27 (dk_at dksX1_arc_2 9 rfl rfl)
theorem dX1_arc_58 : decode cX1_arc 58 = .ok (.aaload, 1) := dk_50 (dk_at dksX1_arc_2 10 rfl rfl)
theorem dX1_arc_59 : decode cX1_arc 59 = .ok (.getfield 391, 3) := dk_180 1 135 (dk_at dksX1_arc_2 11 rfl rfl)
theorem dX1_arc_62 : decode cX1_arc 62 = .ok (.iload_n 2, 1) := dk_28 (dk_at dksX1_arc_2 14 rfl rfl)
theorem dX1_arc_63 : decode cX1_arc 63 = .ok (.iaload, 1) := dk_46 (dk_at dksX1_arc_2 15 rfl rfl)
theorem dX1_arc_64 : decode cX1_arc 64 = .ok (.ireturn, 1) := dk_172 (dk_at dksX1_arc_2 16 rfl rfl)
abbrev cX1_way : ByteArray := prog_1_method_68_code
def yX1_way : MethodName := ⟨RX1, "way", "(III)I"⟩
def dkwX1_way_2 : List UInt8 := [184, 0, 149, 153, 0, 18, 25, 4, 29, 182, 1, 40, 192, 1, 58, 182, 1, 142, 167, 0, 4, 2, 172]
abbrev dktX1_way_2 : List UInt8 := dkwX1_way_2 ++ []
def dkwX1_way_1 : List UInt8 := [2, 172, 42, 180, 0, 81, 27, 50, 28, 182, 1, 138, 58, 4, 29, 3, 25, 4, 182, 1, 30, 4, 100]
abbrev dktX1_way_1 : List UInt8 := dkwX1_way_1 ++ dktX1_way_2
def dkwX1_way_0 : List UInt8 := [42, 27, 182, 1, 127, 153, 0, 19, 42, 180, 0, 81, 27, 50, 180, 1, 130, 28, 184, 0, 246, 154, 0, 5]
abbrev dktX1_way_0 : List UInt8 := dkwX1_way_0 ++ dktX1_way_1
theorem dksX1_way_0 : cX1_way.data.toList.drop 0 = dktX1_way_0 := by decide +kernel
theorem dksX1_way_1 : cX1_way.data.toList.drop 24 = dktX1_way_1 := dk_seg dksX1_way_0 24 rfl rfl
theorem dksX1_way_2 : cX1_way.data.toList.drop 47 = dktX1_way_2 := dk_seg dksX1_way_1 23 rfl rfl
theorem dX1_way_0 : decode cX1_way 0 = .ok (.aload_n 0, 1) := dk_42 (dk_at dksX1_way_0 0 rfl rfl)
theorem dX1_way_1 : decode cX1_way 1 = .ok (.iload_n 1, 1) := dk_27 (dk_at dksX1_way_0 1 rfl rfl)
theorem dX1_way_2 : decode cX1_way 2 = .ok (.invokevirtual 383, 3) := dk_182 1 127 (dk_at dksX1_way_0 2 rfl rfl)
theorem dX1_way_5 : decode cX1_way 5 = .ok (.ifCond .eq 19, 3) := dk_153 0 19 (dk_at dksX1_way_0 5 rfl rfl)
theorem dX1_way_8 : decode cX1_way 8 = .ok (.aload_n 0, 1) := dk_42 (dk_at dksX1_way_0 8 rfl rfl)
theorem dX1_way_9 : decode cX1_way 9 = .ok (.getfield 81, 3) := dk_180 0 81 (dk_at dksX1_way_0 9 rfl rfl)
theorem dX1_way_12 : decode cX1_way 12 = .ok (.iload_n 1, 1) := dk_27 (dk_at dksX1_way_0 12 rfl rfl)
theorem dX1_way_13 : decode cX1_way 13 = .ok (.aaload, 1) := dk_50 (dk_at dksX1_way_0 13 rfl rfl)
theorem dX1_way_14 : decode cX1_way 14 = .ok (.getfield 386, 3) := dk_180 1 130 (dk_at dksX1_way_0 14 rfl rfl)
theorem dX1_way_17 : decode cX1_way 17 = .ok (.iload_n 2, 1) := dk_28 (dk_at dksX1_way_0 17 rfl rfl)
theorem dX1_way_18 : decode cX1_way 18 = .ok (.invokestatic 246, 3) := dk_184 0 246 (dk_at dksX1_way_0 18 rfl rfl)
theorem dX1_way_21 : decode cX1_way 21 = .ok (.ifCond .ne 5, 3) := dk_154 0 5 (dk_at dksX1_way_0 21 rfl rfl)
theorem dX1_way_24 : decode cX1_way 24 = .ok (.iconst (-1), 1) := dk_2 (dk_at dksX1_way_1 0 rfl rfl)
theorem dX1_way_25 : decode cX1_way 25 = .ok (.ireturn, 1) := dk_172 (dk_at dksX1_way_1 1 rfl rfl)
theorem dX1_way_26 : decode cX1_way 26 = .ok (.aload_n 0, 1) := dk_42 (dk_at dksX1_way_1 2 rfl rfl)
theorem dX1_way_27 : decode cX1_way 27 = .ok (.getfield 81, 3) := dk_180 0 81 (dk_at dksX1_way_1 3 rfl rfl)
theorem dX1_way_30 : decode cX1_way 30 = .ok (.iload_n 1, 1) := dk_27 (dk_at dksX1_way_1 6 rfl rfl)
theorem dX1_way_31 : decode cX1_way 31 = .ok (.aaload, 1) := dk_50 (dk_at dksX1_way_1 7 rfl rfl)
theorem dX1_way_32 : decode cX1_way 32 = .ok (.iload_n 2, 1) := dk_28 (dk_at dksX1_way_1 8 rfl rfl)
theorem dX1_way_33 : decode cX1_way 33 = .ok (.invokevirtual 394, 3) := dk_182 1 138 (dk_at dksX1_way_1 9 rfl rfl)
theorem dX1_way_36 : decode cX1_way 36 = .ok (.astore 4, 2) := dk_58 4 (dk_at dksX1_way_1 12 rfl rfl)
theorem dX1_way_38 : decode cX1_way 38 = .ok (.iload_n 3, 1) := dk_29 (dk_at dksX1_way_1 14 rfl rfl)
theorem dX1_way_39 : decode cX1_way 39 = .ok (.iconst 0, 1) := dk_3 (dk_at dksX1_way_1 15 rfl rfl)
theorem dX1_way_40 : decode cX1_way 40 = .ok (.aload 4, 2) := dk_25 4 (dk_at dksX1_way_1 16 rfl rfl)
theorem dX1_way_42 : decode cX1_way 42 = .ok (.invokevirtual 286, 3) := dk_182 1 30 (dk_at dksX1_way_1 18 rfl rfl)
theorem dX1_way_45 : decode cX1_way 45 = .ok (.iconst 1, 1) := dk_4 (dk_at dksX1_way_1 21 rfl rfl)
theorem dX1_way_46 : decode cX1_way 46 = .ok (.isub, 1) := dk_100 (dk_at dksX1_way_1 22 rfl rfl)
theorem dX1_way_47 : decode cX1_way 47 = .ok (.invokestatic 149, 3) := dk_184 0 149 (dk_at dksX1_way_2 0 rfl rfl)
theorem dX1_way_50 : decode cX1_way 50 = .ok (.ifCond .eq 18, 3) := dk_153 0 18 (dk_at dksX1_way_2 3 rfl rfl)
theorem dX1_way_53 : decode cX1_way 53 = .ok (.aload 4, 2) := dk_25 4 (dk_at dksX1_way_2 6 rfl rfl)
theorem dX1_way_55 : decode cX1_way 55 = .ok (.iload_n 3, 1) := dk_29 (dk_at dksX1_way_2 8 rfl rfl)
theorem dX1_way_56 : decode cX1_way 56 = .ok (.invokevirtual 296, 3) := dk_182 1 40 (dk_at dksX1_way_2 9 rfl rfl)
theorem dX1_way_59 : decode cX1_way 59 = .ok (.checkcast 314, 3) := dk_192 1 58 (dk_at dksX1_way_2 12 rfl rfl)
theorem dX1_way_62 : decode cX1_way 62 = .ok (.invokevirtual 398, 3) := dk_182 1 142 (dk_at dksX1_way_2 15 rfl rfl)
theorem dX1_way_65 : decode cX1_way 65 = .ok (.goto 4, 3) := dk_167 0 4 (dk_at dksX1_way_2 18 rfl rfl)
theorem dX1_way_68 : decode cX1_way 68 = .ok (.iconst (-1), 1) := dk_2 (dk_at dksX1_way_2 21 rfl rfl)
theorem dX1_way_69 : decode cX1_way 69 = .ok (.ireturn, 1) := dk_172 (dk_at dksX1_way_2 22 rfl rfl)
abbrev cX1_signed : ByteArray := prog_1_method_75_code
def yX1_signed : MethodName := ⟨RX1, "signed", "(II)I"⟩
def dkwX1_signed_1 : List UInt8 := [184, 0, 246, 154, 0, 6, 18, 188, 172, 42, 182, 1, 172, 42, 180, 0, 86, 27, 50, 28, 46, 172]
abbrev dktX1_signed_1 : List UInt8 := dkwX1_signed_1 ++ []
def dkwX1_signed_0 : List UInt8 := [42, 180, 0, 220, 198, 0, 25, 42, 180, 0, 220, 27, 184, 0, 242, 153, 0, 14, 42, 180, 0, 220, 28]
abbrev dktX1_signed_0 : List UInt8 := dkwX1_signed_0 ++ dktX1_signed_1
theorem dksX1_signed_0 : cX1_signed.data.toList.drop 0 = dktX1_signed_0 := by decide +kernel
theorem dksX1_signed_1 : cX1_signed.data.toList.drop 23 = dktX1_signed_1 := dk_seg dksX1_signed_0 23 rfl rfl
theorem dX1_signed_0 : decode cX1_signed 0 = .ok (.aload_n 0, 1) := dk_42 (dk_at dksX1_signed_0 0 rfl rfl)
theorem dX1_signed_1 : decode cX1_signed 1 = .ok (.getfield 220, 3) := dk_180 0 220 (dk_at dksX1_signed_0 1 rfl rfl)
theorem dX1_signed_4 : decode cX1_signed 4 = .ok (.ifnull 25, 3) := dk_198 0 25 (dk_at dksX1_signed_0 4 rfl rfl)
theorem dX1_signed_7 : decode cX1_signed 7 = .ok (.aload_n 0, 1) := dk_42 (dk_at dksX1_signed_0 7 rfl rfl)
theorem dX1_signed_8 : decode cX1_signed 8 = .ok (.getfield 220, 3) := dk_180 0 220 (dk_at dksX1_signed_0 8 rfl rfl)
theorem dX1_signed_11 : decode cX1_signed 11 = .ok (.iload_n 1, 1) := dk_27 (dk_at dksX1_signed_0 11 rfl rfl)
theorem dX1_signed_12 : decode cX1_signed 12 = .ok (.invokestatic 242, 3) := dk_184 0 242 (dk_at dksX1_signed_0 12 rfl rfl)
theorem dX1_signed_15 : decode cX1_signed 15 = .ok (.ifCond .eq 14, 3) := dk_153 0 14 (dk_at dksX1_signed_0 15 rfl rfl)
theorem dX1_signed_18 : decode cX1_signed 18 = .ok (.aload_n 0, 1) := dk_42 (dk_at dksX1_signed_0 18 rfl rfl)
theorem dX1_signed_19 : decode cX1_signed 19 = .ok (.getfield 220, 3) := dk_180 0 220 (dk_at dksX1_signed_0 19 rfl rfl)
theorem dX1_signed_22 : decode cX1_signed 22 = .ok (.iload_n 2, 1) := dk_28 (dk_at dksX1_signed_0 22 rfl rfl)
theorem dX1_signed_23 : decode cX1_signed 23 = .ok (.invokestatic 246, 3) := dk_184 0 246 (dk_at dksX1_signed_1 0 rfl rfl)
theorem dX1_signed_26 : decode cX1_signed 26 = .ok (.ifCond .ne 6, 3) := dk_154 0 6 (dk_at dksX1_signed_1 3 rfl rfl)
theorem dX1_signed_29 : decode cX1_signed 29 = .ok (.ldc 188, 2) := dk_18 188 (dk_at dksX1_signed_1 6 rfl rfl)
theorem dX1_signed_31 : decode cX1_signed 31 = .ok (.ireturn, 1) := dk_172 (dk_at dksX1_signed_1 8 rfl rfl)
theorem dX1_signed_32 : decode cX1_signed 32 = .ok (.aload_n 0, 1) := dk_42 (dk_at dksX1_signed_1 9 rfl rfl)
theorem dX1_signed_33 : decode cX1_signed 33 = .ok (.invokevirtual 428, 3) := dk_182 1 172 (dk_at dksX1_signed_1 10 rfl rfl)
theorem dX1_signed_36 : decode cX1_signed 36 = .ok (.aload_n 0, 1) := dk_42 (dk_at dksX1_signed_1 13 rfl rfl)
theorem dX1_signed_37 : decode cX1_signed 37 = .ok (.getfield 86, 3) := dk_180 0 86 (dk_at dksX1_signed_1 14 rfl rfl)
theorem dX1_signed_40 : decode cX1_signed 40 = .ok (.iload_n 1, 1) := dk_27 (dk_at dksX1_signed_1 17 rfl rfl)
theorem dX1_signed_41 : decode cX1_signed 41 = .ok (.aaload, 1) := dk_50 (dk_at dksX1_signed_1 18 rfl rfl)
theorem dX1_signed_42 : decode cX1_signed 42 = .ok (.iload_n 2, 1) := dk_28 (dk_at dksX1_signed_1 19 rfl rfl)
theorem dX1_signed_43 : decode cX1_signed 43 = .ok (.iaload, 1) := dk_46 (dk_at dksX1_signed_1 20 rfl rfl)
theorem dX1_signed_44 : decode cX1_signed 44 = .ok (.ireturn, 1) := dk_172 (dk_at dksX1_signed_1 21 rfl rfl)
abbrev cX1_laySigns : ByteArray := prog_1_method_74_code
def yX1_laySigns : MethodName := ⟨RX1, "laySigns", "()V"⟩
def dkwX1_laySigns_2 : List UInt8 := [182, 1, 169, 60, 167, 255, 247, 177]
abbrev dktX1_laySigns_2 : List UInt8 := dkwX1_laySigns_2 ++ []
def dkwX1_laySigns_1 : List UInt8 := [79, 132, 2, 1, 167, 255, 238, 132, 1, 1, 167, 255, 224, 42, 182, 1, 166, 4, 60, 27, 153, 0, 11, 42]
abbrev dktX1_laySigns_1 : List UInt8 := dkwX1_laySigns_1 ++ dktX1_laySigns_2
def dkwX1_laySigns_0 : List UInt8 := [3, 60, 27, 16, 6, 162, 0, 32, 3, 61, 28, 16, 6, 162, 0, 18, 42, 180, 0, 86, 27, 50, 28, 3]
abbrev dktX1_laySigns_0 : List UInt8 := dkwX1_laySigns_0 ++ dktX1_laySigns_1
theorem dksX1_laySigns_0 : cX1_laySigns.data.toList.drop 0 = dktX1_laySigns_0 := by decide +kernel
theorem dksX1_laySigns_1 : cX1_laySigns.data.toList.drop 24 = dktX1_laySigns_1 := dk_seg dksX1_laySigns_0 24 rfl rfl
theorem dksX1_laySigns_2 : cX1_laySigns.data.toList.drop 48 = dktX1_laySigns_2 := dk_seg dksX1_laySigns_1 24 rfl rfl
theorem dX1_laySigns_0 : decode cX1_laySigns 0 = .ok (.iconst 0, 1) := dk_3 (dk_at dksX1_laySigns_0 0 rfl rfl)
theorem dX1_laySigns_1 : decode cX1_laySigns 1 = .ok (.istore_n 1, 1) := dk_60 (dk_at dksX1_laySigns_0 1 rfl rfl)
theorem dX1_laySigns_2 : decode cX1_laySigns 2 = .ok (.iload_n 1, 1) := dk_27 (dk_at dksX1_laySigns_0 2 rfl rfl)
theorem dX1_laySigns_3 : decode cX1_laySigns 3 = .ok (.bipush 6, 2) := dk_16 6 (dk_at dksX1_laySigns_0 3 rfl rfl)
theorem dX1_laySigns_5 : decode cX1_laySigns 5 = .ok (.if_icmp .ge 32, 3) := dk_162 0 32 (dk_at dksX1_laySigns_0 5 rfl rfl)
theorem dX1_laySigns_8 : decode cX1_laySigns 8 = .ok (.iconst 0, 1) := dk_3 (dk_at dksX1_laySigns_0 8 rfl rfl)
theorem dX1_laySigns_9 : decode cX1_laySigns 9 = .ok (.istore_n 2, 1) := dk_61 (dk_at dksX1_laySigns_0 9 rfl rfl)
theorem dX1_laySigns_10 : decode cX1_laySigns 10 = .ok (.iload_n 2, 1) := dk_28 (dk_at dksX1_laySigns_0 10 rfl rfl)
theorem dX1_laySigns_11 : decode cX1_laySigns 11 = .ok (.bipush 6, 2) := dk_16 6 (dk_at dksX1_laySigns_0 11 rfl rfl)
theorem dX1_laySigns_13 : decode cX1_laySigns 13 = .ok (.if_icmp .ge 18, 3) := dk_162 0 18 (dk_at dksX1_laySigns_0 13 rfl rfl)
theorem dX1_laySigns_16 : decode cX1_laySigns 16 = .ok (.aload_n 0, 1) := dk_42 (dk_at dksX1_laySigns_0 16 rfl rfl)
theorem dX1_laySigns_17 : decode cX1_laySigns 17 = .ok (.getfield 86, 3) := dk_180 0 86 (dk_at dksX1_laySigns_0 17 rfl rfl)
theorem dX1_laySigns_20 : decode cX1_laySigns 20 = .ok (.iload_n 1, 1) := dk_27 (dk_at dksX1_laySigns_0 20 rfl rfl)
theorem dX1_laySigns_21 : decode cX1_laySigns 21 = .ok (.aaload, 1) := dk_50 (dk_at dksX1_laySigns_0 21 rfl rfl)
theorem dX1_laySigns_22 : decode cX1_laySigns 22 = .ok (.iload_n 2, 1) := dk_28 (dk_at dksX1_laySigns_0 22 rfl rfl)
theorem dX1_laySigns_23 : decode cX1_laySigns 23 = .ok (.iconst 0, 1) := dk_3 (dk_at dksX1_laySigns_0 23 rfl rfl)
theorem dX1_laySigns_24 : decode cX1_laySigns 24 = .ok (.iastore, 1) := dk_79 (dk_at dksX1_laySigns_1 0 rfl rfl)
theorem dX1_laySigns_25 : decode cX1_laySigns 25 = .ok (.iinc 2 1, 3) := dk_132 2 1 (dk_at dksX1_laySigns_1 1 rfl rfl)
theorem dX1_laySigns_28 : decode cX1_laySigns 28 = .ok (.goto (-18), 3) := dk_167 255 238 (dk_at dksX1_laySigns_1 4 rfl rfl)
theorem dX1_laySigns_31 : decode cX1_laySigns 31 = .ok (.iinc 1 1, 3) := dk_132 1 1 (dk_at dksX1_laySigns_1 7 rfl rfl)
theorem dX1_laySigns_34 : decode cX1_laySigns 34 = .ok (.goto (-32), 3) := dk_167 255 224 (dk_at dksX1_laySigns_1 10 rfl rfl)
theorem dX1_laySigns_37 : decode cX1_laySigns 37 = .ok (.aload_n 0, 1) := dk_42 (dk_at dksX1_laySigns_1 13 rfl rfl)
theorem dX1_laySigns_38 : decode cX1_laySigns 38 = .ok (.invokevirtual 422, 3) := dk_182 1 166 (dk_at dksX1_laySigns_1 14 rfl rfl)
theorem dX1_laySigns_41 : decode cX1_laySigns 41 = .ok (.iconst 1, 1) := dk_4 (dk_at dksX1_laySigns_1 17 rfl rfl)
theorem dX1_laySigns_42 : decode cX1_laySigns 42 = .ok (.istore_n 1, 1) := dk_60 (dk_at dksX1_laySigns_1 18 rfl rfl)
theorem dX1_laySigns_43 : decode cX1_laySigns 43 = .ok (.iload_n 1, 1) := dk_27 (dk_at dksX1_laySigns_1 19 rfl rfl)
theorem dX1_laySigns_44 : decode cX1_laySigns 44 = .ok (.ifCond .eq 11, 3) := dk_153 0 11 (dk_at dksX1_laySigns_1 20 rfl rfl)
theorem dX1_laySigns_47 : decode cX1_laySigns 47 = .ok (.aload_n 0, 1) := dk_42 (dk_at dksX1_laySigns_1 23 rfl rfl)
theorem dX1_laySigns_48 : decode cX1_laySigns 48 = .ok (.invokevirtual 425, 3) := dk_182 1 169 (dk_at dksX1_laySigns_2 0 rfl rfl)
theorem dX1_laySigns_51 : decode cX1_laySigns 51 = .ok (.istore_n 1, 1) := dk_60 (dk_at dksX1_laySigns_2 3 rfl rfl)
theorem dX1_laySigns_52 : decode cX1_laySigns 52 = .ok (.goto (-9), 3) := dk_167 255 247 (dk_at dksX1_laySigns_2 4 rfl rfl)
theorem dX1_laySigns_55 : decode cX1_laySigns 55 = .ok (.return_, 1) := dk_177 (dk_at dksX1_laySigns_2 7 rfl rfl)
abbrev cX1_layForest : ByteArray := prog_1_method_71_code
def yX1_layForest : MethodName := ⟨RX1, "layForest", "()V"⟩
def dkwX1_layForest_3 : List UInt8 := [79, 132, 2, 1, 167, 255, 196, 132, 1, 1, 167, 255, 177, 177]
abbrev dktX1_layForest_3 : List UInt8 := dkwX1_layForest_3 ++ []
def dkwX1_layForest_2 : List UInt8 := [96, 182, 1, 160, 42, 180, 0, 89, 27, 46, 19, 1, 145, 160, 0, 12, 42, 180, 0, 86, 27, 50, 28, 4]
abbrev dktX1_layForest_2 : List UInt8 := dkwX1_layForest_2 ++ dktX1_layForest_3
def dkwX1_layForest_1 : List UInt8 := [162, 0, 55, 42, 180, 0, 220, 180, 0, 13, 27, 50, 28, 46, 154, 0, 6, 167, 0, 32, 42, 16, 6, 28]
abbrev dktX1_layForest_1 : List UInt8 := dkwX1_layForest_1 ++ dktX1_layForest_2
def dkwX1_layForest_0 : List UInt8 := [3, 60, 27, 42, 180, 0, 220, 180, 0, 17, 162, 0, 74, 3, 61, 28, 42, 180, 0, 220, 180, 0, 9]
abbrev dktX1_layForest_0 : List UInt8 := dkwX1_layForest_0 ++ dktX1_layForest_1
theorem dksX1_layForest_0 : cX1_layForest.data.toList.drop 0 = dktX1_layForest_0 := by decide +kernel
theorem dksX1_layForest_1 : cX1_layForest.data.toList.drop 23 = dktX1_layForest_1 := dk_seg dksX1_layForest_0 23 rfl rfl
theorem dksX1_layForest_2 : cX1_layForest.data.toList.drop 47 = dktX1_layForest_2 := dk_seg dksX1_layForest_1 24 rfl rfl
theorem dksX1_layForest_3 : cX1_layForest.data.toList.drop 71 = dktX1_layForest_3 := dk_seg dksX1_layForest_2 24 rfl rfl
theorem dX1_layForest_0 : decode cX1_layForest 0 = .ok (.iconst 0, 1) := dk_3 (dk_at dksX1_layForest_0 0 rfl rfl)
theorem dX1_layForest_1 : decode cX1_layForest 1 = .ok (.istore_n 1, 1) := dk_60 (dk_at dksX1_layForest_0 1 rfl rfl)
theorem dX1_layForest_2 : decode cX1_layForest 2 = .ok (.iload_n 1, 1) := dk_27 (dk_at dksX1_layForest_0 2 rfl rfl)
theorem dX1_layForest_3 : decode cX1_layForest 3 = .ok (.aload_n 0, 1) := dk_42 (dk_at dksX1_layForest_0 3 rfl rfl)
theorem dX1_layForest_4 : decode cX1_layForest 4 = .ok (.getfield 220, 3) := dk_180 0 220 (dk_at dksX1_layForest_0 4 rfl rfl)
theorem dX1_layForest_7 : decode cX1_layForest 7 = .ok (.getfield 17, 3) := dk_180 0 17 (dk_at dksX1_layForest_0 7 rfl rfl)
theorem dX1_layForest_10 : decode cX1_layForest 10 = .ok (.if_icmp .ge 74, 3) := dk_162 0 74 (dk_at dksX1_layForest_0 10 rfl rfl)
theorem dX1_layForest_13 : decode cX1_layForest 13 = .ok (.iconst 0, 1) := dk_3 (dk_at dksX1_layForest_0 13 rfl rfl)
theorem dX1_layForest_14 : decode cX1_layForest 14 = .ok (.istore_n 2, 1) := dk_61 (dk_at dksX1_layForest_0 14 rfl rfl)
theorem dX1_layForest_15 : decode cX1_layForest 15 = .ok (.iload_n 2, 1) := dk_28 (dk_at dksX1_layForest_0 15 rfl rfl)
theorem dX1_layForest_16 : decode cX1_layForest 16 = .ok (.aload_n 0, 1) := dk_42 (dk_at dksX1_layForest_0 16 rfl rfl)
theorem dX1_layForest_17 : decode cX1_layForest 17 = .ok (.getfield 220, 3) := dk_180 0 220 (dk_at dksX1_layForest_0 17 rfl rfl)
theorem dX1_layForest_20 : decode cX1_layForest 20 = .ok (.getfield 9, 3) := dk_180 0 9 (dk_at dksX1_layForest_0 20 rfl rfl)
theorem dX1_layForest_23 : decode cX1_layForest 23 = .ok (.if_icmp .ge 55, 3) := dk_162 0 55 (dk_at dksX1_layForest_1 0 rfl rfl)
theorem dX1_layForest_26 : decode cX1_layForest 26 = .ok (.aload_n 0, 1) := dk_42 (dk_at dksX1_layForest_1 3 rfl rfl)
theorem dX1_layForest_27 : decode cX1_layForest 27 = .ok (.getfield 220, 3) := dk_180 0 220 (dk_at dksX1_layForest_1 4 rfl rfl)
theorem dX1_layForest_30 : decode cX1_layForest 30 = .ok (.getfield 13, 3) := dk_180 0 13 (dk_at dksX1_layForest_1 7 rfl rfl)
theorem dX1_layForest_33 : decode cX1_layForest 33 = .ok (.iload_n 1, 1) := dk_27 (dk_at dksX1_layForest_1 10 rfl rfl)
theorem dX1_layForest_34 : decode cX1_layForest 34 = .ok (.aaload, 1) := dk_50 (dk_at dksX1_layForest_1 11 rfl rfl)
theorem dX1_layForest_35 : decode cX1_layForest 35 = .ok (.iload_n 2, 1) := dk_28 (dk_at dksX1_layForest_1 12 rfl rfl)
theorem dX1_layForest_36 : decode cX1_layForest 36 = .ok (.iaload, 1) := dk_46 (dk_at dksX1_layForest_1 13 rfl rfl)
theorem dX1_layForest_37 : decode cX1_layForest 37 = .ok (.ifCond .ne 6, 3) := dk_154 0 6 (dk_at dksX1_layForest_1 14 rfl rfl)
theorem dX1_layForest_40 : decode cX1_layForest 40 = .ok (.goto 32, 3) := dk_167 0 32 (dk_at dksX1_layForest_1 17 rfl rfl)
theorem dX1_layForest_43 : decode cX1_layForest 43 = .ok (.aload_n 0, 1) := dk_42 (dk_at dksX1_layForest_1 20 rfl rfl)
theorem dX1_layForest_44 : decode cX1_layForest 44 = .ok (.bipush 6, 2) := dk_16 6 (dk_at dksX1_layForest_1 21 rfl rfl)
theorem dX1_layForest_46 : decode cX1_layForest 46 = .ok (.iload_n 2, 1) := dk_28 (dk_at dksX1_layForest_1 23 rfl rfl)
theorem dX1_layForest_47 : decode cX1_layForest 47 = .ok (.iadd, 1) := dk_96 (dk_at dksX1_layForest_2 0 rfl rfl)
theorem dX1_layForest_48 : decode cX1_layForest 48 = .ok (.invokevirtual 416, 3) := dk_182 1 160 (dk_at dksX1_layForest_2 1 rfl rfl)
theorem dX1_layForest_51 : decode cX1_layForest 51 = .ok (.aload_n 0, 1) := dk_42 (dk_at dksX1_layForest_2 4 rfl rfl)
theorem dX1_layForest_52 : decode cX1_layForest 52 = .ok (.getfield 89, 3) := dk_180 0 89 (dk_at dksX1_layForest_2 5 rfl rfl)
theorem dX1_layForest_55 : decode cX1_layForest 55 = .ok (.iload_n 1, 1) := dk_27 (dk_at dksX1_layForest_2 8 rfl rfl)
theorem dX1_layForest_56 : decode cX1_layForest 56 = .ok (.iaload, 1) := dk_46 (dk_at dksX1_layForest_2 9 rfl rfl)
theorem dX1_layForest_57 : decode cX1_layForest 57 = .ok (.ldc_w 401, 3) := dk_19 1 145 (dk_at dksX1_layForest_2 10 rfl rfl)
theorem dX1_layForest_60 : decode cX1_layForest 60 = .ok (.if_icmp .ne 12, 3) := dk_160 0 12 (dk_at dksX1_layForest_2 13 rfl rfl)
theorem dX1_layForest_63 : decode cX1_layForest 63 = .ok (.aload_n 0, 1) := dk_42 (dk_at dksX1_layForest_2 16 rfl rfl)
theorem dX1_layForest_64 : decode cX1_layForest 64 = .ok (.getfield 86, 3) := dk_180 0 86 (dk_at dksX1_layForest_2 17 rfl rfl)
theorem dX1_layForest_67 : decode cX1_layForest 67 = .ok (.iload_n 1, 1) := dk_27 (dk_at dksX1_layForest_2 20 rfl rfl)
theorem dX1_layForest_68 : decode cX1_layForest 68 = .ok (.aaload, 1) := dk_50 (dk_at dksX1_layForest_2 21 rfl rfl)
theorem dX1_layForest_69 : decode cX1_layForest 69 = .ok (.iload_n 2, 1) := dk_28 (dk_at dksX1_layForest_2 22 rfl rfl)
theorem dX1_layForest_70 : decode cX1_layForest 70 = .ok (.iconst 1, 1) := dk_4 (dk_at dksX1_layForest_2 23 rfl rfl)
theorem dX1_layForest_71 : decode cX1_layForest 71 = .ok (.iastore, 1) := dk_79 (dk_at dksX1_layForest_3 0 rfl rfl)
theorem dX1_layForest_72 : decode cX1_layForest 72 = .ok (.iinc 2 1, 3) := dk_132 2 1 (dk_at dksX1_layForest_3 1 rfl rfl)
theorem dX1_layForest_75 : decode cX1_layForest 75 = .ok (.goto (-60), 3) := dk_167 255 196 (dk_at dksX1_layForest_3 4 rfl rfl)
theorem dX1_layForest_78 : decode cX1_layForest 78 = .ok (.iinc 1 1, 3) := dk_132 1 1 (dk_at dksX1_layForest_3 7 rfl rfl)
theorem dX1_layForest_81 : decode cX1_layForest 81 = .ok (.goto (-79), 3) := dk_167 255 177 (dk_at dksX1_layForest_3 10 rfl rfl)
theorem dX1_layForest_84 : decode cX1_layForest 84 = .ok (.return_, 1) := dk_177 (dk_at dksX1_layForest_3 13 rfl rfl)
abbrev cX1_layDistances : ByteArray := prog_1_method_70_code
def yX1_layDistances : MethodName := ⟨RX1, "layDistances", "(I)V"⟩
def dkwX1_layDistances_5 : List UInt8 := [184, 1, 146, 182, 1, 149, 132, 3, 1, 167, 255, 198, 167, 255, 169, 177]
abbrev dktX1_layDistances_5 : List UInt8 := dkwX1_layDistances_5 ++ []
def dkwX1_layDistances_4 : List UInt8 := [167, 0, 28, 42, 180, 0, 89, 29, 42, 180, 0, 89, 28, 46, 4, 96, 79, 42, 180, 0, 95, 29]
abbrev dktX1_layDistances_4 : List UInt8 := dkwX1_layDistances_4 ++ dktX1_layDistances_5
def dkwX1_layDistances_3 : List UInt8 := [162, 0, 58, 42, 180, 0, 89, 29, 46, 19, 1, 145, 160, 0, 40, 42, 28, 29, 182, 1, 157, 154, 0, 6]
abbrev dktX1_layDistances_3 : List UInt8 := dkwX1_layDistances_3 ++ dktX1_layDistances_4
def dkwX1_layDistances_2 : List UInt8 := [154, 0, 83, 42, 180, 0, 95, 182, 1, 153, 192, 1, 58, 182, 1, 142, 61, 3, 62, 29, 16, 12]
abbrev dktX1_layDistances_2 : List UInt8 := dkwX1_layDistances_2 ++ dktX1_layDistances_3
def dkwX1_layDistances_1 : List UInt8 := [180, 0, 89, 27, 3, 79, 42, 180, 0, 95, 27, 184, 1, 146, 182, 1, 149, 42, 180, 0, 95, 182, 1, 150]
abbrev dktX1_layDistances_1 : List UInt8 := dkwX1_layDistances_1 ++ dktX1_layDistances_2
def dkwX1_layDistances_0 : List UInt8 := [3, 61, 28, 16, 12, 162, 0, 18, 42, 180, 0, 89, 28, 19, 1, 145, 79, 132, 2, 1, 167, 255, 238, 42]
abbrev dktX1_layDistances_0 : List UInt8 := dkwX1_layDistances_0 ++ dktX1_layDistances_1
theorem dksX1_layDistances_0 : cX1_layDistances.data.toList.drop 0 = dktX1_layDistances_0 := by decide +kernel
theorem dksX1_layDistances_1 : cX1_layDistances.data.toList.drop 24 = dktX1_layDistances_1 := dk_seg dksX1_layDistances_0 24 rfl rfl
theorem dksX1_layDistances_2 : cX1_layDistances.data.toList.drop 48 = dktX1_layDistances_2 := dk_seg dksX1_layDistances_1 24 rfl rfl
theorem dksX1_layDistances_3 : cX1_layDistances.data.toList.drop 70 = dktX1_layDistances_3 := dk_seg dksX1_layDistances_2 22 rfl rfl
theorem dksX1_layDistances_4 : cX1_layDistances.data.toList.drop 94 = dktX1_layDistances_4 := dk_seg dksX1_layDistances_3 24 rfl rfl
theorem dksX1_layDistances_5 : cX1_layDistances.data.toList.drop 116 = dktX1_layDistances_5 := dk_seg dksX1_layDistances_4 22 rfl rfl
theorem dX1_layDistances_0 : decode cX1_layDistances 0 = .ok (.iconst 0, 1) := dk_3 (dk_at dksX1_layDistances_0 0 rfl rfl)
theorem dX1_layDistances_1 : decode cX1_layDistances 1 = .ok (.istore_n 2, 1) := dk_61 (dk_at dksX1_layDistances_0 1 rfl rfl)
theorem dX1_layDistances_2 : decode cX1_layDistances 2 = .ok (.iload_n 2, 1) := dk_28 (dk_at dksX1_layDistances_0 2 rfl rfl)
theorem dX1_layDistances_3 : decode cX1_layDistances 3 = .ok (.bipush 12, 2) := dk_16 12 (dk_at dksX1_layDistances_0 3 rfl rfl)
theorem dX1_layDistances_5 : decode cX1_layDistances 5 = .ok (.if_icmp .ge 18, 3) := dk_162 0 18 (dk_at dksX1_layDistances_0 5 rfl rfl)
theorem dX1_layDistances_8 : decode cX1_layDistances 8 = .ok (.aload_n 0, 1) := dk_42 (dk_at dksX1_layDistances_0 8 rfl rfl)
theorem dX1_layDistances_9 : decode cX1_layDistances 9 = .ok (.getfield 89, 3) := dk_180 0 89 (dk_at dksX1_layDistances_0 9 rfl rfl)
theorem dX1_layDistances_12 : decode cX1_layDistances 12 = .ok (.iload_n 2, 1) := dk_28 (dk_at dksX1_layDistances_0 12 rfl rfl)
theorem dX1_layDistances_13 : decode cX1_layDistances 13 = .ok (.ldc_w 401, 3) := dk_19 1 145 (dk_at dksX1_layDistances_0 13 rfl rfl)
theorem dX1_layDistances_16 : decode cX1_layDistances 16 = .ok (.iastore, 1) := dk_79 (dk_at dksX1_layDistances_0 16 rfl rfl)
theorem dX1_layDistances_17 : decode cX1_layDistances 17 = .ok (.iinc 2 1, 3) := dk_132 2 1 (dk_at dksX1_layDistances_0 17 rfl rfl)
theorem dX1_layDistances_20 : decode cX1_layDistances 20 = .ok (.goto (-18), 3) := dk_167 255 238 (dk_at dksX1_layDistances_0 20 rfl rfl)
theorem dX1_layDistances_23 : decode cX1_layDistances 23 = .ok (.aload_n 0, 1) := dk_42 (dk_at dksX1_layDistances_0 23 rfl rfl)
theorem dX1_layDistances_24 : decode cX1_layDistances 24 = .ok (.getfield 89, 3) := dk_180 0 89 (dk_at dksX1_layDistances_1 0 rfl rfl)
theorem dX1_layDistances_27 : decode cX1_layDistances 27 = .ok (.iload_n 1, 1) := dk_27 (dk_at dksX1_layDistances_1 3 rfl rfl)
theorem dX1_layDistances_28 : decode cX1_layDistances 28 = .ok (.iconst 0, 1) := dk_3 (dk_at dksX1_layDistances_1 4 rfl rfl)
theorem dX1_layDistances_29 : decode cX1_layDistances 29 = .ok (.iastore, 1) := dk_79 (dk_at dksX1_layDistances_1 5 rfl rfl)
theorem dX1_layDistances_30 : decode cX1_layDistances 30 = .ok (.aload_n 0, 1) := dk_42 (dk_at dksX1_layDistances_1 6 rfl rfl)
theorem dX1_layDistances_31 : decode cX1_layDistances 31 = .ok (.getfield 95, 3) := dk_180 0 95 (dk_at dksX1_layDistances_1 7 rfl rfl)
theorem dX1_layDistances_34 : decode cX1_layDistances 34 = .ok (.iload_n 1, 1) := dk_27 (dk_at dksX1_layDistances_1 10 rfl rfl)
theorem dX1_layDistances_35 : decode cX1_layDistances 35 = .ok (.invokestatic 402, 3) := dk_184 1 146 (dk_at dksX1_layDistances_1 11 rfl rfl)
theorem dX1_layDistances_38 : decode cX1_layDistances 38 = .ok (.invokevirtual 405, 3) := dk_182 1 149 (dk_at dksX1_layDistances_1 14 rfl rfl)
theorem dX1_layDistances_41 : decode cX1_layDistances 41 = .ok (.aload_n 0, 1) := dk_42 (dk_at dksX1_layDistances_1 17 rfl rfl)
theorem dX1_layDistances_42 : decode cX1_layDistances 42 = .ok (.getfield 95, 3) := dk_180 0 95 (dk_at dksX1_layDistances_1 18 rfl rfl)
theorem dX1_layDistances_45 : decode cX1_layDistances 45 = .ok (.invokevirtual 406, 3) := dk_182 1 150 (dk_at dksX1_layDistances_1 21 rfl rfl)
theorem dX1_layDistances_48 : decode cX1_layDistances 48 = .ok (.ifCond .ne 83, 3) := dk_154 0 83 (dk_at dksX1_layDistances_2 0 rfl rfl)
theorem dX1_layDistances_51 : decode cX1_layDistances 51 = .ok (.aload_n 0, 1) := dk_42 (dk_at dksX1_layDistances_2 3 rfl rfl)
theorem dX1_layDistances_52 : decode cX1_layDistances 52 = .ok (.getfield 95, 3) := dk_180 0 95 (dk_at dksX1_layDistances_2 4 rfl rfl)
theorem dX1_layDistances_55 : decode cX1_layDistances 55 = .ok (.invokevirtual 409, 3) := dk_182 1 153 (dk_at dksX1_layDistances_2 7 rfl rfl)
theorem dX1_layDistances_58 : decode cX1_layDistances 58 = .ok (.checkcast 314, 3) := dk_192 1 58 (dk_at dksX1_layDistances_2 10 rfl rfl)
theorem dX1_layDistances_61 : decode cX1_layDistances 61 = .ok (.invokevirtual 398, 3) := dk_182 1 142 (dk_at dksX1_layDistances_2 13 rfl rfl)
theorem dX1_layDistances_64 : decode cX1_layDistances 64 = .ok (.istore_n 2, 1) := dk_61 (dk_at dksX1_layDistances_2 16 rfl rfl)
theorem dX1_layDistances_65 : decode cX1_layDistances 65 = .ok (.iconst 0, 1) := dk_3 (dk_at dksX1_layDistances_2 17 rfl rfl)
theorem dX1_layDistances_66 : decode cX1_layDistances 66 = .ok (.istore_n 3, 1) := dk_62 (dk_at dksX1_layDistances_2 18 rfl rfl)
theorem dX1_layDistances_67 : decode cX1_layDistances 67 = .ok (.iload_n 3, 1) := dk_29 (dk_at dksX1_layDistances_2 19 rfl rfl)
theorem dX1_layDistances_68 : decode cX1_layDistances 68 = .ok (.bipush 12, 2) := dk_16 12 (dk_at dksX1_layDistances_2 20 rfl rfl)
theorem dX1_layDistances_70 : decode cX1_layDistances 70 = .ok (.if_icmp .ge 58, 3) := dk_162 0 58 (dk_at dksX1_layDistances_3 0 rfl rfl)
theorem dX1_layDistances_73 : decode cX1_layDistances 73 = .ok (.aload_n 0, 1) := dk_42 (dk_at dksX1_layDistances_3 3 rfl rfl)
theorem dX1_layDistances_74 : decode cX1_layDistances 74 = .ok (.getfield 89, 3) := dk_180 0 89 (dk_at dksX1_layDistances_3 4 rfl rfl)
theorem dX1_layDistances_77 : decode cX1_layDistances 77 = .ok (.iload_n 3, 1) := dk_29 (dk_at dksX1_layDistances_3 7 rfl rfl)
theorem dX1_layDistances_78 : decode cX1_layDistances 78 = .ok (.iaload, 1) := dk_46 (dk_at dksX1_layDistances_3 8 rfl rfl)
theorem dX1_layDistances_79 : decode cX1_layDistances 79 = .ok (.ldc_w 401, 3) := dk_19 1 145 (dk_at dksX1_layDistances_3 9 rfl rfl)
theorem dX1_layDistances_82 : decode cX1_layDistances 82 = .ok (.if_icmp .ne 40, 3) := dk_160 0 40 (dk_at dksX1_layDistances_3 12 rfl rfl)
theorem dX1_layDistances_85 : decode cX1_layDistances 85 = .ok (.aload_n 0, 1) := dk_42 (dk_at dksX1_layDistances_3 15 rfl rfl)
theorem dX1_layDistances_86 : decode cX1_layDistances 86 = .ok (.iload_n 2, 1) := dk_28 (dk_at dksX1_layDistances_3 16 rfl rfl)
theorem dX1_layDistances_87 : decode cX1_layDistances 87 = .ok (.iload_n 3, 1) := dk_29 (dk_at dksX1_layDistances_3 17 rfl rfl)
theorem dX1_layDistances_88 : decode cX1_layDistances 88 = .ok (.invokevirtual 413, 3) := dk_182 1 157 (dk_at dksX1_layDistances_3 18 rfl rfl)
theorem dX1_layDistances_91 : decode cX1_layDistances 91 = .ok (.ifCond .ne 6, 3) := dk_154 0 6 (dk_at dksX1_layDistances_3 21 rfl rfl)
theorem dX1_layDistances_94 : decode cX1_layDistances 94 = .ok (.goto 28, 3) := dk_167 0 28 (dk_at dksX1_layDistances_4 0 rfl rfl)
theorem dX1_layDistances_97 : decode cX1_layDistances 97 = .ok (.aload_n 0, 1) := dk_42 (dk_at dksX1_layDistances_4 3 rfl rfl)
theorem dX1_layDistances_98 : decode cX1_layDistances 98 = .ok (.getfield 89, 3) := dk_180 0 89 (dk_at dksX1_layDistances_4 4 rfl rfl)
theorem dX1_layDistances_101 : decode cX1_layDistances 101 = .ok (.iload_n 3, 1) := dk_29 (dk_at dksX1_layDistances_4 7 rfl rfl)
theorem dX1_layDistances_102 : decode cX1_layDistances 102 = .ok (.aload_n 0, 1) := dk_42 (dk_at dksX1_layDistances_4 8 rfl rfl)
theorem dX1_layDistances_103 : decode cX1_layDistances 103 = .ok (.getfield 89, 3) := dk_180 0 89 (dk_at dksX1_layDistances_4 9 rfl rfl)
theorem dX1_layDistances_106 : decode cX1_layDistances 106 = .ok (.iload_n 2, 1) := dk_28 (dk_at dksX1_layDistances_4 12 rfl rfl)
theorem dX1_layDistances_107 : decode cX1_layDistances 107 = .ok (.iaload, 1) := dk_46 (dk_at dksX1_layDistances_4 13 rfl rfl)
theorem dX1_layDistances_108 : decode cX1_layDistances 108 = .ok (.iconst 1, 1) := dk_4 (dk_at dksX1_layDistances_4 14 rfl rfl)
theorem dX1_layDistances_109 : decode cX1_layDistances 109 = .ok (.iadd, 1) := dk_96 (dk_at dksX1_layDistances_4 15 rfl rfl)
theorem dX1_layDistances_110 : decode cX1_layDistances 110 = .ok (.iastore, 1) := dk_79 (dk_at dksX1_layDistances_4 16 rfl rfl)
theorem dX1_layDistances_111 : decode cX1_layDistances 111 = .ok (.aload_n 0, 1) := dk_42 (dk_at dksX1_layDistances_4 17 rfl rfl)
theorem dX1_layDistances_112 : decode cX1_layDistances 112 = .ok (.getfield 95, 3) := dk_180 0 95 (dk_at dksX1_layDistances_4 18 rfl rfl)
theorem dX1_layDistances_115 : decode cX1_layDistances 115 = .ok (.iload_n 3, 1) := dk_29 (dk_at dksX1_layDistances_4 21 rfl rfl)
theorem dX1_layDistances_116 : decode cX1_layDistances 116 = .ok (.invokestatic 402, 3) := dk_184 1 146 (dk_at dksX1_layDistances_5 0 rfl rfl)
theorem dX1_layDistances_119 : decode cX1_layDistances 119 = .ok (.invokevirtual 405, 3) := dk_182 1 149 (dk_at dksX1_layDistances_5 3 rfl rfl)
theorem dX1_layDistances_122 : decode cX1_layDistances 122 = .ok (.iinc 3 1, 3) := dk_132 3 1 (dk_at dksX1_layDistances_5 6 rfl rfl)
theorem dX1_layDistances_125 : decode cX1_layDistances 125 = .ok (.goto (-58), 3) := dk_167 255 198 (dk_at dksX1_layDistances_5 9 rfl rfl)
theorem dX1_layDistances_128 : decode cX1_layDistances 128 = .ok (.goto (-87), 3) := dk_167 255 169 (dk_at dksX1_layDistances_5 12 rfl rfl)
theorem dX1_layDistances_131 : decode cX1_layDistances 131 = .ok (.return_, 1) := dk_177 (dk_at dksX1_layDistances_5 15 rfl rfl)
abbrev cX1_isTold : ByteArray := prog_1_method_69_code
def yX1_isTold : MethodName := ⟨RX1, "isTold", "(II)Z"⟩
def dkwX1_isTold_2 : List UInt8 := [16, 6, 100, 46, 153, 0, 7, 4, 167, 0, 4, 3, 172]
abbrev dktX1_isTold_2 : List UInt8 := dkwX1_isTold_2 ++ []
def dkwX1_isTold_1 : List UInt8 := [153, 0, 7, 4, 167, 0, 32, 3, 167, 0, 28, 28, 16, 6, 162, 0, 21, 42, 180, 0, 86, 28, 50, 27]
abbrev dktX1_isTold_1 : List UInt8 := dkwX1_isTold_1 ++ dktX1_isTold_2
def dkwX1_isTold_0 : List UInt8 := [27, 16, 6, 162, 0, 31, 28, 16, 6, 161, 0, 21, 42, 180, 0, 86, 27, 50, 28, 16, 6, 100, 46]
abbrev dktX1_isTold_0 : List UInt8 := dkwX1_isTold_0 ++ dktX1_isTold_1
theorem dksX1_isTold_0 : cX1_isTold.data.toList.drop 0 = dktX1_isTold_0 := by decide +kernel
theorem dksX1_isTold_1 : cX1_isTold.data.toList.drop 23 = dktX1_isTold_1 := dk_seg dksX1_isTold_0 23 rfl rfl
theorem dksX1_isTold_2 : cX1_isTold.data.toList.drop 47 = dktX1_isTold_2 := dk_seg dksX1_isTold_1 24 rfl rfl
theorem dX1_isTold_0 : decode cX1_isTold 0 = .ok (.iload_n 1, 1) := dk_27 (dk_at dksX1_isTold_0 0 rfl rfl)
theorem dX1_isTold_1 : decode cX1_isTold 1 = .ok (.bipush 6, 2) := dk_16 6 (dk_at dksX1_isTold_0 1 rfl rfl)
theorem dX1_isTold_3 : decode cX1_isTold 3 = .ok (.if_icmp .ge 31, 3) := dk_162 0 31 (dk_at dksX1_isTold_0 3 rfl rfl)
theorem dX1_isTold_6 : decode cX1_isTold 6 = .ok (.iload_n 2, 1) := dk_28 (dk_at dksX1_isTold_0 6 rfl rfl)
theorem dX1_isTold_7 : decode cX1_isTold 7 = .ok (.bipush 6, 2) := dk_16 6 (dk_at dksX1_isTold_0 7 rfl rfl)
theorem dX1_isTold_9 : decode cX1_isTold 9 = .ok (.if_icmp .lt 21, 3) := dk_161 0 21 (dk_at dksX1_isTold_0 9 rfl rfl)
theorem dX1_isTold_12 : decode cX1_isTold 12 = .ok (.aload_n 0, 1) := dk_42 (dk_at dksX1_isTold_0 12 rfl rfl)
theorem dX1_isTold_13 : decode cX1_isTold 13 = .ok (.getfield 86, 3) := dk_180 0 86 (dk_at dksX1_isTold_0 13 rfl rfl)
theorem dX1_isTold_16 : decode cX1_isTold 16 = .ok (.iload_n 1, 1) := dk_27 (dk_at dksX1_isTold_0 16 rfl rfl)
theorem dX1_isTold_17 : decode cX1_isTold 17 = .ok (.aaload, 1) := dk_50 (dk_at dksX1_isTold_0 17 rfl rfl)
theorem dX1_isTold_18 : decode cX1_isTold 18 = .ok (.iload_n 2, 1) := dk_28 (dk_at dksX1_isTold_0 18 rfl rfl)
theorem dX1_isTold_19 : decode cX1_isTold 19 = .ok (.bipush 6, 2) := dk_16 6 (dk_at dksX1_isTold_0 19 rfl rfl)
theorem dX1_isTold_21 : decode cX1_isTold 21 = .ok (.isub, 1) := dk_100 (dk_at dksX1_isTold_0 21 rfl rfl)
theorem dX1_isTold_22 : decode cX1_isTold 22 = .ok (.iaload, 1) := dk_46 (dk_at dksX1_isTold_0 22 rfl rfl)
theorem dX1_isTold_23 : decode cX1_isTold 23 = .ok (.ifCond .eq 7, 3) := dk_153 0 7 (dk_at dksX1_isTold_1 0 rfl rfl)
theorem dX1_isTold_26 : decode cX1_isTold 26 = .ok (.iconst 1, 1) := dk_4 (dk_at dksX1_isTold_1 3 rfl rfl)
theorem dX1_isTold_27 : decode cX1_isTold 27 = .ok (.goto 32, 3) := dk_167 0 32 (dk_at dksX1_isTold_1 4 rfl rfl)
theorem dX1_isTold_30 : decode cX1_isTold 30 = .ok (.iconst 0, 1) := dk_3 (dk_at dksX1_isTold_1 7 rfl rfl)
theorem dX1_isTold_31 : decode cX1_isTold 31 = .ok (.goto 28, 3) := dk_167 0 28 (dk_at dksX1_isTold_1 8 rfl rfl)
theorem dX1_isTold_34 : decode cX1_isTold 34 = .ok (.iload_n 2, 1) := dk_28 (dk_at dksX1_isTold_1 11 rfl rfl)
theorem dX1_isTold_35 : decode cX1_isTold 35 = .ok (.bipush 6, 2) := dk_16 6 (dk_at dksX1_isTold_1 12 rfl rfl)
theorem dX1_isTold_37 : decode cX1_isTold 37 = .ok (.if_icmp .ge 21, 3) := dk_162 0 21 (dk_at dksX1_isTold_1 14 rfl rfl)
theorem dX1_isTold_40 : decode cX1_isTold 40 = .ok (.aload_n 0, 1) := dk_42 (dk_at dksX1_isTold_1 17 rfl rfl)
theorem dX1_isTold_41 : decode cX1_isTold 41 = .ok (.getfield 86, 3) := dk_180 0 86 (dk_at dksX1_isTold_1 18 rfl rfl)
theorem dX1_isTold_44 : decode cX1_isTold 44 = .ok (.iload_n 2, 1) := dk_28 (dk_at dksX1_isTold_1 21 rfl rfl)
theorem dX1_isTold_45 : decode cX1_isTold 45 = .ok (.aaload, 1) := dk_50 (dk_at dksX1_isTold_1 22 rfl rfl)
theorem dX1_isTold_46 : decode cX1_isTold 46 = .ok (.iload_n 1, 1) := dk_27 (dk_at dksX1_isTold_1 23 rfl rfl)
theorem dX1_isTold_47 : decode cX1_isTold 47 = .ok (.bipush 6, 2) := dk_16 6 (dk_at dksX1_isTold_2 0 rfl rfl)
theorem dX1_isTold_49 : decode cX1_isTold 49 = .ok (.isub, 1) := dk_100 (dk_at dksX1_isTold_2 2 rfl rfl)
theorem dX1_isTold_50 : decode cX1_isTold 50 = .ok (.iaload, 1) := dk_46 (dk_at dksX1_isTold_2 3 rfl rfl)
theorem dX1_isTold_51 : decode cX1_isTold 51 = .ok (.ifCond .eq 7, 3) := dk_153 0 7 (dk_at dksX1_isTold_2 4 rfl rfl)
theorem dX1_isTold_54 : decode cX1_isTold 54 = .ok (.iconst 1, 1) := dk_4 (dk_at dksX1_isTold_2 7 rfl rfl)
theorem dX1_isTold_55 : decode cX1_isTold 55 = .ok (.goto 4, 3) := dk_167 0 4 (dk_at dksX1_isTold_2 8 rfl rfl)
theorem dX1_isTold_58 : decode cX1_isTold 58 = .ok (.iconst 0, 1) := dk_3 (dk_at dksX1_isTold_2 11 rfl rfl)
theorem dX1_isTold_59 : decode cX1_isTold 59 = .ok (.ireturn, 1) := dk_172 (dk_at dksX1_isTold_2 12 rfl rfl)
abbrev cX1_tellNext : ByteArray := prog_1_method_73_code
def yX1_tellNext : MethodName := ⟨RX1, "tellNext", "()Z"⟩
def dkwX1_tellNext_6 : List UInt8 := [29, 42, 28, 182, 1, 163, 4, 96, 7, 112, 154, 0, 7, 4, 167, 0, 4, 2, 79, 4, 172]
abbrev dktX1_tellNext_6 : List UInt8 := dkwX1_tellNext_6 ++ []
def dkwX1_tellNext_5 : List UInt8 := [167, 255, 151, 28, 2, 160, 0, 5, 3, 172, 42, 16, 6, 29, 96, 182, 1, 160, 42, 180, 0, 86, 28, 50]
abbrev dktX1_tellNext_5 : List UInt8 := dkwX1_tellNext_5 ++ dktX1_tellNext_6
def dkwX1_tellNext_4 : List UInt8 := [180, 0, 89, 21, 4, 46, 60, 21, 4, 61, 21, 5, 62, 132, 5, 1, 167, 255, 172, 132, 4, 1]
abbrev dktX1_tellNext_4 : List UInt8 := dkwX1_tellNext_4 ++ dktX1_tellNext_5
def dkwX1_tellNext_3 : List UInt8 := [16, 6, 21, 5, 96, 182, 1, 160, 42, 180, 0, 89, 21, 4, 46, 27, 161, 0, 6, 167, 0, 17, 42]
abbrev dktX1_tellNext_3 : List UInt8 := dkwX1_tellNext_3 ++ dktX1_tellNext_4
def dkwX1_tellNext_2 : List UInt8 := [21, 5, 46, 153, 0, 56, 42, 180, 0, 86, 21, 4, 50, 21, 5, 46, 153, 0, 6, 167, 0, 40, 42]
abbrev dktX1_tellNext_2 : List UInt8 := dkwX1_tellNext_2 ++ dktX1_tellNext_3
def dkwX1_tellNext_1 : List UInt8 := [54, 5, 21, 5, 42, 180, 0, 220, 180, 0, 9, 162, 0, 78, 42, 180, 0, 220, 180, 0, 13, 21, 4, 50]
abbrev dktX1_tellNext_1 : List UInt8 := dkwX1_tellNext_1 ++ dktX1_tellNext_2
def dkwX1_tellNext_0 : List UInt8 := [19, 1, 145, 60, 2, 61, 2, 62, 3, 54, 4, 21, 4, 42, 180, 0, 220, 180, 0, 17, 162, 0, 99, 3]
abbrev dktX1_tellNext_0 : List UInt8 := dkwX1_tellNext_0 ++ dktX1_tellNext_1
theorem dksX1_tellNext_0 : cX1_tellNext.data.toList.drop 0 = dktX1_tellNext_0 := by decide +kernel
theorem dksX1_tellNext_1 : cX1_tellNext.data.toList.drop 24 = dktX1_tellNext_1 := dk_seg dksX1_tellNext_0 24 rfl rfl
theorem dksX1_tellNext_2 : cX1_tellNext.data.toList.drop 48 = dktX1_tellNext_2 := dk_seg dksX1_tellNext_1 24 rfl rfl
theorem dksX1_tellNext_3 : cX1_tellNext.data.toList.drop 71 = dktX1_tellNext_3 := dk_seg dksX1_tellNext_2 23 rfl rfl
theorem dksX1_tellNext_4 : cX1_tellNext.data.toList.drop 94 = dktX1_tellNext_4 := dk_seg dksX1_tellNext_3 23 rfl rfl
theorem dksX1_tellNext_5 : cX1_tellNext.data.toList.drop 116 = dktX1_tellNext_5 := dk_seg dksX1_tellNext_4 22 rfl rfl
theorem dksX1_tellNext_6 : cX1_tellNext.data.toList.drop 140 = dktX1_tellNext_6 := dk_seg dksX1_tellNext_5 24 rfl rfl
theorem dX1_tellNext_0 : decode cX1_tellNext 0 = .ok (.ldc_w 401, 3) := dk_19 1 145 (dk_at dksX1_tellNext_0 0 rfl rfl)
theorem dX1_tellNext_3 : decode cX1_tellNext 3 = .ok (.istore_n 1, 1) := dk_60 (dk_at dksX1_tellNext_0 3 rfl rfl)
theorem dX1_tellNext_4 : decode cX1_tellNext 4 = .ok (.iconst (-1), 1) := dk_2 (dk_at dksX1_tellNext_0 4 rfl rfl)
theorem dX1_tellNext_5 : decode cX1_tellNext 5 = .ok (.istore_n 2, 1) := dk_61 (dk_at dksX1_tellNext_0 5 rfl rfl)
theorem dX1_tellNext_6 : decode cX1_tellNext 6 = .ok (.iconst (-1), 1) := dk_2 (dk_at dksX1_tellNext_0 6 rfl rfl)
theorem dX1_tellNext_7 : decode cX1_tellNext 7 = .ok (.istore_n 3, 1) := dk_62 (dk_at dksX1_tellNext_0 7 rfl rfl)
theorem dX1_tellNext_8 : decode cX1_tellNext 8 = .ok (.iconst 0, 1) := dk_3 (dk_at dksX1_tellNext_0 8 rfl rfl)
theorem dX1_tellNext_9 : decode cX1_tellNext 9 = .ok (.istore 4, 2) := dk_54 4 (dk_at dksX1_tellNext_0 9 rfl rfl)
theorem dX1_tellNext_11 : decode cX1_tellNext 11 = .ok (.iload 4, 2) := dk_21 4 (dk_at dksX1_tellNext_0 11 rfl rfl)
theorem dX1_tellNext_13 : decode cX1_tellNext 13 = .ok (.aload_n 0, 1) := dk_42 (dk_at dksX1_tellNext_0 13 rfl rfl)
theorem dX1_tellNext_14 : decode cX1_tellNext 14 = .ok (.getfield 220, 3) := dk_180 0 220 (dk_at dksX1_tellNext_0 14 rfl rfl)
theorem dX1_tellNext_17 : decode cX1_tellNext 17 = .ok (.getfield 17, 3) := dk_180 0 17 (dk_at dksX1_tellNext_0 17 rfl rfl)
theorem dX1_tellNext_20 : decode cX1_tellNext 20 = .ok (.if_icmp .ge 99, 3) := dk_162 0 99 (dk_at dksX1_tellNext_0 20 rfl rfl)
theorem dX1_tellNext_23 : decode cX1_tellNext 23 = .ok (.iconst 0, 1) := dk_3 (dk_at dksX1_tellNext_0 23 rfl rfl)
theorem dX1_tellNext_24 : decode cX1_tellNext 24 = .ok (.istore 5, 2) := dk_54 5 (dk_at dksX1_tellNext_1 0 rfl rfl)
theorem dX1_tellNext_26 : decode cX1_tellNext 26 = .ok (.iload 5, 2) := dk_21 5 (dk_at dksX1_tellNext_1 2 rfl rfl)
theorem dX1_tellNext_28 : decode cX1_tellNext 28 = .ok (.aload_n 0, 1) := dk_42 (dk_at dksX1_tellNext_1 4 rfl rfl)
theorem dX1_tellNext_29 : decode cX1_tellNext 29 = .ok (.getfield 220, 3) := dk_180 0 220 (dk_at dksX1_tellNext_1 5 rfl rfl)
theorem dX1_tellNext_32 : decode cX1_tellNext 32 = .ok (.getfield 9, 3) := dk_180 0 9 (dk_at dksX1_tellNext_1 8 rfl rfl)
theorem dX1_tellNext_35 : decode cX1_tellNext 35 = .ok (.if_icmp .ge 78, 3) := dk_162 0 78 (dk_at dksX1_tellNext_1 11 rfl rfl)
theorem dX1_tellNext_38 : decode cX1_tellNext 38 = .ok (.aload_n 0, 1) := dk_42 (dk_at dksX1_tellNext_1 14 rfl rfl)
theorem dX1_tellNext_39 : decode cX1_tellNext 39 = .ok (.getfield 220, 3) := dk_180 0 220 (dk_at dksX1_tellNext_1 15 rfl rfl)
theorem dX1_tellNext_42 : decode cX1_tellNext 42 = .ok (.getfield 13, 3) := dk_180 0 13 (dk_at dksX1_tellNext_1 18 rfl rfl)
theorem dX1_tellNext_45 : decode cX1_tellNext 45 = .ok (.iload 4, 2) := dk_21 4 (dk_at dksX1_tellNext_1 21 rfl rfl)
theorem dX1_tellNext_47 : decode cX1_tellNext 47 = .ok (.aaload, 1) := dk_50 (dk_at dksX1_tellNext_1 23 rfl rfl)
theorem dX1_tellNext_48 : decode cX1_tellNext 48 = .ok (.iload 5, 2) := dk_21 5 (dk_at dksX1_tellNext_2 0 rfl rfl)
theorem dX1_tellNext_50 : decode cX1_tellNext 50 = .ok (.iaload, 1) := dk_46 (dk_at dksX1_tellNext_2 2 rfl rfl)
theorem dX1_tellNext_51 : decode cX1_tellNext 51 = .ok (.ifCond .eq 56, 3) := dk_153 0 56 (dk_at dksX1_tellNext_2 3 rfl rfl)
theorem dX1_tellNext_54 : decode cX1_tellNext 54 = .ok (.aload_n 0, 1) := dk_42 (dk_at dksX1_tellNext_2 6 rfl rfl)
theorem dX1_tellNext_55 : decode cX1_tellNext 55 = .ok (.getfield 86, 3) := dk_180 0 86 (dk_at dksX1_tellNext_2 7 rfl rfl)
theorem dX1_tellNext_58 : decode cX1_tellNext 58 = .ok (.iload 4, 2) := dk_21 4 (dk_at dksX1_tellNext_2 10 rfl rfl)
theorem dX1_tellNext_60 : decode cX1_tellNext 60 = .ok (.aaload, 1) := dk_50 (dk_at dksX1_tellNext_2 12 rfl rfl)
theorem dX1_tellNext_61 : decode cX1_tellNext 61 = .ok (.iload 5, 2) := dk_21 5 (dk_at dksX1_tellNext_2 13 rfl rfl)
theorem dX1_tellNext_63 : decode cX1_tellNext 63 = .ok (.iaload, 1) := dk_46 (dk_at dksX1_tellNext_2 15 rfl rfl)
theorem dX1_tellNext_64 : decode cX1_tellNext 64 = .ok (.ifCond .eq 6, 3) := dk_153 0 6 (dk_at dksX1_tellNext_2 16 rfl rfl)
theorem dX1_tellNext_67 : decode cX1_tellNext 67 = .ok (.goto 40, 3) := dk_167 0 40 (dk_at dksX1_tellNext_2 19 rfl rfl)
theorem dX1_tellNext_70 : decode cX1_tellNext 70 = .ok (.aload_n 0, 1) := dk_42 (dk_at dksX1_tellNext_2 22 rfl rfl)
theorem dX1_tellNext_71 : decode cX1_tellNext 71 = .ok (.bipush 6, 2) := dk_16 6 (dk_at dksX1_tellNext_3 0 rfl rfl)
theorem dX1_tellNext_73 : decode cX1_tellNext 73 = .ok (.iload 5, 2) := dk_21 5 (dk_at dksX1_tellNext_3 2 rfl rfl)
theorem dX1_tellNext_75 : decode cX1_tellNext 75 = .ok (.iadd, 1) := dk_96 (dk_at dksX1_tellNext_3 4 rfl rfl)
theorem dX1_tellNext_76 : decode cX1_tellNext 76 = .ok (.invokevirtual 416, 3) := dk_182 1 160 (dk_at dksX1_tellNext_3 5 rfl rfl)
theorem dX1_tellNext_79 : decode cX1_tellNext 79 = .ok (.aload_n 0, 1) := dk_42 (dk_at dksX1_tellNext_3 8 rfl rfl)
theorem dX1_tellNext_80 : decode cX1_tellNext 80 = .ok (.getfield 89, 3) := dk_180 0 89 (dk_at dksX1_tellNext_3 9 rfl rfl)
theorem dX1_tellNext_83 : decode cX1_tellNext 83 = .ok (.iload 4, 2) := dk_21 4 (dk_at dksX1_tellNext_3 12 rfl rfl)
theorem dX1_tellNext_85 : decode cX1_tellNext 85 = .ok (.iaload, 1) := dk_46 (dk_at dksX1_tellNext_3 14 rfl rfl)
theorem dX1_tellNext_86 : decode cX1_tellNext 86 = .ok (.iload_n 1, 1) := dk_27 (dk_at dksX1_tellNext_3 15 rfl rfl)
theorem dX1_tellNext_87 : decode cX1_tellNext 87 = .ok (.if_icmp .lt 6, 3) := dk_161 0 6 (dk_at dksX1_tellNext_3 16 rfl rfl)
theorem dX1_tellNext_90 : decode cX1_tellNext 90 = .ok (.goto 17, 3) := dk_167 0 17 (dk_at dksX1_tellNext_3 19 rfl rfl)
theorem dX1_tellNext_93 : decode cX1_tellNext 93 = .ok (.aload_n 0, 1) := dk_42 (dk_at dksX1_tellNext_3 22 rfl rfl)
theorem dX1_tellNext_94 : decode cX1_tellNext 94 = .ok (.getfield 89, 3) := dk_180 0 89 (dk_at dksX1_tellNext_4 0 rfl rfl)
theorem dX1_tellNext_97 : decode cX1_tellNext 97 = .ok (.iload 4, 2) := dk_21 4 (dk_at dksX1_tellNext_4 3 rfl rfl)
theorem dX1_tellNext_99 : decode cX1_tellNext 99 = .ok (.iaload, 1) := dk_46 (dk_at dksX1_tellNext_4 5 rfl rfl)
theorem dX1_tellNext_100 : decode cX1_tellNext 100 = .ok (.istore_n 1, 1) := dk_60 (dk_at dksX1_tellNext_4 6 rfl rfl)
theorem dX1_tellNext_101 : decode cX1_tellNext 101 = .ok (.iload 4, 2) := dk_21 4 (dk_at dksX1_tellNext_4 7 rfl rfl)
theorem dX1_tellNext_103 : decode cX1_tellNext 103 = .ok (.istore_n 2, 1) := dk_61 (dk_at dksX1_tellNext_4 9 rfl rfl)
theorem dX1_tellNext_104 : decode cX1_tellNext 104 = .ok (.iload 5, 2) := dk_21 5 (dk_at dksX1_tellNext_4 10 rfl rfl)
theorem dX1_tellNext_106 : decode cX1_tellNext 106 = .ok (.istore_n 3, 1) := dk_62 (dk_at dksX1_tellNext_4 12 rfl rfl)
theorem dX1_tellNext_107 : decode cX1_tellNext 107 = .ok (.iinc 5 1, 3) := dk_132 5 1 (dk_at dksX1_tellNext_4 13 rfl rfl)
theorem dX1_tellNext_110 : decode cX1_tellNext 110 = .ok (.goto (-84), 3) := dk_167 255 172 (dk_at dksX1_tellNext_4 16 rfl rfl)
theorem dX1_tellNext_113 : decode cX1_tellNext 113 = .ok (.iinc 4 1, 3) := dk_132 4 1 (dk_at dksX1_tellNext_4 19 rfl rfl)
theorem dX1_tellNext_116 : decode cX1_tellNext 116 = .ok (.goto (-105), 3) := dk_167 255 151 (dk_at dksX1_tellNext_5 0 rfl rfl)
theorem dX1_tellNext_119 : decode cX1_tellNext 119 = .ok (.iload_n 2, 1) := dk_28 (dk_at dksX1_tellNext_5 3 rfl rfl)
theorem dX1_tellNext_120 : decode cX1_tellNext 120 = .ok (.iconst (-1), 1) := dk_2 (dk_at dksX1_tellNext_5 4 rfl rfl)
theorem dX1_tellNext_121 : decode cX1_tellNext 121 = .ok (.if_icmp .ne 5, 3) := dk_160 0 5 (dk_at dksX1_tellNext_5 5 rfl rfl)
theorem dX1_tellNext_124 : decode cX1_tellNext 124 = .ok (.iconst 0, 1) := dk_3 (dk_at dksX1_tellNext_5 8 rfl rfl)
theorem dX1_tellNext_125 : decode cX1_tellNext 125 = .ok (.ireturn, 1) := dk_172 (dk_at dksX1_tellNext_5 9 rfl rfl)
theorem dX1_tellNext_126 : decode cX1_tellNext 126 = .ok (.aload_n 0, 1) := dk_42 (dk_at dksX1_tellNext_5 10 rfl rfl)
theorem dX1_tellNext_127 : decode cX1_tellNext 127 = .ok (.bipush 6, 2) := dk_16 6 (dk_at dksX1_tellNext_5 11 rfl rfl)
theorem dX1_tellNext_129 : decode cX1_tellNext 129 = .ok (.iload_n 3, 1) := dk_29 (dk_at dksX1_tellNext_5 13 rfl rfl)
theorem dX1_tellNext_130 : decode cX1_tellNext 130 = .ok (.iadd, 1) := dk_96 (dk_at dksX1_tellNext_5 14 rfl rfl)
theorem dX1_tellNext_131 : decode cX1_tellNext 131 = .ok (.invokevirtual 416, 3) := dk_182 1 160 (dk_at dksX1_tellNext_5 15 rfl rfl)
theorem dX1_tellNext_134 : decode cX1_tellNext 134 = .ok (.aload_n 0, 1) := dk_42 (dk_at dksX1_tellNext_5 18 rfl rfl)
theorem dX1_tellNext_135 : decode cX1_tellNext 135 = .ok (.getfield 86, 3) := dk_180 0 86 (dk_at dksX1_tellNext_5 19 rfl rfl)
theorem dX1_tellNext_138 : decode cX1_tellNext 138 = .ok (.iload_n 2, 1) := dk_28 (dk_at dksX1_tellNext_5 22 rfl rfl)
theorem dX1_tellNext_139 : decode cX1_tellNext 139 = .ok (.aaload, 1) := dk_50 (dk_at dksX1_tellNext_5 23 rfl rfl)
theorem dX1_tellNext_140 : decode cX1_tellNext 140 = .ok (.iload_n 3, 1) := dk_29 (dk_at dksX1_tellNext_6 0 rfl rfl)
theorem dX1_tellNext_141 : decode cX1_tellNext 141 = .ok (.aload_n 0, 1) := dk_42 (dk_at dksX1_tellNext_6 1 rfl rfl)
theorem dX1_tellNext_142 : decode cX1_tellNext 142 = .ok (.iload_n 2, 1) := dk_28 (dk_at dksX1_tellNext_6 2 rfl rfl)
theorem dX1_tellNext_143 : decode cX1_tellNext 143 = .ok (.invokevirtual 419, 3) := dk_182 1 163 (dk_at dksX1_tellNext_6 3 rfl rfl)
theorem dX1_tellNext_146 : decode cX1_tellNext 146 = .ok (.iconst 1, 1) := dk_4 (dk_at dksX1_tellNext_6 6 rfl rfl)
theorem dX1_tellNext_147 : decode cX1_tellNext 147 = .ok (.iadd, 1) := dk_96 (dk_at dksX1_tellNext_6 7 rfl rfl)
theorem dX1_tellNext_148 : decode cX1_tellNext 148 = .ok (.iconst 4, 1) := dk_7 (dk_at dksX1_tellNext_6 8 rfl rfl)
theorem dX1_tellNext_149 : decode cX1_tellNext 149 = .ok (.irem, 1) := dk_112 (dk_at dksX1_tellNext_6 9 rfl rfl)
theorem dX1_tellNext_150 : decode cX1_tellNext 150 = .ok (.ifCond .ne 7, 3) := dk_154 0 7 (dk_at dksX1_tellNext_6 10 rfl rfl)
theorem dX1_tellNext_153 : decode cX1_tellNext 153 = .ok (.iconst 1, 1) := dk_4 (dk_at dksX1_tellNext_6 13 rfl rfl)
theorem dX1_tellNext_154 : decode cX1_tellNext 154 = .ok (.goto 4, 3) := dk_167 0 4 (dk_at dksX1_tellNext_6 14 rfl rfl)
theorem dX1_tellNext_157 : decode cX1_tellNext 157 = .ok (.iconst (-1), 1) := dk_2 (dk_at dksX1_tellNext_6 17 rfl rfl)
theorem dX1_tellNext_158 : decode cX1_tellNext 158 = .ok (.iastore, 1) := dk_79 (dk_at dksX1_tellNext_6 18 rfl rfl)
theorem dX1_tellNext_159 : decode cX1_tellNext 159 = .ok (.iconst 1, 1) := dk_4 (dk_at dksX1_tellNext_6 19 rfl rfl)
theorem dX1_tellNext_160 : decode cX1_tellNext 160 = .ok (.ireturn, 1) := dk_172 (dk_at dksX1_tellNext_6 20 rfl rfl)
abbrev cX1_signsOnWay : ByteArray := prog_1_method_72_code
def yX1_signsOnWay : MethodName := ⟨RX1, "signsOnWay", "(I)I"⟩
def dkwX1_signsOnWay_4 : List UInt8 := [172]
abbrev dktX1_signsOnWay_4 : List UInt8 := dkwX1_signsOnWay_4 ++ []
def dkwX1_signsOnWay_3 : List UInt8 := [167, 0, 15, 42, 180, 0, 86, 21, 4, 50, 29, 16, 6, 100, 46, 96, 61, 21, 4, 62, 167, 255, 171, 28]
abbrev dktX1_signsOnWay_3 : List UInt8 := dkwX1_signsOnWay_3 ++ dktX1_signsOnWay_4
def dkwX1_signsOnWay_2 : List UInt8 := [167, 255, 225, 28, 29, 16, 6, 162, 0, 18, 42, 180, 0, 86, 29, 50, 21, 4, 16, 6, 100, 46]
abbrev dktX1_signsOnWay_2 : List UInt8 := dkwX1_signsOnWay_2 ++ dktX1_signsOnWay_3
def dkwX1_signsOnWay_1 : List UInt8 := [153, 0, 21, 42, 180, 0, 89, 21, 4, 46, 42, 180, 0, 89, 29, 46, 4, 100, 159, 0, 9, 132, 4, 1]
abbrev dktX1_signsOnWay_1 : List UInt8 := dkwX1_signsOnWay_1 ++ dktX1_signsOnWay_2
def dkwX1_signsOnWay_0 : List UInt8 := [3, 61, 27, 62, 42, 180, 0, 89, 29, 46, 158, 0, 82, 3, 54, 4, 42, 29, 21, 4, 182, 1, 157]
abbrev dktX1_signsOnWay_0 : List UInt8 := dkwX1_signsOnWay_0 ++ dktX1_signsOnWay_1
theorem dksX1_signsOnWay_0 : cX1_signsOnWay.data.toList.drop 0 = dktX1_signsOnWay_0 := by decide +kernel
theorem dksX1_signsOnWay_1 : cX1_signsOnWay.data.toList.drop 23 = dktX1_signsOnWay_1 := dk_seg dksX1_signsOnWay_0 23 rfl rfl
theorem dksX1_signsOnWay_2 : cX1_signsOnWay.data.toList.drop 47 = dktX1_signsOnWay_2 := dk_seg dksX1_signsOnWay_1 24 rfl rfl
theorem dksX1_signsOnWay_3 : cX1_signsOnWay.data.toList.drop 69 = dktX1_signsOnWay_3 := dk_seg dksX1_signsOnWay_2 22 rfl rfl
theorem dksX1_signsOnWay_4 : cX1_signsOnWay.data.toList.drop 93 = dktX1_signsOnWay_4 := dk_seg dksX1_signsOnWay_3 24 rfl rfl
theorem dX1_signsOnWay_0 : decode cX1_signsOnWay 0 = .ok (.iconst 0, 1) := dk_3 (dk_at dksX1_signsOnWay_0 0 rfl rfl)
theorem dX1_signsOnWay_1 : decode cX1_signsOnWay 1 = .ok (.istore_n 2, 1) := dk_61 (dk_at dksX1_signsOnWay_0 1 rfl rfl)
theorem dX1_signsOnWay_2 : decode cX1_signsOnWay 2 = .ok (.iload_n 1, 1) := dk_27 (dk_at dksX1_signsOnWay_0 2 rfl rfl)
theorem dX1_signsOnWay_3 : decode cX1_signsOnWay 3 = .ok (.istore_n 3, 1) := dk_62 (dk_at dksX1_signsOnWay_0 3 rfl rfl)
theorem dX1_signsOnWay_4 : decode cX1_signsOnWay 4 = .ok (.aload_n 0, 1) := dk_42 (dk_at dksX1_signsOnWay_0 4 rfl rfl)
theorem dX1_signsOnWay_5 : decode cX1_signsOnWay 5 = .ok (.getfield 89, 3) := dk_180 0 89 (dk_at dksX1_signsOnWay_0 5 rfl rfl)
theorem dX1_signsOnWay_8 : decode cX1_signsOnWay 8 = .ok (.iload_n 3, 1) := dk_29 (dk_at dksX1_signsOnWay_0 8 rfl rfl)
theorem dX1_signsOnWay_9 : decode cX1_signsOnWay 9 = .ok (.iaload, 1) := dk_46 (dk_at dksX1_signsOnWay_0 9 rfl rfl)
theorem dX1_signsOnWay_10 : decode cX1_signsOnWay 10 = .ok (.ifCond .le 82, 3) := dk_158 0 82 (dk_at dksX1_signsOnWay_0 10 rfl rfl)
theorem dX1_signsOnWay_13 : decode cX1_signsOnWay 13 = .ok (.iconst 0, 1) := dk_3 (dk_at dksX1_signsOnWay_0 13 rfl rfl)
theorem dX1_signsOnWay_14 : decode cX1_signsOnWay 14 = .ok (.istore 4, 2) := dk_54 4 (dk_at dksX1_signsOnWay_0 14 rfl rfl)
theorem dX1_signsOnWay_16 : decode cX1_signsOnWay 16 = .ok (.aload_n 0, 1) := dk_42 (dk_at dksX1_signsOnWay_0 16 rfl rfl)
theorem dX1_signsOnWay_17 : decode cX1_signsOnWay 17 = .ok (.iload_n 3, 1) := dk_29 (dk_at dksX1_signsOnWay_0 17 rfl rfl)
theorem dX1_signsOnWay_18 : decode cX1_signsOnWay 18 = .ok (.iload 4, 2) := dk_21 4 (dk_at dksX1_signsOnWay_0 18 rfl rfl)
theorem dX1_signsOnWay_20 : decode cX1_signsOnWay 20 = .ok (.invokevirtual 413, 3) := dk_182 1 157 (dk_at dksX1_signsOnWay_0 20 rfl rfl)
theorem dX1_signsOnWay_23 : decode cX1_signsOnWay 23 = .ok (.ifCond .eq 21, 3) := dk_153 0 21 (dk_at dksX1_signsOnWay_1 0 rfl rfl)
theorem dX1_signsOnWay_26 : decode cX1_signsOnWay 26 = .ok (.aload_n 0, 1) := dk_42 (dk_at dksX1_signsOnWay_1 3 rfl rfl)
theorem dX1_signsOnWay_27 : decode cX1_signsOnWay 27 = .ok (.getfield 89, 3) := dk_180 0 89 (dk_at dksX1_signsOnWay_1 4 rfl rfl)
theorem dX1_signsOnWay_30 : decode cX1_signsOnWay 30 = .ok (.iload 4, 2) := dk_21 4 (dk_at dksX1_signsOnWay_1 7 rfl rfl)
theorem dX1_signsOnWay_32 : decode cX1_signsOnWay 32 = .ok (.iaload, 1) := dk_46 (dk_at dksX1_signsOnWay_1 9 rfl rfl)
theorem dX1_signsOnWay_33 : decode cX1_signsOnWay 33 = .ok (.aload_n 0, 1) := dk_42 (dk_at dksX1_signsOnWay_1 10 rfl rfl)
theorem dX1_signsOnWay_34 : decode cX1_signsOnWay 34 = .ok (.getfield 89, 3) := dk_180 0 89 (dk_at dksX1_signsOnWay_1 11 rfl rfl)
theorem dX1_signsOnWay_37 : decode cX1_signsOnWay 37 = .ok (.iload_n 3, 1) := dk_29 (dk_at dksX1_signsOnWay_1 14 rfl rfl)
theorem dX1_signsOnWay_38 : decode cX1_signsOnWay 38 = .ok (.iaload, 1) := dk_46 (dk_at dksX1_signsOnWay_1 15 rfl rfl)
theorem dX1_signsOnWay_39 : decode cX1_signsOnWay 39 = .ok (.iconst 1, 1) := dk_4 (dk_at dksX1_signsOnWay_1 16 rfl rfl)
theorem dX1_signsOnWay_40 : decode cX1_signsOnWay 40 = .ok (.isub, 1) := dk_100 (dk_at dksX1_signsOnWay_1 17 rfl rfl)
theorem dX1_signsOnWay_41 : decode cX1_signsOnWay 41 = .ok (.if_icmp .eq 9, 3) := dk_159 0 9 (dk_at dksX1_signsOnWay_1 18 rfl rfl)
theorem dX1_signsOnWay_44 : decode cX1_signsOnWay 44 = .ok (.iinc 4 1, 3) := dk_132 4 1 (dk_at dksX1_signsOnWay_1 21 rfl rfl)
theorem dX1_signsOnWay_47 : decode cX1_signsOnWay 47 = .ok (.goto (-31), 3) := dk_167 255 225 (dk_at dksX1_signsOnWay_2 0 rfl rfl)
theorem dX1_signsOnWay_50 : decode cX1_signsOnWay 50 = .ok (.iload_n 2, 1) := dk_28 (dk_at dksX1_signsOnWay_2 3 rfl rfl)
theorem dX1_signsOnWay_51 : decode cX1_signsOnWay 51 = .ok (.iload_n 3, 1) := dk_29 (dk_at dksX1_signsOnWay_2 4 rfl rfl)
theorem dX1_signsOnWay_52 : decode cX1_signsOnWay 52 = .ok (.bipush 6, 2) := dk_16 6 (dk_at dksX1_signsOnWay_2 5 rfl rfl)
theorem dX1_signsOnWay_54 : decode cX1_signsOnWay 54 = .ok (.if_icmp .ge 18, 3) := dk_162 0 18 (dk_at dksX1_signsOnWay_2 7 rfl rfl)
theorem dX1_signsOnWay_57 : decode cX1_signsOnWay 57 = .ok (.aload_n 0, 1) := dk_42 (dk_at dksX1_signsOnWay_2 10 rfl rfl)
theorem dX1_signsOnWay_58 : decode cX1_signsOnWay 58 = .ok (.getfield 86, 3) := dk_180 0 86 (dk_at dksX1_signsOnWay_2 11 rfl rfl)
theorem dX1_signsOnWay_61 : decode cX1_signsOnWay 61 = .ok (.iload_n 3, 1) := dk_29 (dk_at dksX1_signsOnWay_2 14 rfl rfl)
theorem dX1_signsOnWay_62 : decode cX1_signsOnWay 62 = .ok (.aaload, 1) := dk_50 (dk_at dksX1_signsOnWay_2 15 rfl rfl)
theorem dX1_signsOnWay_63 : decode cX1_signsOnWay 63 = .ok (.iload 4, 2) := dk_21 4 (dk_at dksX1_signsOnWay_2 16 rfl rfl)
theorem dX1_signsOnWay_65 : decode cX1_signsOnWay 65 = .ok (.bipush 6, 2) := dk_16 6 (dk_at dksX1_signsOnWay_2 18 rfl rfl)
theorem dX1_signsOnWay_67 : decode cX1_signsOnWay 67 = .ok (.isub, 1) := dk_100 (dk_at dksX1_signsOnWay_2 20 rfl rfl)
theorem dX1_signsOnWay_68 : decode cX1_signsOnWay 68 = .ok (.iaload, 1) := dk_46 (dk_at dksX1_signsOnWay_2 21 rfl rfl)
theorem dX1_signsOnWay_69 : decode cX1_signsOnWay 69 = .ok (.goto 15, 3) := dk_167 0 15 (dk_at dksX1_signsOnWay_3 0 rfl rfl)
theorem dX1_signsOnWay_72 : decode cX1_signsOnWay 72 = .ok (.aload_n 0, 1) := dk_42 (dk_at dksX1_signsOnWay_3 3 rfl rfl)
theorem dX1_signsOnWay_73 : decode cX1_signsOnWay 73 = .ok (.getfield 86, 3) := dk_180 0 86 (dk_at dksX1_signsOnWay_3 4 rfl rfl)
theorem dX1_signsOnWay_76 : decode cX1_signsOnWay 76 = .ok (.iload 4, 2) := dk_21 4 (dk_at dksX1_signsOnWay_3 7 rfl rfl)
theorem dX1_signsOnWay_78 : decode cX1_signsOnWay 78 = .ok (.aaload, 1) := dk_50 (dk_at dksX1_signsOnWay_3 9 rfl rfl)
theorem dX1_signsOnWay_79 : decode cX1_signsOnWay 79 = .ok (.iload_n 3, 1) := dk_29 (dk_at dksX1_signsOnWay_3 10 rfl rfl)
theorem dX1_signsOnWay_80 : decode cX1_signsOnWay 80 = .ok (.bipush 6, 2) := dk_16 6 (dk_at dksX1_signsOnWay_3 11 rfl rfl)
theorem dX1_signsOnWay_82 : decode cX1_signsOnWay 82 = .ok (.isub, 1) := dk_100 (dk_at dksX1_signsOnWay_3 13 rfl rfl)
theorem dX1_signsOnWay_83 : decode cX1_signsOnWay 83 = .ok (.iaload, 1) := dk_46 (dk_at dksX1_signsOnWay_3 14 rfl rfl)
theorem dX1_signsOnWay_84 : decode cX1_signsOnWay 84 = .ok (.iadd, 1) := dk_96 (dk_at dksX1_signsOnWay_3 15 rfl rfl)
theorem dX1_signsOnWay_85 : decode cX1_signsOnWay 85 = .ok (.istore_n 2, 1) := dk_61 (dk_at dksX1_signsOnWay_3 16 rfl rfl)
theorem dX1_signsOnWay_86 : decode cX1_signsOnWay 86 = .ok (.iload 4, 2) := dk_21 4 (dk_at dksX1_signsOnWay_3 17 rfl rfl)
theorem dX1_signsOnWay_88 : decode cX1_signsOnWay 88 = .ok (.istore_n 3, 1) := dk_62 (dk_at dksX1_signsOnWay_3 19 rfl rfl)
theorem dX1_signsOnWay_89 : decode cX1_signsOnWay 89 = .ok (.goto (-85), 3) := dk_167 255 171 (dk_at dksX1_signsOnWay_3 20 rfl rfl)
theorem dX1_signsOnWay_92 : decode cX1_signsOnWay 92 = .ok (.iload_n 2, 1) := dk_28 (dk_at dksX1_signsOnWay_3 23 rfl rfl)
theorem dX1_signsOnWay_93 : decode cX1_signsOnWay 93 = .ok (.ireturn, 1) := dk_172 (dk_at dksX1_signsOnWay_4 0 rfl rfl)
abbrev cX1_regular : ByteArray := prog_1_method_76_code
def yX1_regular : MethodName := ⟨RX1, "regular", "()I"⟩
def dkwX1_regular_4 : List UInt8 := [3, 172]
abbrev dktX1_regular_4 : List UInt8 := dkwX1_regular_4 ++ []
def dkwX1_regular_3 : List UInt8 := [132, 3, 1, 167, 255, 229, 132, 2, 1, 167, 255, 213, 42, 43, 182, 1, 175, 153, 0, 7, 4, 167, 0, 4]
abbrev dktX1_regular_3 : List UInt8 := dkwX1_regular_3 ++ dktX1_regular_4
def dkwX1_regular_2 : List UInt8 := [43, 180, 0, 9, 162, 0, 25, 43, 180, 0, 13, 28, 50, 29, 42, 180, 0, 86, 28, 50, 29, 46, 79]
abbrev dktX1_regular_2 : List UInt8 := dkwX1_regular_2 ++ dktX1_regular_3
def dkwX1_regular_1 : List UInt8 := [42, 180, 0, 220, 180, 0, 9, 183, 0, 20, 76, 3, 61, 28, 43, 180, 0, 17, 162, 0, 41, 3, 62, 29]
abbrev dktX1_regular_1 : List UInt8 := dkwX1_regular_1 ++ dktX1_regular_2
def dkwX1_regular_0 : List UInt8 := [42, 180, 0, 220, 199, 0, 5, 2, 172, 42, 182, 1, 172, 187, 0, 4, 89, 42, 180, 0, 220, 180, 0, 17]
abbrev dktX1_regular_0 : List UInt8 := dkwX1_regular_0 ++ dktX1_regular_1
theorem dksX1_regular_0 : cX1_regular.data.toList.drop 0 = dktX1_regular_0 := by decide +kernel
theorem dksX1_regular_1 : cX1_regular.data.toList.drop 24 = dktX1_regular_1 := dk_seg dksX1_regular_0 24 rfl rfl
theorem dksX1_regular_2 : cX1_regular.data.toList.drop 48 = dktX1_regular_2 := dk_seg dksX1_regular_1 24 rfl rfl
theorem dksX1_regular_3 : cX1_regular.data.toList.drop 71 = dktX1_regular_3 := dk_seg dksX1_regular_2 23 rfl rfl
theorem dksX1_regular_4 : cX1_regular.data.toList.drop 95 = dktX1_regular_4 := dk_seg dksX1_regular_3 24 rfl rfl
theorem dX1_regular_0 : decode cX1_regular 0 = .ok (.aload_n 0, 1) := dk_42 (dk_at dksX1_regular_0 0 rfl rfl)
theorem dX1_regular_1 : decode cX1_regular 1 = .ok (.getfield 220, 3) := dk_180 0 220 (dk_at dksX1_regular_0 1 rfl rfl)
theorem dX1_regular_4 : decode cX1_regular 4 = .ok (.ifnonnull 5, 3) := dk_199 0 5 (dk_at dksX1_regular_0 4 rfl rfl)
theorem dX1_regular_7 : decode cX1_regular 7 = .ok (.iconst (-1), 1) := dk_2 (dk_at dksX1_regular_0 7 rfl rfl)
theorem dX1_regular_8 : decode cX1_regular 8 = .ok (.ireturn, 1) := dk_172 (dk_at dksX1_regular_0 8 rfl rfl)
theorem dX1_regular_9 : decode cX1_regular 9 = .ok (.aload_n 0, 1) := dk_42 (dk_at dksX1_regular_0 9 rfl rfl)
theorem dX1_regular_10 : decode cX1_regular 10 = .ok (.invokevirtual 428, 3) := dk_182 1 172 (dk_at dksX1_regular_0 10 rfl rfl)
theorem dX1_regular_13 : decode cX1_regular 13 = .ok (.new 4, 3) := dk_187 0 4 (dk_at dksX1_regular_0 13 rfl rfl)
theorem dX1_regular_16 : decode cX1_regular 16 = .ok (.dup, 1) := dk_89 (dk_at dksX1_regular_0 16 rfl rfl)
theorem dX1_regular_17 : decode cX1_regular 17 = .ok (.aload_n 0, 1) := dk_42 (dk_at dksX1_regular_0 17 rfl rfl)
theorem dX1_regular_18 : decode cX1_regular 18 = .ok (.getfield 220, 3) := dk_180 0 220 (dk_at dksX1_regular_0 18 rfl rfl)
theorem dX1_regular_21 : decode cX1_regular 21 = .ok (.getfield 17, 3) := dk_180 0 17 (dk_at dksX1_regular_0 21 rfl rfl)
theorem dX1_regular_24 : decode cX1_regular 24 = .ok (.aload_n 0, 1) := dk_42 (dk_at dksX1_regular_1 0 rfl rfl)
theorem dX1_regular_25 : decode cX1_regular 25 = .ok (.getfield 220, 3) := dk_180 0 220 (dk_at dksX1_regular_1 1 rfl rfl)
theorem dX1_regular_28 : decode cX1_regular 28 = .ok (.getfield 9, 3) := dk_180 0 9 (dk_at dksX1_regular_1 4 rfl rfl)
theorem dX1_regular_31 : decode cX1_regular 31 = .ok (.invokespecial 20, 3) := dk_183 0 20 (dk_at dksX1_regular_1 7 rfl rfl)
theorem dX1_regular_34 : decode cX1_regular 34 = .ok (.astore_n 1, 1) := dk_76 (dk_at dksX1_regular_1 10 rfl rfl)
theorem dX1_regular_35 : decode cX1_regular 35 = .ok (.iconst 0, 1) := dk_3 (dk_at dksX1_regular_1 11 rfl rfl)
theorem dX1_regular_36 : decode cX1_regular 36 = .ok (.istore_n 2, 1) := dk_61 (dk_at dksX1_regular_1 12 rfl rfl)
theorem dX1_regular_37 : decode cX1_regular 37 = .ok (.iload_n 2, 1) := dk_28 (dk_at dksX1_regular_1 13 rfl rfl)
theorem dX1_regular_38 : decode cX1_regular 38 = .ok (.aload_n 1, 1) := dk_43 (dk_at dksX1_regular_1 14 rfl rfl)
theorem dX1_regular_39 : decode cX1_regular 39 = .ok (.getfield 17, 3) := dk_180 0 17 (dk_at dksX1_regular_1 15 rfl rfl)
theorem dX1_regular_42 : decode cX1_regular 42 = .ok (.if_icmp .ge 41, 3) := dk_162 0 41 (dk_at dksX1_regular_1 18 rfl rfl)
theorem dX1_regular_45 : decode cX1_regular 45 = .ok (.iconst 0, 1) := dk_3 (dk_at dksX1_regular_1 21 rfl rfl)
theorem dX1_regular_46 : decode cX1_regular 46 = .ok (.istore_n 3, 1) := dk_62 (dk_at dksX1_regular_1 22 rfl rfl)
theorem dX1_regular_47 : decode cX1_regular 47 = .ok (.iload_n 3, 1) := dk_29 (dk_at dksX1_regular_1 23 rfl rfl)
theorem dX1_regular_48 : decode cX1_regular 48 = .ok (.aload_n 1, 1) := dk_43 (dk_at dksX1_regular_2 0 rfl rfl)
theorem dX1_regular_49 : decode cX1_regular 49 = .ok (.getfield 9, 3) := dk_180 0 9 (dk_at dksX1_regular_2 1 rfl rfl)
theorem dX1_regular_52 : decode cX1_regular 52 = .ok (.if_icmp .ge 25, 3) := dk_162 0 25 (dk_at dksX1_regular_2 4 rfl rfl)
theorem dX1_regular_55 : decode cX1_regular 55 = .ok (.aload_n 1, 1) := dk_43 (dk_at dksX1_regular_2 7 rfl rfl)
theorem dX1_regular_56 : decode cX1_regular 56 = .ok (.getfield 13, 3) := dk_180 0 13 (dk_at dksX1_regular_2 8 rfl rfl)
theorem dX1_regular_59 : decode cX1_regular 59 = .ok (.iload_n 2, 1) := dk_28 (dk_at dksX1_regular_2 11 rfl rfl)
theorem dX1_regular_60 : decode cX1_regular 60 = .ok (.aaload, 1) := dk_50 (dk_at dksX1_regular_2 12 rfl rfl)
theorem dX1_regular_61 : decode cX1_regular 61 = .ok (.iload_n 3, 1) := dk_29 (dk_at dksX1_regular_2 13 rfl rfl)
theorem dX1_regular_62 : decode cX1_regular 62 = .ok (.aload_n 0, 1) := dk_42 (dk_at dksX1_regular_2 14 rfl rfl)
theorem dX1_regular_63 : decode cX1_regular 63 = .ok (.getfield 86, 3) := dk_180 0 86 (dk_at dksX1_regular_2 15 rfl rfl)
theorem dX1_regular_66 : decode cX1_regular 66 = .ok (.iload_n 2, 1) := dk_28 (dk_at dksX1_regular_2 18 rfl rfl)
theorem dX1_regular_67 : decode cX1_regular 67 = .ok (.aaload, 1) := dk_50 (dk_at dksX1_regular_2 19 rfl rfl)
theorem dX1_regular_68 : decode cX1_regular 68 = .ok (.iload_n 3, 1) := dk_29 (dk_at dksX1_regular_2 20 rfl rfl)
theorem dX1_regular_69 : decode cX1_regular 69 = .ok (.iaload, 1) := dk_46 (dk_at dksX1_regular_2 21 rfl rfl)
theorem dX1_regular_70 : decode cX1_regular 70 = .ok (.iastore, 1) := dk_79 (dk_at dksX1_regular_2 22 rfl rfl)
theorem dX1_regular_71 : decode cX1_regular 71 = .ok (.iinc 3 1, 3) := dk_132 3 1 (dk_at dksX1_regular_3 0 rfl rfl)
theorem dX1_regular_74 : decode cX1_regular 74 = .ok (.goto (-27), 3) := dk_167 255 229 (dk_at dksX1_regular_3 3 rfl rfl)
theorem dX1_regular_77 : decode cX1_regular 77 = .ok (.iinc 2 1, 3) := dk_132 2 1 (dk_at dksX1_regular_3 6 rfl rfl)
theorem dX1_regular_80 : decode cX1_regular 80 = .ok (.goto (-43), 3) := dk_167 255 213 (dk_at dksX1_regular_3 9 rfl rfl)
theorem dX1_regular_83 : decode cX1_regular 83 = .ok (.aload_n 0, 1) := dk_42 (dk_at dksX1_regular_3 12 rfl rfl)
theorem dX1_regular_84 : decode cX1_regular 84 = .ok (.aload_n 1, 1) := dk_43 (dk_at dksX1_regular_3 13 rfl rfl)
theorem dX1_regular_85 : decode cX1_regular 85 = .ok (.invokevirtual 431, 3) := dk_182 1 175 (dk_at dksX1_regular_3 14 rfl rfl)
theorem dX1_regular_88 : decode cX1_regular 88 = .ok (.ifCond .eq 7, 3) := dk_153 0 7 (dk_at dksX1_regular_3 17 rfl rfl)
theorem dX1_regular_91 : decode cX1_regular 91 = .ok (.iconst 1, 1) := dk_4 (dk_at dksX1_regular_3 20 rfl rfl)
theorem dX1_regular_92 : decode cX1_regular 92 = .ok (.goto 4, 3) := dk_167 0 4 (dk_at dksX1_regular_3 21 rfl rfl)
theorem dX1_regular_95 : decode cX1_regular 95 = .ok (.iconst 0, 1) := dk_3 (dk_at dksX1_regular_4 0 rfl rfl)
theorem dX1_regular_96 : decode cX1_regular 96 = .ok (.ireturn, 1) := dk_172 (dk_at dksX1_regular_4 1 rfl rfl)
abbrev cX1_scaled : ByteArray := prog_1_method_81_code
def yX1_scaled : MethodName := ⟨RX1, "scaled", "(I)I"⟩
def dkwX1_scaled_4 : List UInt8 := [153, 0, 22, 42, 42, 180, 0, 220, 45, 25, 4, 44, 182, 1, 190, 153, 0, 7, 4, 167, 0, 4, 3, 172]
abbrev dktX1_scaled_4 : List UInt8 := dkwX1_scaled_4 ++ []
def dkwX1_scaled_3 : List UInt8 := [58, 4, 45, 184, 1, 182, 25, 4, 184, 1, 182, 42, 180, 0, 220, 45, 25, 4, 44, 184, 1, 186]
abbrev dktX1_scaled_3 : List UInt8 := dkwX1_scaled_3 ++ dktX1_scaled_4
def dkwX1_scaled_2 : List UInt8 := [180, 0, 9, 42, 180, 0, 220, 180, 0, 9, 159, 0, 5, 3, 172, 16, 6, 188, 10, 78, 16, 6, 188, 10]
abbrev dktX1_scaled_2 : List UInt8 := dkwX1_scaled_2 ++ dktX1_scaled_3
def dkwX1_scaled_1 : List UInt8 := [182, 1, 40, 192, 0, 4, 77, 44, 180, 0, 17, 42, 180, 0, 220, 180, 0, 17, 160, 0, 17, 44]
abbrev dktX1_scaled_1 : List UInt8 := dkwX1_scaled_1 ++ dktX1_scaled_2
def dkwX1_scaled_0 : List UInt8 := [42, 180, 0, 220, 198, 0, 11, 42, 27, 182, 1, 37, 154, 0, 5, 2, 172, 42, 180, 0, 63, 27]
abbrev dktX1_scaled_0 : List UInt8 := dkwX1_scaled_0 ++ dktX1_scaled_1
theorem dksX1_scaled_0 : cX1_scaled.data.toList.drop 0 = dktX1_scaled_0 := by decide +kernel
theorem dksX1_scaled_1 : cX1_scaled.data.toList.drop 22 = dktX1_scaled_1 := dk_seg dksX1_scaled_0 22 rfl rfl
theorem dksX1_scaled_2 : cX1_scaled.data.toList.drop 44 = dktX1_scaled_2 := dk_seg dksX1_scaled_1 22 rfl rfl
theorem dksX1_scaled_3 : cX1_scaled.data.toList.drop 68 = dktX1_scaled_3 := dk_seg dksX1_scaled_2 24 rfl rfl
theorem dksX1_scaled_4 : cX1_scaled.data.toList.drop 90 = dktX1_scaled_4 := dk_seg dksX1_scaled_3 22 rfl rfl
theorem dX1_scaled_0 : decode cX1_scaled 0 = .ok (.aload_n 0, 1) := dk_42 (dk_at dksX1_scaled_0 0 rfl rfl)
theorem dX1_scaled_1 : decode cX1_scaled 1 = .ok (.getfield 220, 3) := dk_180 0 220 (dk_at dksX1_scaled_0 1 rfl rfl)
theorem dX1_scaled_4 : decode cX1_scaled 4 = .ok (.ifnull 11, 3) := dk_198 0 11 (dk_at dksX1_scaled_0 4 rfl rfl)
theorem dX1_scaled_7 : decode cX1_scaled 7 = .ok (.aload_n 0, 1) := dk_42 (dk_at dksX1_scaled_0 7 rfl rfl)
theorem dX1_scaled_8 : decode cX1_scaled 8 = .ok (.iload_n 1, 1) := dk_27 (dk_at dksX1_scaled_0 8 rfl rfl)
theorem dX1_scaled_9 : decode cX1_scaled 9 = .ok (.invokevirtual 293, 3) := dk_182 1 37 (dk_at dksX1_scaled_0 9 rfl rfl)
theorem dX1_scaled_12 : decode cX1_scaled 12 = .ok (.ifCond .ne 5, 3) := dk_154 0 5 (dk_at dksX1_scaled_0 12 rfl rfl)
theorem dX1_scaled_15 : decode cX1_scaled 15 = .ok (.iconst (-1), 1) := dk_2 (dk_at dksX1_scaled_0 15 rfl rfl)
theorem dX1_scaled_16 : decode cX1_scaled 16 = .ok (.ireturn, 1) := dk_172 (dk_at dksX1_scaled_0 16 rfl rfl)
theorem dX1_scaled_17 : decode cX1_scaled 17 = .ok (.aload_n 0, 1) := dk_42 (dk_at dksX1_scaled_0 17 rfl rfl)
theorem dX1_scaled_18 : decode cX1_scaled 18 = .ok (.getfield 63, 3) := dk_180 0 63 (dk_at dksX1_scaled_0 18 rfl rfl)
theorem dX1_scaled_21 : decode cX1_scaled 21 = .ok (.iload_n 1, 1) := dk_27 (dk_at dksX1_scaled_0 21 rfl rfl)
theorem dX1_scaled_22 : decode cX1_scaled 22 = .ok (.invokevirtual 296, 3) := dk_182 1 40 (dk_at dksX1_scaled_1 0 rfl rfl)
theorem dX1_scaled_25 : decode cX1_scaled 25 = .ok (.checkcast 4, 3) := dk_192 0 4 (dk_at dksX1_scaled_1 3 rfl rfl)
theorem dX1_scaled_28 : decode cX1_scaled 28 = .ok (.astore_n 2, 1) := dk_77 (dk_at dksX1_scaled_1 6 rfl rfl)
theorem dX1_scaled_29 : decode cX1_scaled 29 = .ok (.aload_n 2, 1) := dk_44 (dk_at dksX1_scaled_1 7 rfl rfl)
theorem dX1_scaled_30 : decode cX1_scaled 30 = .ok (.getfield 17, 3) := dk_180 0 17 (dk_at dksX1_scaled_1 8 rfl rfl)
theorem dX1_scaled_33 : decode cX1_scaled 33 = .ok (.aload_n 0, 1) := dk_42 (dk_at dksX1_scaled_1 11 rfl rfl)
theorem dX1_scaled_34 : decode cX1_scaled 34 = .ok (.getfield 220, 3) := dk_180 0 220 (dk_at dksX1_scaled_1 12 rfl rfl)
theorem dX1_scaled_37 : decode cX1_scaled 37 = .ok (.getfield 17, 3) := dk_180 0 17 (dk_at dksX1_scaled_1 15 rfl rfl)
theorem dX1_scaled_40 : decode cX1_scaled 40 = .ok (.if_icmp .ne 17, 3) := dk_160 0 17 (dk_at dksX1_scaled_1 18 rfl rfl)
theorem dX1_scaled_43 : decode cX1_scaled 43 = .ok (.aload_n 2, 1) := dk_44 (dk_at dksX1_scaled_1 21 rfl rfl)
theorem dX1_scaled_44 : decode cX1_scaled 44 = .ok (.getfield 9, 3) := dk_180 0 9 (dk_at dksX1_scaled_2 0 rfl rfl)
theorem dX1_scaled_47 : decode cX1_scaled 47 = .ok (.aload_n 0, 1) := dk_42 (dk_at dksX1_scaled_2 3 rfl rfl)
theorem dX1_scaled_48 : decode cX1_scaled 48 = .ok (.getfield 220, 3) := dk_180 0 220 (dk_at dksX1_scaled_2 4 rfl rfl)
theorem dX1_scaled_51 : decode cX1_scaled 51 = .ok (.getfield 9, 3) := dk_180 0 9 (dk_at dksX1_scaled_2 7 rfl rfl)
theorem dX1_scaled_54 : decode cX1_scaled 54 = .ok (.if_icmp .eq 5, 3) := dk_159 0 5 (dk_at dksX1_scaled_2 10 rfl rfl)
theorem dX1_scaled_57 : decode cX1_scaled 57 = .ok (.iconst 0, 1) := dk_3 (dk_at dksX1_scaled_2 13 rfl rfl)
theorem dX1_scaled_58 : decode cX1_scaled 58 = .ok (.ireturn, 1) := dk_172 (dk_at dksX1_scaled_2 14 rfl rfl)
theorem dX1_scaled_59 : decode cX1_scaled 59 = .ok (.bipush 6, 2) := dk_16 6 (dk_at dksX1_scaled_2 15 rfl rfl)
theorem dX1_scaled_61 : decode cX1_scaled 61 = .ok (.newarray .int, 2) := dk_188_10 (dk_at dksX1_scaled_2 17 rfl rfl)
theorem dX1_scaled_63 : decode cX1_scaled 63 = .ok (.astore_n 3, 1) := dk_78 (dk_at dksX1_scaled_2 19 rfl rfl)
theorem dX1_scaled_64 : decode cX1_scaled 64 = .ok (.bipush 6, 2) := dk_16 6 (dk_at dksX1_scaled_2 20 rfl rfl)
theorem dX1_scaled_66 : decode cX1_scaled 66 = .ok (.newarray .int, 2) := dk_188_10 (dk_at dksX1_scaled_2 22 rfl rfl)
theorem dX1_scaled_68 : decode cX1_scaled 68 = .ok (.astore 4, 2) := dk_58 4 (dk_at dksX1_scaled_3 0 rfl rfl)
theorem dX1_scaled_70 : decode cX1_scaled 70 = .ok (.aload_n 3, 1) := dk_45 (dk_at dksX1_scaled_3 2 rfl rfl)
theorem dX1_scaled_71 : decode cX1_scaled 71 = .ok (.invokestatic 438, 3) := dk_184 1 182 (dk_at dksX1_scaled_3 3 rfl rfl)
theorem dX1_scaled_74 : decode cX1_scaled 74 = .ok (.aload 4, 2) := dk_25 4 (dk_at dksX1_scaled_3 6 rfl rfl)
theorem dX1_scaled_76 : decode cX1_scaled 76 = .ok (.invokestatic 438, 3) := dk_184 1 182 (dk_at dksX1_scaled_3 8 rfl rfl)
theorem dX1_scaled_79 : decode cX1_scaled 79 = .ok (.aload_n 0, 1) := dk_42 (dk_at dksX1_scaled_3 11 rfl rfl)
theorem dX1_scaled_80 : decode cX1_scaled 80 = .ok (.getfield 220, 3) := dk_180 0 220 (dk_at dksX1_scaled_3 12 rfl rfl)
theorem dX1_scaled_83 : decode cX1_scaled 83 = .ok (.aload_n 3, 1) := dk_45 (dk_at dksX1_scaled_3 15 rfl rfl)
theorem dX1_scaled_84 : decode cX1_scaled 84 = .ok (.aload 4, 2) := dk_25 4 (dk_at dksX1_scaled_3 16 rfl rfl)
theorem dX1_scaled_86 : decode cX1_scaled 86 = .ok (.aload_n 2, 1) := dk_44 (dk_at dksX1_scaled_3 18 rfl rfl)
theorem dX1_scaled_87 : decode cX1_scaled 87 = .ok (.invokestatic 442, 3) := dk_184 1 186 (dk_at dksX1_scaled_3 19 rfl rfl)
theorem dX1_scaled_90 : decode cX1_scaled 90 = .ok (.ifCond .eq 22, 3) := dk_153 0 22 (dk_at dksX1_scaled_4 0 rfl rfl)
theorem dX1_scaled_93 : decode cX1_scaled 93 = .ok (.aload_n 0, 1) := dk_42 (dk_at dksX1_scaled_4 3 rfl rfl)
theorem dX1_scaled_94 : decode cX1_scaled 94 = .ok (.aload_n 0, 1) := dk_42 (dk_at dksX1_scaled_4 4 rfl rfl)
theorem dX1_scaled_95 : decode cX1_scaled 95 = .ok (.getfield 220, 3) := dk_180 0 220 (dk_at dksX1_scaled_4 5 rfl rfl)
theorem dX1_scaled_98 : decode cX1_scaled 98 = .ok (.aload_n 3, 1) := dk_45 (dk_at dksX1_scaled_4 8 rfl rfl)
theorem dX1_scaled_99 : decode cX1_scaled 99 = .ok (.aload 4, 2) := dk_25 4 (dk_at dksX1_scaled_4 9 rfl rfl)
theorem dX1_scaled_101 : decode cX1_scaled 101 = .ok (.aload_n 2, 1) := dk_44 (dk_at dksX1_scaled_4 11 rfl rfl)
theorem dX1_scaled_102 : decode cX1_scaled 102 = .ok (.invokevirtual 446, 3) := dk_182 1 190 (dk_at dksX1_scaled_4 12 rfl rfl)
theorem dX1_scaled_105 : decode cX1_scaled 105 = .ok (.ifCond .eq 7, 3) := dk_153 0 7 (dk_at dksX1_scaled_4 15 rfl rfl)
theorem dX1_scaled_108 : decode cX1_scaled 108 = .ok (.iconst 1, 1) := dk_4 (dk_at dksX1_scaled_4 18 rfl rfl)
theorem dX1_scaled_109 : decode cX1_scaled 109 = .ok (.goto 4, 3) := dk_167 0 4 (dk_at dksX1_scaled_4 19 rfl rfl)
theorem dX1_scaled_112 : decode cX1_scaled 112 = .ok (.iconst 0, 1) := dk_3 (dk_at dksX1_scaled_4 22 rfl rfl)
theorem dX1_scaled_113 : decode cX1_scaled 113 = .ok (.ireturn, 1) := dk_172 (dk_at dksX1_scaled_4 23 rfl rfl)
abbrev cX1_order : ByteArray := prog_1_method_80_code
def yX1_order : MethodName := ⟨RX1, "order", "([I)V"⟩
def dkwX1_order_0 : List UInt8 := [3, 60, 27, 42, 190, 162, 0, 13, 42, 27, 27, 79, 132, 1, 1, 167, 255, 243, 177]
abbrev dktX1_order_0 : List UInt8 := dkwX1_order_0 ++ []
theorem dksX1_order_0 : cX1_order.data.toList.drop 0 = dktX1_order_0 := by decide +kernel
theorem dX1_order_0 : decode cX1_order 0 = .ok (.iconst 0, 1) := dk_3 (dk_at dksX1_order_0 0 rfl rfl)
theorem dX1_order_1 : decode cX1_order 1 = .ok (.istore_n 1, 1) := dk_60 (dk_at dksX1_order_0 1 rfl rfl)
theorem dX1_order_2 : decode cX1_order 2 = .ok (.iload_n 1, 1) := dk_27 (dk_at dksX1_order_0 2 rfl rfl)
theorem dX1_order_3 : decode cX1_order 3 = .ok (.aload_n 0, 1) := dk_42 (dk_at dksX1_order_0 3 rfl rfl)
theorem dX1_order_4 : decode cX1_order 4 = .ok (.arraylength, 1) := dk_190 (dk_at dksX1_order_0 4 rfl rfl)
theorem dX1_order_5 : decode cX1_order 5 = .ok (.if_icmp .ge 13, 3) := dk_162 0 13 (dk_at dksX1_order_0 5 rfl rfl)
theorem dX1_order_8 : decode cX1_order 8 = .ok (.aload_n 0, 1) := dk_42 (dk_at dksX1_order_0 8 rfl rfl)
theorem dX1_order_9 : decode cX1_order 9 = .ok (.iload_n 1, 1) := dk_27 (dk_at dksX1_order_0 9 rfl rfl)
theorem dX1_order_10 : decode cX1_order 10 = .ok (.iload_n 1, 1) := dk_27 (dk_at dksX1_order_0 10 rfl rfl)
theorem dX1_order_11 : decode cX1_order 11 = .ok (.iastore, 1) := dk_79 (dk_at dksX1_order_0 11 rfl rfl)
theorem dX1_order_12 : decode cX1_order 12 = .ok (.iinc 1 1, 3) := dk_132 1 1 (dk_at dksX1_order_0 12 rfl rfl)
theorem dX1_order_15 : decode cX1_order 15 = .ok (.goto (-13), 3) := dk_167 255 243 (dk_at dksX1_order_0 15 rfl rfl)
theorem dX1_order_18 : decode cX1_order 18 = .ok (.return_, 1) := dk_177 (dk_at dksX1_order_0 18 rfl rfl)
abbrev cX1_isLikePlaced : ByteArray := prog_1_method_79_code
def yX1_isLikePlaced : MethodName := ⟨RX1, "isLikePlaced", "(LUnimodularTables$Table;[I[ILUnimodularTables$Table;)Z"⟩
def dkwX1_isLikePlaced_3 : List UInt8 := [132, 5, 1, 167, 255, 199, 132, 4, 1, 167, 255, 181, 4, 172]
abbrev dktX1_isLikePlaced_3 : List UInt8 := dkwX1_isLikePlaced_3 ++ []
def dkwX1_isLikePlaced_2 : List UInt8 := [180, 0, 13, 21, 4, 50, 21, 5, 46, 154, 0, 7, 4, 167, 0, 4, 3, 159, 0, 5, 3, 172]
abbrev dktX1_isLikePlaced_2 : List UInt8 := dkwX1_isLikePlaced_2 ++ dktX1_isLikePlaced_3
def dkwX1_isLikePlaced_1 : List UInt8 := [42, 180, 0, 13, 43, 21, 4, 46, 50, 44, 21, 5, 46, 46, 154, 0, 7, 4, 167, 0, 4, 3, 45]
abbrev dktX1_isLikePlaced_1 : List UInt8 := dkwX1_isLikePlaced_1 ++ dktX1_isLikePlaced_2
def dkwX1_isLikePlaced_0 : List UInt8 := [3, 54, 4, 21, 4, 45, 180, 0, 17, 162, 0, 72, 3, 54, 5, 21, 5, 45, 180, 0, 9, 162, 0, 54]
abbrev dktX1_isLikePlaced_0 : List UInt8 := dkwX1_isLikePlaced_0 ++ dktX1_isLikePlaced_1
theorem dksX1_isLikePlaced_0 : cX1_isLikePlaced.data.toList.drop 0 = dktX1_isLikePlaced_0 := by decide +kernel
theorem dksX1_isLikePlaced_1 : cX1_isLikePlaced.data.toList.drop 24 = dktX1_isLikePlaced_1 := dk_seg dksX1_isLikePlaced_0 24 rfl rfl
theorem dksX1_isLikePlaced_2 : cX1_isLikePlaced.data.toList.drop 47 = dktX1_isLikePlaced_2 := dk_seg dksX1_isLikePlaced_1 23 rfl rfl
theorem dksX1_isLikePlaced_3 : cX1_isLikePlaced.data.toList.drop 69 = dktX1_isLikePlaced_3 := dk_seg dksX1_isLikePlaced_2 22 rfl rfl
theorem dX1_isLikePlaced_0 : decode cX1_isLikePlaced 0 = .ok (.iconst 0, 1) := dk_3 (dk_at dksX1_isLikePlaced_0 0 rfl rfl)
theorem dX1_isLikePlaced_1 : decode cX1_isLikePlaced 1 = .ok (.istore 4, 2) := dk_54 4 (dk_at dksX1_isLikePlaced_0 1 rfl rfl)
theorem dX1_isLikePlaced_3 : decode cX1_isLikePlaced 3 = .ok (.iload 4, 2) := dk_21 4 (dk_at dksX1_isLikePlaced_0 3 rfl rfl)
theorem dX1_isLikePlaced_5 : decode cX1_isLikePlaced 5 = .ok (.aload_n 3, 1) := dk_45 (dk_at dksX1_isLikePlaced_0 5 rfl rfl)
theorem dX1_isLikePlaced_6 : decode cX1_isLikePlaced 6 = .ok (.getfield 17, 3) := dk_180 0 17 (dk_at dksX1_isLikePlaced_0 6 rfl rfl)
theorem dX1_isLikePlaced_9 : decode cX1_isLikePlaced 9 = .ok (.if_icmp .ge 72, 3) := dk_162 0 72 (dk_at dksX1_isLikePlaced_0 9 rfl rfl)
theorem dX1_isLikePlaced_12 : decode cX1_isLikePlaced 12 = .ok (.iconst 0, 1) := dk_3 (dk_at dksX1_isLikePlaced_0 12 rfl rfl)
theorem dX1_isLikePlaced_13 : decode cX1_isLikePlaced 13 = .ok (.istore 5, 2) := dk_54 5 (dk_at dksX1_isLikePlaced_0 13 rfl rfl)
theorem dX1_isLikePlaced_15 : decode cX1_isLikePlaced 15 = .ok (.iload 5, 2) := dk_21 5 (dk_at dksX1_isLikePlaced_0 15 rfl rfl)
theorem dX1_isLikePlaced_17 : decode cX1_isLikePlaced 17 = .ok (.aload_n 3, 1) := dk_45 (dk_at dksX1_isLikePlaced_0 17 rfl rfl)
theorem dX1_isLikePlaced_18 : decode cX1_isLikePlaced 18 = .ok (.getfield 9, 3) := dk_180 0 9 (dk_at dksX1_isLikePlaced_0 18 rfl rfl)
theorem dX1_isLikePlaced_21 : decode cX1_isLikePlaced 21 = .ok (.if_icmp .ge 54, 3) := dk_162 0 54 (dk_at dksX1_isLikePlaced_0 21 rfl rfl)
theorem dX1_isLikePlaced_24 : decode cX1_isLikePlaced 24 = .ok (.aload_n 0, 1) := dk_42 (dk_at dksX1_isLikePlaced_1 0 rfl rfl)
theorem dX1_isLikePlaced_25 : decode cX1_isLikePlaced 25 = .ok (.getfield 13, 3) := dk_180 0 13 (dk_at dksX1_isLikePlaced_1 1 rfl rfl)
theorem dX1_isLikePlaced_28 : decode cX1_isLikePlaced 28 = .ok (.aload_n 1, 1) := dk_43 (dk_at dksX1_isLikePlaced_1 4 rfl rfl)
theorem dX1_isLikePlaced_29 : decode cX1_isLikePlaced 29 = .ok (.iload 4, 2) := dk_21 4 (dk_at dksX1_isLikePlaced_1 5 rfl rfl)
theorem dX1_isLikePlaced_31 : decode cX1_isLikePlaced 31 = .ok (.iaload, 1) := dk_46 (dk_at dksX1_isLikePlaced_1 7 rfl rfl)
theorem dX1_isLikePlaced_32 : decode cX1_isLikePlaced 32 = .ok (.aaload, 1) := dk_50 (dk_at dksX1_isLikePlaced_1 8 rfl rfl)
theorem dX1_isLikePlaced_33 : decode cX1_isLikePlaced 33 = .ok (.aload_n 2, 1) := dk_44 (dk_at dksX1_isLikePlaced_1 9 rfl rfl)
theorem dX1_isLikePlaced_34 : decode cX1_isLikePlaced 34 = .ok (.iload 5, 2) := dk_21 5 (dk_at dksX1_isLikePlaced_1 10 rfl rfl)
theorem dX1_isLikePlaced_36 : decode cX1_isLikePlaced 36 = .ok (.iaload, 1) := dk_46 (dk_at dksX1_isLikePlaced_1 12 rfl rfl)
theorem dX1_isLikePlaced_37 : decode cX1_isLikePlaced 37 = .ok (.iaload, 1) := dk_46 (dk_at dksX1_isLikePlaced_1 13 rfl rfl)
theorem dX1_isLikePlaced_38 : decode cX1_isLikePlaced 38 = .ok (.ifCond .ne 7, 3) := dk_154 0 7 (dk_at dksX1_isLikePlaced_1 14 rfl rfl)
theorem dX1_isLikePlaced_41 : decode cX1_isLikePlaced 41 = .ok (.iconst 1, 1) := dk_4 (dk_at dksX1_isLikePlaced_1 17 rfl rfl)
theorem dX1_isLikePlaced_42 : decode cX1_isLikePlaced 42 = .ok (.goto 4, 3) := dk_167 0 4 (dk_at dksX1_isLikePlaced_1 18 rfl rfl)
theorem dX1_isLikePlaced_45 : decode cX1_isLikePlaced 45 = .ok (.iconst 0, 1) := dk_3 (dk_at dksX1_isLikePlaced_1 21 rfl rfl)
theorem dX1_isLikePlaced_46 : decode cX1_isLikePlaced 46 = .ok (.aload_n 3, 1) := dk_45 (dk_at dksX1_isLikePlaced_1 22 rfl rfl)
theorem dX1_isLikePlaced_47 : decode cX1_isLikePlaced 47 = .ok (.getfield 13, 3) := dk_180 0 13 (dk_at dksX1_isLikePlaced_2 0 rfl rfl)
theorem dX1_isLikePlaced_50 : decode cX1_isLikePlaced 50 = .ok (.iload 4, 2) := dk_21 4 (dk_at dksX1_isLikePlaced_2 3 rfl rfl)
theorem dX1_isLikePlaced_52 : decode cX1_isLikePlaced 52 = .ok (.aaload, 1) := dk_50 (dk_at dksX1_isLikePlaced_2 5 rfl rfl)
theorem dX1_isLikePlaced_53 : decode cX1_isLikePlaced 53 = .ok (.iload 5, 2) := dk_21 5 (dk_at dksX1_isLikePlaced_2 6 rfl rfl)
theorem dX1_isLikePlaced_55 : decode cX1_isLikePlaced 55 = .ok (.iaload, 1) := dk_46 (dk_at dksX1_isLikePlaced_2 8 rfl rfl)
theorem dX1_isLikePlaced_56 : decode cX1_isLikePlaced 56 = .ok (.ifCond .ne 7, 3) := dk_154 0 7 (dk_at dksX1_isLikePlaced_2 9 rfl rfl)
theorem dX1_isLikePlaced_59 : decode cX1_isLikePlaced 59 = .ok (.iconst 1, 1) := dk_4 (dk_at dksX1_isLikePlaced_2 12 rfl rfl)
theorem dX1_isLikePlaced_60 : decode cX1_isLikePlaced 60 = .ok (.goto 4, 3) := dk_167 0 4 (dk_at dksX1_isLikePlaced_2 13 rfl rfl)
theorem dX1_isLikePlaced_63 : decode cX1_isLikePlaced 63 = .ok (.iconst 0, 1) := dk_3 (dk_at dksX1_isLikePlaced_2 16 rfl rfl)
theorem dX1_isLikePlaced_64 : decode cX1_isLikePlaced 64 = .ok (.if_icmp .eq 5, 3) := dk_159 0 5 (dk_at dksX1_isLikePlaced_2 17 rfl rfl)
theorem dX1_isLikePlaced_67 : decode cX1_isLikePlaced 67 = .ok (.iconst 0, 1) := dk_3 (dk_at dksX1_isLikePlaced_2 20 rfl rfl)
theorem dX1_isLikePlaced_68 : decode cX1_isLikePlaced 68 = .ok (.ireturn, 1) := dk_172 (dk_at dksX1_isLikePlaced_2 21 rfl rfl)
theorem dX1_isLikePlaced_69 : decode cX1_isLikePlaced 69 = .ok (.iinc 5 1, 3) := dk_132 5 1 (dk_at dksX1_isLikePlaced_3 0 rfl rfl)
theorem dX1_isLikePlaced_72 : decode cX1_isLikePlaced 72 = .ok (.goto (-57), 3) := dk_167 255 199 (dk_at dksX1_isLikePlaced_3 3 rfl rfl)
theorem dX1_isLikePlaced_75 : decode cX1_isLikePlaced 75 = .ok (.iinc 4 1, 3) := dk_132 4 1 (dk_at dksX1_isLikePlaced_3 6 rfl rfl)
theorem dX1_isLikePlaced_78 : decode cX1_isLikePlaced 78 = .ok (.goto (-75), 3) := dk_167 255 181 (dk_at dksX1_isLikePlaced_3 9 rfl rfl)
theorem dX1_isLikePlaced_81 : decode cX1_isLikePlaced 81 = .ok (.iconst 1, 1) := dk_4 (dk_at dksX1_isLikePlaced_3 12 rfl rfl)
theorem dX1_isLikePlaced_82 : decode cX1_isLikePlaced 82 = .ok (.ireturn, 1) := dk_172 (dk_at dksX1_isLikePlaced_3 13 rfl rfl)
abbrev cX1_isScaled : ByteArray := prog_1_method_78_code
def yX1_isScaled : MethodName := ⟨RX1, "isScaled", "(LUnimodularTables$Table;[I[ILUnimodularTables$Table;)Z"⟩
def dkwX1_isScaled_11 : List UInt8 := [132, 5, 1, 167, 255, 178, 4, 172]
abbrev dktX1_isScaled_11 : List UInt8 := dkwX1_isScaled_11 ++ []
def dkwX1_isScaled_10 : List UInt8 := [104, 25, 4, 180, 0, 13, 21, 5, 50, 21, 6, 46, 159, 0, 5, 3, 172, 132, 6, 1, 167, 255, 197]
abbrev dktX1_isScaled_10 : List UInt8 := dkwX1_isScaled_10 ++ dktX1_isScaled_11
def dkwX1_isScaled_9 : List UInt8 := [21, 5, 46, 50, 45, 21, 6, 46, 46, 42, 180, 0, 99, 21, 5, 46, 104, 42, 180, 0, 102, 21, 6, 46]
abbrev dktX1_isScaled_9 : List UInt8 := dkwX1_isScaled_9 ++ dktX1_isScaled_10
def dkwX1_isScaled_8 : List UInt8 := [180, 0, 17, 162, 0, 74, 3, 54, 6, 21, 6, 25, 4, 180, 0, 9, 162, 0, 55, 43, 180, 0, 13, 44]
abbrev dktX1_isScaled_8 : List UInt8 := dkwX1_isScaled_8 ++ dktX1_isScaled_9
def dkwX1_isScaled_7 : List UInt8 := [132, 7, 1, 167, 255, 186, 167, 255, 172, 132, 5, 1, 167, 255, 132, 3, 54, 5, 21, 5, 25, 4]
abbrev dktX1_isScaled_7 : List UInt8 := dkwX1_isScaled_7 ++ dktX1_isScaled_8
def dkwX1_isScaled_6 : List UInt8 := [25, 4, 180, 0, 13, 21, 7, 50, 21, 8, 46, 182, 1, 178, 128, 54, 6, 132, 8, 1, 167, 255, 205]
abbrev dktX1_isScaled_6 : List UInt8 := dkwX1_isScaled_6 ++ dktX1_isScaled_7
def dkwX1_isScaled_5 : List UInt8 := [162, 0, 47, 21, 6, 42, 21, 7, 21, 8, 43, 180, 0, 13, 44, 21, 7, 46, 50, 45, 21, 8, 46, 46]
abbrev dktX1_isScaled_5 : List UInt8 := dkwX1_isScaled_5 ++ dktX1_isScaled_6
def dkwX1_isScaled_4 : List UInt8 := [54, 7, 21, 7, 25, 4, 180, 0, 17, 162, 0, 66, 3, 54, 8, 21, 8, 25, 4, 180, 0, 9]
abbrev dktX1_isScaled_4 : List UInt8 := dkwX1_isScaled_4 ++ dktX1_isScaled_5
def dkwX1_isScaled_3 : List UInt8 := [167, 0, 101, 42, 180, 0, 99, 21, 5, 4, 79, 4, 54, 6, 21, 6, 153, 0, 85, 3, 54, 6, 3]
abbrev dktX1_isScaled_3 : List UInt8 := dkwX1_isScaled_3 ++ dktX1_isScaled_4
def dkwX1_isScaled_2 : List UInt8 := [3, 54, 5, 21, 5, 25, 4, 180, 0, 17, 162, 0, 120, 42, 180, 0, 99, 21, 5, 46, 153, 0, 6]
abbrev dktX1_isScaled_2 : List UInt8 := dkwX1_isScaled_2 ++ dktX1_isScaled_3
def dkwX1_isScaled_1 : List UInt8 := [3, 54, 5, 21, 5, 16, 6, 162, 0, 17, 42, 180, 0, 102, 21, 5, 3, 79, 132, 5, 1, 167, 255, 238]
abbrev dktX1_isScaled_1 : List UInt8 := dkwX1_isScaled_1 ++ dktX1_isScaled_2
def dkwX1_isScaled_0 : List UInt8 := [3, 54, 5, 21, 5, 16, 6, 162, 0, 17, 42, 180, 0, 99, 21, 5, 3, 79, 132, 5, 1, 167, 255, 238]
abbrev dktX1_isScaled_0 : List UInt8 := dkwX1_isScaled_0 ++ dktX1_isScaled_1
theorem dksX1_isScaled_0 : cX1_isScaled.data.toList.drop 0 = dktX1_isScaled_0 := by decide +kernel
theorem dksX1_isScaled_1 : cX1_isScaled.data.toList.drop 24 = dktX1_isScaled_1 := dk_seg dksX1_isScaled_0 24 rfl rfl
theorem dksX1_isScaled_2 : cX1_isScaled.data.toList.drop 48 = dktX1_isScaled_2 := dk_seg dksX1_isScaled_1 24 rfl rfl
theorem dksX1_isScaled_3 : cX1_isScaled.data.toList.drop 71 = dktX1_isScaled_3 := dk_seg dksX1_isScaled_2 23 rfl rfl
theorem dksX1_isScaled_4 : cX1_isScaled.data.toList.drop 94 = dktX1_isScaled_4 := dk_seg dksX1_isScaled_3 23 rfl rfl
theorem dksX1_isScaled_5 : cX1_isScaled.data.toList.drop 116 = dktX1_isScaled_5 := dk_seg dksX1_isScaled_4 22 rfl rfl
theorem dksX1_isScaled_6 : cX1_isScaled.data.toList.drop 140 = dktX1_isScaled_6 := dk_seg dksX1_isScaled_5 24 rfl rfl
theorem dksX1_isScaled_7 : cX1_isScaled.data.toList.drop 163 = dktX1_isScaled_7 := dk_seg dksX1_isScaled_6 23 rfl rfl
theorem dksX1_isScaled_8 : cX1_isScaled.data.toList.drop 185 = dktX1_isScaled_8 := dk_seg dksX1_isScaled_7 22 rfl rfl
theorem dksX1_isScaled_9 : cX1_isScaled.data.toList.drop 209 = dktX1_isScaled_9 := dk_seg dksX1_isScaled_8 24 rfl rfl
theorem dksX1_isScaled_10 : cX1_isScaled.data.toList.drop 233 = dktX1_isScaled_10 := dk_seg dksX1_isScaled_9 24 rfl rfl
theorem dksX1_isScaled_11 : cX1_isScaled.data.toList.drop 256 = dktX1_isScaled_11 := dk_seg dksX1_isScaled_10 23 rfl rfl
theorem dX1_isScaled_0 : decode cX1_isScaled 0 = .ok (.iconst 0, 1) := dk_3 (dk_at dksX1_isScaled_0 0 rfl rfl)
theorem dX1_isScaled_1 : decode cX1_isScaled 1 = .ok (.istore 5, 2) := dk_54 5 (dk_at dksX1_isScaled_0 1 rfl rfl)
theorem dX1_isScaled_3 : decode cX1_isScaled 3 = .ok (.iload 5, 2) := dk_21 5 (dk_at dksX1_isScaled_0 3 rfl rfl)
theorem dX1_isScaled_5 : decode cX1_isScaled 5 = .ok (.bipush 6, 2) := dk_16 6 (dk_at dksX1_isScaled_0 5 rfl rfl)
theorem dX1_isScaled_7 : decode cX1_isScaled 7 = .ok (.if_icmp .ge 17, 3) := dk_162 0 17 (dk_at dksX1_isScaled_0 7 rfl rfl)
theorem dX1_isScaled_10 : decode cX1_isScaled 10 = .ok (.aload_n 0, 1) := dk_42 (dk_at dksX1_isScaled_0 10 rfl rfl)
theorem dX1_isScaled_11 : decode cX1_isScaled 11 = .ok (.getfield 99, 3) := dk_180 0 99 (dk_at dksX1_isScaled_0 11 rfl rfl)
theorem dX1_isScaled_14 : decode cX1_isScaled 14 = .ok (.iload 5, 2) := dk_21 5 (dk_at dksX1_isScaled_0 14 rfl rfl)
theorem dX1_isScaled_16 : decode cX1_isScaled 16 = .ok (.iconst 0, 1) := dk_3 (dk_at dksX1_isScaled_0 16 rfl rfl)
theorem dX1_isScaled_17 : decode cX1_isScaled 17 = .ok (.iastore, 1) := dk_79 (dk_at dksX1_isScaled_0 17 rfl rfl)
theorem dX1_isScaled_18 : decode cX1_isScaled 18 = .ok (.iinc 5 1, 3) := dk_132 5 1 (dk_at dksX1_isScaled_0 18 rfl rfl)
theorem dX1_isScaled_21 : decode cX1_isScaled 21 = .ok (.goto (-18), 3) := dk_167 255 238 (dk_at dksX1_isScaled_0 21 rfl rfl)
theorem dX1_isScaled_24 : decode cX1_isScaled 24 = .ok (.iconst 0, 1) := dk_3 (dk_at dksX1_isScaled_1 0 rfl rfl)
theorem dX1_isScaled_25 : decode cX1_isScaled 25 = .ok (.istore 5, 2) := dk_54 5 (dk_at dksX1_isScaled_1 1 rfl rfl)
theorem dX1_isScaled_27 : decode cX1_isScaled 27 = .ok (.iload 5, 2) := dk_21 5 (dk_at dksX1_isScaled_1 3 rfl rfl)
theorem dX1_isScaled_29 : decode cX1_isScaled 29 = .ok (.bipush 6, 2) := dk_16 6 (dk_at dksX1_isScaled_1 5 rfl rfl)
theorem dX1_isScaled_31 : decode cX1_isScaled 31 = .ok (.if_icmp .ge 17, 3) := dk_162 0 17 (dk_at dksX1_isScaled_1 7 rfl rfl)
theorem dX1_isScaled_34 : decode cX1_isScaled 34 = .ok (.aload_n 0, 1) := dk_42 (dk_at dksX1_isScaled_1 10 rfl rfl)
theorem dX1_isScaled_35 : decode cX1_isScaled 35 = .ok (.getfield 102, 3) := dk_180 0 102 (dk_at dksX1_isScaled_1 11 rfl rfl)
theorem dX1_isScaled_38 : decode cX1_isScaled 38 = .ok (.iload 5, 2) := dk_21 5 (dk_at dksX1_isScaled_1 14 rfl rfl)
theorem dX1_isScaled_40 : decode cX1_isScaled 40 = .ok (.iconst 0, 1) := dk_3 (dk_at dksX1_isScaled_1 16 rfl rfl)
theorem dX1_isScaled_41 : decode cX1_isScaled 41 = .ok (.iastore, 1) := dk_79 (dk_at dksX1_isScaled_1 17 rfl rfl)
theorem dX1_isScaled_42 : decode cX1_isScaled 42 = .ok (.iinc 5 1, 3) := dk_132 5 1 (dk_at dksX1_isScaled_1 18 rfl rfl)
theorem dX1_isScaled_45 : decode cX1_isScaled 45 = .ok (.goto (-18), 3) := dk_167 255 238 (dk_at dksX1_isScaled_1 21 rfl rfl)
theorem dX1_isScaled_48 : decode cX1_isScaled 48 = .ok (.iconst 0, 1) := dk_3 (dk_at dksX1_isScaled_2 0 rfl rfl)
theorem dX1_isScaled_49 : decode cX1_isScaled 49 = .ok (.istore 5, 2) := dk_54 5 (dk_at dksX1_isScaled_2 1 rfl rfl)
theorem dX1_isScaled_51 : decode cX1_isScaled 51 = .ok (.iload 5, 2) := dk_21 5 (dk_at dksX1_isScaled_2 3 rfl rfl)
theorem dX1_isScaled_53 : decode cX1_isScaled 53 = .ok (.aload 4, 2) := dk_25 4 (dk_at dksX1_isScaled_2 5 rfl rfl)
theorem dX1_isScaled_55 : decode cX1_isScaled 55 = .ok (.getfield 17, 3) := dk_180 0 17 (dk_at dksX1_isScaled_2 7 rfl rfl)
theorem dX1_isScaled_58 : decode cX1_isScaled 58 = .ok (.if_icmp .ge 120, 3) := dk_162 0 120 (dk_at dksX1_isScaled_2 10 rfl rfl)
theorem dX1_isScaled_61 : decode cX1_isScaled 61 = .ok (.aload_n 0, 1) := dk_42 (dk_at dksX1_isScaled_2 13 rfl rfl)
theorem dX1_isScaled_62 : decode cX1_isScaled 62 = .ok (.getfield 99, 3) := dk_180 0 99 (dk_at dksX1_isScaled_2 14 rfl rfl)
theorem dX1_isScaled_65 : decode cX1_isScaled 65 = .ok (.iload 5, 2) := dk_21 5 (dk_at dksX1_isScaled_2 17 rfl rfl)
theorem dX1_isScaled_67 : decode cX1_isScaled 67 = .ok (.iaload, 1) := dk_46 (dk_at dksX1_isScaled_2 19 rfl rfl)
theorem dX1_isScaled_68 : decode cX1_isScaled 68 = .ok (.ifCond .eq 6, 3) := dk_153 0 6 (dk_at dksX1_isScaled_2 20 rfl rfl)
theorem dX1_isScaled_71 : decode cX1_isScaled 71 = .ok (.goto 101, 3) := dk_167 0 101 (dk_at dksX1_isScaled_3 0 rfl rfl)
theorem dX1_isScaled_74 : decode cX1_isScaled 74 = .ok (.aload_n 0, 1) := dk_42 (dk_at dksX1_isScaled_3 3 rfl rfl)
theorem dX1_isScaled_75 : decode cX1_isScaled 75 = .ok (.getfield 99, 3) := dk_180 0 99 (dk_at dksX1_isScaled_3 4 rfl rfl)
theorem dX1_isScaled_78 : decode cX1_isScaled 78 = .ok (.iload 5, 2) := dk_21 5 (dk_at dksX1_isScaled_3 7 rfl rfl)
theorem dX1_isScaled_80 : decode cX1_isScaled 80 = .ok (.iconst 1, 1) := dk_4 (dk_at dksX1_isScaled_3 9 rfl rfl)
theorem dX1_isScaled_81 : decode cX1_isScaled 81 = .ok (.iastore, 1) := dk_79 (dk_at dksX1_isScaled_3 10 rfl rfl)
theorem dX1_isScaled_82 : decode cX1_isScaled 82 = .ok (.iconst 1, 1) := dk_4 (dk_at dksX1_isScaled_3 11 rfl rfl)
theorem dX1_isScaled_83 : decode cX1_isScaled 83 = .ok (.istore 6, 2) := dk_54 6 (dk_at dksX1_isScaled_3 12 rfl rfl)
theorem dX1_isScaled_85 : decode cX1_isScaled 85 = .ok (.iload 6, 2) := dk_21 6 (dk_at dksX1_isScaled_3 14 rfl rfl)
theorem dX1_isScaled_87 : decode cX1_isScaled 87 = .ok (.ifCond .eq 85, 3) := dk_153 0 85 (dk_at dksX1_isScaled_3 16 rfl rfl)
theorem dX1_isScaled_90 : decode cX1_isScaled 90 = .ok (.iconst 0, 1) := dk_3 (dk_at dksX1_isScaled_3 19 rfl rfl)
theorem dX1_isScaled_91 : decode cX1_isScaled 91 = .ok (.istore 6, 2) := dk_54 6 (dk_at dksX1_isScaled_3 20 rfl rfl)
theorem dX1_isScaled_93 : decode cX1_isScaled 93 = .ok (.iconst 0, 1) := dk_3 (dk_at dksX1_isScaled_3 22 rfl rfl)
theorem dX1_isScaled_94 : decode cX1_isScaled 94 = .ok (.istore 7, 2) := dk_54 7 (dk_at dksX1_isScaled_4 0 rfl rfl)
theorem dX1_isScaled_96 : decode cX1_isScaled 96 = .ok (.iload 7, 2) := dk_21 7 (dk_at dksX1_isScaled_4 2 rfl rfl)
theorem dX1_isScaled_98 : decode cX1_isScaled 98 = .ok (.aload 4, 2) := dk_25 4 (dk_at dksX1_isScaled_4 4 rfl rfl)
theorem dX1_isScaled_100 : decode cX1_isScaled 100 = .ok (.getfield 17, 3) := dk_180 0 17 (dk_at dksX1_isScaled_4 6 rfl rfl)
theorem dX1_isScaled_103 : decode cX1_isScaled 103 = .ok (.if_icmp .ge 66, 3) := dk_162 0 66 (dk_at dksX1_isScaled_4 9 rfl rfl)
theorem dX1_isScaled_106 : decode cX1_isScaled 106 = .ok (.iconst 0, 1) := dk_3 (dk_at dksX1_isScaled_4 12 rfl rfl)
theorem dX1_isScaled_107 : decode cX1_isScaled 107 = .ok (.istore 8, 2) := dk_54 8 (dk_at dksX1_isScaled_4 13 rfl rfl)
theorem dX1_isScaled_109 : decode cX1_isScaled 109 = .ok (.iload 8, 2) := dk_21 8 (dk_at dksX1_isScaled_4 15 rfl rfl)
theorem dX1_isScaled_111 : decode cX1_isScaled 111 = .ok (.aload 4, 2) := dk_25 4 (dk_at dksX1_isScaled_4 17 rfl rfl)
theorem dX1_isScaled_113 : decode cX1_isScaled 113 = .ok (.getfield 9, 3) := dk_180 0 9 (dk_at dksX1_isScaled_4 19 rfl rfl)
theorem dX1_isScaled_116 : decode cX1_isScaled 116 = .ok (.if_icmp .ge 47, 3) := dk_162 0 47 (dk_at dksX1_isScaled_5 0 rfl rfl)
theorem dX1_isScaled_119 : decode cX1_isScaled 119 = .ok (.iload 6, 2) := dk_21 6 (dk_at dksX1_isScaled_5 3 rfl rfl)
theorem dX1_isScaled_121 : decode cX1_isScaled 121 = .ok (.aload_n 0, 1) := dk_42 (dk_at dksX1_isScaled_5 5 rfl rfl)
theorem dX1_isScaled_122 : decode cX1_isScaled 122 = .ok (.iload 7, 2) := dk_21 7 (dk_at dksX1_isScaled_5 6 rfl rfl)
theorem dX1_isScaled_124 : decode cX1_isScaled 124 = .ok (.iload 8, 2) := dk_21 8 (dk_at dksX1_isScaled_5 8 rfl rfl)
theorem dX1_isScaled_126 : decode cX1_isScaled 126 = .ok (.aload_n 1, 1) := dk_43 (dk_at dksX1_isScaled_5 10 rfl rfl)
theorem dX1_isScaled_127 : decode cX1_isScaled 127 = .ok (.getfield 13, 3) := dk_180 0 13 (dk_at dksX1_isScaled_5 11 rfl rfl)
theorem dX1_isScaled_130 : decode cX1_isScaled 130 = .ok (.aload_n 2, 1) := dk_44 (dk_at dksX1_isScaled_5 14 rfl rfl)
theorem dX1_isScaled_131 : decode cX1_isScaled 131 = .ok (.iload 7, 2) := dk_21 7 (dk_at dksX1_isScaled_5 15 rfl rfl)
theorem dX1_isScaled_133 : decode cX1_isScaled 133 = .ok (.iaload, 1) := dk_46 (dk_at dksX1_isScaled_5 17 rfl rfl)
theorem dX1_isScaled_134 : decode cX1_isScaled 134 = .ok (.aaload, 1) := dk_50 (dk_at dksX1_isScaled_5 18 rfl rfl)
theorem dX1_isScaled_135 : decode cX1_isScaled 135 = .ok (.aload_n 3, 1) := dk_45 (dk_at dksX1_isScaled_5 19 rfl rfl)
theorem dX1_isScaled_136 : decode cX1_isScaled 136 = .ok (.iload 8, 2) := dk_21 8 (dk_at dksX1_isScaled_5 20 rfl rfl)
theorem dX1_isScaled_138 : decode cX1_isScaled 138 = .ok (.iaload, 1) := dk_46 (dk_at dksX1_isScaled_5 22 rfl rfl)
theorem dX1_isScaled_139 : decode cX1_isScaled 139 = .ok (.iaload, 1) := dk_46 (dk_at dksX1_isScaled_5 23 rfl rfl)
theorem dX1_isScaled_140 : decode cX1_isScaled 140 = .ok (.aload 4, 2) := dk_25 4 (dk_at dksX1_isScaled_6 0 rfl rfl)
theorem dX1_isScaled_142 : decode cX1_isScaled 142 = .ok (.getfield 13, 3) := dk_180 0 13 (dk_at dksX1_isScaled_6 2 rfl rfl)
theorem dX1_isScaled_145 : decode cX1_isScaled 145 = .ok (.iload 7, 2) := dk_21 7 (dk_at dksX1_isScaled_6 5 rfl rfl)
theorem dX1_isScaled_147 : decode cX1_isScaled 147 = .ok (.aaload, 1) := dk_50 (dk_at dksX1_isScaled_6 7 rfl rfl)
theorem dX1_isScaled_148 : decode cX1_isScaled 148 = .ok (.iload 8, 2) := dk_21 8 (dk_at dksX1_isScaled_6 8 rfl rfl)
theorem dX1_isScaled_150 : decode cX1_isScaled 150 = .ok (.iaload, 1) := dk_46 (dk_at dksX1_isScaled_6 10 rfl rfl)
theorem dX1_isScaled_151 : decode cX1_isScaled 151 = .ok (.invokevirtual 434, 3) := dk_182 1 178 (dk_at dksX1_isScaled_6 11 rfl rfl)
theorem dX1_isScaled_154 : decode cX1_isScaled 154 = .ok (.ior, 1) := dk_128 (dk_at dksX1_isScaled_6 14 rfl rfl)
theorem dX1_isScaled_155 : decode cX1_isScaled 155 = .ok (.istore 6, 2) := dk_54 6 (dk_at dksX1_isScaled_6 15 rfl rfl)
theorem dX1_isScaled_157 : decode cX1_isScaled 157 = .ok (.iinc 8 1, 3) := dk_132 8 1 (dk_at dksX1_isScaled_6 17 rfl rfl)
theorem dX1_isScaled_160 : decode cX1_isScaled 160 = .ok (.goto (-51), 3) := dk_167 255 205 (dk_at dksX1_isScaled_6 20 rfl rfl)
theorem dX1_isScaled_163 : decode cX1_isScaled 163 = .ok (.iinc 7 1, 3) := dk_132 7 1 (dk_at dksX1_isScaled_7 0 rfl rfl)
theorem dX1_isScaled_166 : decode cX1_isScaled 166 = .ok (.goto (-70), 3) := dk_167 255 186 (dk_at dksX1_isScaled_7 3 rfl rfl)
theorem dX1_isScaled_169 : decode cX1_isScaled 169 = .ok (.goto (-84), 3) := dk_167 255 172 (dk_at dksX1_isScaled_7 6 rfl rfl)
theorem dX1_isScaled_172 : decode cX1_isScaled 172 = .ok (.iinc 5 1, 3) := dk_132 5 1 (dk_at dksX1_isScaled_7 9 rfl rfl)
theorem dX1_isScaled_175 : decode cX1_isScaled 175 = .ok (.goto (-124), 3) := dk_167 255 132 (dk_at dksX1_isScaled_7 12 rfl rfl)
theorem dX1_isScaled_178 : decode cX1_isScaled 178 = .ok (.iconst 0, 1) := dk_3 (dk_at dksX1_isScaled_7 15 rfl rfl)
theorem dX1_isScaled_179 : decode cX1_isScaled 179 = .ok (.istore 5, 2) := dk_54 5 (dk_at dksX1_isScaled_7 16 rfl rfl)
theorem dX1_isScaled_181 : decode cX1_isScaled 181 = .ok (.iload 5, 2) := dk_21 5 (dk_at dksX1_isScaled_7 18 rfl rfl)
theorem dX1_isScaled_183 : decode cX1_isScaled 183 = .ok (.aload 4, 2) := dk_25 4 (dk_at dksX1_isScaled_7 20 rfl rfl)
theorem dX1_isScaled_185 : decode cX1_isScaled 185 = .ok (.getfield 17, 3) := dk_180 0 17 (dk_at dksX1_isScaled_8 0 rfl rfl)
theorem dX1_isScaled_188 : decode cX1_isScaled 188 = .ok (.if_icmp .ge 74, 3) := dk_162 0 74 (dk_at dksX1_isScaled_8 3 rfl rfl)
theorem dX1_isScaled_191 : decode cX1_isScaled 191 = .ok (.iconst 0, 1) := dk_3 (dk_at dksX1_isScaled_8 6 rfl rfl)
theorem dX1_isScaled_192 : decode cX1_isScaled 192 = .ok (.istore 6, 2) := dk_54 6 (dk_at dksX1_isScaled_8 7 rfl rfl)
theorem dX1_isScaled_194 : decode cX1_isScaled 194 = .ok (.iload 6, 2) := dk_21 6 (dk_at dksX1_isScaled_8 9 rfl rfl)
theorem dX1_isScaled_196 : decode cX1_isScaled 196 = .ok (.aload 4, 2) := dk_25 4 (dk_at dksX1_isScaled_8 11 rfl rfl)
theorem dX1_isScaled_198 : decode cX1_isScaled 198 = .ok (.getfield 9, 3) := dk_180 0 9 (dk_at dksX1_isScaled_8 13 rfl rfl)
theorem dX1_isScaled_201 : decode cX1_isScaled 201 = .ok (.if_icmp .ge 55, 3) := dk_162 0 55 (dk_at dksX1_isScaled_8 16 rfl rfl)
theorem dX1_isScaled_204 : decode cX1_isScaled 204 = .ok (.aload_n 1, 1) := dk_43 (dk_at dksX1_isScaled_8 19 rfl rfl)
theorem dX1_isScaled_205 : decode cX1_isScaled 205 = .ok (.getfield 13, 3) := dk_180 0 13 (dk_at dksX1_isScaled_8 20 rfl rfl)
theorem dX1_isScaled_208 : decode cX1_isScaled 208 = .ok (.aload_n 2, 1) := dk_44 (dk_at dksX1_isScaled_8 23 rfl rfl)
theorem dX1_isScaled_209 : decode cX1_isScaled 209 = .ok (.iload 5, 2) := dk_21 5 (dk_at dksX1_isScaled_9 0 rfl rfl)
theorem dX1_isScaled_211 : decode cX1_isScaled 211 = .ok (.iaload, 1) := dk_46 (dk_at dksX1_isScaled_9 2 rfl rfl)
theorem dX1_isScaled_212 : decode cX1_isScaled 212 = .ok (.aaload, 1) := dk_50 (dk_at dksX1_isScaled_9 3 rfl rfl)
theorem dX1_isScaled_213 : decode cX1_isScaled 213 = .ok (.aload_n 3, 1) := dk_45 (dk_at dksX1_isScaled_9 4 rfl rfl)
theorem dX1_isScaled_214 : decode cX1_isScaled 214 = .ok (.iload 6, 2) := dk_21 6 (dk_at dksX1_isScaled_9 5 rfl rfl)
theorem dX1_isScaled_216 : decode cX1_isScaled 216 = .ok (.iaload, 1) := dk_46 (dk_at dksX1_isScaled_9 7 rfl rfl)
theorem dX1_isScaled_217 : decode cX1_isScaled 217 = .ok (.iaload, 1) := dk_46 (dk_at dksX1_isScaled_9 8 rfl rfl)
theorem dX1_isScaled_218 : decode cX1_isScaled 218 = .ok (.aload_n 0, 1) := dk_42 (dk_at dksX1_isScaled_9 9 rfl rfl)
theorem dX1_isScaled_219 : decode cX1_isScaled 219 = .ok (.getfield 99, 3) := dk_180 0 99 (dk_at dksX1_isScaled_9 10 rfl rfl)
theorem dX1_isScaled_222 : decode cX1_isScaled 222 = .ok (.iload 5, 2) := dk_21 5 (dk_at dksX1_isScaled_9 13 rfl rfl)
theorem dX1_isScaled_224 : decode cX1_isScaled 224 = .ok (.iaload, 1) := dk_46 (dk_at dksX1_isScaled_9 15 rfl rfl)
theorem dX1_isScaled_225 : decode cX1_isScaled 225 = .ok (.imul, 1) := dk_104 (dk_at dksX1_isScaled_9 16 rfl rfl)
theorem dX1_isScaled_226 : decode cX1_isScaled 226 = .ok (.aload_n 0, 1) := dk_42 (dk_at dksX1_isScaled_9 17 rfl rfl)
theorem dX1_isScaled_227 : decode cX1_isScaled 227 = .ok (.getfield 102, 3) := dk_180 0 102 (dk_at dksX1_isScaled_9 18 rfl rfl)
theorem dX1_isScaled_230 : decode cX1_isScaled 230 = .ok (.iload 6, 2) := dk_21 6 (dk_at dksX1_isScaled_9 21 rfl rfl)
theorem dX1_isScaled_232 : decode cX1_isScaled 232 = .ok (.iaload, 1) := dk_46 (dk_at dksX1_isScaled_9 23 rfl rfl)
theorem dX1_isScaled_233 : decode cX1_isScaled 233 = .ok (.imul, 1) := dk_104 (dk_at dksX1_isScaled_10 0 rfl rfl)
theorem dX1_isScaled_234 : decode cX1_isScaled 234 = .ok (.aload 4, 2) := dk_25 4 (dk_at dksX1_isScaled_10 1 rfl rfl)
theorem dX1_isScaled_236 : decode cX1_isScaled 236 = .ok (.getfield 13, 3) := dk_180 0 13 (dk_at dksX1_isScaled_10 3 rfl rfl)
theorem dX1_isScaled_239 : decode cX1_isScaled 239 = .ok (.iload 5, 2) := dk_21 5 (dk_at dksX1_isScaled_10 6 rfl rfl)
theorem dX1_isScaled_241 : decode cX1_isScaled 241 = .ok (.aaload, 1) := dk_50 (dk_at dksX1_isScaled_10 8 rfl rfl)
theorem dX1_isScaled_242 : decode cX1_isScaled 242 = .ok (.iload 6, 2) := dk_21 6 (dk_at dksX1_isScaled_10 9 rfl rfl)
theorem dX1_isScaled_244 : decode cX1_isScaled 244 = .ok (.iaload, 1) := dk_46 (dk_at dksX1_isScaled_10 11 rfl rfl)
theorem dX1_isScaled_245 : decode cX1_isScaled 245 = .ok (.if_icmp .eq 5, 3) := dk_159 0 5 (dk_at dksX1_isScaled_10 12 rfl rfl)
theorem dX1_isScaled_248 : decode cX1_isScaled 248 = .ok (.iconst 0, 1) := dk_3 (dk_at dksX1_isScaled_10 15 rfl rfl)
theorem dX1_isScaled_249 : decode cX1_isScaled 249 = .ok (.ireturn, 1) := dk_172 (dk_at dksX1_isScaled_10 16 rfl rfl)
theorem dX1_isScaled_250 : decode cX1_isScaled 250 = .ok (.iinc 6 1, 3) := dk_132 6 1 (dk_at dksX1_isScaled_10 17 rfl rfl)
theorem dX1_isScaled_253 : decode cX1_isScaled 253 = .ok (.goto (-59), 3) := dk_167 255 197 (dk_at dksX1_isScaled_10 20 rfl rfl)
theorem dX1_isScaled_256 : decode cX1_isScaled 256 = .ok (.iinc 5 1, 3) := dk_132 5 1 (dk_at dksX1_isScaled_11 0 rfl rfl)
theorem dX1_isScaled_259 : decode cX1_isScaled 259 = .ok (.goto (-78), 3) := dk_167 255 178 (dk_at dksX1_isScaled_11 3 rfl rfl)
theorem dX1_isScaled_262 : decode cX1_isScaled 262 = .ok (.iconst 1, 1) := dk_4 (dk_at dksX1_isScaled_11 6 rfl rfl)
theorem dX1_isScaled_263 : decode cX1_isScaled 263 = .ok (.ireturn, 1) := dk_172 (dk_at dksX1_isScaled_11 7 rfl rfl)
abbrev cX1_spreads : ByteArray := prog_1_method_77_code
def yX1_spreads : MethodName := ⟨RX1, "spreads", "(IIII)Z"⟩
def dkwX1_spreads_3 : List UInt8 := [29, 21, 4, 104, 42, 180, 0, 99, 27, 46, 104, 79, 4, 172]
abbrev dktX1_spreads_3 : List UInt8 := dkwX1_spreads_3 ++ []
def dkwX1_spreads_2 : List UInt8 := [180, 0, 99, 27, 29, 21, 4, 104, 42, 180, 0, 102, 28, 46, 104, 79, 167, 0, 20, 42, 180, 0, 102, 28]
abbrev dktX1_spreads_2 : List UInt8 := dkwX1_spreads_2 ++ dktX1_spreads_3
def dkwX1_spreads_1 : List UInt8 := [154, 0, 7, 4, 167, 0, 4, 3, 160, 0, 5, 3, 172, 42, 180, 0, 99, 27, 46, 154, 0, 23, 42]
abbrev dktX1_spreads_1 : List UInt8 := dkwX1_spreads_1 ++ dktX1_spreads_2
def dkwX1_spreads_0 : List UInt8 := [29, 153, 0, 34, 42, 180, 0, 99, 27, 46, 154, 0, 7, 4, 167, 0, 4, 3, 42, 180, 0, 102, 28, 46]
abbrev dktX1_spreads_0 : List UInt8 := dkwX1_spreads_0 ++ dktX1_spreads_1
theorem dksX1_spreads_0 : cX1_spreads.data.toList.drop 0 = dktX1_spreads_0 := by decide +kernel
theorem dksX1_spreads_1 : cX1_spreads.data.toList.drop 24 = dktX1_spreads_1 := dk_seg dksX1_spreads_0 24 rfl rfl
theorem dksX1_spreads_2 : cX1_spreads.data.toList.drop 47 = dktX1_spreads_2 := dk_seg dksX1_spreads_1 23 rfl rfl
theorem dksX1_spreads_3 : cX1_spreads.data.toList.drop 71 = dktX1_spreads_3 := dk_seg dksX1_spreads_2 24 rfl rfl
theorem dX1_spreads_0 : decode cX1_spreads 0 = .ok (.iload_n 3, 1) := dk_29 (dk_at dksX1_spreads_0 0 rfl rfl)
theorem dX1_spreads_1 : decode cX1_spreads 1 = .ok (.ifCond .eq 34, 3) := dk_153 0 34 (dk_at dksX1_spreads_0 1 rfl rfl)
theorem dX1_spreads_4 : decode cX1_spreads 4 = .ok (.aload_n 0, 1) := dk_42 (dk_at dksX1_spreads_0 4 rfl rfl)
theorem dX1_spreads_5 : decode cX1_spreads 5 = .ok (.getfield 99, 3) := dk_180 0 99 (dk_at dksX1_spreads_0 5 rfl rfl)
theorem dX1_spreads_8 : decode cX1_spreads 8 = .ok (.iload_n 1, 1) := dk_27 (dk_at dksX1_spreads_0 8 rfl rfl)
theorem dX1_spreads_9 : decode cX1_spreads 9 = .ok (.iaload, 1) := dk_46 (dk_at dksX1_spreads_0 9 rfl rfl)
theorem dX1_spreads_10 : decode cX1_spreads 10 = .ok (.ifCond .ne 7, 3) := dk_154 0 7 (dk_at dksX1_spreads_0 10 rfl rfl)
theorem dX1_spreads_13 : decode cX1_spreads 13 = .ok (.iconst 1, 1) := dk_4 (dk_at dksX1_spreads_0 13 rfl rfl)
theorem dX1_spreads_14 : decode cX1_spreads 14 = .ok (.goto 4, 3) := dk_167 0 4 (dk_at dksX1_spreads_0 14 rfl rfl)
theorem dX1_spreads_17 : decode cX1_spreads 17 = .ok (.iconst 0, 1) := dk_3 (dk_at dksX1_spreads_0 17 rfl rfl)
theorem dX1_spreads_18 : decode cX1_spreads 18 = .ok (.aload_n 0, 1) := dk_42 (dk_at dksX1_spreads_0 18 rfl rfl)
theorem dX1_spreads_19 : decode cX1_spreads 19 = .ok (.getfield 102, 3) := dk_180 0 102 (dk_at dksX1_spreads_0 19 rfl rfl)
theorem dX1_spreads_22 : decode cX1_spreads 22 = .ok (.iload_n 2, 1) := dk_28 (dk_at dksX1_spreads_0 22 rfl rfl)
theorem dX1_spreads_23 : decode cX1_spreads 23 = .ok (.iaload, 1) := dk_46 (dk_at dksX1_spreads_0 23 rfl rfl)
theorem dX1_spreads_24 : decode cX1_spreads 24 = .ok (.ifCond .ne 7, 3) := dk_154 0 7 (dk_at dksX1_spreads_1 0 rfl rfl)
theorem dX1_spreads_27 : decode cX1_spreads 27 = .ok (.iconst 1, 1) := dk_4 (dk_at dksX1_spreads_1 3 rfl rfl)
theorem dX1_spreads_28 : decode cX1_spreads 28 = .ok (.goto 4, 3) := dk_167 0 4 (dk_at dksX1_spreads_1 4 rfl rfl)
theorem dX1_spreads_31 : decode cX1_spreads 31 = .ok (.iconst 0, 1) := dk_3 (dk_at dksX1_spreads_1 7 rfl rfl)
theorem dX1_spreads_32 : decode cX1_spreads 32 = .ok (.if_icmp .ne 5, 3) := dk_160 0 5 (dk_at dksX1_spreads_1 8 rfl rfl)
theorem dX1_spreads_35 : decode cX1_spreads 35 = .ok (.iconst 0, 1) := dk_3 (dk_at dksX1_spreads_1 11 rfl rfl)
theorem dX1_spreads_36 : decode cX1_spreads 36 = .ok (.ireturn, 1) := dk_172 (dk_at dksX1_spreads_1 12 rfl rfl)
theorem dX1_spreads_37 : decode cX1_spreads 37 = .ok (.aload_n 0, 1) := dk_42 (dk_at dksX1_spreads_1 13 rfl rfl)
theorem dX1_spreads_38 : decode cX1_spreads 38 = .ok (.getfield 99, 3) := dk_180 0 99 (dk_at dksX1_spreads_1 14 rfl rfl)
theorem dX1_spreads_41 : decode cX1_spreads 41 = .ok (.iload_n 1, 1) := dk_27 (dk_at dksX1_spreads_1 17 rfl rfl)
theorem dX1_spreads_42 : decode cX1_spreads 42 = .ok (.iaload, 1) := dk_46 (dk_at dksX1_spreads_1 18 rfl rfl)
theorem dX1_spreads_43 : decode cX1_spreads 43 = .ok (.ifCond .ne 23, 3) := dk_154 0 23 (dk_at dksX1_spreads_1 19 rfl rfl)
theorem dX1_spreads_46 : decode cX1_spreads 46 = .ok (.aload_n 0, 1) := dk_42 (dk_at dksX1_spreads_1 22 rfl rfl)
theorem dX1_spreads_47 : decode cX1_spreads 47 = .ok (.getfield 99, 3) := dk_180 0 99 (dk_at dksX1_spreads_2 0 rfl rfl)
theorem dX1_spreads_50 : decode cX1_spreads 50 = .ok (.iload_n 1, 1) := dk_27 (dk_at dksX1_spreads_2 3 rfl rfl)
theorem dX1_spreads_51 : decode cX1_spreads 51 = .ok (.iload_n 3, 1) := dk_29 (dk_at dksX1_spreads_2 4 rfl rfl)
theorem dX1_spreads_52 : decode cX1_spreads 52 = .ok (.iload 4, 2) := dk_21 4 (dk_at dksX1_spreads_2 5 rfl rfl)
theorem dX1_spreads_54 : decode cX1_spreads 54 = .ok (.imul, 1) := dk_104 (dk_at dksX1_spreads_2 7 rfl rfl)
theorem dX1_spreads_55 : decode cX1_spreads 55 = .ok (.aload_n 0, 1) := dk_42 (dk_at dksX1_spreads_2 8 rfl rfl)
theorem dX1_spreads_56 : decode cX1_spreads 56 = .ok (.getfield 102, 3) := dk_180 0 102 (dk_at dksX1_spreads_2 9 rfl rfl)
theorem dX1_spreads_59 : decode cX1_spreads 59 = .ok (.iload_n 2, 1) := dk_28 (dk_at dksX1_spreads_2 12 rfl rfl)
theorem dX1_spreads_60 : decode cX1_spreads 60 = .ok (.iaload, 1) := dk_46 (dk_at dksX1_spreads_2 13 rfl rfl)
theorem dX1_spreads_61 : decode cX1_spreads 61 = .ok (.imul, 1) := dk_104 (dk_at dksX1_spreads_2 14 rfl rfl)
theorem dX1_spreads_62 : decode cX1_spreads 62 = .ok (.iastore, 1) := dk_79 (dk_at dksX1_spreads_2 15 rfl rfl)
theorem dX1_spreads_63 : decode cX1_spreads 63 = .ok (.goto 20, 3) := dk_167 0 20 (dk_at dksX1_spreads_2 16 rfl rfl)
theorem dX1_spreads_66 : decode cX1_spreads 66 = .ok (.aload_n 0, 1) := dk_42 (dk_at dksX1_spreads_2 19 rfl rfl)
theorem dX1_spreads_67 : decode cX1_spreads 67 = .ok (.getfield 102, 3) := dk_180 0 102 (dk_at dksX1_spreads_2 20 rfl rfl)
theorem dX1_spreads_70 : decode cX1_spreads 70 = .ok (.iload_n 2, 1) := dk_28 (dk_at dksX1_spreads_2 23 rfl rfl)
theorem dX1_spreads_71 : decode cX1_spreads 71 = .ok (.iload_n 3, 1) := dk_29 (dk_at dksX1_spreads_3 0 rfl rfl)
theorem dX1_spreads_72 : decode cX1_spreads 72 = .ok (.iload 4, 2) := dk_21 4 (dk_at dksX1_spreads_3 1 rfl rfl)
theorem dX1_spreads_74 : decode cX1_spreads 74 = .ok (.imul, 1) := dk_104 (dk_at dksX1_spreads_3 3 rfl rfl)
theorem dX1_spreads_75 : decode cX1_spreads 75 = .ok (.aload_n 0, 1) := dk_42 (dk_at dksX1_spreads_3 4 rfl rfl)
theorem dX1_spreads_76 : decode cX1_spreads 76 = .ok (.getfield 99, 3) := dk_180 0 99 (dk_at dksX1_spreads_3 5 rfl rfl)
theorem dX1_spreads_79 : decode cX1_spreads 79 = .ok (.iload_n 1, 1) := dk_27 (dk_at dksX1_spreads_3 8 rfl rfl)
theorem dX1_spreads_80 : decode cX1_spreads 80 = .ok (.iaload, 1) := dk_46 (dk_at dksX1_spreads_3 9 rfl rfl)
theorem dX1_spreads_81 : decode cX1_spreads 81 = .ok (.imul, 1) := dk_104 (dk_at dksX1_spreads_3 10 rfl rfl)
theorem dX1_spreads_82 : decode cX1_spreads 82 = .ok (.iastore, 1) := dk_79 (dk_at dksX1_spreads_3 11 rfl rfl)
theorem dX1_spreads_83 : decode cX1_spreads 83 = .ok (.iconst 1, 1) := dk_4 (dk_at dksX1_spreads_3 12 rfl rfl)
theorem dX1_spreads_84 : decode cX1_spreads 84 = .ok (.ireturn, 1) := dk_172 (dk_at dksX1_spreads_3 13 rfl rfl)
abbrev cX1_special : ByteArray := prog_1_method_86_code
def yX1_special : MethodName := ⟨RX1, "special", "()I"⟩
def dkwX1_special_1 : List UInt8 := [167, 0, 19, 42, 42, 180, 0, 117, 182, 1, 205, 153, 0, 7, 5, 167, 0, 4, 3, 172]
abbrev dktX1_special_1 : List UInt8 := dkwX1_special_1 ++ []
def dkwX1_special_0 : List UInt8 := [42, 180, 0, 220, 199, 0, 7, 2, 167, 0, 34, 42, 42, 180, 0, 111, 182, 1, 205, 153, 0, 7, 4]
abbrev dktX1_special_0 : List UInt8 := dkwX1_special_0 ++ dktX1_special_1
theorem dksX1_special_0 : cX1_special.data.toList.drop 0 = dktX1_special_0 := by decide +kernel
theorem dksX1_special_1 : cX1_special.data.toList.drop 23 = dktX1_special_1 := dk_seg dksX1_special_0 23 rfl rfl
theorem dX1_special_0 : decode cX1_special 0 = .ok (.aload_n 0, 1) := dk_42 (dk_at dksX1_special_0 0 rfl rfl)
theorem dX1_special_1 : decode cX1_special 1 = .ok (.getfield 220, 3) := dk_180 0 220 (dk_at dksX1_special_0 1 rfl rfl)
theorem dX1_special_4 : decode cX1_special 4 = .ok (.ifnonnull 7, 3) := dk_199 0 7 (dk_at dksX1_special_0 4 rfl rfl)
theorem dX1_special_7 : decode cX1_special 7 = .ok (.iconst (-1), 1) := dk_2 (dk_at dksX1_special_0 7 rfl rfl)
theorem dX1_special_8 : decode cX1_special 8 = .ok (.goto 34, 3) := dk_167 0 34 (dk_at dksX1_special_0 8 rfl rfl)
theorem dX1_special_11 : decode cX1_special 11 = .ok (.aload_n 0, 1) := dk_42 (dk_at dksX1_special_0 11 rfl rfl)
theorem dX1_special_12 : decode cX1_special 12 = .ok (.aload_n 0, 1) := dk_42 (dk_at dksX1_special_0 12 rfl rfl)
theorem dX1_special_13 : decode cX1_special 13 = .ok (.getfield 111, 3) := dk_180 0 111 (dk_at dksX1_special_0 13 rfl rfl)
theorem dX1_special_16 : decode cX1_special 16 = .ok (.invokevirtual 461, 3) := dk_182 1 205 (dk_at dksX1_special_0 16 rfl rfl)
theorem dX1_special_19 : decode cX1_special 19 = .ok (.ifCond .eq 7, 3) := dk_153 0 7 (dk_at dksX1_special_0 19 rfl rfl)
theorem dX1_special_22 : decode cX1_special 22 = .ok (.iconst 1, 1) := dk_4 (dk_at dksX1_special_0 22 rfl rfl)
theorem dX1_special_23 : decode cX1_special 23 = .ok (.goto 19, 3) := dk_167 0 19 (dk_at dksX1_special_1 0 rfl rfl)
theorem dX1_special_26 : decode cX1_special 26 = .ok (.aload_n 0, 1) := dk_42 (dk_at dksX1_special_1 3 rfl rfl)
theorem dX1_special_27 : decode cX1_special 27 = .ok (.aload_n 0, 1) := dk_42 (dk_at dksX1_special_1 4 rfl rfl)
theorem dX1_special_28 : decode cX1_special 28 = .ok (.getfield 117, 3) := dk_180 0 117 (dk_at dksX1_special_1 5 rfl rfl)
theorem dX1_special_31 : decode cX1_special 31 = .ok (.invokevirtual 461, 3) := dk_182 1 205 (dk_at dksX1_special_1 8 rfl rfl)
theorem dX1_special_34 : decode cX1_special 34 = .ok (.ifCond .eq 7, 3) := dk_153 0 7 (dk_at dksX1_special_1 11 rfl rfl)
theorem dX1_special_37 : decode cX1_special 37 = .ok (.iconst 2, 1) := dk_5 (dk_at dksX1_special_1 14 rfl rfl)
theorem dX1_special_38 : decode cX1_special 38 = .ok (.goto 4, 3) := dk_167 0 4 (dk_at dksX1_special_1 15 rfl rfl)
theorem dX1_special_41 : decode cX1_special 41 = .ok (.iconst 0, 1) := dk_3 (dk_at dksX1_special_1 18 rfl rfl)
theorem dX1_special_42 : decode cX1_special 42 = .ok (.ireturn, 1) := dk_172 (dk_at dksX1_special_1 19 rfl rfl)
abbrev cX1_becomes : ByteArray := prog_1_method_85_code
def yX1_becomes : MethodName := ⟨RX1, "becomes", "(LUnimodularTables$Table;)Z"⟩
def dkwX1_becomes_4 : List UInt8 := [167, 255, 216, 44, 184, 1, 201, 54, 4, 167, 255, 195, 3, 172]
abbrev dktX1_becomes_4 : List UInt8 := dkwX1_becomes_4 ++ []
def dkwX1_becomes_3 : List UInt8 := [42, 42, 180, 0, 220, 44, 45, 43, 182, 1, 190, 153, 0, 5, 4, 172, 45, 184, 1, 201, 54, 5]
abbrev dktX1_becomes_3 : List UInt8 := dkwX1_becomes_3 ++ dktX1_becomes_4
def dkwX1_becomes_2 : List UInt8 := [184, 1, 182, 4, 54, 5, 21, 5, 153, 0, 41, 42, 180, 0, 220, 44, 45, 43, 184, 1, 186, 153, 0, 19]
abbrev dktX1_becomes_2 : List UInt8 := dkwX1_becomes_2 ++ dktX1_becomes_3
def dkwX1_becomes_1 : List UInt8 := [16, 6, 188, 10, 77, 16, 6, 188, 10, 78, 44, 184, 1, 182, 4, 54, 4, 21, 4, 153, 0, 62, 45]
abbrev dktX1_becomes_1 : List UInt8 := dkwX1_becomes_1 ++ dktX1_becomes_2
def dkwX1_becomes_0 : List UInt8 := [42, 180, 0, 220, 180, 0, 17, 8, 160, 0, 14, 42, 180, 0, 220, 180, 0, 9, 8, 159, 0, 5, 3, 172]
abbrev dktX1_becomes_0 : List UInt8 := dkwX1_becomes_0 ++ dktX1_becomes_1
theorem dksX1_becomes_0 : cX1_becomes.data.toList.drop 0 = dktX1_becomes_0 := by decide +kernel
theorem dksX1_becomes_1 : cX1_becomes.data.toList.drop 24 = dktX1_becomes_1 := dk_seg dksX1_becomes_0 24 rfl rfl
theorem dksX1_becomes_2 : cX1_becomes.data.toList.drop 47 = dktX1_becomes_2 := dk_seg dksX1_becomes_1 23 rfl rfl
theorem dksX1_becomes_3 : cX1_becomes.data.toList.drop 71 = dktX1_becomes_3 := dk_seg dksX1_becomes_2 24 rfl rfl
theorem dksX1_becomes_4 : cX1_becomes.data.toList.drop 93 = dktX1_becomes_4 := dk_seg dksX1_becomes_3 22 rfl rfl
theorem dX1_becomes_0 : decode cX1_becomes 0 = .ok (.aload_n 0, 1) := dk_42 (dk_at dksX1_becomes_0 0 rfl rfl)
theorem dX1_becomes_1 : decode cX1_becomes 1 = .ok (.getfield 220, 3) := dk_180 0 220 (dk_at dksX1_becomes_0 1 rfl rfl)
theorem dX1_becomes_4 : decode cX1_becomes 4 = .ok (.getfield 17, 3) := dk_180 0 17 (dk_at dksX1_becomes_0 4 rfl rfl)
theorem dX1_becomes_7 : decode cX1_becomes 7 = .ok (.iconst 5, 1) := dk_8 (dk_at dksX1_becomes_0 7 rfl rfl)
theorem dX1_becomes_8 : decode cX1_becomes 8 = .ok (.if_icmp .ne 14, 3) := dk_160 0 14 (dk_at dksX1_becomes_0 8 rfl rfl)
theorem dX1_becomes_11 : decode cX1_becomes 11 = .ok (.aload_n 0, 1) := dk_42 (dk_at dksX1_becomes_0 11 rfl rfl)
theorem dX1_becomes_12 : decode cX1_becomes 12 = .ok (.getfield 220, 3) := dk_180 0 220 (dk_at dksX1_becomes_0 12 rfl rfl)
theorem dX1_becomes_15 : decode cX1_becomes 15 = .ok (.getfield 9, 3) := dk_180 0 9 (dk_at dksX1_becomes_0 15 rfl rfl)
theorem dX1_becomes_18 : decode cX1_becomes 18 = .ok (.iconst 5, 1) := dk_8 (dk_at dksX1_becomes_0 18 rfl rfl)
theorem dX1_becomes_19 : decode cX1_becomes 19 = .ok (.if_icmp .eq 5, 3) := dk_159 0 5 (dk_at dksX1_becomes_0 19 rfl rfl)
theorem dX1_becomes_22 : decode cX1_becomes 22 = .ok (.iconst 0, 1) := dk_3 (dk_at dksX1_becomes_0 22 rfl rfl)
theorem dX1_becomes_23 : decode cX1_becomes 23 = .ok (.ireturn, 1) := dk_172 (dk_at dksX1_becomes_0 23 rfl rfl)
theorem dX1_becomes_24 : decode cX1_becomes 24 = .ok (.bipush 6, 2) := dk_16 6 (dk_at dksX1_becomes_1 0 rfl rfl)
theorem dX1_becomes_26 : decode cX1_becomes 26 = .ok (.newarray .int, 2) := dk_188_10 (dk_at dksX1_becomes_1 2 rfl rfl)
theorem dX1_becomes_28 : decode cX1_becomes 28 = .ok (.astore_n 2, 1) := dk_77 (dk_at dksX1_becomes_1 4 rfl rfl)
theorem dX1_becomes_29 : decode cX1_becomes 29 = .ok (.bipush 6, 2) := dk_16 6 (dk_at dksX1_becomes_1 5 rfl rfl)
theorem dX1_becomes_31 : decode cX1_becomes 31 = .ok (.newarray .int, 2) := dk_188_10 (dk_at dksX1_becomes_1 7 rfl rfl)
theorem dX1_becomes_33 : decode cX1_becomes 33 = .ok (.astore_n 3, 1) := dk_78 (dk_at dksX1_becomes_1 9 rfl rfl)
theorem dX1_becomes_34 : decode cX1_becomes 34 = .ok (.aload_n 2, 1) := dk_44 (dk_at dksX1_becomes_1 10 rfl rfl)
theorem dX1_becomes_35 : decode cX1_becomes 35 = .ok (.invokestatic 438, 3) := dk_184 1 182 (dk_at dksX1_becomes_1 11 rfl rfl)
theorem dX1_becomes_38 : decode cX1_becomes 38 = .ok (.iconst 1, 1) := dk_4 (dk_at dksX1_becomes_1 14 rfl rfl)
theorem dX1_becomes_39 : decode cX1_becomes 39 = .ok (.istore 4, 2) := dk_54 4 (dk_at dksX1_becomes_1 15 rfl rfl)
theorem dX1_becomes_41 : decode cX1_becomes 41 = .ok (.iload 4, 2) := dk_21 4 (dk_at dksX1_becomes_1 17 rfl rfl)
theorem dX1_becomes_43 : decode cX1_becomes 43 = .ok (.ifCond .eq 62, 3) := dk_153 0 62 (dk_at dksX1_becomes_1 19 rfl rfl)
theorem dX1_becomes_46 : decode cX1_becomes 46 = .ok (.aload_n 3, 1) := dk_45 (dk_at dksX1_becomes_1 22 rfl rfl)
theorem dX1_becomes_47 : decode cX1_becomes 47 = .ok (.invokestatic 438, 3) := dk_184 1 182 (dk_at dksX1_becomes_2 0 rfl rfl)
theorem dX1_becomes_50 : decode cX1_becomes 50 = .ok (.iconst 1, 1) := dk_4 (dk_at dksX1_becomes_2 3 rfl rfl)
theorem dX1_becomes_51 : decode cX1_becomes 51 = .ok (.istore 5, 2) := dk_54 5 (dk_at dksX1_becomes_2 4 rfl rfl)
theorem dX1_becomes_53 : decode cX1_becomes 53 = .ok (.iload 5, 2) := dk_21 5 (dk_at dksX1_becomes_2 6 rfl rfl)
theorem dX1_becomes_55 : decode cX1_becomes 55 = .ok (.ifCond .eq 41, 3) := dk_153 0 41 (dk_at dksX1_becomes_2 8 rfl rfl)
theorem dX1_becomes_58 : decode cX1_becomes 58 = .ok (.aload_n 0, 1) := dk_42 (dk_at dksX1_becomes_2 11 rfl rfl)
theorem dX1_becomes_59 : decode cX1_becomes 59 = .ok (.getfield 220, 3) := dk_180 0 220 (dk_at dksX1_becomes_2 12 rfl rfl)
theorem dX1_becomes_62 : decode cX1_becomes 62 = .ok (.aload_n 2, 1) := dk_44 (dk_at dksX1_becomes_2 15 rfl rfl)
theorem dX1_becomes_63 : decode cX1_becomes 63 = .ok (.aload_n 3, 1) := dk_45 (dk_at dksX1_becomes_2 16 rfl rfl)
theorem dX1_becomes_64 : decode cX1_becomes 64 = .ok (.aload_n 1, 1) := dk_43 (dk_at dksX1_becomes_2 17 rfl rfl)
theorem dX1_becomes_65 : decode cX1_becomes 65 = .ok (.invokestatic 442, 3) := dk_184 1 186 (dk_at dksX1_becomes_2 18 rfl rfl)
theorem dX1_becomes_68 : decode cX1_becomes 68 = .ok (.ifCond .eq 19, 3) := dk_153 0 19 (dk_at dksX1_becomes_2 21 rfl rfl)
theorem dX1_becomes_71 : decode cX1_becomes 71 = .ok (.aload_n 0, 1) := dk_42 (dk_at dksX1_becomes_3 0 rfl rfl)
theorem dX1_becomes_72 : decode cX1_becomes 72 = .ok (.aload_n 0, 1) := dk_42 (dk_at dksX1_becomes_3 1 rfl rfl)
theorem dX1_becomes_73 : decode cX1_becomes 73 = .ok (.getfield 220, 3) := dk_180 0 220 (dk_at dksX1_becomes_3 2 rfl rfl)
theorem dX1_becomes_76 : decode cX1_becomes 76 = .ok (.aload_n 2, 1) := dk_44 (dk_at dksX1_becomes_3 5 rfl rfl)
theorem dX1_becomes_77 : decode cX1_becomes 77 = .ok (.aload_n 3, 1) := dk_45 (dk_at dksX1_becomes_3 6 rfl rfl)
theorem dX1_becomes_78 : decode cX1_becomes 78 = .ok (.aload_n 1, 1) := dk_43 (dk_at dksX1_becomes_3 7 rfl rfl)
theorem dX1_becomes_79 : decode cX1_becomes 79 = .ok (.invokevirtual 446, 3) := dk_182 1 190 (dk_at dksX1_becomes_3 8 rfl rfl)
theorem dX1_becomes_82 : decode cX1_becomes 82 = .ok (.ifCond .eq 5, 3) := dk_153 0 5 (dk_at dksX1_becomes_3 11 rfl rfl)
theorem dX1_becomes_85 : decode cX1_becomes 85 = .ok (.iconst 1, 1) := dk_4 (dk_at dksX1_becomes_3 14 rfl rfl)
theorem dX1_becomes_86 : decode cX1_becomes 86 = .ok (.ireturn, 1) := dk_172 (dk_at dksX1_becomes_3 15 rfl rfl)
theorem dX1_becomes_87 : decode cX1_becomes 87 = .ok (.aload_n 3, 1) := dk_45 (dk_at dksX1_becomes_3 16 rfl rfl)
theorem dX1_becomes_88 : decode cX1_becomes 88 = .ok (.invokestatic 457, 3) := dk_184 1 201 (dk_at dksX1_becomes_3 17 rfl rfl)
theorem dX1_becomes_91 : decode cX1_becomes 91 = .ok (.istore 5, 2) := dk_54 5 (dk_at dksX1_becomes_3 20 rfl rfl)
theorem dX1_becomes_93 : decode cX1_becomes 93 = .ok (.goto (-40), 3) := dk_167 255 216 (dk_at dksX1_becomes_4 0 rfl rfl)
theorem dX1_becomes_96 : decode cX1_becomes 96 = .ok (.aload_n 2, 1) := dk_44 (dk_at dksX1_becomes_4 3 rfl rfl)
theorem dX1_becomes_97 : decode cX1_becomes 97 = .ok (.invokestatic 457, 3) := dk_184 1 201 (dk_at dksX1_becomes_4 4 rfl rfl)
theorem dX1_becomes_100 : decode cX1_becomes 100 = .ok (.istore 4, 2) := dk_54 4 (dk_at dksX1_becomes_4 7 rfl rfl)
theorem dX1_becomes_102 : decode cX1_becomes 102 = .ok (.goto (-61), 3) := dk_167 255 195 (dk_at dksX1_becomes_4 9 rfl rfl)
theorem dX1_becomes_105 : decode cX1_becomes 105 = .ok (.iconst 0, 1) := dk_3 (dk_at dksX1_becomes_4 12 rfl rfl)
theorem dX1_becomes_106 : decode cX1_becomes 106 = .ok (.ireturn, 1) := dk_172 (dk_at dksX1_becomes_4 13 rfl rfl)
abbrev cX1_goesOn : ByteArray := prog_1_method_82_code
def yX1_goesOn : MethodName := ⟨RX1, "goesOn", "([I)Z"⟩
def dkwX1_goesOn_3 : List UInt8 := [132, 3, 1, 132, 4, 255, 167, 255, 237, 4, 172]
abbrev dktX1_goesOn_3 : List UInt8 := dkwX1_goesOn_3 ++ []
def dkwX1_goesOn_2 : List UInt8 := [28, 184, 1, 193, 27, 4, 96, 62, 7, 54, 4, 29, 21, 4, 162, 0, 19, 42, 29, 21, 4, 184, 1, 193]
abbrev dktX1_goesOn_2 : List UInt8 := dkwX1_goesOn_2 ++ dktX1_goesOn_3
def dkwX1_goesOn_1 : List UInt8 := [156, 0, 5, 3, 172, 7, 61, 42, 28, 46, 42, 27, 46, 162, 0, 9, 132, 2, 255, 167, 255, 244, 42, 27]
abbrev dktX1_goesOn_1 : List UInt8 := dkwX1_goesOn_1 ++ dktX1_goesOn_2
def dkwX1_goesOn_0 : List UInt8 := [6, 60, 27, 155, 0, 20, 42, 27, 46, 42, 27, 4, 96, 46, 164, 0, 9, 132, 1, 255, 167, 255, 238, 27]
abbrev dktX1_goesOn_0 : List UInt8 := dkwX1_goesOn_0 ++ dktX1_goesOn_1
theorem dksX1_goesOn_0 : cX1_goesOn.data.toList.drop 0 = dktX1_goesOn_0 := by decide +kernel
theorem dksX1_goesOn_1 : cX1_goesOn.data.toList.drop 24 = dktX1_goesOn_1 := dk_seg dksX1_goesOn_0 24 rfl rfl
theorem dksX1_goesOn_2 : cX1_goesOn.data.toList.drop 48 = dktX1_goesOn_2 := dk_seg dksX1_goesOn_1 24 rfl rfl
theorem dksX1_goesOn_3 : cX1_goesOn.data.toList.drop 72 = dktX1_goesOn_3 := dk_seg dksX1_goesOn_2 24 rfl rfl
theorem dX1_goesOn_0 : decode cX1_goesOn 0 = .ok (.iconst 3, 1) := dk_6 (dk_at dksX1_goesOn_0 0 rfl rfl)
theorem dX1_goesOn_1 : decode cX1_goesOn 1 = .ok (.istore_n 1, 1) := dk_60 (dk_at dksX1_goesOn_0 1 rfl rfl)
theorem dX1_goesOn_2 : decode cX1_goesOn 2 = .ok (.iload_n 1, 1) := dk_27 (dk_at dksX1_goesOn_0 2 rfl rfl)
theorem dX1_goesOn_3 : decode cX1_goesOn 3 = .ok (.ifCond .lt 20, 3) := dk_155 0 20 (dk_at dksX1_goesOn_0 3 rfl rfl)
theorem dX1_goesOn_6 : decode cX1_goesOn 6 = .ok (.aload_n 0, 1) := dk_42 (dk_at dksX1_goesOn_0 6 rfl rfl)
theorem dX1_goesOn_7 : decode cX1_goesOn 7 = .ok (.iload_n 1, 1) := dk_27 (dk_at dksX1_goesOn_0 7 rfl rfl)
theorem dX1_goesOn_8 : decode cX1_goesOn 8 = .ok (.iaload, 1) := dk_46 (dk_at dksX1_goesOn_0 8 rfl rfl)
theorem dX1_goesOn_9 : decode cX1_goesOn 9 = .ok (.aload_n 0, 1) := dk_42 (dk_at dksX1_goesOn_0 9 rfl rfl)
theorem dX1_goesOn_10 : decode cX1_goesOn 10 = .ok (.iload_n 1, 1) := dk_27 (dk_at dksX1_goesOn_0 10 rfl rfl)
theorem dX1_goesOn_11 : decode cX1_goesOn 11 = .ok (.iconst 1, 1) := dk_4 (dk_at dksX1_goesOn_0 11 rfl rfl)
theorem dX1_goesOn_12 : decode cX1_goesOn 12 = .ok (.iadd, 1) := dk_96 (dk_at dksX1_goesOn_0 12 rfl rfl)
theorem dX1_goesOn_13 : decode cX1_goesOn 13 = .ok (.iaload, 1) := dk_46 (dk_at dksX1_goesOn_0 13 rfl rfl)
theorem dX1_goesOn_14 : decode cX1_goesOn 14 = .ok (.if_icmp .le 9, 3) := dk_164 0 9 (dk_at dksX1_goesOn_0 14 rfl rfl)
theorem dX1_goesOn_17 : decode cX1_goesOn 17 = .ok (.iinc 1 (-1), 3) := dk_132 1 255 (dk_at dksX1_goesOn_0 17 rfl rfl)
theorem dX1_goesOn_20 : decode cX1_goesOn 20 = .ok (.goto (-18), 3) := dk_167 255 238 (dk_at dksX1_goesOn_0 20 rfl rfl)
theorem dX1_goesOn_23 : decode cX1_goesOn 23 = .ok (.iload_n 1, 1) := dk_27 (dk_at dksX1_goesOn_0 23 rfl rfl)
theorem dX1_goesOn_24 : decode cX1_goesOn 24 = .ok (.ifCond .ge 5, 3) := dk_156 0 5 (dk_at dksX1_goesOn_1 0 rfl rfl)
theorem dX1_goesOn_27 : decode cX1_goesOn 27 = .ok (.iconst 0, 1) := dk_3 (dk_at dksX1_goesOn_1 3 rfl rfl)
theorem dX1_goesOn_28 : decode cX1_goesOn 28 = .ok (.ireturn, 1) := dk_172 (dk_at dksX1_goesOn_1 4 rfl rfl)
theorem dX1_goesOn_29 : decode cX1_goesOn 29 = .ok (.iconst 4, 1) := dk_7 (dk_at dksX1_goesOn_1 5 rfl rfl)
theorem dX1_goesOn_30 : decode cX1_goesOn 30 = .ok (.istore_n 2, 1) := dk_61 (dk_at dksX1_goesOn_1 6 rfl rfl)
theorem dX1_goesOn_31 : decode cX1_goesOn 31 = .ok (.aload_n 0, 1) := dk_42 (dk_at dksX1_goesOn_1 7 rfl rfl)
theorem dX1_goesOn_32 : decode cX1_goesOn 32 = .ok (.iload_n 2, 1) := dk_28 (dk_at dksX1_goesOn_1 8 rfl rfl)
theorem dX1_goesOn_33 : decode cX1_goesOn 33 = .ok (.iaload, 1) := dk_46 (dk_at dksX1_goesOn_1 9 rfl rfl)
theorem dX1_goesOn_34 : decode cX1_goesOn 34 = .ok (.aload_n 0, 1) := dk_42 (dk_at dksX1_goesOn_1 10 rfl rfl)
theorem dX1_goesOn_35 : decode cX1_goesOn 35 = .ok (.iload_n 1, 1) := dk_27 (dk_at dksX1_goesOn_1 11 rfl rfl)
theorem dX1_goesOn_36 : decode cX1_goesOn 36 = .ok (.iaload, 1) := dk_46 (dk_at dksX1_goesOn_1 12 rfl rfl)
theorem dX1_goesOn_37 : decode cX1_goesOn 37 = .ok (.if_icmp .ge 9, 3) := dk_162 0 9 (dk_at dksX1_goesOn_1 13 rfl rfl)
theorem dX1_goesOn_40 : decode cX1_goesOn 40 = .ok (.iinc 2 (-1), 3) := dk_132 2 255 (dk_at dksX1_goesOn_1 16 rfl rfl)
theorem dX1_goesOn_43 : decode cX1_goesOn 43 = .ok (.goto (-12), 3) := dk_167 255 244 (dk_at dksX1_goesOn_1 19 rfl rfl)
theorem dX1_goesOn_46 : decode cX1_goesOn 46 = .ok (.aload_n 0, 1) := dk_42 (dk_at dksX1_goesOn_1 22 rfl rfl)
theorem dX1_goesOn_47 : decode cX1_goesOn 47 = .ok (.iload_n 1, 1) := dk_27 (dk_at dksX1_goesOn_1 23 rfl rfl)
theorem dX1_goesOn_48 : decode cX1_goesOn 48 = .ok (.iload_n 2, 1) := dk_28 (dk_at dksX1_goesOn_2 0 rfl rfl)
theorem dX1_goesOn_49 : decode cX1_goesOn 49 = .ok (.invokestatic 449, 3) := dk_184 1 193 (dk_at dksX1_goesOn_2 1 rfl rfl)
theorem dX1_goesOn_52 : decode cX1_goesOn 52 = .ok (.iload_n 1, 1) := dk_27 (dk_at dksX1_goesOn_2 4 rfl rfl)
theorem dX1_goesOn_53 : decode cX1_goesOn 53 = .ok (.iconst 1, 1) := dk_4 (dk_at dksX1_goesOn_2 5 rfl rfl)
theorem dX1_goesOn_54 : decode cX1_goesOn 54 = .ok (.iadd, 1) := dk_96 (dk_at dksX1_goesOn_2 6 rfl rfl)
theorem dX1_goesOn_55 : decode cX1_goesOn 55 = .ok (.istore_n 3, 1) := dk_62 (dk_at dksX1_goesOn_2 7 rfl rfl)
theorem dX1_goesOn_56 : decode cX1_goesOn 56 = .ok (.iconst 4, 1) := dk_7 (dk_at dksX1_goesOn_2 8 rfl rfl)
theorem dX1_goesOn_57 : decode cX1_goesOn 57 = .ok (.istore 4, 2) := dk_54 4 (dk_at dksX1_goesOn_2 9 rfl rfl)
theorem dX1_goesOn_59 : decode cX1_goesOn 59 = .ok (.iload_n 3, 1) := dk_29 (dk_at dksX1_goesOn_2 11 rfl rfl)
theorem dX1_goesOn_60 : decode cX1_goesOn 60 = .ok (.iload 4, 2) := dk_21 4 (dk_at dksX1_goesOn_2 12 rfl rfl)
theorem dX1_goesOn_62 : decode cX1_goesOn 62 = .ok (.if_icmp .ge 19, 3) := dk_162 0 19 (dk_at dksX1_goesOn_2 14 rfl rfl)
theorem dX1_goesOn_65 : decode cX1_goesOn 65 = .ok (.aload_n 0, 1) := dk_42 (dk_at dksX1_goesOn_2 17 rfl rfl)
theorem dX1_goesOn_66 : decode cX1_goesOn 66 = .ok (.iload_n 3, 1) := dk_29 (dk_at dksX1_goesOn_2 18 rfl rfl)
theorem dX1_goesOn_67 : decode cX1_goesOn 67 = .ok (.iload 4, 2) := dk_21 4 (dk_at dksX1_goesOn_2 19 rfl rfl)
theorem dX1_goesOn_69 : decode cX1_goesOn 69 = .ok (.invokestatic 449, 3) := dk_184 1 193 (dk_at dksX1_goesOn_2 21 rfl rfl)
theorem dX1_goesOn_72 : decode cX1_goesOn 72 = .ok (.iinc 3 1, 3) := dk_132 3 1 (dk_at dksX1_goesOn_3 0 rfl rfl)
theorem dX1_goesOn_75 : decode cX1_goesOn 75 = .ok (.iinc 4 (-1), 3) := dk_132 4 255 (dk_at dksX1_goesOn_3 3 rfl rfl)
theorem dX1_goesOn_78 : decode cX1_goesOn 78 = .ok (.goto (-19), 3) := dk_167 255 237 (dk_at dksX1_goesOn_3 6 rfl rfl)
theorem dX1_goesOn_81 : decode cX1_goesOn 81 = .ok (.iconst 1, 1) := dk_4 (dk_at dksX1_goesOn_3 9 rfl rfl)
theorem dX1_goesOn_82 : decode cX1_goesOn 82 = .ok (.ireturn, 1) := dk_172 (dk_at dksX1_goesOn_3 10 rfl rfl)
abbrev cX1_swap : ByteArray := prog_1_method_83_code
def yX1_swap : MethodName := ⟨RX1, "swap", "([III)V"⟩
def dkwX1_swap_0 : List UInt8 := [42, 27, 46, 62, 42, 27, 42, 28, 46, 79, 42, 28, 29, 79, 177]
abbrev dktX1_swap_0 : List UInt8 := dkwX1_swap_0 ++ []
theorem dksX1_swap_0 : cX1_swap.data.toList.drop 0 = dktX1_swap_0 := by decide +kernel
theorem dX1_swap_0 : decode cX1_swap 0 = .ok (.aload_n 0, 1) := dk_42 (dk_at dksX1_swap_0 0 rfl rfl)
theorem dX1_swap_1 : decode cX1_swap 1 = .ok (.iload_n 1, 1) := dk_27 (dk_at dksX1_swap_0 1 rfl rfl)
theorem dX1_swap_2 : decode cX1_swap 2 = .ok (.iaload, 1) := dk_46 (dk_at dksX1_swap_0 2 rfl rfl)
theorem dX1_swap_3 : decode cX1_swap 3 = .ok (.istore_n 3, 1) := dk_62 (dk_at dksX1_swap_0 3 rfl rfl)
theorem dX1_swap_4 : decode cX1_swap 4 = .ok (.aload_n 0, 1) := dk_42 (dk_at dksX1_swap_0 4 rfl rfl)
theorem dX1_swap_5 : decode cX1_swap 5 = .ok (.iload_n 1, 1) := dk_27 (dk_at dksX1_swap_0 5 rfl rfl)
theorem dX1_swap_6 : decode cX1_swap 6 = .ok (.aload_n 0, 1) := dk_42 (dk_at dksX1_swap_0 6 rfl rfl)
theorem dX1_swap_7 : decode cX1_swap 7 = .ok (.iload_n 2, 1) := dk_28 (dk_at dksX1_swap_0 7 rfl rfl)
theorem dX1_swap_8 : decode cX1_swap 8 = .ok (.iaload, 1) := dk_46 (dk_at dksX1_swap_0 8 rfl rfl)
theorem dX1_swap_9 : decode cX1_swap 9 = .ok (.iastore, 1) := dk_79 (dk_at dksX1_swap_0 9 rfl rfl)
theorem dX1_swap_10 : decode cX1_swap 10 = .ok (.aload_n 0, 1) := dk_42 (dk_at dksX1_swap_0 10 rfl rfl)
theorem dX1_swap_11 : decode cX1_swap 11 = .ok (.iload_n 2, 1) := dk_28 (dk_at dksX1_swap_0 11 rfl rfl)
theorem dX1_swap_12 : decode cX1_swap 12 = .ok (.iload_n 3, 1) := dk_29 (dk_at dksX1_swap_0 12 rfl rfl)
theorem dX1_swap_13 : decode cX1_swap 13 = .ok (.iastore, 1) := dk_79 (dk_at dksX1_swap_0 13 rfl rfl)
theorem dX1_swap_14 : decode cX1_swap 14 = .ok (.return_, 1) := dk_177 (dk_at dksX1_swap_0 14 rfl rfl)
abbrev cX1_block : ByteArray := prog_1_method_89_code
def yX1_block : MethodName := ⟨RX1, "block", "(II)I"⟩
def dkwX1_block_2 : List UInt8 := [167, 0, 22, 28, 154, 0, 12, 42, 180, 0, 120, 27, 46, 167, 0, 9, 42, 180, 0, 123, 27, 46, 172]
abbrev dktX1_block_2 : List UInt8 := dkwX1_block_2 ++ []
def dkwX1_block_1 : List UInt8 := [154, 0, 5, 2, 172, 42, 182, 1, 211, 62, 27, 2, 160, 0, 5, 29, 172, 27, 29, 161, 0, 7, 2]
abbrev dktX1_block_1 : List UInt8 := dkwX1_block_1 ++ dktX1_block_2
def dkwX1_block_0 : List UInt8 := [42, 180, 0, 220, 198, 0, 22, 27, 2, 161, 0, 17, 27, 2, 159, 0, 14, 28, 3, 4, 184, 0, 149]
abbrev dktX1_block_0 : List UInt8 := dkwX1_block_0 ++ dktX1_block_1
theorem dksX1_block_0 : cX1_block.data.toList.drop 0 = dktX1_block_0 := by decide +kernel
theorem dksX1_block_1 : cX1_block.data.toList.drop 23 = dktX1_block_1 := dk_seg dksX1_block_0 23 rfl rfl
theorem dksX1_block_2 : cX1_block.data.toList.drop 46 = dktX1_block_2 := dk_seg dksX1_block_1 23 rfl rfl
theorem dX1_block_0 : decode cX1_block 0 = .ok (.aload_n 0, 1) := dk_42 (dk_at dksX1_block_0 0 rfl rfl)
theorem dX1_block_1 : decode cX1_block 1 = .ok (.getfield 220, 3) := dk_180 0 220 (dk_at dksX1_block_0 1 rfl rfl)
theorem dX1_block_4 : decode cX1_block 4 = .ok (.ifnull 22, 3) := dk_198 0 22 (dk_at dksX1_block_0 4 rfl rfl)
theorem dX1_block_7 : decode cX1_block 7 = .ok (.iload_n 1, 1) := dk_27 (dk_at dksX1_block_0 7 rfl rfl)
theorem dX1_block_8 : decode cX1_block 8 = .ok (.iconst (-1), 1) := dk_2 (dk_at dksX1_block_0 8 rfl rfl)
theorem dX1_block_9 : decode cX1_block 9 = .ok (.if_icmp .lt 17, 3) := dk_161 0 17 (dk_at dksX1_block_0 9 rfl rfl)
theorem dX1_block_12 : decode cX1_block 12 = .ok (.iload_n 1, 1) := dk_27 (dk_at dksX1_block_0 12 rfl rfl)
theorem dX1_block_13 : decode cX1_block 13 = .ok (.iconst (-1), 1) := dk_2 (dk_at dksX1_block_0 13 rfl rfl)
theorem dX1_block_14 : decode cX1_block 14 = .ok (.if_icmp .eq 14, 3) := dk_159 0 14 (dk_at dksX1_block_0 14 rfl rfl)
theorem dX1_block_17 : decode cX1_block 17 = .ok (.iload_n 2, 1) := dk_28 (dk_at dksX1_block_0 17 rfl rfl)
theorem dX1_block_18 : decode cX1_block 18 = .ok (.iconst 0, 1) := dk_3 (dk_at dksX1_block_0 18 rfl rfl)
theorem dX1_block_19 : decode cX1_block 19 = .ok (.iconst 1, 1) := dk_4 (dk_at dksX1_block_0 19 rfl rfl)
theorem dX1_block_20 : decode cX1_block 20 = .ok (.invokestatic 149, 3) := dk_184 0 149 (dk_at dksX1_block_0 20 rfl rfl)
theorem dX1_block_23 : decode cX1_block 23 = .ok (.ifCond .ne 5, 3) := dk_154 0 5 (dk_at dksX1_block_1 0 rfl rfl)
theorem dX1_block_26 : decode cX1_block 26 = .ok (.iconst (-1), 1) := dk_2 (dk_at dksX1_block_1 3 rfl rfl)
theorem dX1_block_27 : decode cX1_block 27 = .ok (.ireturn, 1) := dk_172 (dk_at dksX1_block_1 4 rfl rfl)
theorem dX1_block_28 : decode cX1_block 28 = .ok (.aload_n 0, 1) := dk_42 (dk_at dksX1_block_1 5 rfl rfl)
theorem dX1_block_29 : decode cX1_block 29 = .ok (.invokevirtual 467, 3) := dk_182 1 211 (dk_at dksX1_block_1 6 rfl rfl)
theorem dX1_block_32 : decode cX1_block 32 = .ok (.istore_n 3, 1) := dk_62 (dk_at dksX1_block_1 9 rfl rfl)
theorem dX1_block_33 : decode cX1_block 33 = .ok (.iload_n 1, 1) := dk_27 (dk_at dksX1_block_1 10 rfl rfl)
theorem dX1_block_34 : decode cX1_block 34 = .ok (.iconst (-1), 1) := dk_2 (dk_at dksX1_block_1 11 rfl rfl)
theorem dX1_block_35 : decode cX1_block 35 = .ok (.if_icmp .ne 5, 3) := dk_160 0 5 (dk_at dksX1_block_1 12 rfl rfl)
theorem dX1_block_38 : decode cX1_block 38 = .ok (.iload_n 3, 1) := dk_29 (dk_at dksX1_block_1 15 rfl rfl)
theorem dX1_block_39 : decode cX1_block 39 = .ok (.ireturn, 1) := dk_172 (dk_at dksX1_block_1 16 rfl rfl)
theorem dX1_block_40 : decode cX1_block 40 = .ok (.iload_n 1, 1) := dk_27 (dk_at dksX1_block_1 17 rfl rfl)
theorem dX1_block_41 : decode cX1_block 41 = .ok (.iload_n 3, 1) := dk_29 (dk_at dksX1_block_1 18 rfl rfl)
theorem dX1_block_42 : decode cX1_block 42 = .ok (.if_icmp .lt 7, 3) := dk_161 0 7 (dk_at dksX1_block_1 19 rfl rfl)
theorem dX1_block_45 : decode cX1_block 45 = .ok (.iconst (-1), 1) := dk_2 (dk_at dksX1_block_1 22 rfl rfl)
theorem dX1_block_46 : decode cX1_block 46 = .ok (.goto 22, 3) := dk_167 0 22 (dk_at dksX1_block_2 0 rfl rfl)
theorem dX1_block_49 : decode cX1_block 49 = .ok (.iload_n 2, 1) := dk_28 (dk_at dksX1_block_2 3 rfl rfl)
theorem dX1_block_50 : decode cX1_block 50 = .ok (.ifCond .ne 12, 3) := dk_154 0 12 (dk_at dksX1_block_2 4 rfl rfl)
theorem dX1_block_53 : decode cX1_block 53 = .ok (.aload_n 0, 1) := dk_42 (dk_at dksX1_block_2 7 rfl rfl)
theorem dX1_block_54 : decode cX1_block 54 = .ok (.getfield 120, 3) := dk_180 0 120 (dk_at dksX1_block_2 8 rfl rfl)
theorem dX1_block_57 : decode cX1_block 57 = .ok (.iload_n 1, 1) := dk_27 (dk_at dksX1_block_2 11 rfl rfl)
theorem dX1_block_58 : decode cX1_block 58 = .ok (.iaload, 1) := dk_46 (dk_at dksX1_block_2 12 rfl rfl)
theorem dX1_block_59 : decode cX1_block 59 = .ok (.goto 9, 3) := dk_167 0 9 (dk_at dksX1_block_2 13 rfl rfl)
theorem dX1_block_62 : decode cX1_block 62 = .ok (.aload_n 0, 1) := dk_42 (dk_at dksX1_block_2 16 rfl rfl)
theorem dX1_block_63 : decode cX1_block 63 = .ok (.getfield 123, 3) := dk_180 0 123 (dk_at dksX1_block_2 17 rfl rfl)
theorem dX1_block_66 : decode cX1_block 66 = .ok (.iload_n 1, 1) := dk_27 (dk_at dksX1_block_2 20 rfl rfl)
theorem dX1_block_67 : decode cX1_block 67 = .ok (.iaload, 1) := dk_46 (dk_at dksX1_block_2 21 rfl rfl)
theorem dX1_block_68 : decode cX1_block 68 = .ok (.ireturn, 1) := dk_172 (dk_at dksX1_block_2 22 rfl rfl)
abbrev cX1_layBlocks : ByteArray := prog_1_method_88_code
def yX1_layBlocks : MethodName := ⟨RX1, "layBlocks", "()I"⟩
def dkwX1_layBlocks_5 : List UInt8 := [27, 46, 128, 62, 132, 1, 1, 132, 4, 1, 167, 255, 140, 27, 172]
abbrev dktX1_layBlocks_5 : List UInt8 := dkwX1_layBlocks_5 ++ []
def dkwX1_layBlocks_4 : List UInt8 := [167, 0, 31, 42, 21, 4, 27, 182, 1, 208, 28, 42, 180, 0, 120, 27, 46, 128, 61, 29, 42, 180, 0, 123]
abbrev dktX1_layBlocks_4 : List UInt8 := dkwX1_layBlocks_4 ++ dktX1_layBlocks_5
def dkwX1_layBlocks_3 : List UInt8 := [21, 4, 16, 6, 100, 184, 1, 65, 154, 0, 7, 4, 167, 0, 4, 3, 54, 5, 21, 5, 154, 0, 6]
abbrev dktX1_layBlocks_3 : List UInt8 := dkwX1_layBlocks_3 ++ dktX1_layBlocks_4
def dkwX1_layBlocks_2 : List UInt8 := [167, 0, 39, 3, 167, 0, 35, 21, 4, 16, 6, 100, 42, 180, 0, 220, 180, 0, 9, 162, 0, 19, 29]
abbrev dktX1_layBlocks_2 : List UInt8 := dkwX1_layBlocks_2 ++ dktX1_layBlocks_3
def dkwX1_layBlocks_1 : List UInt8 := [21, 4, 42, 180, 0, 220, 180, 0, 17, 162, 0, 16, 28, 21, 4, 184, 1, 65, 154, 0, 7, 4]
abbrev dktX1_layBlocks_1 : List UInt8 := dkwX1_layBlocks_1 ++ dktX1_layBlocks_2
def dkwX1_layBlocks_0 : List UInt8 := [3, 60, 3, 61, 3, 62, 3, 54, 4, 21, 4, 16, 12, 162, 0, 115, 21, 4, 16, 6, 162, 0, 32]
abbrev dktX1_layBlocks_0 : List UInt8 := dkwX1_layBlocks_0 ++ dktX1_layBlocks_1
theorem dksX1_layBlocks_0 : cX1_layBlocks.data.toList.drop 0 = dktX1_layBlocks_0 := by decide +kernel
theorem dksX1_layBlocks_1 : cX1_layBlocks.data.toList.drop 23 = dktX1_layBlocks_1 := dk_seg dksX1_layBlocks_0 23 rfl rfl
theorem dksX1_layBlocks_2 : cX1_layBlocks.data.toList.drop 45 = dktX1_layBlocks_2 := dk_seg dksX1_layBlocks_1 22 rfl rfl
theorem dksX1_layBlocks_3 : cX1_layBlocks.data.toList.drop 68 = dktX1_layBlocks_3 := dk_seg dksX1_layBlocks_2 23 rfl rfl
theorem dksX1_layBlocks_4 : cX1_layBlocks.data.toList.drop 91 = dktX1_layBlocks_4 := dk_seg dksX1_layBlocks_3 23 rfl rfl
theorem dksX1_layBlocks_5 : cX1_layBlocks.data.toList.drop 115 = dktX1_layBlocks_5 := dk_seg dksX1_layBlocks_4 24 rfl rfl
theorem dX1_layBlocks_0 : decode cX1_layBlocks 0 = .ok (.iconst 0, 1) := dk_3 (dk_at dksX1_layBlocks_0 0 rfl rfl)
theorem dX1_layBlocks_1 : decode cX1_layBlocks 1 = .ok (.istore_n 1, 1) := dk_60 (dk_at dksX1_layBlocks_0 1 rfl rfl)
theorem dX1_layBlocks_2 : decode cX1_layBlocks 2 = .ok (.iconst 0, 1) := dk_3 (dk_at dksX1_layBlocks_0 2 rfl rfl)
theorem dX1_layBlocks_3 : decode cX1_layBlocks 3 = .ok (.istore_n 2, 1) := dk_61 (dk_at dksX1_layBlocks_0 3 rfl rfl)
theorem dX1_layBlocks_4 : decode cX1_layBlocks 4 = .ok (.iconst 0, 1) := dk_3 (dk_at dksX1_layBlocks_0 4 rfl rfl)
theorem dX1_layBlocks_5 : decode cX1_layBlocks 5 = .ok (.istore_n 3, 1) := dk_62 (dk_at dksX1_layBlocks_0 5 rfl rfl)
theorem dX1_layBlocks_6 : decode cX1_layBlocks 6 = .ok (.iconst 0, 1) := dk_3 (dk_at dksX1_layBlocks_0 6 rfl rfl)
theorem dX1_layBlocks_7 : decode cX1_layBlocks 7 = .ok (.istore 4, 2) := dk_54 4 (dk_at dksX1_layBlocks_0 7 rfl rfl)
theorem dX1_layBlocks_9 : decode cX1_layBlocks 9 = .ok (.iload 4, 2) := dk_21 4 (dk_at dksX1_layBlocks_0 9 rfl rfl)
theorem dX1_layBlocks_11 : decode cX1_layBlocks 11 = .ok (.bipush 12, 2) := dk_16 12 (dk_at dksX1_layBlocks_0 11 rfl rfl)
theorem dX1_layBlocks_13 : decode cX1_layBlocks 13 = .ok (.if_icmp .ge 115, 3) := dk_162 0 115 (dk_at dksX1_layBlocks_0 13 rfl rfl)
theorem dX1_layBlocks_16 : decode cX1_layBlocks 16 = .ok (.iload 4, 2) := dk_21 4 (dk_at dksX1_layBlocks_0 16 rfl rfl)
theorem dX1_layBlocks_18 : decode cX1_layBlocks 18 = .ok (.bipush 6, 2) := dk_16 6 (dk_at dksX1_layBlocks_0 18 rfl rfl)
theorem dX1_layBlocks_20 : decode cX1_layBlocks 20 = .ok (.if_icmp .ge 32, 3) := dk_162 0 32 (dk_at dksX1_layBlocks_0 20 rfl rfl)
theorem dX1_layBlocks_23 : decode cX1_layBlocks 23 = .ok (.iload 4, 2) := dk_21 4 (dk_at dksX1_layBlocks_1 0 rfl rfl)
theorem dX1_layBlocks_25 : decode cX1_layBlocks 25 = .ok (.aload_n 0, 1) := dk_42 (dk_at dksX1_layBlocks_1 2 rfl rfl)
theorem dX1_layBlocks_26 : decode cX1_layBlocks 26 = .ok (.getfield 220, 3) := dk_180 0 220 (dk_at dksX1_layBlocks_1 3 rfl rfl)
theorem dX1_layBlocks_29 : decode cX1_layBlocks 29 = .ok (.getfield 17, 3) := dk_180 0 17 (dk_at dksX1_layBlocks_1 6 rfl rfl)
theorem dX1_layBlocks_32 : decode cX1_layBlocks 32 = .ok (.if_icmp .ge 16, 3) := dk_162 0 16 (dk_at dksX1_layBlocks_1 9 rfl rfl)
theorem dX1_layBlocks_35 : decode cX1_layBlocks 35 = .ok (.iload_n 2, 1) := dk_28 (dk_at dksX1_layBlocks_1 12 rfl rfl)
theorem dX1_layBlocks_36 : decode cX1_layBlocks 36 = .ok (.iload 4, 2) := dk_21 4 (dk_at dksX1_layBlocks_1 13 rfl rfl)
theorem dX1_layBlocks_38 : decode cX1_layBlocks 38 = .ok (.invokestatic 321, 3) := dk_184 1 65 (dk_at dksX1_layBlocks_1 15 rfl rfl)
theorem dX1_layBlocks_41 : decode cX1_layBlocks 41 = .ok (.ifCond .ne 7, 3) := dk_154 0 7 (dk_at dksX1_layBlocks_1 18 rfl rfl)
theorem dX1_layBlocks_44 : decode cX1_layBlocks 44 = .ok (.iconst 1, 1) := dk_4 (dk_at dksX1_layBlocks_1 21 rfl rfl)
theorem dX1_layBlocks_45 : decode cX1_layBlocks 45 = .ok (.goto 39, 3) := dk_167 0 39 (dk_at dksX1_layBlocks_2 0 rfl rfl)
theorem dX1_layBlocks_48 : decode cX1_layBlocks 48 = .ok (.iconst 0, 1) := dk_3 (dk_at dksX1_layBlocks_2 3 rfl rfl)
theorem dX1_layBlocks_49 : decode cX1_layBlocks 49 = .ok (.goto 35, 3) := dk_167 0 35 (dk_at dksX1_layBlocks_2 4 rfl rfl)
theorem dX1_layBlocks_52 : decode cX1_layBlocks 52 = .ok (.iload 4, 2) := dk_21 4 (dk_at dksX1_layBlocks_2 7 rfl rfl)
theorem dX1_layBlocks_54 : decode cX1_layBlocks 54 = .ok (.bipush 6, 2) := dk_16 6 (dk_at dksX1_layBlocks_2 9 rfl rfl)
theorem dX1_layBlocks_56 : decode cX1_layBlocks 56 = .ok (.isub, 1) := dk_100 (dk_at dksX1_layBlocks_2 11 rfl rfl)
theorem dX1_layBlocks_57 : decode cX1_layBlocks 57 = .ok (.aload_n 0, 1) := dk_42 (dk_at dksX1_layBlocks_2 12 rfl rfl)
theorem dX1_layBlocks_58 : decode cX1_layBlocks 58 = .ok (.getfield 220, 3) := dk_180 0 220 (dk_at dksX1_layBlocks_2 13 rfl rfl)
theorem dX1_layBlocks_61 : decode cX1_layBlocks 61 = .ok (.getfield 9, 3) := dk_180 0 9 (dk_at dksX1_layBlocks_2 16 rfl rfl)
theorem dX1_layBlocks_64 : decode cX1_layBlocks 64 = .ok (.if_icmp .ge 19, 3) := dk_162 0 19 (dk_at dksX1_layBlocks_2 19 rfl rfl)
theorem dX1_layBlocks_67 : decode cX1_layBlocks 67 = .ok (.iload_n 3, 1) := dk_29 (dk_at dksX1_layBlocks_2 22 rfl rfl)
theorem dX1_layBlocks_68 : decode cX1_layBlocks 68 = .ok (.iload 4, 2) := dk_21 4 (dk_at dksX1_layBlocks_3 0 rfl rfl)
theorem dX1_layBlocks_70 : decode cX1_layBlocks 70 = .ok (.bipush 6, 2) := dk_16 6 (dk_at dksX1_layBlocks_3 2 rfl rfl)
theorem dX1_layBlocks_72 : decode cX1_layBlocks 72 = .ok (.isub, 1) := dk_100 (dk_at dksX1_layBlocks_3 4 rfl rfl)
theorem dX1_layBlocks_73 : decode cX1_layBlocks 73 = .ok (.invokestatic 321, 3) := dk_184 1 65 (dk_at dksX1_layBlocks_3 5 rfl rfl)
theorem dX1_layBlocks_76 : decode cX1_layBlocks 76 = .ok (.ifCond .ne 7, 3) := dk_154 0 7 (dk_at dksX1_layBlocks_3 8 rfl rfl)
theorem dX1_layBlocks_79 : decode cX1_layBlocks 79 = .ok (.iconst 1, 1) := dk_4 (dk_at dksX1_layBlocks_3 11 rfl rfl)
theorem dX1_layBlocks_80 : decode cX1_layBlocks 80 = .ok (.goto 4, 3) := dk_167 0 4 (dk_at dksX1_layBlocks_3 12 rfl rfl)
theorem dX1_layBlocks_83 : decode cX1_layBlocks 83 = .ok (.iconst 0, 1) := dk_3 (dk_at dksX1_layBlocks_3 15 rfl rfl)
theorem dX1_layBlocks_84 : decode cX1_layBlocks 84 = .ok (.istore 5, 2) := dk_54 5 (dk_at dksX1_layBlocks_3 16 rfl rfl)
theorem dX1_layBlocks_86 : decode cX1_layBlocks 86 = .ok (.iload 5, 2) := dk_21 5 (dk_at dksX1_layBlocks_3 18 rfl rfl)
theorem dX1_layBlocks_88 : decode cX1_layBlocks 88 = .ok (.ifCond .ne 6, 3) := dk_154 0 6 (dk_at dksX1_layBlocks_3 20 rfl rfl)
theorem dX1_layBlocks_91 : decode cX1_layBlocks 91 = .ok (.goto 31, 3) := dk_167 0 31 (dk_at dksX1_layBlocks_4 0 rfl rfl)
theorem dX1_layBlocks_94 : decode cX1_layBlocks 94 = .ok (.aload_n 0, 1) := dk_42 (dk_at dksX1_layBlocks_4 3 rfl rfl)
theorem dX1_layBlocks_95 : decode cX1_layBlocks 95 = .ok (.iload 4, 2) := dk_21 4 (dk_at dksX1_layBlocks_4 4 rfl rfl)
theorem dX1_layBlocks_97 : decode cX1_layBlocks 97 = .ok (.iload_n 1, 1) := dk_27 (dk_at dksX1_layBlocks_4 6 rfl rfl)
theorem dX1_layBlocks_98 : decode cX1_layBlocks 98 = .ok (.invokevirtual 464, 3) := dk_182 1 208 (dk_at dksX1_layBlocks_4 7 rfl rfl)
theorem dX1_layBlocks_101 : decode cX1_layBlocks 101 = .ok (.iload_n 2, 1) := dk_28 (dk_at dksX1_layBlocks_4 10 rfl rfl)
theorem dX1_layBlocks_102 : decode cX1_layBlocks 102 = .ok (.aload_n 0, 1) := dk_42 (dk_at dksX1_layBlocks_4 11 rfl rfl)
theorem dX1_layBlocks_103 : decode cX1_layBlocks 103 = .ok (.getfield 120, 3) := dk_180 0 120 (dk_at dksX1_layBlocks_4 12 rfl rfl)
theorem dX1_layBlocks_106 : decode cX1_layBlocks 106 = .ok (.iload_n 1, 1) := dk_27 (dk_at dksX1_layBlocks_4 15 rfl rfl)
theorem dX1_layBlocks_107 : decode cX1_layBlocks 107 = .ok (.iaload, 1) := dk_46 (dk_at dksX1_layBlocks_4 16 rfl rfl)
theorem dX1_layBlocks_108 : decode cX1_layBlocks 108 = .ok (.ior, 1) := dk_128 (dk_at dksX1_layBlocks_4 17 rfl rfl)
theorem dX1_layBlocks_109 : decode cX1_layBlocks 109 = .ok (.istore_n 2, 1) := dk_61 (dk_at dksX1_layBlocks_4 18 rfl rfl)
theorem dX1_layBlocks_110 : decode cX1_layBlocks 110 = .ok (.iload_n 3, 1) := dk_29 (dk_at dksX1_layBlocks_4 19 rfl rfl)
theorem dX1_layBlocks_111 : decode cX1_layBlocks 111 = .ok (.aload_n 0, 1) := dk_42 (dk_at dksX1_layBlocks_4 20 rfl rfl)
theorem dX1_layBlocks_112 : decode cX1_layBlocks 112 = .ok (.getfield 123, 3) := dk_180 0 123 (dk_at dksX1_layBlocks_4 21 rfl rfl)
theorem dX1_layBlocks_115 : decode cX1_layBlocks 115 = .ok (.iload_n 1, 1) := dk_27 (dk_at dksX1_layBlocks_5 0 rfl rfl)
theorem dX1_layBlocks_116 : decode cX1_layBlocks 116 = .ok (.iaload, 1) := dk_46 (dk_at dksX1_layBlocks_5 1 rfl rfl)
theorem dX1_layBlocks_117 : decode cX1_layBlocks 117 = .ok (.ior, 1) := dk_128 (dk_at dksX1_layBlocks_5 2 rfl rfl)
theorem dX1_layBlocks_118 : decode cX1_layBlocks 118 = .ok (.istore_n 3, 1) := dk_62 (dk_at dksX1_layBlocks_5 3 rfl rfl)
theorem dX1_layBlocks_119 : decode cX1_layBlocks 119 = .ok (.iinc 1 1, 3) := dk_132 1 1 (dk_at dksX1_layBlocks_5 4 rfl rfl)
theorem dX1_layBlocks_122 : decode cX1_layBlocks 122 = .ok (.iinc 4 1, 3) := dk_132 4 1 (dk_at dksX1_layBlocks_5 7 rfl rfl)
theorem dX1_layBlocks_125 : decode cX1_layBlocks 125 = .ok (.goto (-116), 3) := dk_167 255 140 (dk_at dksX1_layBlocks_5 10 rfl rfl)
theorem dX1_layBlocks_128 : decode cX1_layBlocks 128 = .ok (.iload_n 1, 1) := dk_27 (dk_at dksX1_layBlocks_5 13 rfl rfl)
theorem dX1_layBlocks_129 : decode cX1_layBlocks 129 = .ok (.ireturn, 1) := dk_172 (dk_at dksX1_layBlocks_5 14 rfl rfl)
abbrev cX1_layBlock : ByteArray := prog_1_method_87_code
def yX1_layBlock : MethodName := ⟨RX1, "layBlock", "(II)V"⟩
def dkwX1_layBlock_9 : List UInt8 := [182, 1, 149, 132, 4, 1, 167, 255, 197, 167, 255, 66, 177]
abbrev dktX1_layBlock_9 : List UInt8 := dkwX1_layBlock_9 ++ []
def dkwX1_layBlock_8 : List UInt8 := [180, 0, 120, 28, 46, 21, 4, 184, 1, 65, 154, 0, 15, 42, 180, 0, 95, 21, 4, 184, 1, 146]
abbrev dktX1_layBlock_8 : List UInt8 := dkwX1_layBlock_8 ++ dktX1_layBlock_9
def dkwX1_layBlock_7 : List UInt8 := [162, 0, 53, 42, 180, 0, 220, 180, 0, 13, 21, 4, 50, 29, 16, 6, 100, 46, 153, 0, 29, 42]
abbrev dktX1_layBlock_7 : List UInt8 := dkwX1_layBlock_7 ++ dktX1_layBlock_8
def dkwX1_layBlock_6 : List UInt8 := [28, 92, 46, 4, 29, 16, 6, 100, 120, 128, 79, 3, 54, 4, 21, 4, 42, 180, 0, 220, 180, 0, 17]
abbrev dktX1_layBlock_6 : List UInt8 := dkwX1_layBlock_6 ++ dktX1_layBlock_7
def dkwX1_layBlock_5 : List UInt8 := [16, 6, 21, 4, 96, 184, 1, 146, 182, 1, 149, 132, 4, 1, 167, 255, 197, 167, 0, 83, 42, 180, 0, 123]
abbrev dktX1_layBlock_5 : List UInt8 := dkwX1_layBlock_5 ++ dktX1_layBlock_6
def dkwX1_layBlock_4 : List UInt8 := [21, 4, 46, 153, 0, 32, 42, 180, 0, 123, 28, 46, 21, 4, 184, 1, 65, 154, 0, 18, 42, 180, 0, 95]
abbrev dktX1_layBlock_4 : List UInt8 := dkwX1_layBlock_4 ++ dktX1_layBlock_5
def dkwX1_layBlock_3 : List UInt8 := [54, 4, 21, 4, 42, 180, 0, 220, 180, 0, 9, 162, 0, 53, 42, 180, 0, 220, 180, 0, 13, 29, 50]
abbrev dktX1_layBlock_3 : List UInt8 := dkwX1_layBlock_3 ++ dktX1_layBlock_4
def dkwX1_layBlock_2 : List UInt8 := [182, 1, 142, 62, 29, 16, 6, 162, 0, 83, 42, 180, 0, 120, 28, 92, 46, 4, 29, 120, 128, 79, 3]
abbrev dktX1_layBlock_2 : List UInt8 := dkwX1_layBlock_2 ++ dktX1_layBlock_3
def dkwX1_layBlock_1 : List UInt8 := [182, 1, 149, 42, 180, 0, 95, 182, 1, 150, 154, 0, 186, 42, 180, 0, 95, 182, 1, 153, 192, 1, 58]
abbrev dktX1_layBlock_1 : List UInt8 := dkwX1_layBlock_1 ++ dktX1_layBlock_2
def dkwX1_layBlock_0 : List UInt8 := [42, 180, 0, 120, 28, 3, 79, 42, 180, 0, 123, 28, 3, 79, 42, 180, 0, 95, 27, 184, 1, 146]
abbrev dktX1_layBlock_0 : List UInt8 := dkwX1_layBlock_0 ++ dktX1_layBlock_1
theorem dksX1_layBlock_0 : cX1_layBlock.data.toList.drop 0 = dktX1_layBlock_0 := by decide +kernel
theorem dksX1_layBlock_1 : cX1_layBlock.data.toList.drop 22 = dktX1_layBlock_1 := dk_seg dksX1_layBlock_0 22 rfl rfl
theorem dksX1_layBlock_2 : cX1_layBlock.data.toList.drop 45 = dktX1_layBlock_2 := dk_seg dksX1_layBlock_1 23 rfl rfl
theorem dksX1_layBlock_3 : cX1_layBlock.data.toList.drop 68 = dktX1_layBlock_3 := dk_seg dksX1_layBlock_2 23 rfl rfl
theorem dksX1_layBlock_4 : cX1_layBlock.data.toList.drop 91 = dktX1_layBlock_4 := dk_seg dksX1_layBlock_3 23 rfl rfl
theorem dksX1_layBlock_5 : cX1_layBlock.data.toList.drop 115 = dktX1_layBlock_5 := dk_seg dksX1_layBlock_4 24 rfl rfl
theorem dksX1_layBlock_6 : cX1_layBlock.data.toList.drop 139 = dktX1_layBlock_6 := dk_seg dksX1_layBlock_5 24 rfl rfl
theorem dksX1_layBlock_7 : cX1_layBlock.data.toList.drop 162 = dktX1_layBlock_7 := dk_seg dksX1_layBlock_6 23 rfl rfl
theorem dksX1_layBlock_8 : cX1_layBlock.data.toList.drop 184 = dktX1_layBlock_8 := dk_seg dksX1_layBlock_7 22 rfl rfl
theorem dksX1_layBlock_9 : cX1_layBlock.data.toList.drop 206 = dktX1_layBlock_9 := dk_seg dksX1_layBlock_8 22 rfl rfl
theorem dX1_layBlock_0 : decode cX1_layBlock 0 = .ok (.aload_n 0, 1) := dk_42 (dk_at dksX1_layBlock_0 0 rfl rfl)
theorem dX1_layBlock_1 : decode cX1_layBlock 1 = .ok (.getfield 120, 3) := dk_180 0 120 (dk_at dksX1_layBlock_0 1 rfl rfl)
theorem dX1_layBlock_4 : decode cX1_layBlock 4 = .ok (.iload_n 2, 1) := dk_28 (dk_at dksX1_layBlock_0 4 rfl rfl)
theorem dX1_layBlock_5 : decode cX1_layBlock 5 = .ok (.iconst 0, 1) := dk_3 (dk_at dksX1_layBlock_0 5 rfl rfl)
theorem dX1_layBlock_6 : decode cX1_layBlock 6 = .ok (.iastore, 1) := dk_79 (dk_at dksX1_layBlock_0 6 rfl rfl)
theorem dX1_layBlock_7 : decode cX1_layBlock 7 = .ok (.aload_n 0, 1) := dk_42 (dk_at dksX1_layBlock_0 7 rfl rfl)
theorem dX1_layBlock_8 : decode cX1_layBlock 8 = .ok (.getfield 123, 3) := dk_180 0 123 (dk_at dksX1_layBlock_0 8 rfl rfl)
theorem dX1_layBlock_11 : decode cX1_layBlock 11 = .ok (.iload_n 2, 1) := dk_28 (dk_at dksX1_layBlock_0 11 rfl rfl)
theorem dX1_layBlock_12 : decode cX1_layBlock 12 = .ok (.iconst 0, 1) := dk_3 (dk_at dksX1_layBlock_0 12 rfl rfl)
theorem dX1_layBlock_13 : decode cX1_layBlock 13 = .ok (.iastore, 1) := dk_79 (dk_at dksX1_layBlock_0 13 rfl rfl)
theorem dX1_layBlock_14 : decode cX1_layBlock 14 = .ok (.aload_n 0, 1) := dk_42 (dk_at dksX1_layBlock_0 14 rfl rfl)
theorem dX1_layBlock_15 : decode cX1_layBlock 15 = .ok (.getfield 95, 3) := dk_180 0 95 (dk_at dksX1_layBlock_0 15 rfl rfl)
theorem dX1_layBlock_18 : decode cX1_layBlock 18 = .ok (.iload_n 1, 1) := dk_27 (dk_at dksX1_layBlock_0 18 rfl rfl)
theorem dX1_layBlock_19 : decode cX1_layBlock 19 = .ok (.invokestatic 402, 3) := dk_184 1 146 (dk_at dksX1_layBlock_0 19 rfl rfl)
theorem dX1_layBlock_22 : decode cX1_layBlock 22 = .ok (.invokevirtual 405, 3) := dk_182 1 149 (dk_at dksX1_layBlock_1 0 rfl rfl)
theorem dX1_layBlock_25 : decode cX1_layBlock 25 = .ok (.aload_n 0, 1) := dk_42 (dk_at dksX1_layBlock_1 3 rfl rfl)
theorem dX1_layBlock_26 : decode cX1_layBlock 26 = .ok (.getfield 95, 3) := dk_180 0 95 (dk_at dksX1_layBlock_1 4 rfl rfl)
theorem dX1_layBlock_29 : decode cX1_layBlock 29 = .ok (.invokevirtual 406, 3) := dk_182 1 150 (dk_at dksX1_layBlock_1 7 rfl rfl)
theorem dX1_layBlock_32 : decode cX1_layBlock 32 = .ok (.ifCond .ne 186, 3) := dk_154 0 186 (dk_at dksX1_layBlock_1 10 rfl rfl)
theorem dX1_layBlock_35 : decode cX1_layBlock 35 = .ok (.aload_n 0, 1) := dk_42 (dk_at dksX1_layBlock_1 13 rfl rfl)
theorem dX1_layBlock_36 : decode cX1_layBlock 36 = .ok (.getfield 95, 3) := dk_180 0 95 (dk_at dksX1_layBlock_1 14 rfl rfl)
theorem dX1_layBlock_39 : decode cX1_layBlock 39 = .ok (.invokevirtual 409, 3) := dk_182 1 153 (dk_at dksX1_layBlock_1 17 rfl rfl)
theorem dX1_layBlock_42 : decode cX1_layBlock 42 = .ok (.checkcast 314, 3) := dk_192 1 58 (dk_at dksX1_layBlock_1 20 rfl rfl)
theorem dX1_layBlock_45 : decode cX1_layBlock 45 = .ok (.invokevirtual 398, 3) := dk_182 1 142 (dk_at dksX1_layBlock_2 0 rfl rfl)
theorem dX1_layBlock_48 : decode cX1_layBlock 48 = .ok (.istore_n 3, 1) := dk_62 (dk_at dksX1_layBlock_2 3 rfl rfl)
theorem dX1_layBlock_49 : decode cX1_layBlock 49 = .ok (.iload_n 3, 1) := dk_29 (dk_at dksX1_layBlock_2 4 rfl rfl)
theorem dX1_layBlock_50 : decode cX1_layBlock 50 = .ok (.bipush 6, 2) := dk_16 6 (dk_at dksX1_layBlock_2 5 rfl rfl)
theorem dX1_layBlock_52 : decode cX1_layBlock 52 = .ok (.if_icmp .ge 83, 3) := dk_162 0 83 (dk_at dksX1_layBlock_2 7 rfl rfl)
theorem dX1_layBlock_55 : decode cX1_layBlock 55 = .ok (.aload_n 0, 1) := dk_42 (dk_at dksX1_layBlock_2 10 rfl rfl)
theorem dX1_layBlock_56 : decode cX1_layBlock 56 = .ok (.getfield 120, 3) := dk_180 0 120 (dk_at dksX1_layBlock_2 11 rfl rfl)
theorem dX1_layBlock_59 : decode cX1_layBlock 59 = .ok (.iload_n 2, 1) := dk_28 (dk_at dksX1_layBlock_2 14 rfl rfl)
theorem dX1_layBlock_60 : decode cX1_layBlock 60 = .ok (.dup2, 1) := dk_92 (dk_at dksX1_layBlock_2 15 rfl rfl)
theorem dX1_layBlock_61 : decode cX1_layBlock 61 = .ok (.iaload, 1) := dk_46 (dk_at dksX1_layBlock_2 16 rfl rfl)
theorem dX1_layBlock_62 : decode cX1_layBlock 62 = .ok (.iconst 1, 1) := dk_4 (dk_at dksX1_layBlock_2 17 rfl rfl)
theorem dX1_layBlock_63 : decode cX1_layBlock 63 = .ok (.iload_n 3, 1) := dk_29 (dk_at dksX1_layBlock_2 18 rfl rfl)
theorem dX1_layBlock_64 : decode cX1_layBlock 64 = .ok (.ishl, 1) := dk_120 (dk_at dksX1_layBlock_2 19 rfl rfl)
theorem dX1_layBlock_65 : decode cX1_layBlock 65 = .ok (.ior, 1) := dk_128 (dk_at dksX1_layBlock_2 20 rfl rfl)
theorem dX1_layBlock_66 : decode cX1_layBlock 66 = .ok (.iastore, 1) := dk_79 (dk_at dksX1_layBlock_2 21 rfl rfl)
theorem dX1_layBlock_67 : decode cX1_layBlock 67 = .ok (.iconst 0, 1) := dk_3 (dk_at dksX1_layBlock_2 22 rfl rfl)
theorem dX1_layBlock_68 : decode cX1_layBlock 68 = .ok (.istore 4, 2) := dk_54 4 (dk_at dksX1_layBlock_3 0 rfl rfl)
theorem dX1_layBlock_70 : decode cX1_layBlock 70 = .ok (.iload 4, 2) := dk_21 4 (dk_at dksX1_layBlock_3 2 rfl rfl)
theorem dX1_layBlock_72 : decode cX1_layBlock 72 = .ok (.aload_n 0, 1) := dk_42 (dk_at dksX1_layBlock_3 4 rfl rfl)
theorem dX1_layBlock_73 : decode cX1_layBlock 73 = .ok (.getfield 220, 3) := dk_180 0 220 (dk_at dksX1_layBlock_3 5 rfl rfl)
theorem dX1_layBlock_76 : decode cX1_layBlock 76 = .ok (.getfield 9, 3) := dk_180 0 9 (dk_at dksX1_layBlock_3 8 rfl rfl)
theorem dX1_layBlock_79 : decode cX1_layBlock 79 = .ok (.if_icmp .ge 53, 3) := dk_162 0 53 (dk_at dksX1_layBlock_3 11 rfl rfl)
theorem dX1_layBlock_82 : decode cX1_layBlock 82 = .ok (.aload_n 0, 1) := dk_42 (dk_at dksX1_layBlock_3 14 rfl rfl)
theorem dX1_layBlock_83 : decode cX1_layBlock 83 = .ok (.getfield 220, 3) := dk_180 0 220 (dk_at dksX1_layBlock_3 15 rfl rfl)
theorem dX1_layBlock_86 : decode cX1_layBlock 86 = .ok (.getfield 13, 3) := dk_180 0 13 (dk_at dksX1_layBlock_3 18 rfl rfl)
theorem dX1_layBlock_89 : decode cX1_layBlock 89 = .ok (.iload_n 3, 1) := dk_29 (dk_at dksX1_layBlock_3 21 rfl rfl)
theorem dX1_layBlock_90 : decode cX1_layBlock 90 = .ok (.aaload, 1) := dk_50 (dk_at dksX1_layBlock_3 22 rfl rfl)
theorem dX1_layBlock_91 : decode cX1_layBlock 91 = .ok (.iload 4, 2) := dk_21 4 (dk_at dksX1_layBlock_4 0 rfl rfl)
theorem dX1_layBlock_93 : decode cX1_layBlock 93 = .ok (.iaload, 1) := dk_46 (dk_at dksX1_layBlock_4 2 rfl rfl)
theorem dX1_layBlock_94 : decode cX1_layBlock 94 = .ok (.ifCond .eq 32, 3) := dk_153 0 32 (dk_at dksX1_layBlock_4 3 rfl rfl)
theorem dX1_layBlock_97 : decode cX1_layBlock 97 = .ok (.aload_n 0, 1) := dk_42 (dk_at dksX1_layBlock_4 6 rfl rfl)
theorem dX1_layBlock_98 : decode cX1_layBlock 98 = .ok (.getfield 123, 3) := dk_180 0 123 (dk_at dksX1_layBlock_4 7 rfl rfl)
theorem dX1_layBlock_101 : decode cX1_layBlock 101 = .ok (.iload_n 2, 1) := dk_28 (dk_at dksX1_layBlock_4 10 rfl rfl)
theorem dX1_layBlock_102 : decode cX1_layBlock 102 = .ok (.iaload, 1) := dk_46 (dk_at dksX1_layBlock_4 11 rfl rfl)
theorem dX1_layBlock_103 : decode cX1_layBlock 103 = .ok (.iload 4, 2) := dk_21 4 (dk_at dksX1_layBlock_4 12 rfl rfl)
theorem dX1_layBlock_105 : decode cX1_layBlock 105 = .ok (.invokestatic 321, 3) := dk_184 1 65 (dk_at dksX1_layBlock_4 14 rfl rfl)
theorem dX1_layBlock_108 : decode cX1_layBlock 108 = .ok (.ifCond .ne 18, 3) := dk_154 0 18 (dk_at dksX1_layBlock_4 17 rfl rfl)
theorem dX1_layBlock_111 : decode cX1_layBlock 111 = .ok (.aload_n 0, 1) := dk_42 (dk_at dksX1_layBlock_4 20 rfl rfl)
theorem dX1_layBlock_112 : decode cX1_layBlock 112 = .ok (.getfield 95, 3) := dk_180 0 95 (dk_at dksX1_layBlock_4 21 rfl rfl)
theorem dX1_layBlock_115 : decode cX1_layBlock 115 = .ok (.bipush 6, 2) := dk_16 6 (dk_at dksX1_layBlock_5 0 rfl rfl)
theorem dX1_layBlock_117 : decode cX1_layBlock 117 = .ok (.iload 4, 2) := dk_21 4 (dk_at dksX1_layBlock_5 2 rfl rfl)
theorem dX1_layBlock_119 : decode cX1_layBlock 119 = .ok (.iadd, 1) := dk_96 (dk_at dksX1_layBlock_5 4 rfl rfl)
theorem dX1_layBlock_120 : decode cX1_layBlock 120 = .ok (.invokestatic 402, 3) := dk_184 1 146 (dk_at dksX1_layBlock_5 5 rfl rfl)
theorem dX1_layBlock_123 : decode cX1_layBlock 123 = .ok (.invokevirtual 405, 3) := dk_182 1 149 (dk_at dksX1_layBlock_5 8 rfl rfl)
theorem dX1_layBlock_126 : decode cX1_layBlock 126 = .ok (.iinc 4 1, 3) := dk_132 4 1 (dk_at dksX1_layBlock_5 11 rfl rfl)
theorem dX1_layBlock_129 : decode cX1_layBlock 129 = .ok (.goto (-59), 3) := dk_167 255 197 (dk_at dksX1_layBlock_5 14 rfl rfl)
theorem dX1_layBlock_132 : decode cX1_layBlock 132 = .ok (.goto 83, 3) := dk_167 0 83 (dk_at dksX1_layBlock_5 17 rfl rfl)
theorem dX1_layBlock_135 : decode cX1_layBlock 135 = .ok (.aload_n 0, 1) := dk_42 (dk_at dksX1_layBlock_5 20 rfl rfl)
theorem dX1_layBlock_136 : decode cX1_layBlock 136 = .ok (.getfield 123, 3) := dk_180 0 123 (dk_at dksX1_layBlock_5 21 rfl rfl)
theorem dX1_layBlock_139 : decode cX1_layBlock 139 = .ok (.iload_n 2, 1) := dk_28 (dk_at dksX1_layBlock_6 0 rfl rfl)
theorem dX1_layBlock_140 : decode cX1_layBlock 140 = .ok (.dup2, 1) := dk_92 (dk_at dksX1_layBlock_6 1 rfl rfl)
theorem dX1_layBlock_141 : decode cX1_layBlock 141 = .ok (.iaload, 1) := dk_46 (dk_at dksX1_layBlock_6 2 rfl rfl)
theorem dX1_layBlock_142 : decode cX1_layBlock 142 = .ok (.iconst 1, 1) := dk_4 (dk_at dksX1_layBlock_6 3 rfl rfl)
theorem dX1_layBlock_143 : decode cX1_layBlock 143 = .ok (.iload_n 3, 1) := dk_29 (dk_at dksX1_layBlock_6 4 rfl rfl)
theorem dX1_layBlock_144 : decode cX1_layBlock 144 = .ok (.bipush 6, 2) := dk_16 6 (dk_at dksX1_layBlock_6 5 rfl rfl)
theorem dX1_layBlock_146 : decode cX1_layBlock 146 = .ok (.isub, 1) := dk_100 (dk_at dksX1_layBlock_6 7 rfl rfl)
theorem dX1_layBlock_147 : decode cX1_layBlock 147 = .ok (.ishl, 1) := dk_120 (dk_at dksX1_layBlock_6 8 rfl rfl)
theorem dX1_layBlock_148 : decode cX1_layBlock 148 = .ok (.ior, 1) := dk_128 (dk_at dksX1_layBlock_6 9 rfl rfl)
theorem dX1_layBlock_149 : decode cX1_layBlock 149 = .ok (.iastore, 1) := dk_79 (dk_at dksX1_layBlock_6 10 rfl rfl)
theorem dX1_layBlock_150 : decode cX1_layBlock 150 = .ok (.iconst 0, 1) := dk_3 (dk_at dksX1_layBlock_6 11 rfl rfl)
theorem dX1_layBlock_151 : decode cX1_layBlock 151 = .ok (.istore 4, 2) := dk_54 4 (dk_at dksX1_layBlock_6 12 rfl rfl)
theorem dX1_layBlock_153 : decode cX1_layBlock 153 = .ok (.iload 4, 2) := dk_21 4 (dk_at dksX1_layBlock_6 14 rfl rfl)
theorem dX1_layBlock_155 : decode cX1_layBlock 155 = .ok (.aload_n 0, 1) := dk_42 (dk_at dksX1_layBlock_6 16 rfl rfl)
theorem dX1_layBlock_156 : decode cX1_layBlock 156 = .ok (.getfield 220, 3) := dk_180 0 220 (dk_at dksX1_layBlock_6 17 rfl rfl)
theorem dX1_layBlock_159 : decode cX1_layBlock 159 = .ok (.getfield 17, 3) := dk_180 0 17 (dk_at dksX1_layBlock_6 20 rfl rfl)
theorem dX1_layBlock_162 : decode cX1_layBlock 162 = .ok (.if_icmp .ge 53, 3) := dk_162 0 53 (dk_at dksX1_layBlock_7 0 rfl rfl)
theorem dX1_layBlock_165 : decode cX1_layBlock 165 = .ok (.aload_n 0, 1) := dk_42 (dk_at dksX1_layBlock_7 3 rfl rfl)
theorem dX1_layBlock_166 : decode cX1_layBlock 166 = .ok (.getfield 220, 3) := dk_180 0 220 (dk_at dksX1_layBlock_7 4 rfl rfl)
theorem dX1_layBlock_169 : decode cX1_layBlock 169 = .ok (.getfield 13, 3) := dk_180 0 13 (dk_at dksX1_layBlock_7 7 rfl rfl)
theorem dX1_layBlock_172 : decode cX1_layBlock 172 = .ok (.iload 4, 2) := dk_21 4 (dk_at dksX1_layBlock_7 10 rfl rfl)
theorem dX1_layBlock_174 : decode cX1_layBlock 174 = .ok (.aaload, 1) := dk_50 (dk_at dksX1_layBlock_7 12 rfl rfl)
theorem dX1_layBlock_175 : decode cX1_layBlock 175 = .ok (.iload_n 3, 1) := dk_29 (dk_at dksX1_layBlock_7 13 rfl rfl)
theorem dX1_layBlock_176 : decode cX1_layBlock 176 = .ok (.bipush 6, 2) := dk_16 6 (dk_at dksX1_layBlock_7 14 rfl rfl)
theorem dX1_layBlock_178 : decode cX1_layBlock 178 = .ok (.isub, 1) := dk_100 (dk_at dksX1_layBlock_7 16 rfl rfl)
theorem dX1_layBlock_179 : decode cX1_layBlock 179 = .ok (.iaload, 1) := dk_46 (dk_at dksX1_layBlock_7 17 rfl rfl)
theorem dX1_layBlock_180 : decode cX1_layBlock 180 = .ok (.ifCond .eq 29, 3) := dk_153 0 29 (dk_at dksX1_layBlock_7 18 rfl rfl)
theorem dX1_layBlock_183 : decode cX1_layBlock 183 = .ok (.aload_n 0, 1) := dk_42 (dk_at dksX1_layBlock_7 21 rfl rfl)
theorem dX1_layBlock_184 : decode cX1_layBlock 184 = .ok (.getfield 120, 3) := dk_180 0 120 (dk_at dksX1_layBlock_8 0 rfl rfl)
theorem dX1_layBlock_187 : decode cX1_layBlock 187 = .ok (.iload_n 2, 1) := dk_28 (dk_at dksX1_layBlock_8 3 rfl rfl)
theorem dX1_layBlock_188 : decode cX1_layBlock 188 = .ok (.iaload, 1) := dk_46 (dk_at dksX1_layBlock_8 4 rfl rfl)
theorem dX1_layBlock_189 : decode cX1_layBlock 189 = .ok (.iload 4, 2) := dk_21 4 (dk_at dksX1_layBlock_8 5 rfl rfl)
theorem dX1_layBlock_191 : decode cX1_layBlock 191 = .ok (.invokestatic 321, 3) := dk_184 1 65 (dk_at dksX1_layBlock_8 7 rfl rfl)
theorem dX1_layBlock_194 : decode cX1_layBlock 194 = .ok (.ifCond .ne 15, 3) := dk_154 0 15 (dk_at dksX1_layBlock_8 10 rfl rfl)
theorem dX1_layBlock_197 : decode cX1_layBlock 197 = .ok (.aload_n 0, 1) := dk_42 (dk_at dksX1_layBlock_8 13 rfl rfl)
theorem dX1_layBlock_198 : decode cX1_layBlock 198 = .ok (.getfield 95, 3) := dk_180 0 95 (dk_at dksX1_layBlock_8 14 rfl rfl)
theorem dX1_layBlock_201 : decode cX1_layBlock 201 = .ok (.iload 4, 2) := dk_21 4 (dk_at dksX1_layBlock_8 17 rfl rfl)
theorem dX1_layBlock_203 : decode cX1_layBlock 203 = .ok (.invokestatic 402, 3) := dk_184 1 146 (dk_at dksX1_layBlock_8 19 rfl rfl)
theorem dX1_layBlock_206 : decode cX1_layBlock 206 = .ok (.invokevirtual 405, 3) := dk_182 1 149 (dk_at dksX1_layBlock_9 0 rfl rfl)
theorem dX1_layBlock_209 : decode cX1_layBlock 209 = .ok (.iinc 4 1, 3) := dk_132 4 1 (dk_at dksX1_layBlock_9 3 rfl rfl)
theorem dX1_layBlock_212 : decode cX1_layBlock 212 = .ok (.goto (-59), 3) := dk_167 255 197 (dk_at dksX1_layBlock_9 6 rfl rfl)
theorem dX1_layBlock_215 : decode cX1_layBlock 215 = .ok (.goto (-190), 3) := dk_167 255 66 (dk_at dksX1_layBlock_9 9 rfl rfl)
theorem dX1_layBlock_218 : decode cX1_layBlock 218 = .ok (.return_, 1) := dk_177 (dk_at dksX1_layBlock_9 12 rfl rfl)
abbrev cX1_rank : ByteArray := prog_1_method_90_code
def yX1_rank : MethodName := ⟨RX1, "rank", "(I)I"⟩
def dkwX1_rank_3 : List UInt8 := [167, 255, 233, 29, 172]
abbrev dktX1_rank_3 : List UInt8 := dkwX1_rank_3 ++ []
def dkwX1_rank_2 : List UInt8 := [158, 0, 25, 42, 180, 0, 220, 42, 182, 1, 89, 29, 44, 184, 1, 85, 154, 0, 9, 132, 3, 255]
abbrev dktX1_rank_2 : List UInt8 := dkwX1_rank_2 ++ dktX1_rank_3
def dkwX1_rank_1 : List UInt8 := [154, 0, 11, 186, 1, 214, 0, 0, 167, 0, 9, 27, 186, 1, 215, 0, 0, 77, 16, 6, 62, 29]
abbrev dktX1_rank_1 : List UInt8 := dkwX1_rank_1 ++ dktX1_rank_2
def dkwX1_rank_0 : List UInt8 := [42, 180, 0, 220, 198, 0, 17, 27, 153, 0, 15, 27, 5, 159, 0, 10, 27, 6, 159, 0, 5, 2, 172, 27]
abbrev dktX1_rank_0 : List UInt8 := dkwX1_rank_0 ++ dktX1_rank_1
theorem dksX1_rank_0 : cX1_rank.data.toList.drop 0 = dktX1_rank_0 := by decide +kernel
theorem dksX1_rank_1 : cX1_rank.data.toList.drop 24 = dktX1_rank_1 := dk_seg dksX1_rank_0 24 rfl rfl
theorem dksX1_rank_2 : cX1_rank.data.toList.drop 46 = dktX1_rank_2 := dk_seg dksX1_rank_1 22 rfl rfl
theorem dksX1_rank_3 : cX1_rank.data.toList.drop 68 = dktX1_rank_3 := dk_seg dksX1_rank_2 22 rfl rfl
theorem dX1_rank_0 : decode cX1_rank 0 = .ok (.aload_n 0, 1) := dk_42 (dk_at dksX1_rank_0 0 rfl rfl)
theorem dX1_rank_1 : decode cX1_rank 1 = .ok (.getfield 220, 3) := dk_180 0 220 (dk_at dksX1_rank_0 1 rfl rfl)
theorem dX1_rank_4 : decode cX1_rank 4 = .ok (.ifnull 17, 3) := dk_198 0 17 (dk_at dksX1_rank_0 4 rfl rfl)
theorem dX1_rank_7 : decode cX1_rank 7 = .ok (.iload_n 1, 1) := dk_27 (dk_at dksX1_rank_0 7 rfl rfl)
theorem dX1_rank_8 : decode cX1_rank 8 = .ok (.ifCond .eq 15, 3) := dk_153 0 15 (dk_at dksX1_rank_0 8 rfl rfl)
theorem dX1_rank_11 : decode cX1_rank 11 = .ok (.iload_n 1, 1) := dk_27 (dk_at dksX1_rank_0 11 rfl rfl)
theorem dX1_rank_12 : decode cX1_rank 12 = .ok (.iconst 2, 1) := dk_5 (dk_at dksX1_rank_0 12 rfl rfl)
theorem dX1_rank_13 : decode cX1_rank 13 = .ok (.if_icmp .eq 10, 3) := dk_159 0 10 (dk_at dksX1_rank_0 13 rfl rfl)
theorem dX1_rank_16 : decode cX1_rank 16 = .ok (.iload_n 1, 1) := dk_27 (dk_at dksX1_rank_0 16 rfl rfl)
theorem dX1_rank_17 : decode cX1_rank 17 = .ok (.iconst 3, 1) := dk_6 (dk_at dksX1_rank_0 17 rfl rfl)
theorem dX1_rank_18 : decode cX1_rank 18 = .ok (.if_icmp .eq 5, 3) := dk_159 0 5 (dk_at dksX1_rank_0 18 rfl rfl)
theorem dX1_rank_21 : decode cX1_rank 21 = .ok (.iconst (-1), 1) := dk_2 (dk_at dksX1_rank_0 21 rfl rfl)
theorem dX1_rank_22 : decode cX1_rank 22 = .ok (.ireturn, 1) := dk_172 (dk_at dksX1_rank_0 22 rfl rfl)
theorem dX1_rank_23 : decode cX1_rank 23 = .ok (.iload_n 1, 1) := dk_27 (dk_at dksX1_rank_0 23 rfl rfl)
theorem dX1_rank_24 : decode cX1_rank 24 = .ok (.ifCond .ne 11, 3) := dk_154 0 11 (dk_at dksX1_rank_1 0 rfl rfl)
theorem dX1_rank_27 : decode cX1_rank 27 = .ok (.invokedynamic 470, 5) := by decide +kernel
theorem dX1_rank_32 : decode cX1_rank 32 = .ok (.goto 9, 3) := dk_167 0 9 (dk_at dksX1_rank_1 8 rfl rfl)
theorem dX1_rank_35 : decode cX1_rank 35 = .ok (.iload_n 1, 1) := dk_27 (dk_at dksX1_rank_1 11 rfl rfl)
theorem dX1_rank_36 : decode cX1_rank 36 = .ok (.invokedynamic 471, 5) := by decide +kernel
theorem dX1_rank_41 : decode cX1_rank 41 = .ok (.astore_n 2, 1) := dk_77 (dk_at dksX1_rank_1 17 rfl rfl)
theorem dX1_rank_42 : decode cX1_rank 42 = .ok (.bipush 6, 2) := dk_16 6 (dk_at dksX1_rank_1 18 rfl rfl)
theorem dX1_rank_44 : decode cX1_rank 44 = .ok (.istore_n 3, 1) := dk_62 (dk_at dksX1_rank_1 20 rfl rfl)
theorem dX1_rank_45 : decode cX1_rank 45 = .ok (.iload_n 3, 1) := dk_29 (dk_at dksX1_rank_1 21 rfl rfl)
theorem dX1_rank_46 : decode cX1_rank 46 = .ok (.ifCond .le 25, 3) := dk_158 0 25 (dk_at dksX1_rank_2 0 rfl rfl)
theorem dX1_rank_49 : decode cX1_rank 49 = .ok (.aload_n 0, 1) := dk_42 (dk_at dksX1_rank_2 3 rfl rfl)
theorem dX1_rank_50 : decode cX1_rank 50 = .ok (.getfield 220, 3) := dk_180 0 220 (dk_at dksX1_rank_2 4 rfl rfl)
theorem dX1_rank_53 : decode cX1_rank 53 = .ok (.aload_n 0, 1) := dk_42 (dk_at dksX1_rank_2 7 rfl rfl)
theorem dX1_rank_54 : decode cX1_rank 54 = .ok (.invokevirtual 345, 3) := dk_182 1 89 (dk_at dksX1_rank_2 8 rfl rfl)
theorem dX1_rank_57 : decode cX1_rank 57 = .ok (.iload_n 3, 1) := dk_29 (dk_at dksX1_rank_2 11 rfl rfl)
theorem dX1_rank_58 : decode cX1_rank 58 = .ok (.aload_n 2, 1) := dk_44 (dk_at dksX1_rank_2 12 rfl rfl)
theorem dX1_rank_59 : decode cX1_rank 59 = .ok (.invokestatic 341, 3) := dk_184 1 85 (dk_at dksX1_rank_2 13 rfl rfl)
theorem dX1_rank_62 : decode cX1_rank 62 = .ok (.ifCond .ne 9, 3) := dk_154 0 9 (dk_at dksX1_rank_2 16 rfl rfl)
theorem dX1_rank_65 : decode cX1_rank 65 = .ok (.iinc 3 (-1), 3) := dk_132 3 255 (dk_at dksX1_rank_2 19 rfl rfl)
theorem dX1_rank_68 : decode cX1_rank 68 = .ok (.goto (-23), 3) := dk_167 255 233 (dk_at dksX1_rank_3 0 rfl rfl)
theorem dX1_rank_71 : decode cX1_rank 71 = .ok (.iload_n 3, 1) := dk_29 (dk_at dksX1_rank_3 3 rfl rfl)
theorem dX1_rank_72 : decode cX1_rank 72 = .ok (.ireturn, 1) := dk_172 (dk_at dksX1_rank_3 4 rfl rfl)
abbrev cX1_lambda_rank_5 : ByteArray := prog_1_method_119_code
def yX1_lambda_rank_5 : MethodName := ⟨RX1, "lambda$rank$5", "(I)Z"⟩
def dkwX1_lambda_rank_5_0 : List UInt8 := [26, 153, 0, 7, 4, 167, 0, 4, 3, 172]
abbrev dktX1_lambda_rank_5_0 : List UInt8 := dkwX1_lambda_rank_5_0 ++ []
theorem dksX1_lambda_rank_5_0 : cX1_lambda_rank_5.data.toList.drop 0 = dktX1_lambda_rank_5_0 := by decide +kernel
theorem dX1_lambda_rank_5_0 : decode cX1_lambda_rank_5 0 = .ok (.iload_n 0, 1) := dk_26 (dk_at dksX1_lambda_rank_5_0 0 rfl rfl)
theorem dX1_lambda_rank_5_1 : decode cX1_lambda_rank_5 1 = .ok (.ifCond .eq 7, 3) := dk_153 0 7 (dk_at dksX1_lambda_rank_5_0 1 rfl rfl)
theorem dX1_lambda_rank_5_4 : decode cX1_lambda_rank_5 4 = .ok (.iconst 1, 1) := dk_4 (dk_at dksX1_lambda_rank_5_0 4 rfl rfl)
theorem dX1_lambda_rank_5_5 : decode cX1_lambda_rank_5 5 = .ok (.goto 4, 3) := dk_167 0 4 (dk_at dksX1_lambda_rank_5_0 5 rfl rfl)
theorem dX1_lambda_rank_5_8 : decode cX1_lambda_rank_5 8 = .ok (.iconst 0, 1) := dk_3 (dk_at dksX1_lambda_rank_5_0 8 rfl rfl)
theorem dX1_lambda_rank_5_9 : decode cX1_lambda_rank_5 9 = .ok (.ireturn, 1) := dk_172 (dk_at dksX1_lambda_rank_5_0 9 rfl rfl)
abbrev cX1_lambda_rank_6 : ByteArray := prog_1_method_118_code
def yX1_lambda_rank_6 : MethodName := ⟨RX1, "lambda$rank$6", "(II)Z"⟩
def dkwX1_lambda_rank_6_0 : List UInt8 := [27, 26, 112, 153, 0, 7, 4, 167, 0, 4, 3, 172]
abbrev dktX1_lambda_rank_6_0 : List UInt8 := dkwX1_lambda_rank_6_0 ++ []
theorem dksX1_lambda_rank_6_0 : cX1_lambda_rank_6.data.toList.drop 0 = dktX1_lambda_rank_6_0 := by decide +kernel
theorem dX1_lambda_rank_6_0 : decode cX1_lambda_rank_6 0 = .ok (.iload_n 1, 1) := dk_27 (dk_at dksX1_lambda_rank_6_0 0 rfl rfl)
theorem dX1_lambda_rank_6_1 : decode cX1_lambda_rank_6 1 = .ok (.iload_n 0, 1) := dk_26 (dk_at dksX1_lambda_rank_6_0 1 rfl rfl)
theorem dX1_lambda_rank_6_2 : decode cX1_lambda_rank_6 2 = .ok (.irem, 1) := dk_112 (dk_at dksX1_lambda_rank_6_0 2 rfl rfl)
theorem dX1_lambda_rank_6_3 : decode cX1_lambda_rank_6 3 = .ok (.ifCond .eq 7, 3) := dk_153 0 7 (dk_at dksX1_lambda_rank_6_0 3 rfl rfl)
theorem dX1_lambda_rank_6_6 : decode cX1_lambda_rank_6 6 = .ok (.iconst 1, 1) := dk_4 (dk_at dksX1_lambda_rank_6_0 6 rfl rfl)
theorem dX1_lambda_rank_6_7 : decode cX1_lambda_rank_6 7 = .ok (.goto 4, 3) := dk_167 0 4 (dk_at dksX1_lambda_rank_6_0 7 rfl rfl)
theorem dX1_lambda_rank_6_10 : decode cX1_lambda_rank_6 10 = .ok (.iconst 0, 1) := dk_3 (dk_at dksX1_lambda_rank_6_0 10 rfl rfl)
theorem dX1_lambda_rank_6_11 : decode cX1_lambda_rank_6 11 = .ok (.ireturn, 1) := dk_172 (dk_at dksX1_lambda_rank_6_0 11 rfl rfl)
abbrev cX1_bases : ByteArray := prog_1_method_91_code
def yX1_bases : MethodName := ⟨RX1, "bases", "()I"⟩
def dkwX1_bases_1 : List UInt8 := [186, 1, 217, 0, 0, 184, 1, 85, 4, 96, 172]
abbrev dktX1_bases_1 : List UInt8 := dkwX1_bases_1 ++ []
def dkwX1_bases_0 : List UInt8 := [42, 180, 0, 220, 199, 0, 7, 2, 167, 0, 22, 42, 180, 0, 220, 42, 182, 1, 89, 3]
abbrev dktX1_bases_0 : List UInt8 := dkwX1_bases_0 ++ dktX1_bases_1
theorem dksX1_bases_0 : cX1_bases.data.toList.drop 0 = dktX1_bases_0 := by decide +kernel
theorem dksX1_bases_1 : cX1_bases.data.toList.drop 20 = dktX1_bases_1 := dk_seg dksX1_bases_0 20 rfl rfl
theorem dX1_bases_0 : decode cX1_bases 0 = .ok (.aload_n 0, 1) := dk_42 (dk_at dksX1_bases_0 0 rfl rfl)
theorem dX1_bases_1 : decode cX1_bases 1 = .ok (.getfield 220, 3) := dk_180 0 220 (dk_at dksX1_bases_0 1 rfl rfl)
theorem dX1_bases_4 : decode cX1_bases 4 = .ok (.ifnonnull 7, 3) := dk_199 0 7 (dk_at dksX1_bases_0 4 rfl rfl)
theorem dX1_bases_7 : decode cX1_bases 7 = .ok (.iconst (-1), 1) := dk_2 (dk_at dksX1_bases_0 7 rfl rfl)
theorem dX1_bases_8 : decode cX1_bases 8 = .ok (.goto 22, 3) := dk_167 0 22 (dk_at dksX1_bases_0 8 rfl rfl)
theorem dX1_bases_11 : decode cX1_bases 11 = .ok (.aload_n 0, 1) := dk_42 (dk_at dksX1_bases_0 11 rfl rfl)
theorem dX1_bases_12 : decode cX1_bases 12 = .ok (.getfield 220, 3) := dk_180 0 220 (dk_at dksX1_bases_0 12 rfl rfl)
theorem dX1_bases_15 : decode cX1_bases 15 = .ok (.aload_n 0, 1) := dk_42 (dk_at dksX1_bases_0 15 rfl rfl)
theorem dX1_bases_16 : decode cX1_bases 16 = .ok (.invokevirtual 345, 3) := dk_182 1 89 (dk_at dksX1_bases_0 16 rfl rfl)
theorem dX1_bases_19 : decode cX1_bases 19 = .ok (.iconst 0, 1) := dk_3 (dk_at dksX1_bases_0 19 rfl rfl)
theorem dX1_bases_20 : decode cX1_bases 20 = .ok (.invokedynamic 473, 5) := by decide +kernel
theorem dX1_bases_25 : decode cX1_bases 25 = .ok (.invokestatic 341, 3) := dk_184 1 85 (dk_at dksX1_bases_1 5 rfl rfl)
theorem dX1_bases_28 : decode cX1_bases 28 = .ok (.iconst 1, 1) := dk_4 (dk_at dksX1_bases_1 8 rfl rfl)
theorem dX1_bases_29 : decode cX1_bases 29 = .ok (.iadd, 1) := dk_96 (dk_at dksX1_bases_1 9 rfl rfl)
theorem dX1_bases_30 : decode cX1_bases 30 = .ok (.ireturn, 1) := dk_172 (dk_at dksX1_bases_1 10 rfl rfl)
abbrev cX1_lambda_bases_7 : ByteArray := prog_1_method_117_code
def yX1_lambda_bases_7 : MethodName := ⟨RX1, "lambda$bases$7", "(I)Z"⟩
def dkwX1_lambda_bases_7_0 : List UInt8 := [26, 153, 0, 7, 4, 167, 0, 4, 3, 172]
abbrev dktX1_lambda_bases_7_0 : List UInt8 := dkwX1_lambda_bases_7_0 ++ []
theorem dksX1_lambda_bases_7_0 : cX1_lambda_bases_7.data.toList.drop 0 = dktX1_lambda_bases_7_0 := by decide +kernel
theorem dX1_lambda_bases_7_0 : decode cX1_lambda_bases_7 0 = .ok (.iload_n 0, 1) := dk_26 (dk_at dksX1_lambda_bases_7_0 0 rfl rfl)
theorem dX1_lambda_bases_7_1 : decode cX1_lambda_bases_7 1 = .ok (.ifCond .eq 7, 3) := dk_153 0 7 (dk_at dksX1_lambda_bases_7_0 1 rfl rfl)
theorem dX1_lambda_bases_7_4 : decode cX1_lambda_bases_7 4 = .ok (.iconst 1, 1) := dk_4 (dk_at dksX1_lambda_bases_7_0 4 rfl rfl)
theorem dX1_lambda_bases_7_5 : decode cX1_lambda_bases_7 5 = .ok (.goto 4, 3) := dk_167 0 4 (dk_at dksX1_lambda_bases_7_0 5 rfl rfl)
theorem dX1_lambda_bases_7_8 : decode cX1_lambda_bases_7 8 = .ok (.iconst 0, 1) := dk_3 (dk_at dksX1_lambda_bases_7_0 8 rfl rfl)
theorem dX1_lambda_bases_7_9 : decode cX1_lambda_bases_7 9 = .ok (.ireturn, 1) := dk_172 (dk_at dksX1_lambda_bases_7_0 9 rfl rfl)
abbrev cX1_mends : ByteArray := prog_1_method_93_code
def yX1_mends : MethodName := ⟨RX1, "mends", "()I"⟩
def dkwX1_mends_5 : List UInt8 := [167, 255, 161, 2, 172]
abbrev dktX1_mends_5 : List UInt8 := dkwX1_mends_5 ++ []
def dkwX1_mends_4 : List UInt8 := [182, 1, 218, 153, 0, 17, 16, 100, 28, 104, 16, 10, 29, 104, 96, 27, 6, 112, 96, 172, 132, 1, 1]
abbrev dktX1_mends_4 : List UInt8 := dkwX1_mends_4 ++ dktX1_mends_5
def dkwX1_mends_3 : List UInt8 := [180, 0, 13, 28, 50, 29, 46, 27, 6, 112, 4, 100, 159, 0, 31, 42, 28, 29, 27, 6, 112, 4, 100]
abbrev dktX1_mends_3 : List UInt8 := dkwX1_mends_3 ++ dktX1_mends_4
def dkwX1_mends_2 : List UInt8 := [180, 0, 220, 180, 0, 9, 108, 61, 27, 6, 108, 42, 180, 0, 220, 180, 0, 9, 112, 62, 42, 180, 0, 220]
abbrev dktX1_mends_2 : List UInt8 := dkwX1_mends_2 ++ dktX1_mends_3
def dkwX1_mends_1 : List UInt8 := [180, 0, 220, 180, 0, 17, 104, 42, 180, 0, 220, 180, 0, 9, 104, 162, 0, 80, 27, 6, 108, 42]
abbrev dktX1_mends_1 : List UInt8 := dkwX1_mends_1 ++ dktX1_mends_2
def dkwX1_mends_0 : List UInt8 := [42, 180, 0, 220, 199, 0, 5, 2, 172, 42, 182, 1, 99, 153, 0, 6, 18, 188, 172, 3, 60, 27, 6, 42]
abbrev dktX1_mends_0 : List UInt8 := dkwX1_mends_0 ++ dktX1_mends_1
theorem dksX1_mends_0 : cX1_mends.data.toList.drop 0 = dktX1_mends_0 := by decide +kernel
theorem dksX1_mends_1 : cX1_mends.data.toList.drop 24 = dktX1_mends_1 := dk_seg dksX1_mends_0 24 rfl rfl
theorem dksX1_mends_2 : cX1_mends.data.toList.drop 46 = dktX1_mends_2 := dk_seg dksX1_mends_1 22 rfl rfl
theorem dksX1_mends_3 : cX1_mends.data.toList.drop 70 = dktX1_mends_3 := dk_seg dksX1_mends_2 24 rfl rfl
theorem dksX1_mends_4 : cX1_mends.data.toList.drop 93 = dktX1_mends_4 := dk_seg dksX1_mends_3 23 rfl rfl
theorem dksX1_mends_5 : cX1_mends.data.toList.drop 116 = dktX1_mends_5 := dk_seg dksX1_mends_4 23 rfl rfl
theorem dX1_mends_0 : decode cX1_mends 0 = .ok (.aload_n 0, 1) := dk_42 (dk_at dksX1_mends_0 0 rfl rfl)
theorem dX1_mends_1 : decode cX1_mends 1 = .ok (.getfield 220, 3) := dk_180 0 220 (dk_at dksX1_mends_0 1 rfl rfl)
theorem dX1_mends_4 : decode cX1_mends 4 = .ok (.ifnonnull 5, 3) := dk_199 0 5 (dk_at dksX1_mends_0 4 rfl rfl)
theorem dX1_mends_7 : decode cX1_mends 7 = .ok (.iconst (-1), 1) := dk_2 (dk_at dksX1_mends_0 7 rfl rfl)
theorem dX1_mends_8 : decode cX1_mends 8 = .ok (.ireturn, 1) := dk_172 (dk_at dksX1_mends_0 8 rfl rfl)
theorem dX1_mends_9 : decode cX1_mends 9 = .ok (.aload_n 0, 1) := dk_42 (dk_at dksX1_mends_0 9 rfl rfl)
theorem dX1_mends_10 : decode cX1_mends 10 = .ok (.invokevirtual 355, 3) := dk_182 1 99 (dk_at dksX1_mends_0 10 rfl rfl)
theorem dX1_mends_13 : decode cX1_mends 13 = .ok (.ifCond .eq 6, 3) := dk_153 0 6 (dk_at dksX1_mends_0 13 rfl rfl)
theorem dX1_mends_16 : decode cX1_mends 16 = .ok (.ldc 188, 2) := dk_18 188 (dk_at dksX1_mends_0 16 rfl rfl)
theorem dX1_mends_18 : decode cX1_mends 18 = .ok (.ireturn, 1) := dk_172 (dk_at dksX1_mends_0 18 rfl rfl)
theorem dX1_mends_19 : decode cX1_mends 19 = .ok (.iconst 0, 1) := dk_3 (dk_at dksX1_mends_0 19 rfl rfl)
theorem dX1_mends_20 : decode cX1_mends 20 = .ok (.istore_n 1, 1) := dk_60 (dk_at dksX1_mends_0 20 rfl rfl)
theorem dX1_mends_21 : decode cX1_mends 21 = .ok (.iload_n 1, 1) := dk_27 (dk_at dksX1_mends_0 21 rfl rfl)
theorem dX1_mends_22 : decode cX1_mends 22 = .ok (.iconst 3, 1) := dk_6 (dk_at dksX1_mends_0 22 rfl rfl)
theorem dX1_mends_23 : decode cX1_mends 23 = .ok (.aload_n 0, 1) := dk_42 (dk_at dksX1_mends_0 23 rfl rfl)
theorem dX1_mends_24 : decode cX1_mends 24 = .ok (.getfield 220, 3) := dk_180 0 220 (dk_at dksX1_mends_1 0 rfl rfl)
theorem dX1_mends_27 : decode cX1_mends 27 = .ok (.getfield 17, 3) := dk_180 0 17 (dk_at dksX1_mends_1 3 rfl rfl)
theorem dX1_mends_30 : decode cX1_mends 30 = .ok (.imul, 1) := dk_104 (dk_at dksX1_mends_1 6 rfl rfl)
theorem dX1_mends_31 : decode cX1_mends 31 = .ok (.aload_n 0, 1) := dk_42 (dk_at dksX1_mends_1 7 rfl rfl)
theorem dX1_mends_32 : decode cX1_mends 32 = .ok (.getfield 220, 3) := dk_180 0 220 (dk_at dksX1_mends_1 8 rfl rfl)
theorem dX1_mends_35 : decode cX1_mends 35 = .ok (.getfield 9, 3) := dk_180 0 9 (dk_at dksX1_mends_1 11 rfl rfl)
theorem dX1_mends_38 : decode cX1_mends 38 = .ok (.imul, 1) := dk_104 (dk_at dksX1_mends_1 14 rfl rfl)
theorem dX1_mends_39 : decode cX1_mends 39 = .ok (.if_icmp .ge 80, 3) := dk_162 0 80 (dk_at dksX1_mends_1 15 rfl rfl)
theorem dX1_mends_42 : decode cX1_mends 42 = .ok (.iload_n 1, 1) := dk_27 (dk_at dksX1_mends_1 18 rfl rfl)
theorem dX1_mends_43 : decode cX1_mends 43 = .ok (.iconst 3, 1) := dk_6 (dk_at dksX1_mends_1 19 rfl rfl)
theorem dX1_mends_44 : decode cX1_mends 44 = .ok (.idiv, 1) := dk_108 (dk_at dksX1_mends_1 20 rfl rfl)
theorem dX1_mends_45 : decode cX1_mends 45 = .ok (.aload_n 0, 1) := dk_42 (dk_at dksX1_mends_1 21 rfl rfl)
theorem dX1_mends_46 : decode cX1_mends 46 = .ok (.getfield 220, 3) := dk_180 0 220 (dk_at dksX1_mends_2 0 rfl rfl)
theorem dX1_mends_49 : decode cX1_mends 49 = .ok (.getfield 9, 3) := dk_180 0 9 (dk_at dksX1_mends_2 3 rfl rfl)
theorem dX1_mends_52 : decode cX1_mends 52 = .ok (.idiv, 1) := dk_108 (dk_at dksX1_mends_2 6 rfl rfl)
theorem dX1_mends_53 : decode cX1_mends 53 = .ok (.istore_n 2, 1) := dk_61 (dk_at dksX1_mends_2 7 rfl rfl)
theorem dX1_mends_54 : decode cX1_mends 54 = .ok (.iload_n 1, 1) := dk_27 (dk_at dksX1_mends_2 8 rfl rfl)
theorem dX1_mends_55 : decode cX1_mends 55 = .ok (.iconst 3, 1) := dk_6 (dk_at dksX1_mends_2 9 rfl rfl)
theorem dX1_mends_56 : decode cX1_mends 56 = .ok (.idiv, 1) := dk_108 (dk_at dksX1_mends_2 10 rfl rfl)
theorem dX1_mends_57 : decode cX1_mends 57 = .ok (.aload_n 0, 1) := dk_42 (dk_at dksX1_mends_2 11 rfl rfl)
theorem dX1_mends_58 : decode cX1_mends 58 = .ok (.getfield 220, 3) := dk_180 0 220 (dk_at dksX1_mends_2 12 rfl rfl)
theorem dX1_mends_61 : decode cX1_mends 61 = .ok (.getfield 9, 3) := dk_180 0 9 (dk_at dksX1_mends_2 15 rfl rfl)
theorem dX1_mends_64 : decode cX1_mends 64 = .ok (.irem, 1) := dk_112 (dk_at dksX1_mends_2 18 rfl rfl)
theorem dX1_mends_65 : decode cX1_mends 65 = .ok (.istore_n 3, 1) := dk_62 (dk_at dksX1_mends_2 19 rfl rfl)
theorem dX1_mends_66 : decode cX1_mends 66 = .ok (.aload_n 0, 1) := dk_42 (dk_at dksX1_mends_2 20 rfl rfl)
theorem dX1_mends_67 : decode cX1_mends 67 = .ok (.getfield 220, 3) := dk_180 0 220 (dk_at dksX1_mends_2 21 rfl rfl)
theorem dX1_mends_70 : decode cX1_mends 70 = .ok (.getfield 13, 3) := dk_180 0 13 (dk_at dksX1_mends_3 0 rfl rfl)
theorem dX1_mends_73 : decode cX1_mends 73 = .ok (.iload_n 2, 1) := dk_28 (dk_at dksX1_mends_3 3 rfl rfl)
theorem dX1_mends_74 : decode cX1_mends 74 = .ok (.aaload, 1) := dk_50 (dk_at dksX1_mends_3 4 rfl rfl)
theorem dX1_mends_75 : decode cX1_mends 75 = .ok (.iload_n 3, 1) := dk_29 (dk_at dksX1_mends_3 5 rfl rfl)
theorem dX1_mends_76 : decode cX1_mends 76 = .ok (.iaload, 1) := dk_46 (dk_at dksX1_mends_3 6 rfl rfl)
theorem dX1_mends_77 : decode cX1_mends 77 = .ok (.iload_n 1, 1) := dk_27 (dk_at dksX1_mends_3 7 rfl rfl)
theorem dX1_mends_78 : decode cX1_mends 78 = .ok (.iconst 3, 1) := dk_6 (dk_at dksX1_mends_3 8 rfl rfl)
theorem dX1_mends_79 : decode cX1_mends 79 = .ok (.irem, 1) := dk_112 (dk_at dksX1_mends_3 9 rfl rfl)
theorem dX1_mends_80 : decode cX1_mends 80 = .ok (.iconst 1, 1) := dk_4 (dk_at dksX1_mends_3 10 rfl rfl)
theorem dX1_mends_81 : decode cX1_mends 81 = .ok (.isub, 1) := dk_100 (dk_at dksX1_mends_3 11 rfl rfl)
theorem dX1_mends_82 : decode cX1_mends 82 = .ok (.if_icmp .eq 31, 3) := dk_159 0 31 (dk_at dksX1_mends_3 12 rfl rfl)
theorem dX1_mends_85 : decode cX1_mends 85 = .ok (.aload_n 0, 1) := dk_42 (dk_at dksX1_mends_3 15 rfl rfl)
theorem dX1_mends_86 : decode cX1_mends 86 = .ok (.iload_n 2, 1) := dk_28 (dk_at dksX1_mends_3 16 rfl rfl)
theorem dX1_mends_87 : decode cX1_mends 87 = .ok (.iload_n 3, 1) := dk_29 (dk_at dksX1_mends_3 17 rfl rfl)
theorem dX1_mends_88 : decode cX1_mends 88 = .ok (.iload_n 1, 1) := dk_27 (dk_at dksX1_mends_3 18 rfl rfl)
theorem dX1_mends_89 : decode cX1_mends 89 = .ok (.iconst 3, 1) := dk_6 (dk_at dksX1_mends_3 19 rfl rfl)
theorem dX1_mends_90 : decode cX1_mends 90 = .ok (.irem, 1) := dk_112 (dk_at dksX1_mends_3 20 rfl rfl)
theorem dX1_mends_91 : decode cX1_mends 91 = .ok (.iconst 1, 1) := dk_4 (dk_at dksX1_mends_3 21 rfl rfl)
theorem dX1_mends_92 : decode cX1_mends 92 = .ok (.isub, 1) := dk_100 (dk_at dksX1_mends_3 22 rfl rfl)
theorem dX1_mends_93 : decode cX1_mends 93 = .ok (.invokevirtual 474, 3) := dk_182 1 218 (dk_at dksX1_mends_4 0 rfl rfl)
theorem dX1_mends_96 : decode cX1_mends 96 = .ok (.ifCond .eq 17, 3) := dk_153 0 17 (dk_at dksX1_mends_4 3 rfl rfl)
theorem dX1_mends_99 : decode cX1_mends 99 = .ok (.bipush 100, 2) := dk_16 100 (dk_at dksX1_mends_4 6 rfl rfl)
theorem dX1_mends_101 : decode cX1_mends 101 = .ok (.iload_n 2, 1) := dk_28 (dk_at dksX1_mends_4 8 rfl rfl)
theorem dX1_mends_102 : decode cX1_mends 102 = .ok (.imul, 1) := dk_104 (dk_at dksX1_mends_4 9 rfl rfl)
theorem dX1_mends_103 : decode cX1_mends 103 = .ok (.bipush 10, 2) := dk_16 10 (dk_at dksX1_mends_4 10 rfl rfl)
theorem dX1_mends_105 : decode cX1_mends 105 = .ok (.iload_n 3, 1) := dk_29 (dk_at dksX1_mends_4 12 rfl rfl)
theorem dX1_mends_106 : decode cX1_mends 106 = .ok (.imul, 1) := dk_104 (dk_at dksX1_mends_4 13 rfl rfl)
theorem dX1_mends_107 : decode cX1_mends 107 = .ok (.iadd, 1) := dk_96 (dk_at dksX1_mends_4 14 rfl rfl)
theorem dX1_mends_108 : decode cX1_mends 108 = .ok (.iload_n 1, 1) := dk_27 (dk_at dksX1_mends_4 15 rfl rfl)
theorem dX1_mends_109 : decode cX1_mends 109 = .ok (.iconst 3, 1) := dk_6 (dk_at dksX1_mends_4 16 rfl rfl)
theorem dX1_mends_110 : decode cX1_mends 110 = .ok (.irem, 1) := dk_112 (dk_at dksX1_mends_4 17 rfl rfl)
theorem dX1_mends_111 : decode cX1_mends 111 = .ok (.iadd, 1) := dk_96 (dk_at dksX1_mends_4 18 rfl rfl)
theorem dX1_mends_112 : decode cX1_mends 112 = .ok (.ireturn, 1) := dk_172 (dk_at dksX1_mends_4 19 rfl rfl)
theorem dX1_mends_113 : decode cX1_mends 113 = .ok (.iinc 1 1, 3) := dk_132 1 1 (dk_at dksX1_mends_4 20 rfl rfl)
theorem dX1_mends_116 : decode cX1_mends 116 = .ok (.goto (-95), 3) := dk_167 255 161 (dk_at dksX1_mends_5 0 rfl rfl)
theorem dX1_mends_119 : decode cX1_mends 119 = .ok (.iconst (-1), 1) := dk_2 (dk_at dksX1_mends_5 3 rfl rfl)
theorem dX1_mends_120 : decode cX1_mends 120 = .ok (.ireturn, 1) := dk_172 (dk_at dksX1_mends_5 4 rfl rfl)
abbrev cX1_isTotalWith : ByteArray := prog_1_method_92_code
def yX1_isTotalWith : MethodName := ⟨RX1, "isTotalWith", "(III)Z"⟩
def dkwX1_isTotalWith_2 : List UInt8 := [21, 5, 172]
abbrev dktX1_isTotalWith_2 : List UInt8 := dkwX1_isTotalWith_2 ++ []
def dkwX1_isTotalWith_1 : List UInt8 := [79, 42, 42, 180, 0, 220, 182, 1, 175, 54, 5, 42, 180, 0, 220, 180, 0, 13, 27, 50, 28, 21, 4, 79]
abbrev dktX1_isTotalWith_1 : List UInt8 := dkwX1_isTotalWith_1 ++ dktX1_isTotalWith_2
def dkwX1_isTotalWith_0 : List UInt8 := [42, 180, 0, 220, 180, 0, 13, 27, 50, 28, 46, 54, 4, 42, 180, 0, 220, 180, 0, 13, 27, 50, 28, 29]
abbrev dktX1_isTotalWith_0 : List UInt8 := dkwX1_isTotalWith_0 ++ dktX1_isTotalWith_1
theorem dksX1_isTotalWith_0 : cX1_isTotalWith.data.toList.drop 0 = dktX1_isTotalWith_0 := by decide +kernel
theorem dksX1_isTotalWith_1 : cX1_isTotalWith.data.toList.drop 24 = dktX1_isTotalWith_1 := dk_seg dksX1_isTotalWith_0 24 rfl rfl
theorem dksX1_isTotalWith_2 : cX1_isTotalWith.data.toList.drop 48 = dktX1_isTotalWith_2 := dk_seg dksX1_isTotalWith_1 24 rfl rfl
theorem dX1_isTotalWith_0 : decode cX1_isTotalWith 0 = .ok (.aload_n 0, 1) := dk_42 (dk_at dksX1_isTotalWith_0 0 rfl rfl)
theorem dX1_isTotalWith_1 : decode cX1_isTotalWith 1 = .ok (.getfield 220, 3) := dk_180 0 220 (dk_at dksX1_isTotalWith_0 1 rfl rfl)
theorem dX1_isTotalWith_4 : decode cX1_isTotalWith 4 = .ok (.getfield 13, 3) := dk_180 0 13 (dk_at dksX1_isTotalWith_0 4 rfl rfl)
theorem dX1_isTotalWith_7 : decode cX1_isTotalWith 7 = .ok (.iload_n 1, 1) := dk_27 (dk_at dksX1_isTotalWith_0 7 rfl rfl)
theorem dX1_isTotalWith_8 : decode cX1_isTotalWith 8 = .ok (.aaload, 1) := dk_50 (dk_at dksX1_isTotalWith_0 8 rfl rfl)
theorem dX1_isTotalWith_9 : decode cX1_isTotalWith 9 = .ok (.iload_n 2, 1) := dk_28 (dk_at dksX1_isTotalWith_0 9 rfl rfl)
theorem dX1_isTotalWith_10 : decode cX1_isTotalWith 10 = .ok (.iaload, 1) := dk_46 (dk_at dksX1_isTotalWith_0 10 rfl rfl)
theorem dX1_isTotalWith_11 : decode cX1_isTotalWith 11 = .ok (.istore 4, 2) := dk_54 4 (dk_at dksX1_isTotalWith_0 11 rfl rfl)
theorem dX1_isTotalWith_13 : decode cX1_isTotalWith 13 = .ok (.aload_n 0, 1) := dk_42 (dk_at dksX1_isTotalWith_0 13 rfl rfl)
theorem dX1_isTotalWith_14 : decode cX1_isTotalWith 14 = .ok (.getfield 220, 3) := dk_180 0 220 (dk_at dksX1_isTotalWith_0 14 rfl rfl)
theorem dX1_isTotalWith_17 : decode cX1_isTotalWith 17 = .ok (.getfield 13, 3) := dk_180 0 13 (dk_at dksX1_isTotalWith_0 17 rfl rfl)
theorem dX1_isTotalWith_20 : decode cX1_isTotalWith 20 = .ok (.iload_n 1, 1) := dk_27 (dk_at dksX1_isTotalWith_0 20 rfl rfl)
theorem dX1_isTotalWith_21 : decode cX1_isTotalWith 21 = .ok (.aaload, 1) := dk_50 (dk_at dksX1_isTotalWith_0 21 rfl rfl)
theorem dX1_isTotalWith_22 : decode cX1_isTotalWith 22 = .ok (.iload_n 2, 1) := dk_28 (dk_at dksX1_isTotalWith_0 22 rfl rfl)
theorem dX1_isTotalWith_23 : decode cX1_isTotalWith 23 = .ok (.iload_n 3, 1) := dk_29 (dk_at dksX1_isTotalWith_0 23 rfl rfl)
theorem dX1_isTotalWith_24 : decode cX1_isTotalWith 24 = .ok (.iastore, 1) := dk_79 (dk_at dksX1_isTotalWith_1 0 rfl rfl)
theorem dX1_isTotalWith_25 : decode cX1_isTotalWith 25 = .ok (.aload_n 0, 1) := dk_42 (dk_at dksX1_isTotalWith_1 1 rfl rfl)
theorem dX1_isTotalWith_26 : decode cX1_isTotalWith 26 = .ok (.aload_n 0, 1) := dk_42 (dk_at dksX1_isTotalWith_1 2 rfl rfl)
theorem dX1_isTotalWith_27 : decode cX1_isTotalWith 27 = .ok (.getfield 220, 3) := dk_180 0 220 (dk_at dksX1_isTotalWith_1 3 rfl rfl)
theorem dX1_isTotalWith_30 : decode cX1_isTotalWith 30 = .ok (.invokevirtual 431, 3) := dk_182 1 175 (dk_at dksX1_isTotalWith_1 6 rfl rfl)
theorem dX1_isTotalWith_33 : decode cX1_isTotalWith 33 = .ok (.istore 5, 2) := dk_54 5 (dk_at dksX1_isTotalWith_1 9 rfl rfl)
theorem dX1_isTotalWith_35 : decode cX1_isTotalWith 35 = .ok (.aload_n 0, 1) := dk_42 (dk_at dksX1_isTotalWith_1 11 rfl rfl)
theorem dX1_isTotalWith_36 : decode cX1_isTotalWith 36 = .ok (.getfield 220, 3) := dk_180 0 220 (dk_at dksX1_isTotalWith_1 12 rfl rfl)
theorem dX1_isTotalWith_39 : decode cX1_isTotalWith 39 = .ok (.getfield 13, 3) := dk_180 0 13 (dk_at dksX1_isTotalWith_1 15 rfl rfl)
theorem dX1_isTotalWith_42 : decode cX1_isTotalWith 42 = .ok (.iload_n 1, 1) := dk_27 (dk_at dksX1_isTotalWith_1 18 rfl rfl)
theorem dX1_isTotalWith_43 : decode cX1_isTotalWith 43 = .ok (.aaload, 1) := dk_50 (dk_at dksX1_isTotalWith_1 19 rfl rfl)
theorem dX1_isTotalWith_44 : decode cX1_isTotalWith 44 = .ok (.iload_n 2, 1) := dk_28 (dk_at dksX1_isTotalWith_1 20 rfl rfl)
theorem dX1_isTotalWith_45 : decode cX1_isTotalWith 45 = .ok (.iload 4, 2) := dk_21 4 (dk_at dksX1_isTotalWith_1 21 rfl rfl)
theorem dX1_isTotalWith_47 : decode cX1_isTotalWith 47 = .ok (.iastore, 1) := dk_79 (dk_at dksX1_isTotalWith_1 23 rfl rfl)
theorem dX1_isTotalWith_48 : decode cX1_isTotalWith 48 = .ok (.iload 5, 2) := dk_21 5 (dk_at dksX1_isTotalWith_2 0 rfl rfl)
theorem dX1_isTotalWith_50 : decode cX1_isTotalWith 50 = .ok (.ireturn, 1) := dk_172 (dk_at dksX1_isTotalWith_2 2 rfl rfl)
abbrev cX1_fragile : ByteArray := prog_1_method_94_code
def yX1_fragile : MethodName := ⟨RX1, "fragile", "()I"⟩
def dkwX1_fragile_4 : List UInt8 := [167, 255, 185, 27, 172]
abbrev dktX1_fragile_4 : List UInt8 := dkwX1_fragile_4 ++ []
def dkwX1_fragile_3 : List UInt8 := [50, 29, 46, 116, 182, 1, 218, 154, 0, 6, 132, 1, 1, 132, 3, 1, 167, 255, 204, 132, 2, 1]
abbrev dktX1_fragile_3 : List UInt8 := dkwX1_fragile_3 ++ dktX1_fragile_4
def dkwX1_fragile_2 : List UInt8 := [180, 0, 220, 180, 0, 13, 28, 50, 29, 46, 153, 0, 27, 42, 28, 29, 42, 180, 0, 220, 180, 0, 13, 28]
abbrev dktX1_fragile_2 : List UInt8 := dkwX1_fragile_2 ++ dktX1_fragile_3
def dkwX1_fragile_1 : List UInt8 := [180, 0, 220, 180, 0, 17, 162, 0, 66, 3, 62, 29, 42, 180, 0, 220, 180, 0, 9, 162, 0, 47, 42]
abbrev dktX1_fragile_1 : List UInt8 := dkwX1_fragile_1 ++ dktX1_fragile_2
def dkwX1_fragile_0 : List UInt8 := [42, 180, 0, 220, 198, 0, 10, 42, 182, 1, 99, 154, 0, 5, 2, 172, 3, 60, 3, 61, 28, 42]
abbrev dktX1_fragile_0 : List UInt8 := dkwX1_fragile_0 ++ dktX1_fragile_1
theorem dksX1_fragile_0 : cX1_fragile.data.toList.drop 0 = dktX1_fragile_0 := by decide +kernel
theorem dksX1_fragile_1 : cX1_fragile.data.toList.drop 22 = dktX1_fragile_1 := dk_seg dksX1_fragile_0 22 rfl rfl
theorem dksX1_fragile_2 : cX1_fragile.data.toList.drop 45 = dktX1_fragile_2 := dk_seg dksX1_fragile_1 23 rfl rfl
theorem dksX1_fragile_3 : cX1_fragile.data.toList.drop 69 = dktX1_fragile_3 := dk_seg dksX1_fragile_2 24 rfl rfl
theorem dksX1_fragile_4 : cX1_fragile.data.toList.drop 91 = dktX1_fragile_4 := dk_seg dksX1_fragile_3 22 rfl rfl
theorem dX1_fragile_0 : decode cX1_fragile 0 = .ok (.aload_n 0, 1) := dk_42 (dk_at dksX1_fragile_0 0 rfl rfl)
theorem dX1_fragile_1 : decode cX1_fragile 1 = .ok (.getfield 220, 3) := dk_180 0 220 (dk_at dksX1_fragile_0 1 rfl rfl)
theorem dX1_fragile_4 : decode cX1_fragile 4 = .ok (.ifnull 10, 3) := dk_198 0 10 (dk_at dksX1_fragile_0 4 rfl rfl)
theorem dX1_fragile_7 : decode cX1_fragile 7 = .ok (.aload_n 0, 1) := dk_42 (dk_at dksX1_fragile_0 7 rfl rfl)
theorem dX1_fragile_8 : decode cX1_fragile 8 = .ok (.invokevirtual 355, 3) := dk_182 1 99 (dk_at dksX1_fragile_0 8 rfl rfl)
theorem dX1_fragile_11 : decode cX1_fragile 11 = .ok (.ifCond .ne 5, 3) := dk_154 0 5 (dk_at dksX1_fragile_0 11 rfl rfl)
theorem dX1_fragile_14 : decode cX1_fragile 14 = .ok (.iconst (-1), 1) := dk_2 (dk_at dksX1_fragile_0 14 rfl rfl)
theorem dX1_fragile_15 : decode cX1_fragile 15 = .ok (.ireturn, 1) := dk_172 (dk_at dksX1_fragile_0 15 rfl rfl)
theorem dX1_fragile_16 : decode cX1_fragile 16 = .ok (.iconst 0, 1) := dk_3 (dk_at dksX1_fragile_0 16 rfl rfl)
theorem dX1_fragile_17 : decode cX1_fragile 17 = .ok (.istore_n 1, 1) := dk_60 (dk_at dksX1_fragile_0 17 rfl rfl)
theorem dX1_fragile_18 : decode cX1_fragile 18 = .ok (.iconst 0, 1) := dk_3 (dk_at dksX1_fragile_0 18 rfl rfl)
theorem dX1_fragile_19 : decode cX1_fragile 19 = .ok (.istore_n 2, 1) := dk_61 (dk_at dksX1_fragile_0 19 rfl rfl)
theorem dX1_fragile_20 : decode cX1_fragile 20 = .ok (.iload_n 2, 1) := dk_28 (dk_at dksX1_fragile_0 20 rfl rfl)
theorem dX1_fragile_21 : decode cX1_fragile 21 = .ok (.aload_n 0, 1) := dk_42 (dk_at dksX1_fragile_0 21 rfl rfl)
theorem dX1_fragile_22 : decode cX1_fragile 22 = .ok (.getfield 220, 3) := dk_180 0 220 (dk_at dksX1_fragile_1 0 rfl rfl)
theorem dX1_fragile_25 : decode cX1_fragile 25 = .ok (.getfield 17, 3) := dk_180 0 17 (dk_at dksX1_fragile_1 3 rfl rfl)
theorem dX1_fragile_28 : decode cX1_fragile 28 = .ok (.if_icmp .ge 66, 3) := dk_162 0 66 (dk_at dksX1_fragile_1 6 rfl rfl)
theorem dX1_fragile_31 : decode cX1_fragile 31 = .ok (.iconst 0, 1) := dk_3 (dk_at dksX1_fragile_1 9 rfl rfl)
theorem dX1_fragile_32 : decode cX1_fragile 32 = .ok (.istore_n 3, 1) := dk_62 (dk_at dksX1_fragile_1 10 rfl rfl)
theorem dX1_fragile_33 : decode cX1_fragile 33 = .ok (.iload_n 3, 1) := dk_29 (dk_at dksX1_fragile_1 11 rfl rfl)
theorem dX1_fragile_34 : decode cX1_fragile 34 = .ok (.aload_n 0, 1) := dk_42 (dk_at dksX1_fragile_1 12 rfl rfl)
theorem dX1_fragile_35 : decode cX1_fragile 35 = .ok (.getfield 220, 3) := dk_180 0 220 (dk_at dksX1_fragile_1 13 rfl rfl)
theorem dX1_fragile_38 : decode cX1_fragile 38 = .ok (.getfield 9, 3) := dk_180 0 9 (dk_at dksX1_fragile_1 16 rfl rfl)
theorem dX1_fragile_41 : decode cX1_fragile 41 = .ok (.if_icmp .ge 47, 3) := dk_162 0 47 (dk_at dksX1_fragile_1 19 rfl rfl)
theorem dX1_fragile_44 : decode cX1_fragile 44 = .ok (.aload_n 0, 1) := dk_42 (dk_at dksX1_fragile_1 22 rfl rfl)
theorem dX1_fragile_45 : decode cX1_fragile 45 = .ok (.getfield 220, 3) := dk_180 0 220 (dk_at dksX1_fragile_2 0 rfl rfl)
theorem dX1_fragile_48 : decode cX1_fragile 48 = .ok (.getfield 13, 3) := dk_180 0 13 (dk_at dksX1_fragile_2 3 rfl rfl)
theorem dX1_fragile_51 : decode cX1_fragile 51 = .ok (.iload_n 2, 1) := dk_28 (dk_at dksX1_fragile_2 6 rfl rfl)
theorem dX1_fragile_52 : decode cX1_fragile 52 = .ok (.aaload, 1) := dk_50 (dk_at dksX1_fragile_2 7 rfl rfl)
theorem dX1_fragile_53 : decode cX1_fragile 53 = .ok (.iload_n 3, 1) := dk_29 (dk_at dksX1_fragile_2 8 rfl rfl)
theorem dX1_fragile_54 : decode cX1_fragile 54 = .ok (.iaload, 1) := dk_46 (dk_at dksX1_fragile_2 9 rfl rfl)
theorem dX1_fragile_55 : decode cX1_fragile 55 = .ok (.ifCond .eq 27, 3) := dk_153 0 27 (dk_at dksX1_fragile_2 10 rfl rfl)
theorem dX1_fragile_58 : decode cX1_fragile 58 = .ok (.aload_n 0, 1) := dk_42 (dk_at dksX1_fragile_2 13 rfl rfl)
theorem dX1_fragile_59 : decode cX1_fragile 59 = .ok (.iload_n 2, 1) := dk_28 (dk_at dksX1_fragile_2 14 rfl rfl)
theorem dX1_fragile_60 : decode cX1_fragile 60 = .ok (.iload_n 3, 1) := dk_29 (dk_at dksX1_fragile_2 15 rfl rfl)
theorem dX1_fragile_61 : decode cX1_fragile 61 = .ok (.aload_n 0, 1) := dk_42 (dk_at dksX1_fragile_2 16 rfl rfl)
theorem dX1_fragile_62 : decode cX1_fragile 62 = .ok (.getfield 220, 3) := dk_180 0 220 (dk_at dksX1_fragile_2 17 rfl rfl)
theorem dX1_fragile_65 : decode cX1_fragile 65 = .ok (.getfield 13, 3) := dk_180 0 13 (dk_at dksX1_fragile_2 20 rfl rfl)
theorem dX1_fragile_68 : decode cX1_fragile 68 = .ok (.iload_n 2, 1) := dk_28 (dk_at dksX1_fragile_2 23 rfl rfl)
theorem dX1_fragile_69 : decode cX1_fragile 69 = .ok (.aaload, 1) := dk_50 (dk_at dksX1_fragile_3 0 rfl rfl)
theorem dX1_fragile_70 : decode cX1_fragile 70 = .ok (.iload_n 3, 1) := dk_29 (dk_at dksX1_fragile_3 1 rfl rfl)
theorem dX1_fragile_71 : decode cX1_fragile 71 = .ok (.iaload, 1) := dk_46 (dk_at dksX1_fragile_3 2 rfl rfl)
theorem dX1_fragile_72 : decode cX1_fragile 72 = .ok (.ineg, 1) := dk_116 (dk_at dksX1_fragile_3 3 rfl rfl)
theorem dX1_fragile_73 : decode cX1_fragile 73 = .ok (.invokevirtual 474, 3) := dk_182 1 218 (dk_at dksX1_fragile_3 4 rfl rfl)
theorem dX1_fragile_76 : decode cX1_fragile 76 = .ok (.ifCond .ne 6, 3) := dk_154 0 6 (dk_at dksX1_fragile_3 7 rfl rfl)
theorem dX1_fragile_79 : decode cX1_fragile 79 = .ok (.iinc 1 1, 3) := dk_132 1 1 (dk_at dksX1_fragile_3 10 rfl rfl)
theorem dX1_fragile_82 : decode cX1_fragile 82 = .ok (.iinc 3 1, 3) := dk_132 3 1 (dk_at dksX1_fragile_3 13 rfl rfl)
theorem dX1_fragile_85 : decode cX1_fragile 85 = .ok (.goto (-52), 3) := dk_167 255 204 (dk_at dksX1_fragile_3 16 rfl rfl)
theorem dX1_fragile_88 : decode cX1_fragile 88 = .ok (.iinc 2 1, 3) := dk_132 2 1 (dk_at dksX1_fragile_3 19 rfl rfl)
theorem dX1_fragile_91 : decode cX1_fragile 91 = .ok (.goto (-71), 3) := dk_167 255 185 (dk_at dksX1_fragile_4 0 rfl rfl)
theorem dX1_fragile_94 : decode cX1_fragile 94 = .ok (.iload_n 1, 1) := dk_27 (dk_at dksX1_fragile_4 3 rfl rfl)
theorem dX1_fragile_95 : decode cX1_fragile 95 = .ok (.ireturn, 1) := dk_172 (dk_at dksX1_fragile_4 4 rfl rfl)
abbrev cX1_fills : ByteArray := prog_1_method_95_code
def yX1_fills : MethodName := ⟨RX1, "fills", "(II)I"⟩
def dkwX1_fills_2 : List UInt8 := [182, 1, 218, 153, 0, 12, 29, 4, 21, 4, 4, 96, 120, 128, 62, 132, 4, 1, 167, 255, 227, 29, 172]
abbrev dktX1_fills_2 : List UInt8 := dkwX1_fills_2 ++ []
def dkwX1_fills_1 : List UInt8 := [184, 0, 246, 154, 0, 5, 2, 172, 3, 62, 2, 54, 4, 21, 4, 5, 162, 0, 29, 42, 27, 28, 21, 4]
abbrev dktX1_fills_1 : List UInt8 := dkwX1_fills_1 ++ dktX1_fills_2
def dkwX1_fills_0 : List UInt8 := [42, 180, 0, 220, 198, 0, 25, 42, 180, 0, 220, 27, 184, 0, 242, 153, 0, 14, 42, 180, 0, 220, 28]
abbrev dktX1_fills_0 : List UInt8 := dkwX1_fills_0 ++ dktX1_fills_1
theorem dksX1_fills_0 : cX1_fills.data.toList.drop 0 = dktX1_fills_0 := by decide +kernel
theorem dksX1_fills_1 : cX1_fills.data.toList.drop 23 = dktX1_fills_1 := dk_seg dksX1_fills_0 23 rfl rfl
theorem dksX1_fills_2 : cX1_fills.data.toList.drop 47 = dktX1_fills_2 := dk_seg dksX1_fills_1 24 rfl rfl
theorem dX1_fills_0 : decode cX1_fills 0 = .ok (.aload_n 0, 1) := dk_42 (dk_at dksX1_fills_0 0 rfl rfl)
theorem dX1_fills_1 : decode cX1_fills 1 = .ok (.getfield 220, 3) := dk_180 0 220 (dk_at dksX1_fills_0 1 rfl rfl)
theorem dX1_fills_4 : decode cX1_fills 4 = .ok (.ifnull 25, 3) := dk_198 0 25 (dk_at dksX1_fills_0 4 rfl rfl)
theorem dX1_fills_7 : decode cX1_fills 7 = .ok (.aload_n 0, 1) := dk_42 (dk_at dksX1_fills_0 7 rfl rfl)
theorem dX1_fills_8 : decode cX1_fills 8 = .ok (.getfield 220, 3) := dk_180 0 220 (dk_at dksX1_fills_0 8 rfl rfl)
theorem dX1_fills_11 : decode cX1_fills 11 = .ok (.iload_n 1, 1) := dk_27 (dk_at dksX1_fills_0 11 rfl rfl)
theorem dX1_fills_12 : decode cX1_fills 12 = .ok (.invokestatic 242, 3) := dk_184 0 242 (dk_at dksX1_fills_0 12 rfl rfl)
theorem dX1_fills_15 : decode cX1_fills 15 = .ok (.ifCond .eq 14, 3) := dk_153 0 14 (dk_at dksX1_fills_0 15 rfl rfl)
theorem dX1_fills_18 : decode cX1_fills 18 = .ok (.aload_n 0, 1) := dk_42 (dk_at dksX1_fills_0 18 rfl rfl)
theorem dX1_fills_19 : decode cX1_fills 19 = .ok (.getfield 220, 3) := dk_180 0 220 (dk_at dksX1_fills_0 19 rfl rfl)
theorem dX1_fills_22 : decode cX1_fills 22 = .ok (.iload_n 2, 1) := dk_28 (dk_at dksX1_fills_0 22 rfl rfl)
theorem dX1_fills_23 : decode cX1_fills 23 = .ok (.invokestatic 246, 3) := dk_184 0 246 (dk_at dksX1_fills_1 0 rfl rfl)
theorem dX1_fills_26 : decode cX1_fills 26 = .ok (.ifCond .ne 5, 3) := dk_154 0 5 (dk_at dksX1_fills_1 3 rfl rfl)
theorem dX1_fills_29 : decode cX1_fills 29 = .ok (.iconst (-1), 1) := dk_2 (dk_at dksX1_fills_1 6 rfl rfl)
theorem dX1_fills_30 : decode cX1_fills 30 = .ok (.ireturn, 1) := dk_172 (dk_at dksX1_fills_1 7 rfl rfl)
theorem dX1_fills_31 : decode cX1_fills 31 = .ok (.iconst 0, 1) := dk_3 (dk_at dksX1_fills_1 8 rfl rfl)
theorem dX1_fills_32 : decode cX1_fills 32 = .ok (.istore_n 3, 1) := dk_62 (dk_at dksX1_fills_1 9 rfl rfl)
theorem dX1_fills_33 : decode cX1_fills 33 = .ok (.iconst (-1), 1) := dk_2 (dk_at dksX1_fills_1 10 rfl rfl)
theorem dX1_fills_34 : decode cX1_fills 34 = .ok (.istore 4, 2) := dk_54 4 (dk_at dksX1_fills_1 11 rfl rfl)
theorem dX1_fills_36 : decode cX1_fills 36 = .ok (.iload 4, 2) := dk_21 4 (dk_at dksX1_fills_1 13 rfl rfl)
theorem dX1_fills_38 : decode cX1_fills 38 = .ok (.iconst 2, 1) := dk_5 (dk_at dksX1_fills_1 15 rfl rfl)
theorem dX1_fills_39 : decode cX1_fills 39 = .ok (.if_icmp .ge 29, 3) := dk_162 0 29 (dk_at dksX1_fills_1 16 rfl rfl)
theorem dX1_fills_42 : decode cX1_fills 42 = .ok (.aload_n 0, 1) := dk_42 (dk_at dksX1_fills_1 19 rfl rfl)
theorem dX1_fills_43 : decode cX1_fills 43 = .ok (.iload_n 1, 1) := dk_27 (dk_at dksX1_fills_1 20 rfl rfl)
theorem dX1_fills_44 : decode cX1_fills 44 = .ok (.iload_n 2, 1) := dk_28 (dk_at dksX1_fills_1 21 rfl rfl)
theorem dX1_fills_45 : decode cX1_fills 45 = .ok (.iload 4, 2) := dk_21 4 (dk_at dksX1_fills_1 22 rfl rfl)
theorem dX1_fills_47 : decode cX1_fills 47 = .ok (.invokevirtual 474, 3) := dk_182 1 218 (dk_at dksX1_fills_2 0 rfl rfl)
theorem dX1_fills_50 : decode cX1_fills 50 = .ok (.ifCond .eq 12, 3) := dk_153 0 12 (dk_at dksX1_fills_2 3 rfl rfl)
theorem dX1_fills_53 : decode cX1_fills 53 = .ok (.iload_n 3, 1) := dk_29 (dk_at dksX1_fills_2 6 rfl rfl)
theorem dX1_fills_54 : decode cX1_fills 54 = .ok (.iconst 1, 1) := dk_4 (dk_at dksX1_fills_2 7 rfl rfl)
theorem dX1_fills_55 : decode cX1_fills 55 = .ok (.iload 4, 2) := dk_21 4 (dk_at dksX1_fills_2 8 rfl rfl)
theorem dX1_fills_57 : decode cX1_fills 57 = .ok (.iconst 1, 1) := dk_4 (dk_at dksX1_fills_2 10 rfl rfl)
theorem dX1_fills_58 : decode cX1_fills 58 = .ok (.iadd, 1) := dk_96 (dk_at dksX1_fills_2 11 rfl rfl)
theorem dX1_fills_59 : decode cX1_fills 59 = .ok (.ishl, 1) := dk_120 (dk_at dksX1_fills_2 12 rfl rfl)
theorem dX1_fills_60 : decode cX1_fills 60 = .ok (.ior, 1) := dk_128 (dk_at dksX1_fills_2 13 rfl rfl)
theorem dX1_fills_61 : decode cX1_fills 61 = .ok (.istore_n 3, 1) := dk_62 (dk_at dksX1_fills_2 14 rfl rfl)
theorem dX1_fills_62 : decode cX1_fills 62 = .ok (.iinc 4 1, 3) := dk_132 4 1 (dk_at dksX1_fills_2 15 rfl rfl)
theorem dX1_fills_65 : decode cX1_fills 65 = .ok (.goto (-29), 3) := dk_167 255 227 (dk_at dksX1_fills_2 18 rfl rfl)
theorem dX1_fills_68 : decode cX1_fills 68 = .ok (.iload_n 3, 1) := dk_29 (dk_at dksX1_fills_2 21 rfl rfl)
theorem dX1_fills_69 : decode cX1_fills 69 = .ok (.ireturn, 1) := dk_172 (dk_at dksX1_fills_2 22 rfl rfl)
abbrev cX1_pack : ByteArray := prog_1_method_99_code
def yX1_pack : MethodName := ⟨RX1, "pack", "(I)I"⟩
def dkwX1_pack_5 : List UInt8 := [29, 61, 132, 3, 1, 167, 255, 156, 28, 172]
abbrev dktX1_pack_5 : List UInt8 := dkwX1_pack_5 ++ []
def dkwX1_pack_4 : List UInt8 := [54, 4, 28, 2, 159, 0, 20, 27, 154, 0, 11, 21, 4, 158, 0, 13, 167, 0, 8, 21, 4, 156, 0, 5]
abbrev dktX1_pack_4 : List UInt8 := dkwX1_pack_4 ++ dktX1_pack_5
def dkwX1_pack_3 : List UInt8 := [154, 0, 6, 167, 0, 47, 28, 2, 160, 0, 7, 4, 167, 0, 12, 29, 184, 1, 62, 28, 184, 1, 62, 100]
abbrev dktX1_pack_3 : List UInt8 := dkwX1_pack_3 ++ dktX1_pack_4
def dkwX1_pack_2 : List UInt8 := [162, 0, 79, 27, 154, 0, 14, 42, 29, 182, 1, 225, 154, 0, 17, 167, 0, 58, 42, 29, 182, 1, 228]
abbrev dktX1_pack_2 : List UInt8 := dkwX1_pack_2 ++ dktX1_pack_3
def dkwX1_pack_1 : List UInt8 := [27, 154, 0, 13, 42, 180, 0, 220, 180, 0, 9, 167, 0, 10, 42, 180, 0, 220, 180, 0, 17, 120]
abbrev dktX1_pack_1 : List UInt8 := dkwX1_pack_1 ++ dktX1_pack_2
def dkwX1_pack_0 : List UInt8 := [42, 180, 0, 220, 198, 0, 12, 27, 3, 4, 184, 0, 149, 154, 0, 5, 2, 172, 2, 61, 3, 62, 29, 4]
abbrev dktX1_pack_0 : List UInt8 := dkwX1_pack_0 ++ dktX1_pack_1
theorem dksX1_pack_0 : cX1_pack.data.toList.drop 0 = dktX1_pack_0 := by decide +kernel
theorem dksX1_pack_1 : cX1_pack.data.toList.drop 24 = dktX1_pack_1 := dk_seg dksX1_pack_0 24 rfl rfl
theorem dksX1_pack_2 : cX1_pack.data.toList.drop 46 = dktX1_pack_2 := dk_seg dksX1_pack_1 22 rfl rfl
theorem dksX1_pack_3 : cX1_pack.data.toList.drop 69 = dktX1_pack_3 := dk_seg dksX1_pack_2 23 rfl rfl
theorem dksX1_pack_4 : cX1_pack.data.toList.drop 93 = dktX1_pack_4 := dk_seg dksX1_pack_3 24 rfl rfl
theorem dksX1_pack_5 : cX1_pack.data.toList.drop 117 = dktX1_pack_5 := dk_seg dksX1_pack_4 24 rfl rfl
theorem dX1_pack_0 : decode cX1_pack 0 = .ok (.aload_n 0, 1) := dk_42 (dk_at dksX1_pack_0 0 rfl rfl)
theorem dX1_pack_1 : decode cX1_pack 1 = .ok (.getfield 220, 3) := dk_180 0 220 (dk_at dksX1_pack_0 1 rfl rfl)
theorem dX1_pack_4 : decode cX1_pack 4 = .ok (.ifnull 12, 3) := dk_198 0 12 (dk_at dksX1_pack_0 4 rfl rfl)
theorem dX1_pack_7 : decode cX1_pack 7 = .ok (.iload_n 1, 1) := dk_27 (dk_at dksX1_pack_0 7 rfl rfl)
theorem dX1_pack_8 : decode cX1_pack 8 = .ok (.iconst 0, 1) := dk_3 (dk_at dksX1_pack_0 8 rfl rfl)
theorem dX1_pack_9 : decode cX1_pack 9 = .ok (.iconst 1, 1) := dk_4 (dk_at dksX1_pack_0 9 rfl rfl)
theorem dX1_pack_10 : decode cX1_pack 10 = .ok (.invokestatic 149, 3) := dk_184 0 149 (dk_at dksX1_pack_0 10 rfl rfl)
theorem dX1_pack_13 : decode cX1_pack 13 = .ok (.ifCond .ne 5, 3) := dk_154 0 5 (dk_at dksX1_pack_0 13 rfl rfl)
theorem dX1_pack_16 : decode cX1_pack 16 = .ok (.iconst (-1), 1) := dk_2 (dk_at dksX1_pack_0 16 rfl rfl)
theorem dX1_pack_17 : decode cX1_pack 17 = .ok (.ireturn, 1) := dk_172 (dk_at dksX1_pack_0 17 rfl rfl)
theorem dX1_pack_18 : decode cX1_pack 18 = .ok (.iconst (-1), 1) := dk_2 (dk_at dksX1_pack_0 18 rfl rfl)
theorem dX1_pack_19 : decode cX1_pack 19 = .ok (.istore_n 2, 1) := dk_61 (dk_at dksX1_pack_0 19 rfl rfl)
theorem dX1_pack_20 : decode cX1_pack 20 = .ok (.iconst 0, 1) := dk_3 (dk_at dksX1_pack_0 20 rfl rfl)
theorem dX1_pack_21 : decode cX1_pack 21 = .ok (.istore_n 3, 1) := dk_62 (dk_at dksX1_pack_0 21 rfl rfl)
theorem dX1_pack_22 : decode cX1_pack 22 = .ok (.iload_n 3, 1) := dk_29 (dk_at dksX1_pack_0 22 rfl rfl)
theorem dX1_pack_23 : decode cX1_pack 23 = .ok (.iconst 1, 1) := dk_4 (dk_at dksX1_pack_0 23 rfl rfl)
theorem dX1_pack_24 : decode cX1_pack 24 = .ok (.iload_n 1, 1) := dk_27 (dk_at dksX1_pack_1 0 rfl rfl)
theorem dX1_pack_25 : decode cX1_pack 25 = .ok (.ifCond .ne 13, 3) := dk_154 0 13 (dk_at dksX1_pack_1 1 rfl rfl)
theorem dX1_pack_28 : decode cX1_pack 28 = .ok (.aload_n 0, 1) := dk_42 (dk_at dksX1_pack_1 4 rfl rfl)
theorem dX1_pack_29 : decode cX1_pack 29 = .ok (.getfield 220, 3) := dk_180 0 220 (dk_at dksX1_pack_1 5 rfl rfl)
theorem dX1_pack_32 : decode cX1_pack 32 = .ok (.getfield 9, 3) := dk_180 0 9 (dk_at dksX1_pack_1 8 rfl rfl)
theorem dX1_pack_35 : decode cX1_pack 35 = .ok (.goto 10, 3) := dk_167 0 10 (dk_at dksX1_pack_1 11 rfl rfl)
theorem dX1_pack_38 : decode cX1_pack 38 = .ok (.aload_n 0, 1) := dk_42 (dk_at dksX1_pack_1 14 rfl rfl)
theorem dX1_pack_39 : decode cX1_pack 39 = .ok (.getfield 220, 3) := dk_180 0 220 (dk_at dksX1_pack_1 15 rfl rfl)
theorem dX1_pack_42 : decode cX1_pack 42 = .ok (.getfield 17, 3) := dk_180 0 17 (dk_at dksX1_pack_1 18 rfl rfl)
theorem dX1_pack_45 : decode cX1_pack 45 = .ok (.ishl, 1) := dk_120 (dk_at dksX1_pack_1 21 rfl rfl)
theorem dX1_pack_46 : decode cX1_pack 46 = .ok (.if_icmp .ge 79, 3) := dk_162 0 79 (dk_at dksX1_pack_2 0 rfl rfl)
theorem dX1_pack_49 : decode cX1_pack 49 = .ok (.iload_n 1, 1) := dk_27 (dk_at dksX1_pack_2 3 rfl rfl)
theorem dX1_pack_50 : decode cX1_pack 50 = .ok (.ifCond .ne 14, 3) := dk_154 0 14 (dk_at dksX1_pack_2 4 rfl rfl)
theorem dX1_pack_53 : decode cX1_pack 53 = .ok (.aload_n 0, 1) := dk_42 (dk_at dksX1_pack_2 7 rfl rfl)
theorem dX1_pack_54 : decode cX1_pack 54 = .ok (.iload_n 3, 1) := dk_29 (dk_at dksX1_pack_2 8 rfl rfl)
theorem dX1_pack_55 : decode cX1_pack 55 = .ok (.invokevirtual 481, 3) := dk_182 1 225 (dk_at dksX1_pack_2 9 rfl rfl)
theorem dX1_pack_58 : decode cX1_pack 58 = .ok (.ifCond .ne 17, 3) := dk_154 0 17 (dk_at dksX1_pack_2 12 rfl rfl)
theorem dX1_pack_61 : decode cX1_pack 61 = .ok (.goto 58, 3) := dk_167 0 58 (dk_at dksX1_pack_2 15 rfl rfl)
theorem dX1_pack_64 : decode cX1_pack 64 = .ok (.aload_n 0, 1) := dk_42 (dk_at dksX1_pack_2 18 rfl rfl)
theorem dX1_pack_65 : decode cX1_pack 65 = .ok (.iload_n 3, 1) := dk_29 (dk_at dksX1_pack_2 19 rfl rfl)
theorem dX1_pack_66 : decode cX1_pack 66 = .ok (.invokevirtual 484, 3) := dk_182 1 228 (dk_at dksX1_pack_2 20 rfl rfl)
theorem dX1_pack_69 : decode cX1_pack 69 = .ok (.ifCond .ne 6, 3) := dk_154 0 6 (dk_at dksX1_pack_3 0 rfl rfl)
theorem dX1_pack_72 : decode cX1_pack 72 = .ok (.goto 47, 3) := dk_167 0 47 (dk_at dksX1_pack_3 3 rfl rfl)
theorem dX1_pack_75 : decode cX1_pack 75 = .ok (.iload_n 2, 1) := dk_28 (dk_at dksX1_pack_3 6 rfl rfl)
theorem dX1_pack_76 : decode cX1_pack 76 = .ok (.iconst (-1), 1) := dk_2 (dk_at dksX1_pack_3 7 rfl rfl)
theorem dX1_pack_77 : decode cX1_pack 77 = .ok (.if_icmp .ne 7, 3) := dk_160 0 7 (dk_at dksX1_pack_3 8 rfl rfl)
theorem dX1_pack_80 : decode cX1_pack 80 = .ok (.iconst 1, 1) := dk_4 (dk_at dksX1_pack_3 11 rfl rfl)
theorem dX1_pack_81 : decode cX1_pack 81 = .ok (.goto 12, 3) := dk_167 0 12 (dk_at dksX1_pack_3 12 rfl rfl)
theorem dX1_pack_84 : decode cX1_pack 84 = .ok (.iload_n 3, 1) := dk_29 (dk_at dksX1_pack_3 15 rfl rfl)
theorem dX1_pack_85 : decode cX1_pack 85 = .ok (.invokestatic 318, 3) := dk_184 1 62 (dk_at dksX1_pack_3 16 rfl rfl)
theorem dX1_pack_88 : decode cX1_pack 88 = .ok (.iload_n 2, 1) := dk_28 (dk_at dksX1_pack_3 19 rfl rfl)
theorem dX1_pack_89 : decode cX1_pack 89 = .ok (.invokestatic 318, 3) := dk_184 1 62 (dk_at dksX1_pack_3 20 rfl rfl)
theorem dX1_pack_92 : decode cX1_pack 92 = .ok (.isub, 1) := dk_100 (dk_at dksX1_pack_3 23 rfl rfl)
theorem dX1_pack_93 : decode cX1_pack 93 = .ok (.istore 4, 2) := dk_54 4 (dk_at dksX1_pack_4 0 rfl rfl)
theorem dX1_pack_95 : decode cX1_pack 95 = .ok (.iload_n 2, 1) := dk_28 (dk_at dksX1_pack_4 2 rfl rfl)
theorem dX1_pack_96 : decode cX1_pack 96 = .ok (.iconst (-1), 1) := dk_2 (dk_at dksX1_pack_4 3 rfl rfl)
theorem dX1_pack_97 : decode cX1_pack 97 = .ok (.if_icmp .eq 20, 3) := dk_159 0 20 (dk_at dksX1_pack_4 4 rfl rfl)
theorem dX1_pack_100 : decode cX1_pack 100 = .ok (.iload_n 1, 1) := dk_27 (dk_at dksX1_pack_4 7 rfl rfl)
theorem dX1_pack_101 : decode cX1_pack 101 = .ok (.ifCond .ne 11, 3) := dk_154 0 11 (dk_at dksX1_pack_4 8 rfl rfl)
theorem dX1_pack_104 : decode cX1_pack 104 = .ok (.iload 4, 2) := dk_21 4 (dk_at dksX1_pack_4 11 rfl rfl)
theorem dX1_pack_106 : decode cX1_pack 106 = .ok (.ifCond .le 13, 3) := dk_158 0 13 (dk_at dksX1_pack_4 13 rfl rfl)
theorem dX1_pack_109 : decode cX1_pack 109 = .ok (.goto 8, 3) := dk_167 0 8 (dk_at dksX1_pack_4 16 rfl rfl)
theorem dX1_pack_112 : decode cX1_pack 112 = .ok (.iload 4, 2) := dk_21 4 (dk_at dksX1_pack_4 19 rfl rfl)
theorem dX1_pack_114 : decode cX1_pack 114 = .ok (.ifCond .ge 5, 3) := dk_156 0 5 (dk_at dksX1_pack_4 21 rfl rfl)
theorem dX1_pack_117 : decode cX1_pack 117 = .ok (.iload_n 3, 1) := dk_29 (dk_at dksX1_pack_5 0 rfl rfl)
theorem dX1_pack_118 : decode cX1_pack 118 = .ok (.istore_n 2, 1) := dk_61 (dk_at dksX1_pack_5 1 rfl rfl)
theorem dX1_pack_119 : decode cX1_pack 119 = .ok (.iinc 3 1, 3) := dk_132 3 1 (dk_at dksX1_pack_5 2 rfl rfl)
theorem dX1_pack_122 : decode cX1_pack 122 = .ok (.goto (-100), 3) := dk_167 255 156 (dk_at dksX1_pack_5 5 rfl rfl)
theorem dX1_pack_125 : decode cX1_pack 125 = .ok (.iload_n 2, 1) := dk_28 (dk_at dksX1_pack_5 8 rfl rfl)
theorem dX1_pack_126 : decode cX1_pack 126 = .ok (.ireturn, 1) := dk_172 (dk_at dksX1_pack_5 9 rfl rfl)
abbrev cX1_doesPack : ByteArray := prog_1_method_97_code
def yX1_doesPack : MethodName := ⟨RX1, "doesPack", "(I)Z"⟩
def dkwX1_doesPack_2 : List UInt8 := [61, 132, 3, 1, 167, 255, 209, 4, 172]
abbrev dktX1_doesPack_2 : List UInt8 := dkwX1_doesPack_2 ++ []
def dkwX1_doesPack_1 : List UInt8 := [167, 0, 25, 28, 42, 29, 4, 182, 1, 221, 126, 153, 0, 5, 3, 172, 28, 42, 29, 4, 182, 1, 221, 128]
abbrev dktX1_doesPack_1 : List UInt8 := dkwX1_doesPack_1 ++ dktX1_doesPack_2
def dkwX1_doesPack_0 : List UInt8 := [3, 61, 3, 62, 29, 42, 180, 0, 220, 180, 0, 9, 162, 0, 42, 27, 29, 184, 1, 65, 154, 0, 6]
abbrev dktX1_doesPack_0 : List UInt8 := dkwX1_doesPack_0 ++ dktX1_doesPack_1
theorem dksX1_doesPack_0 : cX1_doesPack.data.toList.drop 0 = dktX1_doesPack_0 := by decide +kernel
theorem dksX1_doesPack_1 : cX1_doesPack.data.toList.drop 23 = dktX1_doesPack_1 := dk_seg dksX1_doesPack_0 23 rfl rfl
theorem dksX1_doesPack_2 : cX1_doesPack.data.toList.drop 47 = dktX1_doesPack_2 := dk_seg dksX1_doesPack_1 24 rfl rfl
theorem dX1_doesPack_0 : decode cX1_doesPack 0 = .ok (.iconst 0, 1) := dk_3 (dk_at dksX1_doesPack_0 0 rfl rfl)
theorem dX1_doesPack_1 : decode cX1_doesPack 1 = .ok (.istore_n 2, 1) := dk_61 (dk_at dksX1_doesPack_0 1 rfl rfl)
theorem dX1_doesPack_2 : decode cX1_doesPack 2 = .ok (.iconst 0, 1) := dk_3 (dk_at dksX1_doesPack_0 2 rfl rfl)
theorem dX1_doesPack_3 : decode cX1_doesPack 3 = .ok (.istore_n 3, 1) := dk_62 (dk_at dksX1_doesPack_0 3 rfl rfl)
theorem dX1_doesPack_4 : decode cX1_doesPack 4 = .ok (.iload_n 3, 1) := dk_29 (dk_at dksX1_doesPack_0 4 rfl rfl)
theorem dX1_doesPack_5 : decode cX1_doesPack 5 = .ok (.aload_n 0, 1) := dk_42 (dk_at dksX1_doesPack_0 5 rfl rfl)
theorem dX1_doesPack_6 : decode cX1_doesPack 6 = .ok (.getfield 220, 3) := dk_180 0 220 (dk_at dksX1_doesPack_0 6 rfl rfl)
theorem dX1_doesPack_9 : decode cX1_doesPack 9 = .ok (.getfield 9, 3) := dk_180 0 9 (dk_at dksX1_doesPack_0 9 rfl rfl)
theorem dX1_doesPack_12 : decode cX1_doesPack 12 = .ok (.if_icmp .ge 42, 3) := dk_162 0 42 (dk_at dksX1_doesPack_0 12 rfl rfl)
theorem dX1_doesPack_15 : decode cX1_doesPack 15 = .ok (.iload_n 1, 1) := dk_27 (dk_at dksX1_doesPack_0 15 rfl rfl)
theorem dX1_doesPack_16 : decode cX1_doesPack 16 = .ok (.iload_n 3, 1) := dk_29 (dk_at dksX1_doesPack_0 16 rfl rfl)
theorem dX1_doesPack_17 : decode cX1_doesPack 17 = .ok (.invokestatic 321, 3) := dk_184 1 65 (dk_at dksX1_doesPack_0 17 rfl rfl)
theorem dX1_doesPack_20 : decode cX1_doesPack 20 = .ok (.ifCond .ne 6, 3) := dk_154 0 6 (dk_at dksX1_doesPack_0 20 rfl rfl)
theorem dX1_doesPack_23 : decode cX1_doesPack 23 = .ok (.goto 25, 3) := dk_167 0 25 (dk_at dksX1_doesPack_1 0 rfl rfl)
theorem dX1_doesPack_26 : decode cX1_doesPack 26 = .ok (.iload_n 2, 1) := dk_28 (dk_at dksX1_doesPack_1 3 rfl rfl)
theorem dX1_doesPack_27 : decode cX1_doesPack 27 = .ok (.aload_n 0, 1) := dk_42 (dk_at dksX1_doesPack_1 4 rfl rfl)
theorem dX1_doesPack_28 : decode cX1_doesPack 28 = .ok (.iload_n 3, 1) := dk_29 (dk_at dksX1_doesPack_1 5 rfl rfl)
theorem dX1_doesPack_29 : decode cX1_doesPack 29 = .ok (.iconst 1, 1) := dk_4 (dk_at dksX1_doesPack_1 6 rfl rfl)
theorem dX1_doesPack_30 : decode cX1_doesPack 30 = .ok (.invokevirtual 477, 3) := dk_182 1 221 (dk_at dksX1_doesPack_1 7 rfl rfl)
theorem dX1_doesPack_33 : decode cX1_doesPack 33 = .ok (.iand, 1) := dk_126 (dk_at dksX1_doesPack_1 10 rfl rfl)
theorem dX1_doesPack_34 : decode cX1_doesPack 34 = .ok (.ifCond .eq 5, 3) := dk_153 0 5 (dk_at dksX1_doesPack_1 11 rfl rfl)
theorem dX1_doesPack_37 : decode cX1_doesPack 37 = .ok (.iconst 0, 1) := dk_3 (dk_at dksX1_doesPack_1 14 rfl rfl)
theorem dX1_doesPack_38 : decode cX1_doesPack 38 = .ok (.ireturn, 1) := dk_172 (dk_at dksX1_doesPack_1 15 rfl rfl)
theorem dX1_doesPack_39 : decode cX1_doesPack 39 = .ok (.iload_n 2, 1) := dk_28 (dk_at dksX1_doesPack_1 16 rfl rfl)
theorem dX1_doesPack_40 : decode cX1_doesPack 40 = .ok (.aload_n 0, 1) := dk_42 (dk_at dksX1_doesPack_1 17 rfl rfl)
theorem dX1_doesPack_41 : decode cX1_doesPack 41 = .ok (.iload_n 3, 1) := dk_29 (dk_at dksX1_doesPack_1 18 rfl rfl)
theorem dX1_doesPack_42 : decode cX1_doesPack 42 = .ok (.iconst 1, 1) := dk_4 (dk_at dksX1_doesPack_1 19 rfl rfl)
theorem dX1_doesPack_43 : decode cX1_doesPack 43 = .ok (.invokevirtual 477, 3) := dk_182 1 221 (dk_at dksX1_doesPack_1 20 rfl rfl)
theorem dX1_doesPack_46 : decode cX1_doesPack 46 = .ok (.ior, 1) := dk_128 (dk_at dksX1_doesPack_1 23 rfl rfl)
theorem dX1_doesPack_47 : decode cX1_doesPack 47 = .ok (.istore_n 2, 1) := dk_61 (dk_at dksX1_doesPack_2 0 rfl rfl)
theorem dX1_doesPack_48 : decode cX1_doesPack 48 = .ok (.iinc 3 1, 3) := dk_132 3 1 (dk_at dksX1_doesPack_2 1 rfl rfl)
theorem dX1_doesPack_51 : decode cX1_doesPack 51 = .ok (.goto (-47), 3) := dk_167 255 209 (dk_at dksX1_doesPack_2 4 rfl rfl)
theorem dX1_doesPack_54 : decode cX1_doesPack 54 = .ok (.iconst 1, 1) := dk_4 (dk_at dksX1_doesPack_2 7 rfl rfl)
theorem dX1_doesPack_55 : decode cX1_doesPack 55 = .ok (.ireturn, 1) := dk_172 (dk_at dksX1_doesPack_2 8 rfl rfl)
abbrev cX1_onesAt : ByteArray := prog_1_method_96_code
def yX1_onesAt : MethodName := ⟨RX1, "onesAt", "(IZ)I"⟩
def dkwX1_onesAt_3 : List UInt8 := [128, 62, 132, 4, 1, 167, 255, 186, 29, 172]
abbrev dktX1_onesAt_3 : List UInt8 := dkwX1_onesAt_3 ++ []
def dkwX1_onesAt_2 : List UInt8 := [46, 167, 0, 15, 42, 180, 0, 220, 180, 0, 13, 27, 50, 21, 4, 46, 153, 0, 10, 29, 4, 21, 4, 120]
abbrev dktX1_onesAt_2 : List UInt8 := dkwX1_onesAt_2 ++ dktX1_onesAt_3
def dkwX1_onesAt_1 : List UInt8 := [180, 0, 220, 180, 0, 9, 162, 0, 50, 28, 153, 0, 18, 42, 180, 0, 220, 180, 0, 13, 21, 4, 50, 27]
abbrev dktX1_onesAt_1 : List UInt8 := dkwX1_onesAt_1 ++ dktX1_onesAt_2
def dkwX1_onesAt_0 : List UInt8 := [3, 62, 3, 54, 4, 21, 4, 28, 153, 0, 13, 42, 180, 0, 220, 180, 0, 17, 167, 0, 10, 42]
abbrev dktX1_onesAt_0 : List UInt8 := dkwX1_onesAt_0 ++ dktX1_onesAt_1
theorem dksX1_onesAt_0 : cX1_onesAt.data.toList.drop 0 = dktX1_onesAt_0 := by decide +kernel
theorem dksX1_onesAt_1 : cX1_onesAt.data.toList.drop 22 = dktX1_onesAt_1 := dk_seg dksX1_onesAt_0 22 rfl rfl
theorem dksX1_onesAt_2 : cX1_onesAt.data.toList.drop 46 = dktX1_onesAt_2 := dk_seg dksX1_onesAt_1 24 rfl rfl
theorem dksX1_onesAt_3 : cX1_onesAt.data.toList.drop 70 = dktX1_onesAt_3 := dk_seg dksX1_onesAt_2 24 rfl rfl
theorem dX1_onesAt_0 : decode cX1_onesAt 0 = .ok (.iconst 0, 1) := dk_3 (dk_at dksX1_onesAt_0 0 rfl rfl)
theorem dX1_onesAt_1 : decode cX1_onesAt 1 = .ok (.istore_n 3, 1) := dk_62 (dk_at dksX1_onesAt_0 1 rfl rfl)
theorem dX1_onesAt_2 : decode cX1_onesAt 2 = .ok (.iconst 0, 1) := dk_3 (dk_at dksX1_onesAt_0 2 rfl rfl)
theorem dX1_onesAt_3 : decode cX1_onesAt 3 = .ok (.istore 4, 2) := dk_54 4 (dk_at dksX1_onesAt_0 3 rfl rfl)
theorem dX1_onesAt_5 : decode cX1_onesAt 5 = .ok (.iload 4, 2) := dk_21 4 (dk_at dksX1_onesAt_0 5 rfl rfl)
theorem dX1_onesAt_7 : decode cX1_onesAt 7 = .ok (.iload_n 2, 1) := dk_28 (dk_at dksX1_onesAt_0 7 rfl rfl)
theorem dX1_onesAt_8 : decode cX1_onesAt 8 = .ok (.ifCond .eq 13, 3) := dk_153 0 13 (dk_at dksX1_onesAt_0 8 rfl rfl)
theorem dX1_onesAt_11 : decode cX1_onesAt 11 = .ok (.aload_n 0, 1) := dk_42 (dk_at dksX1_onesAt_0 11 rfl rfl)
theorem dX1_onesAt_12 : decode cX1_onesAt 12 = .ok (.getfield 220, 3) := dk_180 0 220 (dk_at dksX1_onesAt_0 12 rfl rfl)
theorem dX1_onesAt_15 : decode cX1_onesAt 15 = .ok (.getfield 17, 3) := dk_180 0 17 (dk_at dksX1_onesAt_0 15 rfl rfl)
theorem dX1_onesAt_18 : decode cX1_onesAt 18 = .ok (.goto 10, 3) := dk_167 0 10 (dk_at dksX1_onesAt_0 18 rfl rfl)
theorem dX1_onesAt_21 : decode cX1_onesAt 21 = .ok (.aload_n 0, 1) := dk_42 (dk_at dksX1_onesAt_0 21 rfl rfl)
theorem dX1_onesAt_22 : decode cX1_onesAt 22 = .ok (.getfield 220, 3) := dk_180 0 220 (dk_at dksX1_onesAt_1 0 rfl rfl)
theorem dX1_onesAt_25 : decode cX1_onesAt 25 = .ok (.getfield 9, 3) := dk_180 0 9 (dk_at dksX1_onesAt_1 3 rfl rfl)
theorem dX1_onesAt_28 : decode cX1_onesAt 28 = .ok (.if_icmp .ge 50, 3) := dk_162 0 50 (dk_at dksX1_onesAt_1 6 rfl rfl)
theorem dX1_onesAt_31 : decode cX1_onesAt 31 = .ok (.iload_n 2, 1) := dk_28 (dk_at dksX1_onesAt_1 9 rfl rfl)
theorem dX1_onesAt_32 : decode cX1_onesAt 32 = .ok (.ifCond .eq 18, 3) := dk_153 0 18 (dk_at dksX1_onesAt_1 10 rfl rfl)
theorem dX1_onesAt_35 : decode cX1_onesAt 35 = .ok (.aload_n 0, 1) := dk_42 (dk_at dksX1_onesAt_1 13 rfl rfl)
theorem dX1_onesAt_36 : decode cX1_onesAt 36 = .ok (.getfield 220, 3) := dk_180 0 220 (dk_at dksX1_onesAt_1 14 rfl rfl)
theorem dX1_onesAt_39 : decode cX1_onesAt 39 = .ok (.getfield 13, 3) := dk_180 0 13 (dk_at dksX1_onesAt_1 17 rfl rfl)
theorem dX1_onesAt_42 : decode cX1_onesAt 42 = .ok (.iload 4, 2) := dk_21 4 (dk_at dksX1_onesAt_1 20 rfl rfl)
theorem dX1_onesAt_44 : decode cX1_onesAt 44 = .ok (.aaload, 1) := dk_50 (dk_at dksX1_onesAt_1 22 rfl rfl)
theorem dX1_onesAt_45 : decode cX1_onesAt 45 = .ok (.iload_n 1, 1) := dk_27 (dk_at dksX1_onesAt_1 23 rfl rfl)
theorem dX1_onesAt_46 : decode cX1_onesAt 46 = .ok (.iaload, 1) := dk_46 (dk_at dksX1_onesAt_2 0 rfl rfl)
theorem dX1_onesAt_47 : decode cX1_onesAt 47 = .ok (.goto 15, 3) := dk_167 0 15 (dk_at dksX1_onesAt_2 1 rfl rfl)
theorem dX1_onesAt_50 : decode cX1_onesAt 50 = .ok (.aload_n 0, 1) := dk_42 (dk_at dksX1_onesAt_2 4 rfl rfl)
theorem dX1_onesAt_51 : decode cX1_onesAt 51 = .ok (.getfield 220, 3) := dk_180 0 220 (dk_at dksX1_onesAt_2 5 rfl rfl)
theorem dX1_onesAt_54 : decode cX1_onesAt 54 = .ok (.getfield 13, 3) := dk_180 0 13 (dk_at dksX1_onesAt_2 8 rfl rfl)
theorem dX1_onesAt_57 : decode cX1_onesAt 57 = .ok (.iload_n 1, 1) := dk_27 (dk_at dksX1_onesAt_2 11 rfl rfl)
theorem dX1_onesAt_58 : decode cX1_onesAt 58 = .ok (.aaload, 1) := dk_50 (dk_at dksX1_onesAt_2 12 rfl rfl)
theorem dX1_onesAt_59 : decode cX1_onesAt 59 = .ok (.iload 4, 2) := dk_21 4 (dk_at dksX1_onesAt_2 13 rfl rfl)
theorem dX1_onesAt_61 : decode cX1_onesAt 61 = .ok (.iaload, 1) := dk_46 (dk_at dksX1_onesAt_2 15 rfl rfl)
theorem dX1_onesAt_62 : decode cX1_onesAt 62 = .ok (.ifCond .eq 10, 3) := dk_153 0 10 (dk_at dksX1_onesAt_2 16 rfl rfl)
theorem dX1_onesAt_65 : decode cX1_onesAt 65 = .ok (.iload_n 3, 1) := dk_29 (dk_at dksX1_onesAt_2 19 rfl rfl)
theorem dX1_onesAt_66 : decode cX1_onesAt 66 = .ok (.iconst 1, 1) := dk_4 (dk_at dksX1_onesAt_2 20 rfl rfl)
theorem dX1_onesAt_67 : decode cX1_onesAt 67 = .ok (.iload 4, 2) := dk_21 4 (dk_at dksX1_onesAt_2 21 rfl rfl)
theorem dX1_onesAt_69 : decode cX1_onesAt 69 = .ok (.ishl, 1) := dk_120 (dk_at dksX1_onesAt_2 23 rfl rfl)
theorem dX1_onesAt_70 : decode cX1_onesAt 70 = .ok (.ior, 1) := dk_128 (dk_at dksX1_onesAt_3 0 rfl rfl)
theorem dX1_onesAt_71 : decode cX1_onesAt 71 = .ok (.istore_n 3, 1) := dk_62 (dk_at dksX1_onesAt_3 1 rfl rfl)
theorem dX1_onesAt_72 : decode cX1_onesAt 72 = .ok (.iinc 4 1, 3) := dk_132 4 1 (dk_at dksX1_onesAt_3 2 rfl rfl)
theorem dX1_onesAt_75 : decode cX1_onesAt 75 = .ok (.goto (-70), 3) := dk_167 255 186 (dk_at dksX1_onesAt_3 5 rfl rfl)
theorem dX1_onesAt_78 : decode cX1_onesAt 78 = .ok (.iload_n 3, 1) := dk_29 (dk_at dksX1_onesAt_3 8 rfl rfl)
theorem dX1_onesAt_79 : decode cX1_onesAt 79 = .ok (.ireturn, 1) := dk_172 (dk_at dksX1_onesAt_3 9 rfl rfl)
abbrev cX1_doesCover : ByteArray := prog_1_method_98_code
def yX1_doesCover : MethodName := ⟨RX1, "doesCover", "(I)Z"⟩
def dkwX1_doesCover_1 : List UInt8 := [4, 182, 1, 221, 27, 126, 154, 0, 5, 3, 172, 132, 2, 1, 167, 255, 220, 4, 172]
abbrev dktX1_doesCover_1 : List UInt8 := dkwX1_doesCover_1 ++ []
def dkwX1_doesCover_0 : List UInt8 := [3, 61, 28, 42, 180, 0, 220, 180, 0, 9, 162, 0, 31, 42, 28, 4, 182, 1, 221, 153, 0, 16, 42, 28]
abbrev dktX1_doesCover_0 : List UInt8 := dkwX1_doesCover_0 ++ dktX1_doesCover_1
theorem dksX1_doesCover_0 : cX1_doesCover.data.toList.drop 0 = dktX1_doesCover_0 := by decide +kernel
theorem dksX1_doesCover_1 : cX1_doesCover.data.toList.drop 24 = dktX1_doesCover_1 := dk_seg dksX1_doesCover_0 24 rfl rfl
theorem dX1_doesCover_0 : decode cX1_doesCover 0 = .ok (.iconst 0, 1) := dk_3 (dk_at dksX1_doesCover_0 0 rfl rfl)
theorem dX1_doesCover_1 : decode cX1_doesCover 1 = .ok (.istore_n 2, 1) := dk_61 (dk_at dksX1_doesCover_0 1 rfl rfl)
theorem dX1_doesCover_2 : decode cX1_doesCover 2 = .ok (.iload_n 2, 1) := dk_28 (dk_at dksX1_doesCover_0 2 rfl rfl)
theorem dX1_doesCover_3 : decode cX1_doesCover 3 = .ok (.aload_n 0, 1) := dk_42 (dk_at dksX1_doesCover_0 3 rfl rfl)
theorem dX1_doesCover_4 : decode cX1_doesCover 4 = .ok (.getfield 220, 3) := dk_180 0 220 (dk_at dksX1_doesCover_0 4 rfl rfl)
theorem dX1_doesCover_7 : decode cX1_doesCover 7 = .ok (.getfield 9, 3) := dk_180 0 9 (dk_at dksX1_doesCover_0 7 rfl rfl)
theorem dX1_doesCover_10 : decode cX1_doesCover 10 = .ok (.if_icmp .ge 31, 3) := dk_162 0 31 (dk_at dksX1_doesCover_0 10 rfl rfl)
theorem dX1_doesCover_13 : decode cX1_doesCover 13 = .ok (.aload_n 0, 1) := dk_42 (dk_at dksX1_doesCover_0 13 rfl rfl)
theorem dX1_doesCover_14 : decode cX1_doesCover 14 = .ok (.iload_n 2, 1) := dk_28 (dk_at dksX1_doesCover_0 14 rfl rfl)
theorem dX1_doesCover_15 : decode cX1_doesCover 15 = .ok (.iconst 1, 1) := dk_4 (dk_at dksX1_doesCover_0 15 rfl rfl)
theorem dX1_doesCover_16 : decode cX1_doesCover 16 = .ok (.invokevirtual 477, 3) := dk_182 1 221 (dk_at dksX1_doesCover_0 16 rfl rfl)
theorem dX1_doesCover_19 : decode cX1_doesCover 19 = .ok (.ifCond .eq 16, 3) := dk_153 0 16 (dk_at dksX1_doesCover_0 19 rfl rfl)
theorem dX1_doesCover_22 : decode cX1_doesCover 22 = .ok (.aload_n 0, 1) := dk_42 (dk_at dksX1_doesCover_0 22 rfl rfl)
theorem dX1_doesCover_23 : decode cX1_doesCover 23 = .ok (.iload_n 2, 1) := dk_28 (dk_at dksX1_doesCover_0 23 rfl rfl)
theorem dX1_doesCover_24 : decode cX1_doesCover 24 = .ok (.iconst 1, 1) := dk_4 (dk_at dksX1_doesCover_1 0 rfl rfl)
theorem dX1_doesCover_25 : decode cX1_doesCover 25 = .ok (.invokevirtual 477, 3) := dk_182 1 221 (dk_at dksX1_doesCover_1 1 rfl rfl)
theorem dX1_doesCover_28 : decode cX1_doesCover 28 = .ok (.iload_n 1, 1) := dk_27 (dk_at dksX1_doesCover_1 4 rfl rfl)
theorem dX1_doesCover_29 : decode cX1_doesCover 29 = .ok (.iand, 1) := dk_126 (dk_at dksX1_doesCover_1 5 rfl rfl)
theorem dX1_doesCover_30 : decode cX1_doesCover 30 = .ok (.ifCond .ne 5, 3) := dk_154 0 5 (dk_at dksX1_doesCover_1 6 rfl rfl)
theorem dX1_doesCover_33 : decode cX1_doesCover 33 = .ok (.iconst 0, 1) := dk_3 (dk_at dksX1_doesCover_1 9 rfl rfl)
theorem dX1_doesCover_34 : decode cX1_doesCover 34 = .ok (.ireturn, 1) := dk_172 (dk_at dksX1_doesCover_1 10 rfl rfl)
theorem dX1_doesCover_35 : decode cX1_doesCover 35 = .ok (.iinc 2 1, 3) := dk_132 2 1 (dk_at dksX1_doesCover_1 11 rfl rfl)
theorem dX1_doesCover_38 : decode cX1_doesCover 38 = .ok (.goto (-36), 3) := dk_167 255 220 (dk_at dksX1_doesCover_1 14 rfl rfl)
theorem dX1_doesCover_41 : decode cX1_doesCover 41 = .ok (.iconst 1, 1) := dk_4 (dk_at dksX1_doesCover_1 17 rfl rfl)
theorem dX1_doesCover_42 : decode cX1_doesCover 42 = .ok (.ireturn, 1) := dk_172 (dk_at dksX1_doesCover_1 18 rfl rfl)
abbrev cX1_adjoint : ByteArray := prog_1_method_100_code
def yX1_adjoint : MethodName := ⟨RX1, "adjoint", "(II)I"⟩
def dkwX1_adjoint_5 : List UInt8 := [172]
abbrev dktX1_adjoint_5 : List UInt8 := dkwX1_adjoint_5 ++ []
def dkwX1_adjoint_4 : List UInt8 := [120, 2, 130, 126, 96, 46, 54, 4, 27, 28, 96, 5, 112, 154, 0, 8, 21, 4, 167, 0, 6, 21, 4, 116]
abbrev dktX1_adjoint_4 : List UInt8 := dkwX1_adjoint_4 ++ dktX1_adjoint_5
def dkwX1_adjoint_3 : List UInt8 := [160, 0, 7, 4, 167, 0, 26, 42, 182, 1, 89, 16, 64, 29, 4, 28, 120, 2, 130, 126, 104, 29, 4, 27]
abbrev dktX1_adjoint_3 : List UInt8 := dkwX1_adjoint_3 ++ dktX1_adjoint_4
def dkwX1_adjoint_2 : List UInt8 := [18, 188, 172, 4, 42, 180, 0, 220, 180, 0, 17, 120, 4, 100, 62, 42, 180, 0, 220, 180, 0, 17, 4]
abbrev dktX1_adjoint_2 : List UInt8 := dkwX1_adjoint_2 ++ dktX1_adjoint_3
def dkwX1_adjoint_1 : List UInt8 := [184, 0, 246, 153, 0, 20, 42, 180, 0, 220, 180, 0, 17, 42, 180, 0, 220, 180, 0, 9, 159, 0, 6]
abbrev dktX1_adjoint_1 : List UInt8 := dkwX1_adjoint_1 ++ dktX1_adjoint_2
def dkwX1_adjoint_0 : List UInt8 := [42, 180, 0, 220, 198, 0, 42, 42, 180, 0, 220, 27, 184, 0, 242, 153, 0, 31, 42, 180, 0, 220, 28]
abbrev dktX1_adjoint_0 : List UInt8 := dkwX1_adjoint_0 ++ dktX1_adjoint_1
theorem dksX1_adjoint_0 : cX1_adjoint.data.toList.drop 0 = dktX1_adjoint_0 := by decide +kernel
theorem dksX1_adjoint_1 : cX1_adjoint.data.toList.drop 23 = dktX1_adjoint_1 := dk_seg dksX1_adjoint_0 23 rfl rfl
theorem dksX1_adjoint_2 : cX1_adjoint.data.toList.drop 46 = dktX1_adjoint_2 := dk_seg dksX1_adjoint_1 23 rfl rfl
theorem dksX1_adjoint_3 : cX1_adjoint.data.toList.drop 69 = dktX1_adjoint_3 := dk_seg dksX1_adjoint_2 23 rfl rfl
theorem dksX1_adjoint_4 : cX1_adjoint.data.toList.drop 93 = dktX1_adjoint_4 := dk_seg dksX1_adjoint_3 24 rfl rfl
theorem dksX1_adjoint_5 : cX1_adjoint.data.toList.drop 117 = dktX1_adjoint_5 := dk_seg dksX1_adjoint_4 24 rfl rfl
theorem dX1_adjoint_0 : decode cX1_adjoint 0 = .ok (.aload_n 0, 1) := dk_42 (dk_at dksX1_adjoint_0 0 rfl rfl)
theorem dX1_adjoint_1 : decode cX1_adjoint 1 = .ok (.getfield 220, 3) := dk_180 0 220 (dk_at dksX1_adjoint_0 1 rfl rfl)
theorem dX1_adjoint_4 : decode cX1_adjoint 4 = .ok (.ifnull 42, 3) := dk_198 0 42 (dk_at dksX1_adjoint_0 4 rfl rfl)
theorem dX1_adjoint_7 : decode cX1_adjoint 7 = .ok (.aload_n 0, 1) := dk_42 (dk_at dksX1_adjoint_0 7 rfl rfl)
theorem dX1_adjoint_8 : decode cX1_adjoint 8 = .ok (.getfield 220, 3) := dk_180 0 220 (dk_at dksX1_adjoint_0 8 rfl rfl)
theorem dX1_adjoint_11 : decode cX1_adjoint 11 = .ok (.iload_n 1, 1) := dk_27 (dk_at dksX1_adjoint_0 11 rfl rfl)
theorem dX1_adjoint_12 : decode cX1_adjoint 12 = .ok (.invokestatic 242, 3) := dk_184 0 242 (dk_at dksX1_adjoint_0 12 rfl rfl)
theorem dX1_adjoint_15 : decode cX1_adjoint 15 = .ok (.ifCond .eq 31, 3) := dk_153 0 31 (dk_at dksX1_adjoint_0 15 rfl rfl)
theorem dX1_adjoint_18 : decode cX1_adjoint 18 = .ok (.aload_n 0, 1) := dk_42 (dk_at dksX1_adjoint_0 18 rfl rfl)
theorem dX1_adjoint_19 : decode cX1_adjoint 19 = .ok (.getfield 220, 3) := dk_180 0 220 (dk_at dksX1_adjoint_0 19 rfl rfl)
theorem dX1_adjoint_22 : decode cX1_adjoint 22 = .ok (.iload_n 2, 1) := dk_28 (dk_at dksX1_adjoint_0 22 rfl rfl)
theorem dX1_adjoint_23 : decode cX1_adjoint 23 = .ok (.invokestatic 246, 3) := dk_184 0 246 (dk_at dksX1_adjoint_1 0 rfl rfl)
theorem dX1_adjoint_26 : decode cX1_adjoint 26 = .ok (.ifCond .eq 20, 3) := dk_153 0 20 (dk_at dksX1_adjoint_1 3 rfl rfl)
theorem dX1_adjoint_29 : decode cX1_adjoint 29 = .ok (.aload_n 0, 1) := dk_42 (dk_at dksX1_adjoint_1 6 rfl rfl)
theorem dX1_adjoint_30 : decode cX1_adjoint 30 = .ok (.getfield 220, 3) := dk_180 0 220 (dk_at dksX1_adjoint_1 7 rfl rfl)
theorem dX1_adjoint_33 : decode cX1_adjoint 33 = .ok (.getfield 17, 3) := dk_180 0 17 (dk_at dksX1_adjoint_1 10 rfl rfl)
theorem dX1_adjoint_36 : decode cX1_adjoint 36 = .ok (.aload_n 0, 1) := dk_42 (dk_at dksX1_adjoint_1 13 rfl rfl)
theorem dX1_adjoint_37 : decode cX1_adjoint 37 = .ok (.getfield 220, 3) := dk_180 0 220 (dk_at dksX1_adjoint_1 14 rfl rfl)
theorem dX1_adjoint_40 : decode cX1_adjoint 40 = .ok (.getfield 9, 3) := dk_180 0 9 (dk_at dksX1_adjoint_1 17 rfl rfl)
theorem dX1_adjoint_43 : decode cX1_adjoint 43 = .ok (.if_icmp .eq 6, 3) := dk_159 0 6 (dk_at dksX1_adjoint_1 20 rfl rfl)
theorem dX1_adjoint_46 : decode cX1_adjoint 46 = .ok (.ldc 188, 2) := dk_18 188 (dk_at dksX1_adjoint_2 0 rfl rfl)
theorem dX1_adjoint_48 : decode cX1_adjoint 48 = .ok (.ireturn, 1) := dk_172 (dk_at dksX1_adjoint_2 2 rfl rfl)
theorem dX1_adjoint_49 : decode cX1_adjoint 49 = .ok (.iconst 1, 1) := dk_4 (dk_at dksX1_adjoint_2 3 rfl rfl)
theorem dX1_adjoint_50 : decode cX1_adjoint 50 = .ok (.aload_n 0, 1) := dk_42 (dk_at dksX1_adjoint_2 4 rfl rfl)
theorem dX1_adjoint_51 : decode cX1_adjoint 51 = .ok (.getfield 220, 3) := dk_180 0 220 (dk_at dksX1_adjoint_2 5 rfl rfl)
theorem dX1_adjoint_54 : decode cX1_adjoint 54 = .ok (.getfield 17, 3) := dk_180 0 17 (dk_at dksX1_adjoint_2 8 rfl rfl)
theorem dX1_adjoint_57 : decode cX1_adjoint 57 = .ok (.ishl, 1) := dk_120 (dk_at dksX1_adjoint_2 11 rfl rfl)
theorem dX1_adjoint_58 : decode cX1_adjoint 58 = .ok (.iconst 1, 1) := dk_4 (dk_at dksX1_adjoint_2 12 rfl rfl)
theorem dX1_adjoint_59 : decode cX1_adjoint 59 = .ok (.isub, 1) := dk_100 (dk_at dksX1_adjoint_2 13 rfl rfl)
theorem dX1_adjoint_60 : decode cX1_adjoint 60 = .ok (.istore_n 3, 1) := dk_62 (dk_at dksX1_adjoint_2 14 rfl rfl)
theorem dX1_adjoint_61 : decode cX1_adjoint 61 = .ok (.aload_n 0, 1) := dk_42 (dk_at dksX1_adjoint_2 15 rfl rfl)
theorem dX1_adjoint_62 : decode cX1_adjoint 62 = .ok (.getfield 220, 3) := dk_180 0 220 (dk_at dksX1_adjoint_2 16 rfl rfl)
theorem dX1_adjoint_65 : decode cX1_adjoint 65 = .ok (.getfield 17, 3) := dk_180 0 17 (dk_at dksX1_adjoint_2 19 rfl rfl)
theorem dX1_adjoint_68 : decode cX1_adjoint 68 = .ok (.iconst 1, 1) := dk_4 (dk_at dksX1_adjoint_2 22 rfl rfl)
theorem dX1_adjoint_69 : decode cX1_adjoint 69 = .ok (.if_icmp .ne 7, 3) := dk_160 0 7 (dk_at dksX1_adjoint_3 0 rfl rfl)
theorem dX1_adjoint_72 : decode cX1_adjoint 72 = .ok (.iconst 1, 1) := dk_4 (dk_at dksX1_adjoint_3 3 rfl rfl)
theorem dX1_adjoint_73 : decode cX1_adjoint 73 = .ok (.goto 26, 3) := dk_167 0 26 (dk_at dksX1_adjoint_3 4 rfl rfl)
theorem dX1_adjoint_76 : decode cX1_adjoint 76 = .ok (.aload_n 0, 1) := dk_42 (dk_at dksX1_adjoint_3 7 rfl rfl)
theorem dX1_adjoint_77 : decode cX1_adjoint 77 = .ok (.invokevirtual 345, 3) := dk_182 1 89 (dk_at dksX1_adjoint_3 8 rfl rfl)
theorem dX1_adjoint_80 : decode cX1_adjoint 80 = .ok (.bipush 64, 2) := dk_16 64 (dk_at dksX1_adjoint_3 11 rfl rfl)
theorem dX1_adjoint_82 : decode cX1_adjoint 82 = .ok (.iload_n 3, 1) := dk_29 (dk_at dksX1_adjoint_3 13 rfl rfl)
theorem dX1_adjoint_83 : decode cX1_adjoint 83 = .ok (.iconst 1, 1) := dk_4 (dk_at dksX1_adjoint_3 14 rfl rfl)
theorem dX1_adjoint_84 : decode cX1_adjoint 84 = .ok (.iload_n 2, 1) := dk_28 (dk_at dksX1_adjoint_3 15 rfl rfl)
theorem dX1_adjoint_85 : decode cX1_adjoint 85 = .ok (.ishl, 1) := dk_120 (dk_at dksX1_adjoint_3 16 rfl rfl)
theorem dX1_adjoint_86 : decode cX1_adjoint 86 = .ok (.iconst (-1), 1) := dk_2 (dk_at dksX1_adjoint_3 17 rfl rfl)
theorem dX1_adjoint_87 : decode cX1_adjoint 87 = .ok (.ixor, 1) := dk_130 (dk_at dksX1_adjoint_3 18 rfl rfl)
theorem dX1_adjoint_88 : decode cX1_adjoint 88 = .ok (.iand, 1) := dk_126 (dk_at dksX1_adjoint_3 19 rfl rfl)
theorem dX1_adjoint_89 : decode cX1_adjoint 89 = .ok (.imul, 1) := dk_104 (dk_at dksX1_adjoint_3 20 rfl rfl)
theorem dX1_adjoint_90 : decode cX1_adjoint 90 = .ok (.iload_n 3, 1) := dk_29 (dk_at dksX1_adjoint_3 21 rfl rfl)
theorem dX1_adjoint_91 : decode cX1_adjoint 91 = .ok (.iconst 1, 1) := dk_4 (dk_at dksX1_adjoint_3 22 rfl rfl)
theorem dX1_adjoint_92 : decode cX1_adjoint 92 = .ok (.iload_n 1, 1) := dk_27 (dk_at dksX1_adjoint_3 23 rfl rfl)
theorem dX1_adjoint_93 : decode cX1_adjoint 93 = .ok (.ishl, 1) := dk_120 (dk_at dksX1_adjoint_4 0 rfl rfl)
theorem dX1_adjoint_94 : decode cX1_adjoint 94 = .ok (.iconst (-1), 1) := dk_2 (dk_at dksX1_adjoint_4 1 rfl rfl)
theorem dX1_adjoint_95 : decode cX1_adjoint 95 = .ok (.ixor, 1) := dk_130 (dk_at dksX1_adjoint_4 2 rfl rfl)
theorem dX1_adjoint_96 : decode cX1_adjoint 96 = .ok (.iand, 1) := dk_126 (dk_at dksX1_adjoint_4 3 rfl rfl)
theorem dX1_adjoint_97 : decode cX1_adjoint 97 = .ok (.iadd, 1) := dk_96 (dk_at dksX1_adjoint_4 4 rfl rfl)
theorem dX1_adjoint_98 : decode cX1_adjoint 98 = .ok (.iaload, 1) := dk_46 (dk_at dksX1_adjoint_4 5 rfl rfl)
theorem dX1_adjoint_99 : decode cX1_adjoint 99 = .ok (.istore 4, 2) := dk_54 4 (dk_at dksX1_adjoint_4 6 rfl rfl)
theorem dX1_adjoint_101 : decode cX1_adjoint 101 = .ok (.iload_n 1, 1) := dk_27 (dk_at dksX1_adjoint_4 8 rfl rfl)
theorem dX1_adjoint_102 : decode cX1_adjoint 102 = .ok (.iload_n 2, 1) := dk_28 (dk_at dksX1_adjoint_4 9 rfl rfl)
theorem dX1_adjoint_103 : decode cX1_adjoint 103 = .ok (.iadd, 1) := dk_96 (dk_at dksX1_adjoint_4 10 rfl rfl)
theorem dX1_adjoint_104 : decode cX1_adjoint 104 = .ok (.iconst 2, 1) := dk_5 (dk_at dksX1_adjoint_4 11 rfl rfl)
theorem dX1_adjoint_105 : decode cX1_adjoint 105 = .ok (.irem, 1) := dk_112 (dk_at dksX1_adjoint_4 12 rfl rfl)
theorem dX1_adjoint_106 : decode cX1_adjoint 106 = .ok (.ifCond .ne 8, 3) := dk_154 0 8 (dk_at dksX1_adjoint_4 13 rfl rfl)
theorem dX1_adjoint_109 : decode cX1_adjoint 109 = .ok (.iload 4, 2) := dk_21 4 (dk_at dksX1_adjoint_4 16 rfl rfl)
theorem dX1_adjoint_111 : decode cX1_adjoint 111 = .ok (.goto 6, 3) := dk_167 0 6 (dk_at dksX1_adjoint_4 18 rfl rfl)
theorem dX1_adjoint_114 : decode cX1_adjoint 114 = .ok (.iload 4, 2) := dk_21 4 (dk_at dksX1_adjoint_4 21 rfl rfl)
theorem dX1_adjoint_116 : decode cX1_adjoint 116 = .ok (.ineg, 1) := dk_116 (dk_at dksX1_adjoint_4 23 rfl rfl)
theorem dX1_adjoint_117 : decode cX1_adjoint 117 = .ok (.ireturn, 1) := dk_172 (dk_at dksX1_adjoint_5 0 rfl rfl)
abbrev cX1_cycle : ByteArray := prog_1_method_102_code
def yX1_cycle : MethodName := ⟨RX1, "cycle", "()I"⟩
def dkwX1_cycle_3 : List UInt8 := [167, 255, 215, 132, 2, 1, 167, 255, 196, 27, 19, 1, 145, 161, 0, 7, 2, 167, 0, 4, 27, 172]
abbrev dktX1_cycle_3 : List UInt8 := dkwX1_cycle_3 ++ []
def dkwX1_cycle_2 : List UInt8 := [50, 29, 46, 153, 0, 16, 27, 42, 28, 29, 182, 1, 231, 4, 96, 184, 1, 235, 60, 132, 3, 1]
abbrev dktX1_cycle_2 : List UInt8 := dkwX1_cycle_2 ++ dktX1_cycle_3
def dkwX1_cycle_1 : List UInt8 := [162, 0, 55, 3, 62, 29, 42, 180, 0, 220, 180, 0, 9, 162, 0, 36, 42, 180, 0, 220, 180, 0, 13, 28]
abbrev dktX1_cycle_1 : List UInt8 := dkwX1_cycle_1 ++ dktX1_cycle_2
def dkwX1_cycle_0 : List UInt8 := [42, 180, 0, 220, 199, 0, 5, 2, 172, 19, 1, 145, 60, 3, 61, 28, 42, 180, 0, 220, 180, 0, 17]
abbrev dktX1_cycle_0 : List UInt8 := dkwX1_cycle_0 ++ dktX1_cycle_1
theorem dksX1_cycle_0 : cX1_cycle.data.toList.drop 0 = dktX1_cycle_0 := by decide +kernel
theorem dksX1_cycle_1 : cX1_cycle.data.toList.drop 23 = dktX1_cycle_1 := dk_seg dksX1_cycle_0 23 rfl rfl
theorem dksX1_cycle_2 : cX1_cycle.data.toList.drop 47 = dktX1_cycle_2 := dk_seg dksX1_cycle_1 24 rfl rfl
theorem dksX1_cycle_3 : cX1_cycle.data.toList.drop 69 = dktX1_cycle_3 := dk_seg dksX1_cycle_2 22 rfl rfl
theorem dX1_cycle_0 : decode cX1_cycle 0 = .ok (.aload_n 0, 1) := dk_42 (dk_at dksX1_cycle_0 0 rfl rfl)
theorem dX1_cycle_1 : decode cX1_cycle 1 = .ok (.getfield 220, 3) := dk_180 0 220 (dk_at dksX1_cycle_0 1 rfl rfl)
theorem dX1_cycle_4 : decode cX1_cycle 4 = .ok (.ifnonnull 5, 3) := dk_199 0 5 (dk_at dksX1_cycle_0 4 rfl rfl)
theorem dX1_cycle_7 : decode cX1_cycle 7 = .ok (.iconst (-1), 1) := dk_2 (dk_at dksX1_cycle_0 7 rfl rfl)
theorem dX1_cycle_8 : decode cX1_cycle 8 = .ok (.ireturn, 1) := dk_172 (dk_at dksX1_cycle_0 8 rfl rfl)
theorem dX1_cycle_9 : decode cX1_cycle 9 = .ok (.ldc_w 401, 3) := dk_19 1 145 (dk_at dksX1_cycle_0 9 rfl rfl)
theorem dX1_cycle_12 : decode cX1_cycle 12 = .ok (.istore_n 1, 1) := dk_60 (dk_at dksX1_cycle_0 12 rfl rfl)
theorem dX1_cycle_13 : decode cX1_cycle 13 = .ok (.iconst 0, 1) := dk_3 (dk_at dksX1_cycle_0 13 rfl rfl)
theorem dX1_cycle_14 : decode cX1_cycle 14 = .ok (.istore_n 2, 1) := dk_61 (dk_at dksX1_cycle_0 14 rfl rfl)
theorem dX1_cycle_15 : decode cX1_cycle 15 = .ok (.iload_n 2, 1) := dk_28 (dk_at dksX1_cycle_0 15 rfl rfl)
theorem dX1_cycle_16 : decode cX1_cycle 16 = .ok (.aload_n 0, 1) := dk_42 (dk_at dksX1_cycle_0 16 rfl rfl)
theorem dX1_cycle_17 : decode cX1_cycle 17 = .ok (.getfield 220, 3) := dk_180 0 220 (dk_at dksX1_cycle_0 17 rfl rfl)
theorem dX1_cycle_20 : decode cX1_cycle 20 = .ok (.getfield 17, 3) := dk_180 0 17 (dk_at dksX1_cycle_0 20 rfl rfl)
theorem dX1_cycle_23 : decode cX1_cycle 23 = .ok (.if_icmp .ge 55, 3) := dk_162 0 55 (dk_at dksX1_cycle_1 0 rfl rfl)
theorem dX1_cycle_26 : decode cX1_cycle 26 = .ok (.iconst 0, 1) := dk_3 (dk_at dksX1_cycle_1 3 rfl rfl)
theorem dX1_cycle_27 : decode cX1_cycle 27 = .ok (.istore_n 3, 1) := dk_62 (dk_at dksX1_cycle_1 4 rfl rfl)
theorem dX1_cycle_28 : decode cX1_cycle 28 = .ok (.iload_n 3, 1) := dk_29 (dk_at dksX1_cycle_1 5 rfl rfl)
theorem dX1_cycle_29 : decode cX1_cycle 29 = .ok (.aload_n 0, 1) := dk_42 (dk_at dksX1_cycle_1 6 rfl rfl)
theorem dX1_cycle_30 : decode cX1_cycle 30 = .ok (.getfield 220, 3) := dk_180 0 220 (dk_at dksX1_cycle_1 7 rfl rfl)
theorem dX1_cycle_33 : decode cX1_cycle 33 = .ok (.getfield 9, 3) := dk_180 0 9 (dk_at dksX1_cycle_1 10 rfl rfl)
theorem dX1_cycle_36 : decode cX1_cycle 36 = .ok (.if_icmp .ge 36, 3) := dk_162 0 36 (dk_at dksX1_cycle_1 13 rfl rfl)
theorem dX1_cycle_39 : decode cX1_cycle 39 = .ok (.aload_n 0, 1) := dk_42 (dk_at dksX1_cycle_1 16 rfl rfl)
theorem dX1_cycle_40 : decode cX1_cycle 40 = .ok (.getfield 220, 3) := dk_180 0 220 (dk_at dksX1_cycle_1 17 rfl rfl)
theorem dX1_cycle_43 : decode cX1_cycle 43 = .ok (.getfield 13, 3) := dk_180 0 13 (dk_at dksX1_cycle_1 20 rfl rfl)
theorem dX1_cycle_46 : decode cX1_cycle 46 = .ok (.iload_n 2, 1) := dk_28 (dk_at dksX1_cycle_1 23 rfl rfl)
theorem dX1_cycle_47 : decode cX1_cycle 47 = .ok (.aaload, 1) := dk_50 (dk_at dksX1_cycle_2 0 rfl rfl)
theorem dX1_cycle_48 : decode cX1_cycle 48 = .ok (.iload_n 3, 1) := dk_29 (dk_at dksX1_cycle_2 1 rfl rfl)
theorem dX1_cycle_49 : decode cX1_cycle 49 = .ok (.iaload, 1) := dk_46 (dk_at dksX1_cycle_2 2 rfl rfl)
theorem dX1_cycle_50 : decode cX1_cycle 50 = .ok (.ifCond .eq 16, 3) := dk_153 0 16 (dk_at dksX1_cycle_2 3 rfl rfl)
theorem dX1_cycle_53 : decode cX1_cycle 53 = .ok (.iload_n 1, 1) := dk_27 (dk_at dksX1_cycle_2 6 rfl rfl)
theorem dX1_cycle_54 : decode cX1_cycle 54 = .ok (.aload_n 0, 1) := dk_42 (dk_at dksX1_cycle_2 7 rfl rfl)
theorem dX1_cycle_55 : decode cX1_cycle 55 = .ok (.iload_n 2, 1) := dk_28 (dk_at dksX1_cycle_2 8 rfl rfl)
theorem dX1_cycle_56 : decode cX1_cycle 56 = .ok (.iload_n 3, 1) := dk_29 (dk_at dksX1_cycle_2 9 rfl rfl)
theorem dX1_cycle_57 : decode cX1_cycle 57 = .ok (.invokevirtual 487, 3) := dk_182 1 231 (dk_at dksX1_cycle_2 10 rfl rfl)
theorem dX1_cycle_60 : decode cX1_cycle 60 = .ok (.iconst 1, 1) := dk_4 (dk_at dksX1_cycle_2 13 rfl rfl)
theorem dX1_cycle_61 : decode cX1_cycle 61 = .ok (.iadd, 1) := dk_96 (dk_at dksX1_cycle_2 14 rfl rfl)
theorem dX1_cycle_62 : decode cX1_cycle 62 = .ok (.invokestatic 491, 3) := dk_184 1 235 (dk_at dksX1_cycle_2 15 rfl rfl)
theorem dX1_cycle_65 : decode cX1_cycle 65 = .ok (.istore_n 1, 1) := dk_60 (dk_at dksX1_cycle_2 18 rfl rfl)
theorem dX1_cycle_66 : decode cX1_cycle 66 = .ok (.iinc 3 1, 3) := dk_132 3 1 (dk_at dksX1_cycle_2 19 rfl rfl)
theorem dX1_cycle_69 : decode cX1_cycle 69 = .ok (.goto (-41), 3) := dk_167 255 215 (dk_at dksX1_cycle_3 0 rfl rfl)
theorem dX1_cycle_72 : decode cX1_cycle 72 = .ok (.iinc 2 1, 3) := dk_132 2 1 (dk_at dksX1_cycle_3 3 rfl rfl)
theorem dX1_cycle_75 : decode cX1_cycle 75 = .ok (.goto (-60), 3) := dk_167 255 196 (dk_at dksX1_cycle_3 6 rfl rfl)
theorem dX1_cycle_78 : decode cX1_cycle 78 = .ok (.iload_n 1, 1) := dk_27 (dk_at dksX1_cycle_3 9 rfl rfl)
theorem dX1_cycle_79 : decode cX1_cycle 79 = .ok (.ldc_w 401, 3) := dk_19 1 145 (dk_at dksX1_cycle_3 10 rfl rfl)
theorem dX1_cycle_82 : decode cX1_cycle 82 = .ok (.if_icmp .lt 7, 3) := dk_161 0 7 (dk_at dksX1_cycle_3 13 rfl rfl)
theorem dX1_cycle_85 : decode cX1_cycle 85 = .ok (.iconst (-1), 1) := dk_2 (dk_at dksX1_cycle_3 16 rfl rfl)
theorem dX1_cycle_86 : decode cX1_cycle 86 = .ok (.goto 4, 3) := dk_167 0 4 (dk_at dksX1_cycle_3 17 rfl rfl)
theorem dX1_cycle_89 : decode cX1_cycle 89 = .ok (.iload_n 1, 1) := dk_27 (dk_at dksX1_cycle_3 20 rfl rfl)
theorem dX1_cycle_90 : decode cX1_cycle 90 = .ok (.ireturn, 1) := dk_172 (dk_at dksX1_cycle_3 21 rfl rfl)
abbrev cX1_aroundBy : ByteArray := prog_1_method_101_code
def yX1_aroundBy : MethodName := ⟨RX1, "aroundBy", "(II)I"⟩
def dkwX1_aroundBy_9 : List UInt8 := [180, 0, 89, 16, 6, 28, 96, 46, 172]
abbrev dktX1_aroundBy_9 : List UInt8 := dkwX1_aroundBy_9 ++ []
def dkwX1_aroundBy_8 : List UInt8 := [42, 180, 0, 95, 21, 6, 184, 1, 146, 182, 1, 149, 132, 5, 1, 167, 255, 149, 167, 255, 88, 42]
abbrev dktX1_aroundBy_8 : List UInt8 := dkwX1_aroundBy_8 ++ dktX1_aroundBy_9
def dkwX1_aroundBy_7 : List UInt8 := [19, 1, 145, 159, 0, 6, 167, 0, 30, 42, 180, 0, 89, 21, 6, 42, 180, 0, 89, 29, 46, 4, 96, 79]
abbrev dktX1_aroundBy_7 : List UInt8 := dkwX1_aroundBy_7 ++ dktX1_aroundBy_8
def dkwX1_aroundBy_6 : List UInt8 := [54, 7, 21, 4, 21, 5, 184, 1, 65, 153, 0, 51, 21, 7, 154, 0, 46, 42, 180, 0, 89, 21, 6, 46]
abbrev dktX1_aroundBy_6 : List UInt8 := dkwX1_aroundBy_6 ++ dktX1_aroundBy_7
def dkwX1_aroundBy_5 : List UInt8 := [21, 5, 54, 6, 29, 27, 160, 0, 16, 21, 6, 16, 6, 28, 96, 160, 0, 7, 4, 167, 0, 4, 3]
abbrev dktX1_aroundBy_5 : List UInt8 := dkwX1_aroundBy_5 ++ dktX1_aroundBy_6
def dkwX1_aroundBy_4 : List UInt8 := [3, 54, 5, 21, 5, 16, 6, 162, 0, 106, 29, 16, 6, 162, 0, 11, 16, 6, 21, 5, 96, 167, 0, 5]
abbrev dktX1_aroundBy_4 : List UInt8 := dkwX1_aroundBy_4 ++ dktX1_aroundBy_5
def dkwX1_aroundBy_3 : List UInt8 := [29, 167, 0, 7, 29, 16, 6, 100, 29, 16, 6, 161, 0, 7, 4, 167, 0, 4, 3, 182, 1, 221, 54, 4]
abbrev dktX1_aroundBy_3 : List UInt8 := dkwX1_aroundBy_3 ++ dktX1_aroundBy_4
def dkwX1_aroundBy_2 : List UInt8 := [154, 0, 164, 42, 180, 0, 95, 182, 1, 153, 192, 1, 58, 182, 1, 142, 62, 42, 29, 16, 6, 162, 0, 7]
abbrev dktX1_aroundBy_2 : List UInt8 := dkwX1_aroundBy_2 ++ dktX1_aroundBy_3
def dkwX1_aroundBy_1 : List UInt8 := [180, 0, 89, 27, 3, 79, 42, 180, 0, 95, 27, 184, 1, 146, 182, 1, 149, 42, 180, 0, 95, 182, 1, 150]
abbrev dktX1_aroundBy_1 : List UInt8 := dkwX1_aroundBy_1 ++ dktX1_aroundBy_2
def dkwX1_aroundBy_0 : List UInt8 := [3, 62, 29, 16, 12, 162, 0, 18, 42, 180, 0, 89, 29, 19, 1, 145, 79, 132, 3, 1, 167, 255, 238, 42]
abbrev dktX1_aroundBy_0 : List UInt8 := dkwX1_aroundBy_0 ++ dktX1_aroundBy_1
theorem dksX1_aroundBy_0 : cX1_aroundBy.data.toList.drop 0 = dktX1_aroundBy_0 := by decide +kernel
theorem dksX1_aroundBy_1 : cX1_aroundBy.data.toList.drop 24 = dktX1_aroundBy_1 := dk_seg dksX1_aroundBy_0 24 rfl rfl
theorem dksX1_aroundBy_2 : cX1_aroundBy.data.toList.drop 48 = dktX1_aroundBy_2 := dk_seg dksX1_aroundBy_1 24 rfl rfl
theorem dksX1_aroundBy_3 : cX1_aroundBy.data.toList.drop 72 = dktX1_aroundBy_3 := dk_seg dksX1_aroundBy_2 24 rfl rfl
theorem dksX1_aroundBy_4 : cX1_aroundBy.data.toList.drop 96 = dktX1_aroundBy_4 := dk_seg dksX1_aroundBy_3 24 rfl rfl
theorem dksX1_aroundBy_5 : cX1_aroundBy.data.toList.drop 120 = dktX1_aroundBy_5 := dk_seg dksX1_aroundBy_4 24 rfl rfl
theorem dksX1_aroundBy_6 : cX1_aroundBy.data.toList.drop 143 = dktX1_aroundBy_6 := dk_seg dksX1_aroundBy_5 23 rfl rfl
theorem dksX1_aroundBy_7 : cX1_aroundBy.data.toList.drop 167 = dktX1_aroundBy_7 := dk_seg dksX1_aroundBy_6 24 rfl rfl
theorem dksX1_aroundBy_8 : cX1_aroundBy.data.toList.drop 191 = dktX1_aroundBy_8 := dk_seg dksX1_aroundBy_7 24 rfl rfl
theorem dksX1_aroundBy_9 : cX1_aroundBy.data.toList.drop 213 = dktX1_aroundBy_9 := dk_seg dksX1_aroundBy_8 22 rfl rfl
theorem dX1_aroundBy_0 : decode cX1_aroundBy 0 = .ok (.iconst 0, 1) := dk_3 (dk_at dksX1_aroundBy_0 0 rfl rfl)
theorem dX1_aroundBy_1 : decode cX1_aroundBy 1 = .ok (.istore_n 3, 1) := dk_62 (dk_at dksX1_aroundBy_0 1 rfl rfl)
theorem dX1_aroundBy_2 : decode cX1_aroundBy 2 = .ok (.iload_n 3, 1) := dk_29 (dk_at dksX1_aroundBy_0 2 rfl rfl)
theorem dX1_aroundBy_3 : decode cX1_aroundBy 3 = .ok (.bipush 12, 2) := dk_16 12 (dk_at dksX1_aroundBy_0 3 rfl rfl)
theorem dX1_aroundBy_5 : decode cX1_aroundBy 5 = .ok (.if_icmp .ge 18, 3) := dk_162 0 18 (dk_at dksX1_aroundBy_0 5 rfl rfl)
theorem dX1_aroundBy_8 : decode cX1_aroundBy 8 = .ok (.aload_n 0, 1) := dk_42 (dk_at dksX1_aroundBy_0 8 rfl rfl)
theorem dX1_aroundBy_9 : decode cX1_aroundBy 9 = .ok (.getfield 89, 3) := dk_180 0 89 (dk_at dksX1_aroundBy_0 9 rfl rfl)
theorem dX1_aroundBy_12 : decode cX1_aroundBy 12 = .ok (.iload_n 3, 1) := dk_29 (dk_at dksX1_aroundBy_0 12 rfl rfl)
theorem dX1_aroundBy_13 : decode cX1_aroundBy 13 = .ok (.ldc_w 401, 3) := dk_19 1 145 (dk_at dksX1_aroundBy_0 13 rfl rfl)
theorem dX1_aroundBy_16 : decode cX1_aroundBy 16 = .ok (.iastore, 1) := dk_79 (dk_at dksX1_aroundBy_0 16 rfl rfl)
theorem dX1_aroundBy_17 : decode cX1_aroundBy 17 = .ok (.iinc 3 1, 3) := dk_132 3 1 (dk_at dksX1_aroundBy_0 17 rfl rfl)
theorem dX1_aroundBy_20 : decode cX1_aroundBy 20 = .ok (.goto (-18), 3) := dk_167 255 238 (dk_at dksX1_aroundBy_0 20 rfl rfl)
theorem dX1_aroundBy_23 : decode cX1_aroundBy 23 = .ok (.aload_n 0, 1) := dk_42 (dk_at dksX1_aroundBy_0 23 rfl rfl)
theorem dX1_aroundBy_24 : decode cX1_aroundBy 24 = .ok (.getfield 89, 3) := dk_180 0 89 (dk_at dksX1_aroundBy_1 0 rfl rfl)
theorem dX1_aroundBy_27 : decode cX1_aroundBy 27 = .ok (.iload_n 1, 1) := dk_27 (dk_at dksX1_aroundBy_1 3 rfl rfl)
theorem dX1_aroundBy_28 : decode cX1_aroundBy 28 = .ok (.iconst 0, 1) := dk_3 (dk_at dksX1_aroundBy_1 4 rfl rfl)
theorem dX1_aroundBy_29 : decode cX1_aroundBy 29 = .ok (.iastore, 1) := dk_79 (dk_at dksX1_aroundBy_1 5 rfl rfl)
theorem dX1_aroundBy_30 : decode cX1_aroundBy 30 = .ok (.aload_n 0, 1) := dk_42 (dk_at dksX1_aroundBy_1 6 rfl rfl)
theorem dX1_aroundBy_31 : decode cX1_aroundBy 31 = .ok (.getfield 95, 3) := dk_180 0 95 (dk_at dksX1_aroundBy_1 7 rfl rfl)
theorem dX1_aroundBy_34 : decode cX1_aroundBy 34 = .ok (.iload_n 1, 1) := dk_27 (dk_at dksX1_aroundBy_1 10 rfl rfl)
theorem dX1_aroundBy_35 : decode cX1_aroundBy 35 = .ok (.invokestatic 402, 3) := dk_184 1 146 (dk_at dksX1_aroundBy_1 11 rfl rfl)
theorem dX1_aroundBy_38 : decode cX1_aroundBy 38 = .ok (.invokevirtual 405, 3) := dk_182 1 149 (dk_at dksX1_aroundBy_1 14 rfl rfl)
theorem dX1_aroundBy_41 : decode cX1_aroundBy 41 = .ok (.aload_n 0, 1) := dk_42 (dk_at dksX1_aroundBy_1 17 rfl rfl)
theorem dX1_aroundBy_42 : decode cX1_aroundBy 42 = .ok (.getfield 95, 3) := dk_180 0 95 (dk_at dksX1_aroundBy_1 18 rfl rfl)
theorem dX1_aroundBy_45 : decode cX1_aroundBy 45 = .ok (.invokevirtual 406, 3) := dk_182 1 150 (dk_at dksX1_aroundBy_1 21 rfl rfl)
theorem dX1_aroundBy_48 : decode cX1_aroundBy 48 = .ok (.ifCond .ne 164, 3) := dk_154 0 164 (dk_at dksX1_aroundBy_2 0 rfl rfl)
theorem dX1_aroundBy_51 : decode cX1_aroundBy 51 = .ok (.aload_n 0, 1) := dk_42 (dk_at dksX1_aroundBy_2 3 rfl rfl)
theorem dX1_aroundBy_52 : decode cX1_aroundBy 52 = .ok (.getfield 95, 3) := dk_180 0 95 (dk_at dksX1_aroundBy_2 4 rfl rfl)
theorem dX1_aroundBy_55 : decode cX1_aroundBy 55 = .ok (.invokevirtual 409, 3) := dk_182 1 153 (dk_at dksX1_aroundBy_2 7 rfl rfl)
theorem dX1_aroundBy_58 : decode cX1_aroundBy 58 = .ok (.checkcast 314, 3) := dk_192 1 58 (dk_at dksX1_aroundBy_2 10 rfl rfl)
theorem dX1_aroundBy_61 : decode cX1_aroundBy 61 = .ok (.invokevirtual 398, 3) := dk_182 1 142 (dk_at dksX1_aroundBy_2 13 rfl rfl)
theorem dX1_aroundBy_64 : decode cX1_aroundBy 64 = .ok (.istore_n 3, 1) := dk_62 (dk_at dksX1_aroundBy_2 16 rfl rfl)
theorem dX1_aroundBy_65 : decode cX1_aroundBy 65 = .ok (.aload_n 0, 1) := dk_42 (dk_at dksX1_aroundBy_2 17 rfl rfl)
theorem dX1_aroundBy_66 : decode cX1_aroundBy 66 = .ok (.iload_n 3, 1) := dk_29 (dk_at dksX1_aroundBy_2 18 rfl rfl)
theorem dX1_aroundBy_67 : decode cX1_aroundBy 67 = .ok (.bipush 6, 2) := dk_16 6 (dk_at dksX1_aroundBy_2 19 rfl rfl)
theorem dX1_aroundBy_69 : decode cX1_aroundBy 69 = .ok (.if_icmp .ge 7, 3) := dk_162 0 7 (dk_at dksX1_aroundBy_2 21 rfl rfl)
theorem dX1_aroundBy_72 : decode cX1_aroundBy 72 = .ok (.iload_n 3, 1) := dk_29 (dk_at dksX1_aroundBy_3 0 rfl rfl)
theorem dX1_aroundBy_73 : decode cX1_aroundBy 73 = .ok (.goto 7, 3) := dk_167 0 7 (dk_at dksX1_aroundBy_3 1 rfl rfl)
theorem dX1_aroundBy_76 : decode cX1_aroundBy 76 = .ok (.iload_n 3, 1) := dk_29 (dk_at dksX1_aroundBy_3 4 rfl rfl)
theorem dX1_aroundBy_77 : decode cX1_aroundBy 77 = .ok (.bipush 6, 2) := dk_16 6 (dk_at dksX1_aroundBy_3 5 rfl rfl)
theorem dX1_aroundBy_79 : decode cX1_aroundBy 79 = .ok (.isub, 1) := dk_100 (dk_at dksX1_aroundBy_3 7 rfl rfl)
theorem dX1_aroundBy_80 : decode cX1_aroundBy 80 = .ok (.iload_n 3, 1) := dk_29 (dk_at dksX1_aroundBy_3 8 rfl rfl)
theorem dX1_aroundBy_81 : decode cX1_aroundBy 81 = .ok (.bipush 6, 2) := dk_16 6 (dk_at dksX1_aroundBy_3 9 rfl rfl)
theorem dX1_aroundBy_83 : decode cX1_aroundBy 83 = .ok (.if_icmp .lt 7, 3) := dk_161 0 7 (dk_at dksX1_aroundBy_3 11 rfl rfl)
theorem dX1_aroundBy_86 : decode cX1_aroundBy 86 = .ok (.iconst 1, 1) := dk_4 (dk_at dksX1_aroundBy_3 14 rfl rfl)
theorem dX1_aroundBy_87 : decode cX1_aroundBy 87 = .ok (.goto 4, 3) := dk_167 0 4 (dk_at dksX1_aroundBy_3 15 rfl rfl)
theorem dX1_aroundBy_90 : decode cX1_aroundBy 90 = .ok (.iconst 0, 1) := dk_3 (dk_at dksX1_aroundBy_3 18 rfl rfl)
theorem dX1_aroundBy_91 : decode cX1_aroundBy 91 = .ok (.invokevirtual 477, 3) := dk_182 1 221 (dk_at dksX1_aroundBy_3 19 rfl rfl)
theorem dX1_aroundBy_94 : decode cX1_aroundBy 94 = .ok (.istore 4, 2) := dk_54 4 (dk_at dksX1_aroundBy_3 22 rfl rfl)
theorem dX1_aroundBy_96 : decode cX1_aroundBy 96 = .ok (.iconst 0, 1) := dk_3 (dk_at dksX1_aroundBy_4 0 rfl rfl)
theorem dX1_aroundBy_97 : decode cX1_aroundBy 97 = .ok (.istore 5, 2) := dk_54 5 (dk_at dksX1_aroundBy_4 1 rfl rfl)
theorem dX1_aroundBy_99 : decode cX1_aroundBy 99 = .ok (.iload 5, 2) := dk_21 5 (dk_at dksX1_aroundBy_4 3 rfl rfl)
theorem dX1_aroundBy_101 : decode cX1_aroundBy 101 = .ok (.bipush 6, 2) := dk_16 6 (dk_at dksX1_aroundBy_4 5 rfl rfl)
theorem dX1_aroundBy_103 : decode cX1_aroundBy 103 = .ok (.if_icmp .ge 106, 3) := dk_162 0 106 (dk_at dksX1_aroundBy_4 7 rfl rfl)
theorem dX1_aroundBy_106 : decode cX1_aroundBy 106 = .ok (.iload_n 3, 1) := dk_29 (dk_at dksX1_aroundBy_4 10 rfl rfl)
theorem dX1_aroundBy_107 : decode cX1_aroundBy 107 = .ok (.bipush 6, 2) := dk_16 6 (dk_at dksX1_aroundBy_4 11 rfl rfl)
theorem dX1_aroundBy_109 : decode cX1_aroundBy 109 = .ok (.if_icmp .ge 11, 3) := dk_162 0 11 (dk_at dksX1_aroundBy_4 13 rfl rfl)
theorem dX1_aroundBy_112 : decode cX1_aroundBy 112 = .ok (.bipush 6, 2) := dk_16 6 (dk_at dksX1_aroundBy_4 16 rfl rfl)
theorem dX1_aroundBy_114 : decode cX1_aroundBy 114 = .ok (.iload 5, 2) := dk_21 5 (dk_at dksX1_aroundBy_4 18 rfl rfl)
theorem dX1_aroundBy_116 : decode cX1_aroundBy 116 = .ok (.iadd, 1) := dk_96 (dk_at dksX1_aroundBy_4 20 rfl rfl)
theorem dX1_aroundBy_117 : decode cX1_aroundBy 117 = .ok (.goto 5, 3) := dk_167 0 5 (dk_at dksX1_aroundBy_4 21 rfl rfl)
theorem dX1_aroundBy_120 : decode cX1_aroundBy 120 = .ok (.iload 5, 2) := dk_21 5 (dk_at dksX1_aroundBy_5 0 rfl rfl)
theorem dX1_aroundBy_122 : decode cX1_aroundBy 122 = .ok (.istore 6, 2) := dk_54 6 (dk_at dksX1_aroundBy_5 2 rfl rfl)
theorem dX1_aroundBy_124 : decode cX1_aroundBy 124 = .ok (.iload_n 3, 1) := dk_29 (dk_at dksX1_aroundBy_5 4 rfl rfl)
theorem dX1_aroundBy_125 : decode cX1_aroundBy 125 = .ok (.iload_n 1, 1) := dk_27 (dk_at dksX1_aroundBy_5 5 rfl rfl)
theorem dX1_aroundBy_126 : decode cX1_aroundBy 126 = .ok (.if_icmp .ne 16, 3) := dk_160 0 16 (dk_at dksX1_aroundBy_5 6 rfl rfl)
theorem dX1_aroundBy_129 : decode cX1_aroundBy 129 = .ok (.iload 6, 2) := dk_21 6 (dk_at dksX1_aroundBy_5 9 rfl rfl)
theorem dX1_aroundBy_131 : decode cX1_aroundBy 131 = .ok (.bipush 6, 2) := dk_16 6 (dk_at dksX1_aroundBy_5 11 rfl rfl)
theorem dX1_aroundBy_133 : decode cX1_aroundBy 133 = .ok (.iload_n 2, 1) := dk_28 (dk_at dksX1_aroundBy_5 13 rfl rfl)
theorem dX1_aroundBy_134 : decode cX1_aroundBy 134 = .ok (.iadd, 1) := dk_96 (dk_at dksX1_aroundBy_5 14 rfl rfl)
theorem dX1_aroundBy_135 : decode cX1_aroundBy 135 = .ok (.if_icmp .ne 7, 3) := dk_160 0 7 (dk_at dksX1_aroundBy_5 15 rfl rfl)
theorem dX1_aroundBy_138 : decode cX1_aroundBy 138 = .ok (.iconst 1, 1) := dk_4 (dk_at dksX1_aroundBy_5 18 rfl rfl)
theorem dX1_aroundBy_139 : decode cX1_aroundBy 139 = .ok (.goto 4, 3) := dk_167 0 4 (dk_at dksX1_aroundBy_5 19 rfl rfl)
theorem dX1_aroundBy_142 : decode cX1_aroundBy 142 = .ok (.iconst 0, 1) := dk_3 (dk_at dksX1_aroundBy_5 22 rfl rfl)
theorem dX1_aroundBy_143 : decode cX1_aroundBy 143 = .ok (.istore 7, 2) := dk_54 7 (dk_at dksX1_aroundBy_6 0 rfl rfl)
theorem dX1_aroundBy_145 : decode cX1_aroundBy 145 = .ok (.iload 4, 2) := dk_21 4 (dk_at dksX1_aroundBy_6 2 rfl rfl)
theorem dX1_aroundBy_147 : decode cX1_aroundBy 147 = .ok (.iload 5, 2) := dk_21 5 (dk_at dksX1_aroundBy_6 4 rfl rfl)
theorem dX1_aroundBy_149 : decode cX1_aroundBy 149 = .ok (.invokestatic 321, 3) := dk_184 1 65 (dk_at dksX1_aroundBy_6 6 rfl rfl)
theorem dX1_aroundBy_152 : decode cX1_aroundBy 152 = .ok (.ifCond .eq 51, 3) := dk_153 0 51 (dk_at dksX1_aroundBy_6 9 rfl rfl)
theorem dX1_aroundBy_155 : decode cX1_aroundBy 155 = .ok (.iload 7, 2) := dk_21 7 (dk_at dksX1_aroundBy_6 12 rfl rfl)
theorem dX1_aroundBy_157 : decode cX1_aroundBy 157 = .ok (.ifCond .ne 46, 3) := dk_154 0 46 (dk_at dksX1_aroundBy_6 14 rfl rfl)
theorem dX1_aroundBy_160 : decode cX1_aroundBy 160 = .ok (.aload_n 0, 1) := dk_42 (dk_at dksX1_aroundBy_6 17 rfl rfl)
theorem dX1_aroundBy_161 : decode cX1_aroundBy 161 = .ok (.getfield 89, 3) := dk_180 0 89 (dk_at dksX1_aroundBy_6 18 rfl rfl)
theorem dX1_aroundBy_164 : decode cX1_aroundBy 164 = .ok (.iload 6, 2) := dk_21 6 (dk_at dksX1_aroundBy_6 21 rfl rfl)
theorem dX1_aroundBy_166 : decode cX1_aroundBy 166 = .ok (.iaload, 1) := dk_46 (dk_at dksX1_aroundBy_6 23 rfl rfl)
theorem dX1_aroundBy_167 : decode cX1_aroundBy 167 = .ok (.ldc_w 401, 3) := dk_19 1 145 (dk_at dksX1_aroundBy_7 0 rfl rfl)
theorem dX1_aroundBy_170 : decode cX1_aroundBy 170 = .ok (.if_icmp .eq 6, 3) := dk_159 0 6 (dk_at dksX1_aroundBy_7 3 rfl rfl)
theorem dX1_aroundBy_173 : decode cX1_aroundBy 173 = .ok (.goto 30, 3) := dk_167 0 30 (dk_at dksX1_aroundBy_7 6 rfl rfl)
theorem dX1_aroundBy_176 : decode cX1_aroundBy 176 = .ok (.aload_n 0, 1) := dk_42 (dk_at dksX1_aroundBy_7 9 rfl rfl)
theorem dX1_aroundBy_177 : decode cX1_aroundBy 177 = .ok (.getfield 89, 3) := dk_180 0 89 (dk_at dksX1_aroundBy_7 10 rfl rfl)
theorem dX1_aroundBy_180 : decode cX1_aroundBy 180 = .ok (.iload 6, 2) := dk_21 6 (dk_at dksX1_aroundBy_7 13 rfl rfl)
theorem dX1_aroundBy_182 : decode cX1_aroundBy 182 = .ok (.aload_n 0, 1) := dk_42 (dk_at dksX1_aroundBy_7 15 rfl rfl)
theorem dX1_aroundBy_183 : decode cX1_aroundBy 183 = .ok (.getfield 89, 3) := dk_180 0 89 (dk_at dksX1_aroundBy_7 16 rfl rfl)
theorem dX1_aroundBy_186 : decode cX1_aroundBy 186 = .ok (.iload_n 3, 1) := dk_29 (dk_at dksX1_aroundBy_7 19 rfl rfl)
theorem dX1_aroundBy_187 : decode cX1_aroundBy 187 = .ok (.iaload, 1) := dk_46 (dk_at dksX1_aroundBy_7 20 rfl rfl)
theorem dX1_aroundBy_188 : decode cX1_aroundBy 188 = .ok (.iconst 1, 1) := dk_4 (dk_at dksX1_aroundBy_7 21 rfl rfl)
theorem dX1_aroundBy_189 : decode cX1_aroundBy 189 = .ok (.iadd, 1) := dk_96 (dk_at dksX1_aroundBy_7 22 rfl rfl)
theorem dX1_aroundBy_190 : decode cX1_aroundBy 190 = .ok (.iastore, 1) := dk_79 (dk_at dksX1_aroundBy_7 23 rfl rfl)
theorem dX1_aroundBy_191 : decode cX1_aroundBy 191 = .ok (.aload_n 0, 1) := dk_42 (dk_at dksX1_aroundBy_8 0 rfl rfl)
theorem dX1_aroundBy_192 : decode cX1_aroundBy 192 = .ok (.getfield 95, 3) := dk_180 0 95 (dk_at dksX1_aroundBy_8 1 rfl rfl)
theorem dX1_aroundBy_195 : decode cX1_aroundBy 195 = .ok (.iload 6, 2) := dk_21 6 (dk_at dksX1_aroundBy_8 4 rfl rfl)
theorem dX1_aroundBy_197 : decode cX1_aroundBy 197 = .ok (.invokestatic 402, 3) := dk_184 1 146 (dk_at dksX1_aroundBy_8 6 rfl rfl)
theorem dX1_aroundBy_200 : decode cX1_aroundBy 200 = .ok (.invokevirtual 405, 3) := dk_182 1 149 (dk_at dksX1_aroundBy_8 9 rfl rfl)
theorem dX1_aroundBy_203 : decode cX1_aroundBy 203 = .ok (.iinc 5 1, 3) := dk_132 5 1 (dk_at dksX1_aroundBy_8 12 rfl rfl)
theorem dX1_aroundBy_206 : decode cX1_aroundBy 206 = .ok (.goto (-107), 3) := dk_167 255 149 (dk_at dksX1_aroundBy_8 15 rfl rfl)
theorem dX1_aroundBy_209 : decode cX1_aroundBy 209 = .ok (.goto (-168), 3) := dk_167 255 88 (dk_at dksX1_aroundBy_8 18 rfl rfl)
theorem dX1_aroundBy_212 : decode cX1_aroundBy 212 = .ok (.aload_n 0, 1) := dk_42 (dk_at dksX1_aroundBy_8 21 rfl rfl)
theorem dX1_aroundBy_213 : decode cX1_aroundBy 213 = .ok (.getfield 89, 3) := dk_180 0 89 (dk_at dksX1_aroundBy_9 0 rfl rfl)
theorem dX1_aroundBy_216 : decode cX1_aroundBy 216 = .ok (.bipush 6, 2) := dk_16 6 (dk_at dksX1_aroundBy_9 3 rfl rfl)
theorem dX1_aroundBy_218 : decode cX1_aroundBy 218 = .ok (.iload_n 2, 1) := dk_28 (dk_at dksX1_aroundBy_9 5 rfl rfl)
theorem dX1_aroundBy_219 : decode cX1_aroundBy 219 = .ok (.iadd, 1) := dk_96 (dk_at dksX1_aroundBy_9 6 rfl rfl)
theorem dX1_aroundBy_220 : decode cX1_aroundBy 220 = .ok (.iaload, 1) := dk_46 (dk_at dksX1_aroundBy_9 7 rfl rfl)
theorem dX1_aroundBy_221 : decode cX1_aroundBy 221 = .ok (.ireturn, 1) := dk_172 (dk_at dksX1_aroundBy_9 8 rfl rfl)
abbrev cX1_step : ByteArray := prog_1_method_103_code
def yX1_step : MethodName := ⟨RX1, "step", "(III)I"⟩
def dkwX1_step_2 : List UInt8 := [28, 96, 104, 29, 96, 46, 167, 0, 5, 18, 188, 172]
abbrev dktX1_step_2 : List UInt8 := dkwX1_step_2 ++ []
def dkwX1_step_1 : List UInt8 := [184, 0, 149, 153, 0, 30, 29, 3, 6, 184, 0, 149, 153, 0, 21, 42, 180, 0, 48, 7, 16, 12, 27, 104]
abbrev dktX1_step_1 : List UInt8 := dkwX1_step_1 ++ dktX1_step_2
def dkwX1_step_0 : List UInt8 := [27, 3, 42, 180, 0, 202, 4, 100, 184, 0, 149, 153, 0, 46, 28, 3, 42, 180, 0, 51, 27, 46, 4, 100]
abbrev dktX1_step_0 : List UInt8 := dkwX1_step_0 ++ dktX1_step_1
theorem dksX1_step_0 : cX1_step.data.toList.drop 0 = dktX1_step_0 := by decide +kernel
theorem dksX1_step_1 : cX1_step.data.toList.drop 24 = dktX1_step_1 := dk_seg dksX1_step_0 24 rfl rfl
theorem dksX1_step_2 : cX1_step.data.toList.drop 48 = dktX1_step_2 := dk_seg dksX1_step_1 24 rfl rfl
theorem dX1_step_0 : decode cX1_step 0 = .ok (.iload_n 1, 1) := dk_27 (dk_at dksX1_step_0 0 rfl rfl)
theorem dX1_step_1 : decode cX1_step 1 = .ok (.iconst 0, 1) := dk_3 (dk_at dksX1_step_0 1 rfl rfl)
theorem dX1_step_2 : decode cX1_step 2 = .ok (.aload_n 0, 1) := dk_42 (dk_at dksX1_step_0 2 rfl rfl)
theorem dX1_step_3 : decode cX1_step 3 = .ok (.getfield 202, 3) := dk_180 0 202 (dk_at dksX1_step_0 3 rfl rfl)
theorem dX1_step_6 : decode cX1_step 6 = .ok (.iconst 1, 1) := dk_4 (dk_at dksX1_step_0 6 rfl rfl)
theorem dX1_step_7 : decode cX1_step 7 = .ok (.isub, 1) := dk_100 (dk_at dksX1_step_0 7 rfl rfl)
theorem dX1_step_8 : decode cX1_step 8 = .ok (.invokestatic 149, 3) := dk_184 0 149 (dk_at dksX1_step_0 8 rfl rfl)
theorem dX1_step_11 : decode cX1_step 11 = .ok (.ifCond .eq 46, 3) := dk_153 0 46 (dk_at dksX1_step_0 11 rfl rfl)
theorem dX1_step_14 : decode cX1_step 14 = .ok (.iload_n 2, 1) := dk_28 (dk_at dksX1_step_0 14 rfl rfl)
theorem dX1_step_15 : decode cX1_step 15 = .ok (.iconst 0, 1) := dk_3 (dk_at dksX1_step_0 15 rfl rfl)
theorem dX1_step_16 : decode cX1_step 16 = .ok (.aload_n 0, 1) := dk_42 (dk_at dksX1_step_0 16 rfl rfl)
theorem dX1_step_17 : decode cX1_step 17 = .ok (.getfield 51, 3) := dk_180 0 51 (dk_at dksX1_step_0 17 rfl rfl)
theorem dX1_step_20 : decode cX1_step 20 = .ok (.iload_n 1, 1) := dk_27 (dk_at dksX1_step_0 20 rfl rfl)
theorem dX1_step_21 : decode cX1_step 21 = .ok (.iaload, 1) := dk_46 (dk_at dksX1_step_0 21 rfl rfl)
theorem dX1_step_22 : decode cX1_step 22 = .ok (.iconst 1, 1) := dk_4 (dk_at dksX1_step_0 22 rfl rfl)
theorem dX1_step_23 : decode cX1_step 23 = .ok (.isub, 1) := dk_100 (dk_at dksX1_step_0 23 rfl rfl)
theorem dX1_step_24 : decode cX1_step 24 = .ok (.invokestatic 149, 3) := dk_184 0 149 (dk_at dksX1_step_1 0 rfl rfl)
theorem dX1_step_27 : decode cX1_step 27 = .ok (.ifCond .eq 30, 3) := dk_153 0 30 (dk_at dksX1_step_1 3 rfl rfl)
theorem dX1_step_30 : decode cX1_step 30 = .ok (.iload_n 3, 1) := dk_29 (dk_at dksX1_step_1 6 rfl rfl)
theorem dX1_step_31 : decode cX1_step 31 = .ok (.iconst 0, 1) := dk_3 (dk_at dksX1_step_1 7 rfl rfl)
theorem dX1_step_32 : decode cX1_step 32 = .ok (.iconst 3, 1) := dk_6 (dk_at dksX1_step_1 8 rfl rfl)
theorem dX1_step_33 : decode cX1_step 33 = .ok (.invokestatic 149, 3) := dk_184 0 149 (dk_at dksX1_step_1 9 rfl rfl)
theorem dX1_step_36 : decode cX1_step 36 = .ok (.ifCond .eq 21, 3) := dk_153 0 21 (dk_at dksX1_step_1 12 rfl rfl)
theorem dX1_step_39 : decode cX1_step 39 = .ok (.aload_n 0, 1) := dk_42 (dk_at dksX1_step_1 15 rfl rfl)
theorem dX1_step_40 : decode cX1_step 40 = .ok (.getfield 48, 3) := dk_180 0 48 (dk_at dksX1_step_1 16 rfl rfl)
theorem dX1_step_43 : decode cX1_step 43 = .ok (.iconst 4, 1) := dk_7 (dk_at dksX1_step_1 19 rfl rfl)
theorem dX1_step_44 : decode cX1_step 44 = .ok (.bipush 12, 2) := dk_16 12 (dk_at dksX1_step_1 20 rfl rfl)
theorem dX1_step_46 : decode cX1_step 46 = .ok (.iload_n 1, 1) := dk_27 (dk_at dksX1_step_1 22 rfl rfl)
theorem dX1_step_47 : decode cX1_step 47 = .ok (.imul, 1) := dk_104 (dk_at dksX1_step_1 23 rfl rfl)
theorem dX1_step_48 : decode cX1_step 48 = .ok (.iload_n 2, 1) := dk_28 (dk_at dksX1_step_2 0 rfl rfl)
theorem dX1_step_49 : decode cX1_step 49 = .ok (.iadd, 1) := dk_96 (dk_at dksX1_step_2 1 rfl rfl)
theorem dX1_step_50 : decode cX1_step 50 = .ok (.imul, 1) := dk_104 (dk_at dksX1_step_2 2 rfl rfl)
theorem dX1_step_51 : decode cX1_step 51 = .ok (.iload_n 3, 1) := dk_29 (dk_at dksX1_step_2 3 rfl rfl)
theorem dX1_step_52 : decode cX1_step 52 = .ok (.iadd, 1) := dk_96 (dk_at dksX1_step_2 4 rfl rfl)
theorem dX1_step_53 : decode cX1_step 53 = .ok (.iaload, 1) := dk_46 (dk_at dksX1_step_2 5 rfl rfl)
theorem dX1_step_54 : decode cX1_step 54 = .ok (.goto 5, 3) := dk_167 0 5 (dk_at dksX1_step_2 6 rfl rfl)
theorem dX1_step_57 : decode cX1_step 57 = .ok (.ldc 188, 2) := dk_18 188 (dk_at dksX1_step_2 9 rfl rfl)
theorem dX1_step_59 : decode cX1_step 59 = .ok (.ireturn, 1) := dk_172 (dk_at dksX1_step_2 11 rfl rfl)
abbrev cX1_run : ByteArray := prog_1_method_106_code
def yX1_run : MethodName := ⟨RX1, "run", "(II)I"⟩
def dkwX1_run_5 : List UInt8 := [160, 0, 7, 2, 167, 0, 5, 21, 4, 172]
abbrev dktX1_run_5 : List UInt8 := dkwX1_run_5 ++ []
def dkwX1_run_4 : List UInt8 := [45, 182, 1, 175, 153, 0, 7, 4, 167, 0, 24, 3, 167, 0, 20, 21, 4, 42, 180, 0, 51, 27, 46]
abbrev dktX1_run_4 : List UInt8 := dkwX1_run_4 ++ dktX1_run_5
def dkwX1_run_3 : List UInt8 := [16, 12, 27, 104, 21, 4, 96, 104, 182, 1, 243, 78, 132, 4, 1, 167, 255, 210, 28, 4, 160, 0, 19, 42]
abbrev dktX1_run_3 : List UInt8 := dkwX1_run_3 ++ dktX1_run_4
def dkwX1_run_2 : List UInt8 := [46, 162, 0, 41, 42, 45, 7, 16, 12, 27, 104, 21, 4, 96, 104, 182, 1, 240, 153, 0, 24, 42, 45, 7]
abbrev dktX1_run_2 : List UInt8 := dkwX1_run_2 ++ dktX1_run_3
def dkwX1_run_1 : List UInt8 := [184, 0, 149, 154, 0, 6, 18, 188, 172, 42, 180, 0, 220, 78, 3, 54, 4, 21, 4, 42, 180, 0, 51, 27]
abbrev dktX1_run_1 : List UInt8 := dkwX1_run_1 ++ dktX1_run_2
def dkwX1_run_0 : List UInt8 := [42, 180, 0, 220, 198, 0, 26, 27, 3, 42, 180, 0, 202, 4, 100, 184, 0, 149, 153, 0, 12, 28, 3, 4]
abbrev dktX1_run_0 : List UInt8 := dkwX1_run_0 ++ dktX1_run_1
theorem dksX1_run_0 : cX1_run.data.toList.drop 0 = dktX1_run_0 := by decide +kernel
theorem dksX1_run_1 : cX1_run.data.toList.drop 24 = dktX1_run_1 := dk_seg dksX1_run_0 24 rfl rfl
theorem dksX1_run_2 : cX1_run.data.toList.drop 48 = dktX1_run_2 := dk_seg dksX1_run_1 24 rfl rfl
theorem dksX1_run_3 : cX1_run.data.toList.drop 72 = dktX1_run_3 := dk_seg dksX1_run_2 24 rfl rfl
theorem dksX1_run_4 : cX1_run.data.toList.drop 96 = dktX1_run_4 := dk_seg dksX1_run_3 24 rfl rfl
theorem dksX1_run_5 : cX1_run.data.toList.drop 119 = dktX1_run_5 := dk_seg dksX1_run_4 23 rfl rfl
theorem dX1_run_0 : decode cX1_run 0 = .ok (.aload_n 0, 1) := dk_42 (dk_at dksX1_run_0 0 rfl rfl)
theorem dX1_run_1 : decode cX1_run 1 = .ok (.getfield 220, 3) := dk_180 0 220 (dk_at dksX1_run_0 1 rfl rfl)
theorem dX1_run_4 : decode cX1_run 4 = .ok (.ifnull 26, 3) := dk_198 0 26 (dk_at dksX1_run_0 4 rfl rfl)
theorem dX1_run_7 : decode cX1_run 7 = .ok (.iload_n 1, 1) := dk_27 (dk_at dksX1_run_0 7 rfl rfl)
theorem dX1_run_8 : decode cX1_run 8 = .ok (.iconst 0, 1) := dk_3 (dk_at dksX1_run_0 8 rfl rfl)
theorem dX1_run_9 : decode cX1_run 9 = .ok (.aload_n 0, 1) := dk_42 (dk_at dksX1_run_0 9 rfl rfl)
theorem dX1_run_10 : decode cX1_run 10 = .ok (.getfield 202, 3) := dk_180 0 202 (dk_at dksX1_run_0 10 rfl rfl)
theorem dX1_run_13 : decode cX1_run 13 = .ok (.iconst 1, 1) := dk_4 (dk_at dksX1_run_0 13 rfl rfl)
theorem dX1_run_14 : decode cX1_run 14 = .ok (.isub, 1) := dk_100 (dk_at dksX1_run_0 14 rfl rfl)
theorem dX1_run_15 : decode cX1_run 15 = .ok (.invokestatic 149, 3) := dk_184 0 149 (dk_at dksX1_run_0 15 rfl rfl)
theorem dX1_run_18 : decode cX1_run 18 = .ok (.ifCond .eq 12, 3) := dk_153 0 12 (dk_at dksX1_run_0 18 rfl rfl)
theorem dX1_run_21 : decode cX1_run 21 = .ok (.iload_n 2, 1) := dk_28 (dk_at dksX1_run_0 21 rfl rfl)
theorem dX1_run_22 : decode cX1_run 22 = .ok (.iconst 0, 1) := dk_3 (dk_at dksX1_run_0 22 rfl rfl)
theorem dX1_run_23 : decode cX1_run 23 = .ok (.iconst 1, 1) := dk_4 (dk_at dksX1_run_0 23 rfl rfl)
theorem dX1_run_24 : decode cX1_run 24 = .ok (.invokestatic 149, 3) := dk_184 0 149 (dk_at dksX1_run_1 0 rfl rfl)
theorem dX1_run_27 : decode cX1_run 27 = .ok (.ifCond .ne 6, 3) := dk_154 0 6 (dk_at dksX1_run_1 3 rfl rfl)
theorem dX1_run_30 : decode cX1_run 30 = .ok (.ldc 188, 2) := dk_18 188 (dk_at dksX1_run_1 6 rfl rfl)
theorem dX1_run_32 : decode cX1_run 32 = .ok (.ireturn, 1) := dk_172 (dk_at dksX1_run_1 8 rfl rfl)
theorem dX1_run_33 : decode cX1_run 33 = .ok (.aload_n 0, 1) := dk_42 (dk_at dksX1_run_1 9 rfl rfl)
theorem dX1_run_34 : decode cX1_run 34 = .ok (.getfield 220, 3) := dk_180 0 220 (dk_at dksX1_run_1 10 rfl rfl)
theorem dX1_run_37 : decode cX1_run 37 = .ok (.astore_n 3, 1) := dk_78 (dk_at dksX1_run_1 13 rfl rfl)
theorem dX1_run_38 : decode cX1_run 38 = .ok (.iconst 0, 1) := dk_3 (dk_at dksX1_run_1 14 rfl rfl)
theorem dX1_run_39 : decode cX1_run 39 = .ok (.istore 4, 2) := dk_54 4 (dk_at dksX1_run_1 15 rfl rfl)
theorem dX1_run_41 : decode cX1_run 41 = .ok (.iload 4, 2) := dk_21 4 (dk_at dksX1_run_1 17 rfl rfl)
theorem dX1_run_43 : decode cX1_run 43 = .ok (.aload_n 0, 1) := dk_42 (dk_at dksX1_run_1 19 rfl rfl)
theorem dX1_run_44 : decode cX1_run 44 = .ok (.getfield 51, 3) := dk_180 0 51 (dk_at dksX1_run_1 20 rfl rfl)
theorem dX1_run_47 : decode cX1_run 47 = .ok (.iload_n 1, 1) := dk_27 (dk_at dksX1_run_1 23 rfl rfl)
theorem dX1_run_48 : decode cX1_run 48 = .ok (.iaload, 1) := dk_46 (dk_at dksX1_run_2 0 rfl rfl)
theorem dX1_run_49 : decode cX1_run 49 = .ok (.if_icmp .ge 41, 3) := dk_162 0 41 (dk_at dksX1_run_2 1 rfl rfl)
theorem dX1_run_52 : decode cX1_run 52 = .ok (.aload_n 0, 1) := dk_42 (dk_at dksX1_run_2 4 rfl rfl)
theorem dX1_run_53 : decode cX1_run 53 = .ok (.aload_n 3, 1) := dk_45 (dk_at dksX1_run_2 5 rfl rfl)
theorem dX1_run_54 : decode cX1_run 54 = .ok (.iconst 4, 1) := dk_7 (dk_at dksX1_run_2 6 rfl rfl)
theorem dX1_run_55 : decode cX1_run 55 = .ok (.bipush 12, 2) := dk_16 12 (dk_at dksX1_run_2 7 rfl rfl)
theorem dX1_run_57 : decode cX1_run 57 = .ok (.iload_n 1, 1) := dk_27 (dk_at dksX1_run_2 9 rfl rfl)
theorem dX1_run_58 : decode cX1_run 58 = .ok (.imul, 1) := dk_104 (dk_at dksX1_run_2 10 rfl rfl)
theorem dX1_run_59 : decode cX1_run 59 = .ok (.iload 4, 2) := dk_21 4 (dk_at dksX1_run_2 11 rfl rfl)
theorem dX1_run_61 : decode cX1_run 61 = .ok (.iadd, 1) := dk_96 (dk_at dksX1_run_2 13 rfl rfl)
theorem dX1_run_62 : decode cX1_run 62 = .ok (.imul, 1) := dk_104 (dk_at dksX1_run_2 14 rfl rfl)
theorem dX1_run_63 : decode cX1_run 63 = .ok (.invokevirtual 496, 3) := dk_182 1 240 (dk_at dksX1_run_2 15 rfl rfl)
theorem dX1_run_66 : decode cX1_run 66 = .ok (.ifCond .eq 24, 3) := dk_153 0 24 (dk_at dksX1_run_2 18 rfl rfl)
theorem dX1_run_69 : decode cX1_run 69 = .ok (.aload_n 0, 1) := dk_42 (dk_at dksX1_run_2 21 rfl rfl)
theorem dX1_run_70 : decode cX1_run 70 = .ok (.aload_n 3, 1) := dk_45 (dk_at dksX1_run_2 22 rfl rfl)
theorem dX1_run_71 : decode cX1_run 71 = .ok (.iconst 4, 1) := dk_7 (dk_at dksX1_run_2 23 rfl rfl)
theorem dX1_run_72 : decode cX1_run 72 = .ok (.bipush 12, 2) := dk_16 12 (dk_at dksX1_run_3 0 rfl rfl)
theorem dX1_run_74 : decode cX1_run 74 = .ok (.iload_n 1, 1) := dk_27 (dk_at dksX1_run_3 2 rfl rfl)
theorem dX1_run_75 : decode cX1_run 75 = .ok (.imul, 1) := dk_104 (dk_at dksX1_run_3 3 rfl rfl)
theorem dX1_run_76 : decode cX1_run 76 = .ok (.iload 4, 2) := dk_21 4 (dk_at dksX1_run_3 4 rfl rfl)
theorem dX1_run_78 : decode cX1_run 78 = .ok (.iadd, 1) := dk_96 (dk_at dksX1_run_3 6 rfl rfl)
theorem dX1_run_79 : decode cX1_run 79 = .ok (.imul, 1) := dk_104 (dk_at dksX1_run_3 7 rfl rfl)
theorem dX1_run_80 : decode cX1_run 80 = .ok (.invokevirtual 499, 3) := dk_182 1 243 (dk_at dksX1_run_3 8 rfl rfl)
theorem dX1_run_83 : decode cX1_run 83 = .ok (.astore_n 3, 1) := dk_78 (dk_at dksX1_run_3 11 rfl rfl)
theorem dX1_run_84 : decode cX1_run 84 = .ok (.iinc 4 1, 3) := dk_132 4 1 (dk_at dksX1_run_3 12 rfl rfl)
theorem dX1_run_87 : decode cX1_run 87 = .ok (.goto (-46), 3) := dk_167 255 210 (dk_at dksX1_run_3 15 rfl rfl)
theorem dX1_run_90 : decode cX1_run 90 = .ok (.iload_n 2, 1) := dk_28 (dk_at dksX1_run_3 18 rfl rfl)
theorem dX1_run_91 : decode cX1_run 91 = .ok (.iconst 1, 1) := dk_4 (dk_at dksX1_run_3 19 rfl rfl)
theorem dX1_run_92 : decode cX1_run 92 = .ok (.if_icmp .ne 19, 3) := dk_160 0 19 (dk_at dksX1_run_3 20 rfl rfl)
theorem dX1_run_95 : decode cX1_run 95 = .ok (.aload_n 0, 1) := dk_42 (dk_at dksX1_run_3 23 rfl rfl)
theorem dX1_run_96 : decode cX1_run 96 = .ok (.aload_n 3, 1) := dk_45 (dk_at dksX1_run_4 0 rfl rfl)
theorem dX1_run_97 : decode cX1_run 97 = .ok (.invokevirtual 431, 3) := dk_182 1 175 (dk_at dksX1_run_4 1 rfl rfl)
theorem dX1_run_100 : decode cX1_run 100 = .ok (.ifCond .eq 7, 3) := dk_153 0 7 (dk_at dksX1_run_4 4 rfl rfl)
theorem dX1_run_103 : decode cX1_run 103 = .ok (.iconst 1, 1) := dk_4 (dk_at dksX1_run_4 7 rfl rfl)
theorem dX1_run_104 : decode cX1_run 104 = .ok (.goto 24, 3) := dk_167 0 24 (dk_at dksX1_run_4 8 rfl rfl)
theorem dX1_run_107 : decode cX1_run 107 = .ok (.iconst 0, 1) := dk_3 (dk_at dksX1_run_4 11 rfl rfl)
theorem dX1_run_108 : decode cX1_run 108 = .ok (.goto 20, 3) := dk_167 0 20 (dk_at dksX1_run_4 12 rfl rfl)
theorem dX1_run_111 : decode cX1_run 111 = .ok (.iload 4, 2) := dk_21 4 (dk_at dksX1_run_4 15 rfl rfl)
theorem dX1_run_113 : decode cX1_run 113 = .ok (.aload_n 0, 1) := dk_42 (dk_at dksX1_run_4 17 rfl rfl)
theorem dX1_run_114 : decode cX1_run 114 = .ok (.getfield 51, 3) := dk_180 0 51 (dk_at dksX1_run_4 18 rfl rfl)
theorem dX1_run_117 : decode cX1_run 117 = .ok (.iload_n 1, 1) := dk_27 (dk_at dksX1_run_4 21 rfl rfl)
theorem dX1_run_118 : decode cX1_run 118 = .ok (.iaload, 1) := dk_46 (dk_at dksX1_run_4 22 rfl rfl)
theorem dX1_run_119 : decode cX1_run 119 = .ok (.if_icmp .ne 7, 3) := dk_160 0 7 (dk_at dksX1_run_5 0 rfl rfl)
theorem dX1_run_122 : decode cX1_run 122 = .ok (.iconst (-1), 1) := dk_2 (dk_at dksX1_run_5 3 rfl rfl)
theorem dX1_run_123 : decode cX1_run 123 = .ok (.goto 5, 3) := dk_167 0 5 (dk_at dksX1_run_5 4 rfl rfl)
theorem dX1_run_126 : decode cX1_run 126 = .ok (.iload 4, 2) := dk_21 4 (dk_at dksX1_run_5 7 rfl rfl)
theorem dX1_run_128 : decode cX1_run 128 = .ok (.ireturn, 1) := dk_172 (dk_at dksX1_run_5 9 rfl rfl)
abbrev cX1_canStep : ByteArray := prog_1_method_104_code
def yX1_canStep : MethodName := ⟨RX1, "canStep", "(LUnimodularTables$Table;I)Z"⟩
def dkwX1_canStep_2 : List UInt8 := [42, 43, 42, 180, 0, 48, 28, 46, 29, 21, 4, 182, 1, 22, 2, 160, 0, 7, 4, 167, 0, 4, 3, 172]
abbrev dktX1_canStep_2 : List UInt8 := dkwX1_canStep_2 ++ []
def dkwX1_canStep_1 : List UInt8 := [46, 16, 6, 160, 0, 21, 43, 29, 21, 4, 42, 180, 0, 48, 28, 6, 96, 46, 184, 1, 11, 167, 0, 17]
abbrev dktX1_canStep_1 : List UInt8 := dkwX1_canStep_1 ++ dktX1_canStep_2
def dkwX1_canStep_0 : List UInt8 := [42, 180, 0, 48, 28, 4, 96, 46, 62, 42, 180, 0, 48, 28, 5, 96, 46, 54, 4, 42, 180, 0, 48, 28]
abbrev dktX1_canStep_0 : List UInt8 := dkwX1_canStep_0 ++ dktX1_canStep_1
theorem dksX1_canStep_0 : cX1_canStep.data.toList.drop 0 = dktX1_canStep_0 := by decide +kernel
theorem dksX1_canStep_1 : cX1_canStep.data.toList.drop 24 = dktX1_canStep_1 := dk_seg dksX1_canStep_0 24 rfl rfl
theorem dksX1_canStep_2 : cX1_canStep.data.toList.drop 48 = dktX1_canStep_2 := dk_seg dksX1_canStep_1 24 rfl rfl
theorem dX1_canStep_0 : decode cX1_canStep 0 = .ok (.aload_n 0, 1) := dk_42 (dk_at dksX1_canStep_0 0 rfl rfl)
theorem dX1_canStep_1 : decode cX1_canStep 1 = .ok (.getfield 48, 3) := dk_180 0 48 (dk_at dksX1_canStep_0 1 rfl rfl)
theorem dX1_canStep_4 : decode cX1_canStep 4 = .ok (.iload_n 2, 1) := dk_28 (dk_at dksX1_canStep_0 4 rfl rfl)
theorem dX1_canStep_5 : decode cX1_canStep 5 = .ok (.iconst 1, 1) := dk_4 (dk_at dksX1_canStep_0 5 rfl rfl)
theorem dX1_canStep_6 : decode cX1_canStep 6 = .ok (.iadd, 1) := dk_96 (dk_at dksX1_canStep_0 6 rfl rfl)
theorem dX1_canStep_7 : decode cX1_canStep 7 = .ok (.iaload, 1) := dk_46 (dk_at dksX1_canStep_0 7 rfl rfl)
theorem dX1_canStep_8 : decode cX1_canStep 8 = .ok (.istore_n 3, 1) := dk_62 (dk_at dksX1_canStep_0 8 rfl rfl)
theorem dX1_canStep_9 : decode cX1_canStep 9 = .ok (.aload_n 0, 1) := dk_42 (dk_at dksX1_canStep_0 9 rfl rfl)
theorem dX1_canStep_10 : decode cX1_canStep 10 = .ok (.getfield 48, 3) := dk_180 0 48 (dk_at dksX1_canStep_0 10 rfl rfl)
theorem dX1_canStep_13 : decode cX1_canStep 13 = .ok (.iload_n 2, 1) := dk_28 (dk_at dksX1_canStep_0 13 rfl rfl)
theorem dX1_canStep_14 : decode cX1_canStep 14 = .ok (.iconst 2, 1) := dk_5 (dk_at dksX1_canStep_0 14 rfl rfl)
theorem dX1_canStep_15 : decode cX1_canStep 15 = .ok (.iadd, 1) := dk_96 (dk_at dksX1_canStep_0 15 rfl rfl)
theorem dX1_canStep_16 : decode cX1_canStep 16 = .ok (.iaload, 1) := dk_46 (dk_at dksX1_canStep_0 16 rfl rfl)
theorem dX1_canStep_17 : decode cX1_canStep 17 = .ok (.istore 4, 2) := dk_54 4 (dk_at dksX1_canStep_0 17 rfl rfl)
theorem dX1_canStep_19 : decode cX1_canStep 19 = .ok (.aload_n 0, 1) := dk_42 (dk_at dksX1_canStep_0 19 rfl rfl)
theorem dX1_canStep_20 : decode cX1_canStep 20 = .ok (.getfield 48, 3) := dk_180 0 48 (dk_at dksX1_canStep_0 20 rfl rfl)
theorem dX1_canStep_23 : decode cX1_canStep 23 = .ok (.iload_n 2, 1) := dk_28 (dk_at dksX1_canStep_0 23 rfl rfl)
theorem dX1_canStep_24 : decode cX1_canStep 24 = .ok (.iaload, 1) := dk_46 (dk_at dksX1_canStep_1 0 rfl rfl)
theorem dX1_canStep_25 : decode cX1_canStep 25 = .ok (.bipush 6, 2) := dk_16 6 (dk_at dksX1_canStep_1 1 rfl rfl)
theorem dX1_canStep_27 : decode cX1_canStep 27 = .ok (.if_icmp .ne 21, 3) := dk_160 0 21 (dk_at dksX1_canStep_1 3 rfl rfl)
theorem dX1_canStep_30 : decode cX1_canStep 30 = .ok (.aload_n 1, 1) := dk_43 (dk_at dksX1_canStep_1 6 rfl rfl)
theorem dX1_canStep_31 : decode cX1_canStep 31 = .ok (.iload_n 3, 1) := dk_29 (dk_at dksX1_canStep_1 7 rfl rfl)
theorem dX1_canStep_32 : decode cX1_canStep 32 = .ok (.iload 4, 2) := dk_21 4 (dk_at dksX1_canStep_1 8 rfl rfl)
theorem dX1_canStep_34 : decode cX1_canStep 34 = .ok (.aload_n 0, 1) := dk_42 (dk_at dksX1_canStep_1 10 rfl rfl)
theorem dX1_canStep_35 : decode cX1_canStep 35 = .ok (.getfield 48, 3) := dk_180 0 48 (dk_at dksX1_canStep_1 11 rfl rfl)
theorem dX1_canStep_38 : decode cX1_canStep 38 = .ok (.iload_n 2, 1) := dk_28 (dk_at dksX1_canStep_1 14 rfl rfl)
theorem dX1_canStep_39 : decode cX1_canStep 39 = .ok (.iconst 3, 1) := dk_6 (dk_at dksX1_canStep_1 15 rfl rfl)
theorem dX1_canStep_40 : decode cX1_canStep 40 = .ok (.iadd, 1) := dk_96 (dk_at dksX1_canStep_1 16 rfl rfl)
theorem dX1_canStep_41 : decode cX1_canStep 41 = .ok (.iaload, 1) := dk_46 (dk_at dksX1_canStep_1 17 rfl rfl)
theorem dX1_canStep_42 : decode cX1_canStep 42 = .ok (.invokestatic 267, 3) := dk_184 1 11 (dk_at dksX1_canStep_1 18 rfl rfl)
theorem dX1_canStep_45 : decode cX1_canStep 45 = .ok (.goto 17, 3) := dk_167 0 17 (dk_at dksX1_canStep_1 21 rfl rfl)
theorem dX1_canStep_48 : decode cX1_canStep 48 = .ok (.aload_n 0, 1) := dk_42 (dk_at dksX1_canStep_2 0 rfl rfl)
theorem dX1_canStep_49 : decode cX1_canStep 49 = .ok (.aload_n 1, 1) := dk_43 (dk_at dksX1_canStep_2 1 rfl rfl)
theorem dX1_canStep_50 : decode cX1_canStep 50 = .ok (.aload_n 0, 1) := dk_42 (dk_at dksX1_canStep_2 2 rfl rfl)
theorem dX1_canStep_51 : decode cX1_canStep 51 = .ok (.getfield 48, 3) := dk_180 0 48 (dk_at dksX1_canStep_2 3 rfl rfl)
theorem dX1_canStep_54 : decode cX1_canStep 54 = .ok (.iload_n 2, 1) := dk_28 (dk_at dksX1_canStep_2 6 rfl rfl)
theorem dX1_canStep_55 : decode cX1_canStep 55 = .ok (.iaload, 1) := dk_46 (dk_at dksX1_canStep_2 7 rfl rfl)
theorem dX1_canStep_56 : decode cX1_canStep 56 = .ok (.iload_n 3, 1) := dk_29 (dk_at dksX1_canStep_2 8 rfl rfl)
theorem dX1_canStep_57 : decode cX1_canStep 57 = .ok (.iload 4, 2) := dk_21 4 (dk_at dksX1_canStep_2 9 rfl rfl)
theorem dX1_canStep_59 : decode cX1_canStep 59 = .ok (.invokevirtual 278, 3) := dk_182 1 22 (dk_at dksX1_canStep_2 11 rfl rfl)
theorem dX1_canStep_62 : decode cX1_canStep 62 = .ok (.iconst (-1), 1) := dk_2 (dk_at dksX1_canStep_2 14 rfl rfl)
theorem dX1_canStep_63 : decode cX1_canStep 63 = .ok (.if_icmp .ne 7, 3) := dk_160 0 7 (dk_at dksX1_canStep_2 15 rfl rfl)
theorem dX1_canStep_66 : decode cX1_canStep 66 = .ok (.iconst 1, 1) := dk_4 (dk_at dksX1_canStep_2 18 rfl rfl)
theorem dX1_canStep_67 : decode cX1_canStep 67 = .ok (.goto 4, 3) := dk_167 0 4 (dk_at dksX1_canStep_2 19 rfl rfl)
theorem dX1_canStep_70 : decode cX1_canStep 70 = .ok (.iconst 0, 1) := dk_3 (dk_at dksX1_canStep_2 22 rfl rfl)
theorem dX1_canStep_71 : decode cX1_canStep 71 = .ok (.ireturn, 1) := dk_172 (dk_at dksX1_canStep_2 23 rfl rfl)
abbrev cX1_stepped : ByteArray := prog_1_method_105_code
def yX1_stepped : MethodName := ⟨RX1, "stepped", "(LUnimodularTables$Table;I)LUnimodularTables$Table;"⟩
def dkwX1_stepped_3 : List UInt8 := [180, 0, 48, 28, 6, 96, 46, 79, 25, 5, 176]
abbrev dktX1_stepped_3 : List UInt8 := dkwX1_stepped_3 ++ []
def dkwX1_stepped_2 : List UInt8 := [185, 1, 25, 4, 0, 176, 43, 182, 0, 3, 58, 5, 25, 5, 180, 0, 13, 29, 50, 21, 4, 42]
abbrev dktX1_stepped_2 : List UInt8 := dkwX1_stepped_2 ++ dktX1_stepped_3
def dkwX1_stepped_1 : List UInt8 := [46, 16, 6, 159, 0, 24, 42, 180, 0, 133, 42, 180, 0, 48, 28, 46, 50, 43, 29, 21, 4]
abbrev dktX1_stepped_1 : List UInt8 := dkwX1_stepped_1 ++ dktX1_stepped_2
def dkwX1_stepped_0 : List UInt8 := [42, 180, 0, 48, 28, 4, 96, 46, 62, 42, 180, 0, 48, 28, 5, 96, 46, 54, 4, 42, 180, 0, 48, 28]
abbrev dktX1_stepped_0 : List UInt8 := dkwX1_stepped_0 ++ dktX1_stepped_1
theorem dksX1_stepped_0 : cX1_stepped.data.toList.drop 0 = dktX1_stepped_0 := by decide +kernel
theorem dksX1_stepped_1 : cX1_stepped.data.toList.drop 24 = dktX1_stepped_1 := dk_seg dksX1_stepped_0 24 rfl rfl
theorem dksX1_stepped_2 : cX1_stepped.data.toList.drop 45 = dktX1_stepped_2 := dk_seg dksX1_stepped_1 21 rfl rfl
theorem dksX1_stepped_3 : cX1_stepped.data.toList.drop 67 = dktX1_stepped_3 := dk_seg dksX1_stepped_2 22 rfl rfl
theorem dX1_stepped_0 : decode cX1_stepped 0 = .ok (.aload_n 0, 1) := dk_42 (dk_at dksX1_stepped_0 0 rfl rfl)
theorem dX1_stepped_1 : decode cX1_stepped 1 = .ok (.getfield 48, 3) := dk_180 0 48 (dk_at dksX1_stepped_0 1 rfl rfl)
theorem dX1_stepped_4 : decode cX1_stepped 4 = .ok (.iload_n 2, 1) := dk_28 (dk_at dksX1_stepped_0 4 rfl rfl)
theorem dX1_stepped_5 : decode cX1_stepped 5 = .ok (.iconst 1, 1) := dk_4 (dk_at dksX1_stepped_0 5 rfl rfl)
theorem dX1_stepped_6 : decode cX1_stepped 6 = .ok (.iadd, 1) := dk_96 (dk_at dksX1_stepped_0 6 rfl rfl)
theorem dX1_stepped_7 : decode cX1_stepped 7 = .ok (.iaload, 1) := dk_46 (dk_at dksX1_stepped_0 7 rfl rfl)
theorem dX1_stepped_8 : decode cX1_stepped 8 = .ok (.istore_n 3, 1) := dk_62 (dk_at dksX1_stepped_0 8 rfl rfl)
theorem dX1_stepped_9 : decode cX1_stepped 9 = .ok (.aload_n 0, 1) := dk_42 (dk_at dksX1_stepped_0 9 rfl rfl)
theorem dX1_stepped_10 : decode cX1_stepped 10 = .ok (.getfield 48, 3) := dk_180 0 48 (dk_at dksX1_stepped_0 10 rfl rfl)
theorem dX1_stepped_13 : decode cX1_stepped 13 = .ok (.iload_n 2, 1) := dk_28 (dk_at dksX1_stepped_0 13 rfl rfl)
theorem dX1_stepped_14 : decode cX1_stepped 14 = .ok (.iconst 2, 1) := dk_5 (dk_at dksX1_stepped_0 14 rfl rfl)
theorem dX1_stepped_15 : decode cX1_stepped 15 = .ok (.iadd, 1) := dk_96 (dk_at dksX1_stepped_0 15 rfl rfl)
theorem dX1_stepped_16 : decode cX1_stepped 16 = .ok (.iaload, 1) := dk_46 (dk_at dksX1_stepped_0 16 rfl rfl)
theorem dX1_stepped_17 : decode cX1_stepped 17 = .ok (.istore 4, 2) := dk_54 4 (dk_at dksX1_stepped_0 17 rfl rfl)
theorem dX1_stepped_19 : decode cX1_stepped 19 = .ok (.aload_n 0, 1) := dk_42 (dk_at dksX1_stepped_0 19 rfl rfl)
theorem dX1_stepped_20 : decode cX1_stepped 20 = .ok (.getfield 48, 3) := dk_180 0 48 (dk_at dksX1_stepped_0 20 rfl rfl)
theorem dX1_stepped_23 : decode cX1_stepped 23 = .ok (.iload_n 2, 1) := dk_28 (dk_at dksX1_stepped_0 23 rfl rfl)
theorem dX1_stepped_24 : decode cX1_stepped 24 = .ok (.iaload, 1) := dk_46 (dk_at dksX1_stepped_1 0 rfl rfl)
theorem dX1_stepped_25 : decode cX1_stepped 25 = .ok (.bipush 6, 2) := dk_16 6 (dk_at dksX1_stepped_1 1 rfl rfl)
theorem dX1_stepped_27 : decode cX1_stepped 27 = .ok (.if_icmp .eq 24, 3) := dk_159 0 24 (dk_at dksX1_stepped_1 3 rfl rfl)
theorem dX1_stepped_30 : decode cX1_stepped 30 = .ok (.aload_n 0, 1) := dk_42 (dk_at dksX1_stepped_1 6 rfl rfl)
theorem dX1_stepped_31 : decode cX1_stepped 31 = .ok (.getfield 133, 3) := dk_180 0 133 (dk_at dksX1_stepped_1 7 rfl rfl)
theorem dX1_stepped_34 : decode cX1_stepped 34 = .ok (.aload_n 0, 1) := dk_42 (dk_at dksX1_stepped_1 10 rfl rfl)
theorem dX1_stepped_35 : decode cX1_stepped 35 = .ok (.getfield 48, 3) := dk_180 0 48 (dk_at dksX1_stepped_1 11 rfl rfl)
theorem dX1_stepped_38 : decode cX1_stepped 38 = .ok (.iload_n 2, 1) := dk_28 (dk_at dksX1_stepped_1 14 rfl rfl)
theorem dX1_stepped_39 : decode cX1_stepped 39 = .ok (.iaload, 1) := dk_46 (dk_at dksX1_stepped_1 15 rfl rfl)
theorem dX1_stepped_40 : decode cX1_stepped 40 = .ok (.aaload, 1) := dk_50 (dk_at dksX1_stepped_1 16 rfl rfl)
theorem dX1_stepped_41 : decode cX1_stepped 41 = .ok (.aload_n 1, 1) := dk_43 (dk_at dksX1_stepped_1 17 rfl rfl)
theorem dX1_stepped_42 : decode cX1_stepped 42 = .ok (.iload_n 3, 1) := dk_29 (dk_at dksX1_stepped_1 18 rfl rfl)
theorem dX1_stepped_43 : decode cX1_stepped 43 = .ok (.iload 4, 2) := dk_21 4 (dk_at dksX1_stepped_1 19 rfl rfl)
theorem dX1_stepped_45 : decode cX1_stepped 45 = .ok (.invokeinterface 281 4, 5) := by decide +kernel
theorem dX1_stepped_50 : decode cX1_stepped 50 = .ok (.areturn, 1) := dk_176 (dk_at dksX1_stepped_2 5 rfl rfl)
theorem dX1_stepped_51 : decode cX1_stepped 51 = .ok (.aload_n 1, 1) := dk_43 (dk_at dksX1_stepped_2 6 rfl rfl)
theorem dX1_stepped_52 : decode cX1_stepped 52 = .ok (.invokevirtual 3, 3) := dk_182 0 3 (dk_at dksX1_stepped_2 7 rfl rfl)
theorem dX1_stepped_55 : decode cX1_stepped 55 = .ok (.astore 5, 2) := dk_58 5 (dk_at dksX1_stepped_2 10 rfl rfl)
theorem dX1_stepped_57 : decode cX1_stepped 57 = .ok (.aload 5, 2) := dk_25 5 (dk_at dksX1_stepped_2 12 rfl rfl)
theorem dX1_stepped_59 : decode cX1_stepped 59 = .ok (.getfield 13, 3) := dk_180 0 13 (dk_at dksX1_stepped_2 14 rfl rfl)
theorem dX1_stepped_62 : decode cX1_stepped 62 = .ok (.iload_n 3, 1) := dk_29 (dk_at dksX1_stepped_2 17 rfl rfl)
theorem dX1_stepped_63 : decode cX1_stepped 63 = .ok (.aaload, 1) := dk_50 (dk_at dksX1_stepped_2 18 rfl rfl)
theorem dX1_stepped_64 : decode cX1_stepped 64 = .ok (.iload 4, 2) := dk_21 4 (dk_at dksX1_stepped_2 19 rfl rfl)
theorem dX1_stepped_66 : decode cX1_stepped 66 = .ok (.aload_n 0, 1) := dk_42 (dk_at dksX1_stepped_2 21 rfl rfl)
theorem dX1_stepped_67 : decode cX1_stepped 67 = .ok (.getfield 48, 3) := dk_180 0 48 (dk_at dksX1_stepped_3 0 rfl rfl)
theorem dX1_stepped_70 : decode cX1_stepped 70 = .ok (.iload_n 2, 1) := dk_28 (dk_at dksX1_stepped_3 3 rfl rfl)
theorem dX1_stepped_71 : decode cX1_stepped 71 = .ok (.iconst 3, 1) := dk_6 (dk_at dksX1_stepped_3 4 rfl rfl)
theorem dX1_stepped_72 : decode cX1_stepped 72 = .ok (.iadd, 1) := dk_96 (dk_at dksX1_stepped_3 5 rfl rfl)
theorem dX1_stepped_73 : decode cX1_stepped 73 = .ok (.iaload, 1) := dk_46 (dk_at dksX1_stepped_3 6 rfl rfl)
theorem dX1_stepped_74 : decode cX1_stepped 74 = .ok (.iastore, 1) := dk_79 (dk_at dksX1_stepped_3 7 rfl rfl)
theorem dX1_stepped_75 : decode cX1_stepped 75 = .ok (.aload 5, 2) := dk_25 5 (dk_at dksX1_stepped_3 8 rfl rfl)
theorem dX1_stepped_77 : decode cX1_stepped 77 = .ok (.areturn, 1) := dk_176 (dk_at dksX1_stepped_3 10 rfl rfl)
abbrev cX1_perform : ByteArray := prog_1_method_107_code
def yX1_perform : MethodName := ⟨RX1, "perform", "(I)I"⟩
def dkwX1_perform_3 : List UInt8 := [182, 1, 27, 132, 2, 1, 167, 255, 204, 28, 172]
abbrev dktX1_perform_3 : List UInt8 := dkwX1_perform_3 ++ []
def dkwX1_perform_2 : List UInt8 := [182, 1, 240, 153, 0, 29, 42, 42, 42, 180, 0, 220, 7, 16, 12, 27, 104, 28, 96, 104, 182, 1, 243]
abbrev dktX1_perform_2 : List UInt8 := dkwX1_perform_2 ++ dktX1_perform_3
def dkwX1_perform_1 : List UInt8 := [61, 28, 42, 180, 0, 51, 27, 46, 162, 0, 48, 42, 42, 180, 0, 220, 7, 16, 12, 27, 104, 28, 96, 104]
abbrev dktX1_perform_1 : List UInt8 := dkwX1_perform_1 ++ dktX1_perform_2
def dkwX1_perform_0 : List UInt8 := [42, 180, 0, 220, 198, 0, 17, 27, 3, 42, 180, 0, 202, 4, 100, 184, 0, 149, 154, 0, 5, 2, 172, 3]
abbrev dktX1_perform_0 : List UInt8 := dkwX1_perform_0 ++ dktX1_perform_1
theorem dksX1_perform_0 : cX1_perform.data.toList.drop 0 = dktX1_perform_0 := by decide +kernel
theorem dksX1_perform_1 : cX1_perform.data.toList.drop 24 = dktX1_perform_1 := dk_seg dksX1_perform_0 24 rfl rfl
theorem dksX1_perform_2 : cX1_perform.data.toList.drop 48 = dktX1_perform_2 := dk_seg dksX1_perform_1 24 rfl rfl
theorem dksX1_perform_3 : cX1_perform.data.toList.drop 71 = dktX1_perform_3 := dk_seg dksX1_perform_2 23 rfl rfl
theorem dX1_perform_0 : decode cX1_perform 0 = .ok (.aload_n 0, 1) := dk_42 (dk_at dksX1_perform_0 0 rfl rfl)
theorem dX1_perform_1 : decode cX1_perform 1 = .ok (.getfield 220, 3) := dk_180 0 220 (dk_at dksX1_perform_0 1 rfl rfl)
theorem dX1_perform_4 : decode cX1_perform 4 = .ok (.ifnull 17, 3) := dk_198 0 17 (dk_at dksX1_perform_0 4 rfl rfl)
theorem dX1_perform_7 : decode cX1_perform 7 = .ok (.iload_n 1, 1) := dk_27 (dk_at dksX1_perform_0 7 rfl rfl)
theorem dX1_perform_8 : decode cX1_perform 8 = .ok (.iconst 0, 1) := dk_3 (dk_at dksX1_perform_0 8 rfl rfl)
theorem dX1_perform_9 : decode cX1_perform 9 = .ok (.aload_n 0, 1) := dk_42 (dk_at dksX1_perform_0 9 rfl rfl)
theorem dX1_perform_10 : decode cX1_perform 10 = .ok (.getfield 202, 3) := dk_180 0 202 (dk_at dksX1_perform_0 10 rfl rfl)
theorem dX1_perform_13 : decode cX1_perform 13 = .ok (.iconst 1, 1) := dk_4 (dk_at dksX1_perform_0 13 rfl rfl)
theorem dX1_perform_14 : decode cX1_perform 14 = .ok (.isub, 1) := dk_100 (dk_at dksX1_perform_0 14 rfl rfl)
theorem dX1_perform_15 : decode cX1_perform 15 = .ok (.invokestatic 149, 3) := dk_184 0 149 (dk_at dksX1_perform_0 15 rfl rfl)
theorem dX1_perform_18 : decode cX1_perform 18 = .ok (.ifCond .ne 5, 3) := dk_154 0 5 (dk_at dksX1_perform_0 18 rfl rfl)
theorem dX1_perform_21 : decode cX1_perform 21 = .ok (.iconst (-1), 1) := dk_2 (dk_at dksX1_perform_0 21 rfl rfl)
theorem dX1_perform_22 : decode cX1_perform 22 = .ok (.ireturn, 1) := dk_172 (dk_at dksX1_perform_0 22 rfl rfl)
theorem dX1_perform_23 : decode cX1_perform 23 = .ok (.iconst 0, 1) := dk_3 (dk_at dksX1_perform_0 23 rfl rfl)
theorem dX1_perform_24 : decode cX1_perform 24 = .ok (.istore_n 2, 1) := dk_61 (dk_at dksX1_perform_1 0 rfl rfl)
theorem dX1_perform_25 : decode cX1_perform 25 = .ok (.iload_n 2, 1) := dk_28 (dk_at dksX1_perform_1 1 rfl rfl)
theorem dX1_perform_26 : decode cX1_perform 26 = .ok (.aload_n 0, 1) := dk_42 (dk_at dksX1_perform_1 2 rfl rfl)
theorem dX1_perform_27 : decode cX1_perform 27 = .ok (.getfield 51, 3) := dk_180 0 51 (dk_at dksX1_perform_1 3 rfl rfl)
theorem dX1_perform_30 : decode cX1_perform 30 = .ok (.iload_n 1, 1) := dk_27 (dk_at dksX1_perform_1 6 rfl rfl)
theorem dX1_perform_31 : decode cX1_perform 31 = .ok (.iaload, 1) := dk_46 (dk_at dksX1_perform_1 7 rfl rfl)
theorem dX1_perform_32 : decode cX1_perform 32 = .ok (.if_icmp .ge 48, 3) := dk_162 0 48 (dk_at dksX1_perform_1 8 rfl rfl)
theorem dX1_perform_35 : decode cX1_perform 35 = .ok (.aload_n 0, 1) := dk_42 (dk_at dksX1_perform_1 11 rfl rfl)
theorem dX1_perform_36 : decode cX1_perform 36 = .ok (.aload_n 0, 1) := dk_42 (dk_at dksX1_perform_1 12 rfl rfl)
theorem dX1_perform_37 : decode cX1_perform 37 = .ok (.getfield 220, 3) := dk_180 0 220 (dk_at dksX1_perform_1 13 rfl rfl)
theorem dX1_perform_40 : decode cX1_perform 40 = .ok (.iconst 4, 1) := dk_7 (dk_at dksX1_perform_1 16 rfl rfl)
theorem dX1_perform_41 : decode cX1_perform 41 = .ok (.bipush 12, 2) := dk_16 12 (dk_at dksX1_perform_1 17 rfl rfl)
theorem dX1_perform_43 : decode cX1_perform 43 = .ok (.iload_n 1, 1) := dk_27 (dk_at dksX1_perform_1 19 rfl rfl)
theorem dX1_perform_44 : decode cX1_perform 44 = .ok (.imul, 1) := dk_104 (dk_at dksX1_perform_1 20 rfl rfl)
theorem dX1_perform_45 : decode cX1_perform 45 = .ok (.iload_n 2, 1) := dk_28 (dk_at dksX1_perform_1 21 rfl rfl)
theorem dX1_perform_46 : decode cX1_perform 46 = .ok (.iadd, 1) := dk_96 (dk_at dksX1_perform_1 22 rfl rfl)
theorem dX1_perform_47 : decode cX1_perform 47 = .ok (.imul, 1) := dk_104 (dk_at dksX1_perform_1 23 rfl rfl)
theorem dX1_perform_48 : decode cX1_perform 48 = .ok (.invokevirtual 496, 3) := dk_182 1 240 (dk_at dksX1_perform_2 0 rfl rfl)
theorem dX1_perform_51 : decode cX1_perform 51 = .ok (.ifCond .eq 29, 3) := dk_153 0 29 (dk_at dksX1_perform_2 3 rfl rfl)
theorem dX1_perform_54 : decode cX1_perform 54 = .ok (.aload_n 0, 1) := dk_42 (dk_at dksX1_perform_2 6 rfl rfl)
theorem dX1_perform_55 : decode cX1_perform 55 = .ok (.aload_n 0, 1) := dk_42 (dk_at dksX1_perform_2 7 rfl rfl)
theorem dX1_perform_56 : decode cX1_perform 56 = .ok (.aload_n 0, 1) := dk_42 (dk_at dksX1_perform_2 8 rfl rfl)
theorem dX1_perform_57 : decode cX1_perform 57 = .ok (.getfield 220, 3) := dk_180 0 220 (dk_at dksX1_perform_2 9 rfl rfl)
theorem dX1_perform_60 : decode cX1_perform 60 = .ok (.iconst 4, 1) := dk_7 (dk_at dksX1_perform_2 12 rfl rfl)
theorem dX1_perform_61 : decode cX1_perform 61 = .ok (.bipush 12, 2) := dk_16 12 (dk_at dksX1_perform_2 13 rfl rfl)
theorem dX1_perform_63 : decode cX1_perform 63 = .ok (.iload_n 1, 1) := dk_27 (dk_at dksX1_perform_2 15 rfl rfl)
theorem dX1_perform_64 : decode cX1_perform 64 = .ok (.imul, 1) := dk_104 (dk_at dksX1_perform_2 16 rfl rfl)
theorem dX1_perform_65 : decode cX1_perform 65 = .ok (.iload_n 2, 1) := dk_28 (dk_at dksX1_perform_2 17 rfl rfl)
theorem dX1_perform_66 : decode cX1_perform 66 = .ok (.iadd, 1) := dk_96 (dk_at dksX1_perform_2 18 rfl rfl)
theorem dX1_perform_67 : decode cX1_perform 67 = .ok (.imul, 1) := dk_104 (dk_at dksX1_perform_2 19 rfl rfl)
theorem dX1_perform_68 : decode cX1_perform 68 = .ok (.invokevirtual 499, 3) := dk_182 1 243 (dk_at dksX1_perform_2 20 rfl rfl)
theorem dX1_perform_71 : decode cX1_perform 71 = .ok (.invokevirtual 283, 3) := dk_182 1 27 (dk_at dksX1_perform_3 0 rfl rfl)
theorem dX1_perform_74 : decode cX1_perform 74 = .ok (.iinc 2 1, 3) := dk_132 2 1 (dk_at dksX1_perform_3 3 rfl rfl)
theorem dX1_perform_77 : decode cX1_perform 77 = .ok (.goto (-52), 3) := dk_167 255 204 (dk_at dksX1_perform_3 6 rfl rfl)
theorem dX1_perform_80 : decode cX1_perform 80 = .ok (.iload_n 2, 1) := dk_28 (dk_at dksX1_perform_3 9 rfl rfl)
theorem dX1_perform_81 : decode cX1_perform 81 = .ok (.ireturn, 1) := dk_172 (dk_at dksX1_perform_3 10 rfl rfl)
abbrev cX1_draws : ByteArray := prog_1_method_110_code
def yX1_draws : MethodName := ⟨RX1, "draws", "(IJ)I"⟩
def dkwX1_draws_2 : List UInt8 := [132, 5, 1, 167, 255, 237, 21, 4, 172]
abbrev dktX1_draws_2 : List UInt8 := dkwX1_draws_2 ++ []
def dkwX1_draws_1 : List UInt8 := [3, 54, 4, 3, 54, 5, 21, 5, 27, 162, 0, 19, 42, 182, 2, 2, 153, 0, 6, 132, 4, 1]
abbrev dktX1_draws_1 : List UInt8 := dkwX1_draws_1 ++ dktX1_draws_2
def dkwX1_draws_0 : List UInt8 := [42, 180, 0, 220, 198, 0, 13, 27, 4, 16, 30, 184, 0, 149, 154, 0, 5, 2, 172, 42, 32, 181, 1, 247]
abbrev dktX1_draws_0 : List UInt8 := dkwX1_draws_0 ++ dktX1_draws_1
theorem dksX1_draws_0 : cX1_draws.data.toList.drop 0 = dktX1_draws_0 := by decide +kernel
theorem dksX1_draws_1 : cX1_draws.data.toList.drop 24 = dktX1_draws_1 := dk_seg dksX1_draws_0 24 rfl rfl
theorem dksX1_draws_2 : cX1_draws.data.toList.drop 46 = dktX1_draws_2 := dk_seg dksX1_draws_1 22 rfl rfl
theorem dX1_draws_0 : decode cX1_draws 0 = .ok (.aload_n 0, 1) := dk_42 (dk_at dksX1_draws_0 0 rfl rfl)
theorem dX1_draws_1 : decode cX1_draws 1 = .ok (.getfield 220, 3) := dk_180 0 220 (dk_at dksX1_draws_0 1 rfl rfl)
theorem dX1_draws_4 : decode cX1_draws 4 = .ok (.ifnull 13, 3) := dk_198 0 13 (dk_at dksX1_draws_0 4 rfl rfl)
theorem dX1_draws_7 : decode cX1_draws 7 = .ok (.iload_n 1, 1) := dk_27 (dk_at dksX1_draws_0 7 rfl rfl)
theorem dX1_draws_8 : decode cX1_draws 8 = .ok (.iconst 1, 1) := dk_4 (dk_at dksX1_draws_0 8 rfl rfl)
theorem dX1_draws_9 : decode cX1_draws 9 = .ok (.bipush 30, 2) := dk_16 30 (dk_at dksX1_draws_0 9 rfl rfl)
theorem dX1_draws_11 : decode cX1_draws 11 = .ok (.invokestatic 149, 3) := dk_184 0 149 (dk_at dksX1_draws_0 11 rfl rfl)
theorem dX1_draws_14 : decode cX1_draws 14 = .ok (.ifCond .ne 5, 3) := dk_154 0 5 (dk_at dksX1_draws_0 14 rfl rfl)
theorem dX1_draws_17 : decode cX1_draws 17 = .ok (.iconst (-1), 1) := dk_2 (dk_at dksX1_draws_0 17 rfl rfl)
theorem dX1_draws_18 : decode cX1_draws 18 = .ok (.ireturn, 1) := dk_172 (dk_at dksX1_draws_0 18 rfl rfl)
theorem dX1_draws_19 : decode cX1_draws 19 = .ok (.aload_n 0, 1) := dk_42 (dk_at dksX1_draws_0 19 rfl rfl)
theorem dX1_draws_20 : decode cX1_draws 20 = .ok (.lload_n 2, 1) := dk_32 (dk_at dksX1_draws_0 20 rfl rfl)
theorem dX1_draws_21 : decode cX1_draws 21 = .ok (.putfield 503, 3) := dk_181 1 247 (dk_at dksX1_draws_0 21 rfl rfl)
theorem dX1_draws_24 : decode cX1_draws 24 = .ok (.iconst 0, 1) := dk_3 (dk_at dksX1_draws_1 0 rfl rfl)
theorem dX1_draws_25 : decode cX1_draws 25 = .ok (.istore 4, 2) := dk_54 4 (dk_at dksX1_draws_1 1 rfl rfl)
theorem dX1_draws_27 : decode cX1_draws 27 = .ok (.iconst 0, 1) := dk_3 (dk_at dksX1_draws_1 3 rfl rfl)
theorem dX1_draws_28 : decode cX1_draws 28 = .ok (.istore 5, 2) := dk_54 5 (dk_at dksX1_draws_1 4 rfl rfl)
theorem dX1_draws_30 : decode cX1_draws 30 = .ok (.iload 5, 2) := dk_21 5 (dk_at dksX1_draws_1 6 rfl rfl)
theorem dX1_draws_32 : decode cX1_draws 32 = .ok (.iload_n 1, 1) := dk_27 (dk_at dksX1_draws_1 8 rfl rfl)
theorem dX1_draws_33 : decode cX1_draws 33 = .ok (.if_icmp .ge 19, 3) := dk_162 0 19 (dk_at dksX1_draws_1 9 rfl rfl)
theorem dX1_draws_36 : decode cX1_draws 36 = .ok (.aload_n 0, 1) := dk_42 (dk_at dksX1_draws_1 12 rfl rfl)
theorem dX1_draws_37 : decode cX1_draws 37 = .ok (.invokevirtual 514, 3) := dk_182 2 2 (dk_at dksX1_draws_1 13 rfl rfl)
theorem dX1_draws_40 : decode cX1_draws 40 = .ok (.ifCond .eq 6, 3) := dk_153 0 6 (dk_at dksX1_draws_1 16 rfl rfl)
theorem dX1_draws_43 : decode cX1_draws 43 = .ok (.iinc 4 1, 3) := dk_132 4 1 (dk_at dksX1_draws_1 19 rfl rfl)
theorem dX1_draws_46 : decode cX1_draws 46 = .ok (.iinc 5 1, 3) := dk_132 5 1 (dk_at dksX1_draws_2 0 rfl rfl)
theorem dX1_draws_49 : decode cX1_draws 49 = .ok (.goto (-19), 3) := dk_167 255 237 (dk_at dksX1_draws_2 3 rfl rfl)
theorem dX1_draws_52 : decode cX1_draws 52 = .ok (.iload 4, 2) := dk_21 4 (dk_at dksX1_draws_2 6 rfl rfl)
theorem dX1_draws_54 : decode cX1_draws 54 = .ok (.ireturn, 1) := dk_172 (dk_at dksX1_draws_2 8 rfl rfl)
abbrev cX1_drawAct : ByteArray := prog_1_method_109_code
def yX1_drawAct : MethodName := ⟨RX1, "drawAct", "()Z"⟩
def dkwX1_drawAct_7 : List UInt8 := [172, 42, 29, 21, 4, 21, 5, 182, 1, 18, 4, 172]
abbrev dktX1_drawAct_7 : List UInt8 := dkwX1_drawAct_7 ++ []
def dkwX1_drawAct_6 : List UInt8 := [182, 1, 255, 4, 100, 54, 5, 42, 180, 0, 220, 29, 21, 4, 21, 5, 184, 1, 11, 2, 159, 0, 5, 3]
abbrev dktX1_drawAct_6 : List UInt8 := dkwX1_drawAct_6 ++ dktX1_drawAct_7
def dkwX1_drawAct_5 : List UInt8 := [180, 0, 133, 27, 50, 42, 180, 0, 220, 29, 21, 4, 185, 1, 25, 4, 0, 182, 1, 27, 4, 172, 42, 6]
abbrev dktX1_drawAct_5 : List UInt8 := dkwX1_drawAct_5 ++ dktX1_drawAct_6
def dkwX1_drawAct_4 : List UInt8 := [162, 0, 45, 42, 42, 180, 0, 220, 27, 29, 21, 4, 182, 1, 22, 2, 159, 0, 5, 3, 172, 42, 42]
abbrev dktX1_drawAct_4 : List UInt8 := dkwX1_drawAct_4 ++ dktX1_drawAct_5
def dkwX1_drawAct_3 : List UInt8 := [180, 0, 220, 180, 0, 17, 167, 0, 10, 42, 180, 0, 220, 180, 0, 9, 182, 1, 255, 54, 4, 27, 8]
abbrev dktX1_drawAct_3 : List UInt8 := dkwX1_drawAct_3 ++ dktX1_drawAct_4
def dkwX1_drawAct_2 : List UInt8 := [180, 0, 9, 182, 1, 255, 62, 27, 5, 162, 0, 7, 3, 167, 0, 29, 42, 27, 5, 160, 0, 13, 42]
abbrev dktX1_drawAct_2 : List UInt8 := dkwX1_drawAct_2 ++ dktX1_drawAct_3
def dkwX1_drawAct_1 : List UInt8 := [154, 0, 8, 27, 6, 164, 0, 13, 42, 180, 0, 220, 180, 0, 17, 167, 0, 10, 42, 180, 0, 220]
abbrev dktX1_drawAct_1 : List UInt8 := dkwX1_drawAct_1 ++ dktX1_drawAct_2
def dkwX1_drawAct_0 : List UInt8 := [42, 16, 6, 182, 1, 255, 60, 27, 153, 0, 8, 27, 5, 160, 0, 7, 4, 167, 0, 4, 3, 61, 42, 28]
abbrev dktX1_drawAct_0 : List UInt8 := dkwX1_drawAct_0 ++ dktX1_drawAct_1
theorem dksX1_drawAct_0 : cX1_drawAct.data.toList.drop 0 = dktX1_drawAct_0 := by decide +kernel
theorem dksX1_drawAct_1 : cX1_drawAct.data.toList.drop 24 = dktX1_drawAct_1 := dk_seg dksX1_drawAct_0 24 rfl rfl
theorem dksX1_drawAct_2 : cX1_drawAct.data.toList.drop 46 = dktX1_drawAct_2 := dk_seg dksX1_drawAct_1 22 rfl rfl
theorem dksX1_drawAct_3 : cX1_drawAct.data.toList.drop 69 = dktX1_drawAct_3 := dk_seg dksX1_drawAct_2 23 rfl rfl
theorem dksX1_drawAct_4 : cX1_drawAct.data.toList.drop 92 = dktX1_drawAct_4 := dk_seg dksX1_drawAct_3 23 rfl rfl
theorem dksX1_drawAct_5 : cX1_drawAct.data.toList.drop 115 = dktX1_drawAct_5 := dk_seg dksX1_drawAct_4 23 rfl rfl
theorem dksX1_drawAct_6 : cX1_drawAct.data.toList.drop 139 = dktX1_drawAct_6 := dk_seg dksX1_drawAct_5 24 rfl rfl
theorem dksX1_drawAct_7 : cX1_drawAct.data.toList.drop 163 = dktX1_drawAct_7 := dk_seg dksX1_drawAct_6 24 rfl rfl
theorem dX1_drawAct_0 : decode cX1_drawAct 0 = .ok (.aload_n 0, 1) := dk_42 (dk_at dksX1_drawAct_0 0 rfl rfl)
theorem dX1_drawAct_1 : decode cX1_drawAct 1 = .ok (.bipush 6, 2) := dk_16 6 (dk_at dksX1_drawAct_0 1 rfl rfl)
theorem dX1_drawAct_3 : decode cX1_drawAct 3 = .ok (.invokevirtual 511, 3) := dk_182 1 255 (dk_at dksX1_drawAct_0 3 rfl rfl)
theorem dX1_drawAct_6 : decode cX1_drawAct 6 = .ok (.istore_n 1, 1) := dk_60 (dk_at dksX1_drawAct_0 6 rfl rfl)
theorem dX1_drawAct_7 : decode cX1_drawAct 7 = .ok (.iload_n 1, 1) := dk_27 (dk_at dksX1_drawAct_0 7 rfl rfl)
theorem dX1_drawAct_8 : decode cX1_drawAct 8 = .ok (.ifCond .eq 8, 3) := dk_153 0 8 (dk_at dksX1_drawAct_0 8 rfl rfl)
theorem dX1_drawAct_11 : decode cX1_drawAct 11 = .ok (.iload_n 1, 1) := dk_27 (dk_at dksX1_drawAct_0 11 rfl rfl)
theorem dX1_drawAct_12 : decode cX1_drawAct 12 = .ok (.iconst 2, 1) := dk_5 (dk_at dksX1_drawAct_0 12 rfl rfl)
theorem dX1_drawAct_13 : decode cX1_drawAct 13 = .ok (.if_icmp .ne 7, 3) := dk_160 0 7 (dk_at dksX1_drawAct_0 13 rfl rfl)
theorem dX1_drawAct_16 : decode cX1_drawAct 16 = .ok (.iconst 1, 1) := dk_4 (dk_at dksX1_drawAct_0 16 rfl rfl)
theorem dX1_drawAct_17 : decode cX1_drawAct 17 = .ok (.goto 4, 3) := dk_167 0 4 (dk_at dksX1_drawAct_0 17 rfl rfl)
theorem dX1_drawAct_20 : decode cX1_drawAct 20 = .ok (.iconst 0, 1) := dk_3 (dk_at dksX1_drawAct_0 20 rfl rfl)
theorem dX1_drawAct_21 : decode cX1_drawAct 21 = .ok (.istore_n 2, 1) := dk_61 (dk_at dksX1_drawAct_0 21 rfl rfl)
theorem dX1_drawAct_22 : decode cX1_drawAct 22 = .ok (.aload_n 0, 1) := dk_42 (dk_at dksX1_drawAct_0 22 rfl rfl)
theorem dX1_drawAct_23 : decode cX1_drawAct 23 = .ok (.iload_n 2, 1) := dk_28 (dk_at dksX1_drawAct_0 23 rfl rfl)
theorem dX1_drawAct_24 : decode cX1_drawAct 24 = .ok (.ifCond .ne 8, 3) := dk_154 0 8 (dk_at dksX1_drawAct_1 0 rfl rfl)
theorem dX1_drawAct_27 : decode cX1_drawAct 27 = .ok (.iload_n 1, 1) := dk_27 (dk_at dksX1_drawAct_1 3 rfl rfl)
theorem dX1_drawAct_28 : decode cX1_drawAct 28 = .ok (.iconst 3, 1) := dk_6 (dk_at dksX1_drawAct_1 4 rfl rfl)
theorem dX1_drawAct_29 : decode cX1_drawAct 29 = .ok (.if_icmp .le 13, 3) := dk_164 0 13 (dk_at dksX1_drawAct_1 5 rfl rfl)
theorem dX1_drawAct_32 : decode cX1_drawAct 32 = .ok (.aload_n 0, 1) := dk_42 (dk_at dksX1_drawAct_1 8 rfl rfl)
theorem dX1_drawAct_33 : decode cX1_drawAct 33 = .ok (.getfield 220, 3) := dk_180 0 220 (dk_at dksX1_drawAct_1 9 rfl rfl)
theorem dX1_drawAct_36 : decode cX1_drawAct 36 = .ok (.getfield 17, 3) := dk_180 0 17 (dk_at dksX1_drawAct_1 12 rfl rfl)
theorem dX1_drawAct_39 : decode cX1_drawAct 39 = .ok (.goto 10, 3) := dk_167 0 10 (dk_at dksX1_drawAct_1 15 rfl rfl)
theorem dX1_drawAct_42 : decode cX1_drawAct 42 = .ok (.aload_n 0, 1) := dk_42 (dk_at dksX1_drawAct_1 18 rfl rfl)
theorem dX1_drawAct_43 : decode cX1_drawAct 43 = .ok (.getfield 220, 3) := dk_180 0 220 (dk_at dksX1_drawAct_1 19 rfl rfl)
theorem dX1_drawAct_46 : decode cX1_drawAct 46 = .ok (.getfield 9, 3) := dk_180 0 9 (dk_at dksX1_drawAct_2 0 rfl rfl)
theorem dX1_drawAct_49 : decode cX1_drawAct 49 = .ok (.invokevirtual 511, 3) := dk_182 1 255 (dk_at dksX1_drawAct_2 3 rfl rfl)
theorem dX1_drawAct_52 : decode cX1_drawAct 52 = .ok (.istore_n 3, 1) := dk_62 (dk_at dksX1_drawAct_2 6 rfl rfl)
theorem dX1_drawAct_53 : decode cX1_drawAct 53 = .ok (.iload_n 1, 1) := dk_27 (dk_at dksX1_drawAct_2 7 rfl rfl)
theorem dX1_drawAct_54 : decode cX1_drawAct 54 = .ok (.iconst 2, 1) := dk_5 (dk_at dksX1_drawAct_2 8 rfl rfl)
theorem dX1_drawAct_55 : decode cX1_drawAct 55 = .ok (.if_icmp .ge 7, 3) := dk_162 0 7 (dk_at dksX1_drawAct_2 9 rfl rfl)
theorem dX1_drawAct_58 : decode cX1_drawAct 58 = .ok (.iconst 0, 1) := dk_3 (dk_at dksX1_drawAct_2 12 rfl rfl)
theorem dX1_drawAct_59 : decode cX1_drawAct 59 = .ok (.goto 29, 3) := dk_167 0 29 (dk_at dksX1_drawAct_2 13 rfl rfl)
theorem dX1_drawAct_62 : decode cX1_drawAct 62 = .ok (.aload_n 0, 1) := dk_42 (dk_at dksX1_drawAct_2 16 rfl rfl)
theorem dX1_drawAct_63 : decode cX1_drawAct 63 = .ok (.iload_n 1, 1) := dk_27 (dk_at dksX1_drawAct_2 17 rfl rfl)
theorem dX1_drawAct_64 : decode cX1_drawAct 64 = .ok (.iconst 2, 1) := dk_5 (dk_at dksX1_drawAct_2 18 rfl rfl)
theorem dX1_drawAct_65 : decode cX1_drawAct 65 = .ok (.if_icmp .ne 13, 3) := dk_160 0 13 (dk_at dksX1_drawAct_2 19 rfl rfl)
theorem dX1_drawAct_68 : decode cX1_drawAct 68 = .ok (.aload_n 0, 1) := dk_42 (dk_at dksX1_drawAct_2 22 rfl rfl)
theorem dX1_drawAct_69 : decode cX1_drawAct 69 = .ok (.getfield 220, 3) := dk_180 0 220 (dk_at dksX1_drawAct_3 0 rfl rfl)
theorem dX1_drawAct_72 : decode cX1_drawAct 72 = .ok (.getfield 17, 3) := dk_180 0 17 (dk_at dksX1_drawAct_3 3 rfl rfl)
theorem dX1_drawAct_75 : decode cX1_drawAct 75 = .ok (.goto 10, 3) := dk_167 0 10 (dk_at dksX1_drawAct_3 6 rfl rfl)
theorem dX1_drawAct_78 : decode cX1_drawAct 78 = .ok (.aload_n 0, 1) := dk_42 (dk_at dksX1_drawAct_3 9 rfl rfl)
theorem dX1_drawAct_79 : decode cX1_drawAct 79 = .ok (.getfield 220, 3) := dk_180 0 220 (dk_at dksX1_drawAct_3 10 rfl rfl)
theorem dX1_drawAct_82 : decode cX1_drawAct 82 = .ok (.getfield 9, 3) := dk_180 0 9 (dk_at dksX1_drawAct_3 13 rfl rfl)
theorem dX1_drawAct_85 : decode cX1_drawAct 85 = .ok (.invokevirtual 511, 3) := dk_182 1 255 (dk_at dksX1_drawAct_3 16 rfl rfl)
theorem dX1_drawAct_88 : decode cX1_drawAct 88 = .ok (.istore 4, 2) := dk_54 4 (dk_at dksX1_drawAct_3 19 rfl rfl)
theorem dX1_drawAct_90 : decode cX1_drawAct 90 = .ok (.iload_n 1, 1) := dk_27 (dk_at dksX1_drawAct_3 21 rfl rfl)
theorem dX1_drawAct_91 : decode cX1_drawAct 91 = .ok (.iconst 5, 1) := dk_8 (dk_at dksX1_drawAct_3 22 rfl rfl)
theorem dX1_drawAct_92 : decode cX1_drawAct 92 = .ok (.if_icmp .ge 45, 3) := dk_162 0 45 (dk_at dksX1_drawAct_4 0 rfl rfl)
theorem dX1_drawAct_95 : decode cX1_drawAct 95 = .ok (.aload_n 0, 1) := dk_42 (dk_at dksX1_drawAct_4 3 rfl rfl)
theorem dX1_drawAct_96 : decode cX1_drawAct 96 = .ok (.aload_n 0, 1) := dk_42 (dk_at dksX1_drawAct_4 4 rfl rfl)
theorem dX1_drawAct_97 : decode cX1_drawAct 97 = .ok (.getfield 220, 3) := dk_180 0 220 (dk_at dksX1_drawAct_4 5 rfl rfl)
theorem dX1_drawAct_100 : decode cX1_drawAct 100 = .ok (.iload_n 1, 1) := dk_27 (dk_at dksX1_drawAct_4 8 rfl rfl)
theorem dX1_drawAct_101 : decode cX1_drawAct 101 = .ok (.iload_n 3, 1) := dk_29 (dk_at dksX1_drawAct_4 9 rfl rfl)
theorem dX1_drawAct_102 : decode cX1_drawAct 102 = .ok (.iload 4, 2) := dk_21 4 (dk_at dksX1_drawAct_4 10 rfl rfl)
theorem dX1_drawAct_104 : decode cX1_drawAct 104 = .ok (.invokevirtual 278, 3) := dk_182 1 22 (dk_at dksX1_drawAct_4 12 rfl rfl)
theorem dX1_drawAct_107 : decode cX1_drawAct 107 = .ok (.iconst (-1), 1) := dk_2 (dk_at dksX1_drawAct_4 15 rfl rfl)
theorem dX1_drawAct_108 : decode cX1_drawAct 108 = .ok (.if_icmp .eq 5, 3) := dk_159 0 5 (dk_at dksX1_drawAct_4 16 rfl rfl)
theorem dX1_drawAct_111 : decode cX1_drawAct 111 = .ok (.iconst 0, 1) := dk_3 (dk_at dksX1_drawAct_4 19 rfl rfl)
theorem dX1_drawAct_112 : decode cX1_drawAct 112 = .ok (.ireturn, 1) := dk_172 (dk_at dksX1_drawAct_4 20 rfl rfl)
theorem dX1_drawAct_113 : decode cX1_drawAct 113 = .ok (.aload_n 0, 1) := dk_42 (dk_at dksX1_drawAct_4 21 rfl rfl)
theorem dX1_drawAct_114 : decode cX1_drawAct 114 = .ok (.aload_n 0, 1) := dk_42 (dk_at dksX1_drawAct_4 22 rfl rfl)
theorem dX1_drawAct_115 : decode cX1_drawAct 115 = .ok (.getfield 133, 3) := dk_180 0 133 (dk_at dksX1_drawAct_5 0 rfl rfl)
theorem dX1_drawAct_118 : decode cX1_drawAct 118 = .ok (.iload_n 1, 1) := dk_27 (dk_at dksX1_drawAct_5 3 rfl rfl)
theorem dX1_drawAct_119 : decode cX1_drawAct 119 = .ok (.aaload, 1) := dk_50 (dk_at dksX1_drawAct_5 4 rfl rfl)
theorem dX1_drawAct_120 : decode cX1_drawAct 120 = .ok (.aload_n 0, 1) := dk_42 (dk_at dksX1_drawAct_5 5 rfl rfl)
theorem dX1_drawAct_121 : decode cX1_drawAct 121 = .ok (.getfield 220, 3) := dk_180 0 220 (dk_at dksX1_drawAct_5 6 rfl rfl)
theorem dX1_drawAct_124 : decode cX1_drawAct 124 = .ok (.iload_n 3, 1) := dk_29 (dk_at dksX1_drawAct_5 9 rfl rfl)
theorem dX1_drawAct_125 : decode cX1_drawAct 125 = .ok (.iload 4, 2) := dk_21 4 (dk_at dksX1_drawAct_5 10 rfl rfl)
theorem dX1_drawAct_127 : decode cX1_drawAct 127 = .ok (.invokeinterface 281 4, 5) := by decide +kernel
theorem dX1_drawAct_132 : decode cX1_drawAct 132 = .ok (.invokevirtual 283, 3) := dk_182 1 27 (dk_at dksX1_drawAct_5 17 rfl rfl)
theorem dX1_drawAct_135 : decode cX1_drawAct 135 = .ok (.iconst 1, 1) := dk_4 (dk_at dksX1_drawAct_5 20 rfl rfl)
theorem dX1_drawAct_136 : decode cX1_drawAct 136 = .ok (.ireturn, 1) := dk_172 (dk_at dksX1_drawAct_5 21 rfl rfl)
theorem dX1_drawAct_137 : decode cX1_drawAct 137 = .ok (.aload_n 0, 1) := dk_42 (dk_at dksX1_drawAct_5 22 rfl rfl)
theorem dX1_drawAct_138 : decode cX1_drawAct 138 = .ok (.iconst 3, 1) := dk_6 (dk_at dksX1_drawAct_5 23 rfl rfl)
theorem dX1_drawAct_139 : decode cX1_drawAct 139 = .ok (.invokevirtual 511, 3) := dk_182 1 255 (dk_at dksX1_drawAct_6 0 rfl rfl)
theorem dX1_drawAct_142 : decode cX1_drawAct 142 = .ok (.iconst 1, 1) := dk_4 (dk_at dksX1_drawAct_6 3 rfl rfl)
theorem dX1_drawAct_143 : decode cX1_drawAct 143 = .ok (.isub, 1) := dk_100 (dk_at dksX1_drawAct_6 4 rfl rfl)
theorem dX1_drawAct_144 : decode cX1_drawAct 144 = .ok (.istore 5, 2) := dk_54 5 (dk_at dksX1_drawAct_6 5 rfl rfl)
theorem dX1_drawAct_146 : decode cX1_drawAct 146 = .ok (.aload_n 0, 1) := dk_42 (dk_at dksX1_drawAct_6 7 rfl rfl)
theorem dX1_drawAct_147 : decode cX1_drawAct 147 = .ok (.getfield 220, 3) := dk_180 0 220 (dk_at dksX1_drawAct_6 8 rfl rfl)
theorem dX1_drawAct_150 : decode cX1_drawAct 150 = .ok (.iload_n 3, 1) := dk_29 (dk_at dksX1_drawAct_6 11 rfl rfl)
theorem dX1_drawAct_151 : decode cX1_drawAct 151 = .ok (.iload 4, 2) := dk_21 4 (dk_at dksX1_drawAct_6 12 rfl rfl)
theorem dX1_drawAct_153 : decode cX1_drawAct 153 = .ok (.iload 5, 2) := dk_21 5 (dk_at dksX1_drawAct_6 14 rfl rfl)
theorem dX1_drawAct_155 : decode cX1_drawAct 155 = .ok (.invokestatic 267, 3) := dk_184 1 11 (dk_at dksX1_drawAct_6 16 rfl rfl)
theorem dX1_drawAct_158 : decode cX1_drawAct 158 = .ok (.iconst (-1), 1) := dk_2 (dk_at dksX1_drawAct_6 19 rfl rfl)
theorem dX1_drawAct_159 : decode cX1_drawAct 159 = .ok (.if_icmp .eq 5, 3) := dk_159 0 5 (dk_at dksX1_drawAct_6 20 rfl rfl)
theorem dX1_drawAct_162 : decode cX1_drawAct 162 = .ok (.iconst 0, 1) := dk_3 (dk_at dksX1_drawAct_6 23 rfl rfl)
theorem dX1_drawAct_163 : decode cX1_drawAct 163 = .ok (.ireturn, 1) := dk_172 (dk_at dksX1_drawAct_7 0 rfl rfl)
theorem dX1_drawAct_164 : decode cX1_drawAct 164 = .ok (.aload_n 0, 1) := dk_42 (dk_at dksX1_drawAct_7 1 rfl rfl)
theorem dX1_drawAct_165 : decode cX1_drawAct 165 = .ok (.iload_n 3, 1) := dk_29 (dk_at dksX1_drawAct_7 2 rfl rfl)
theorem dX1_drawAct_166 : decode cX1_drawAct 166 = .ok (.iload 4, 2) := dk_21 4 (dk_at dksX1_drawAct_7 3 rfl rfl)
theorem dX1_drawAct_168 : decode cX1_drawAct 168 = .ok (.iload 5, 2) := dk_21 5 (dk_at dksX1_drawAct_7 5 rfl rfl)
theorem dX1_drawAct_170 : decode cX1_drawAct 170 = .ok (.invokevirtual 274, 3) := dk_182 1 18 (dk_at dksX1_drawAct_7 7 rfl rfl)
theorem dX1_drawAct_173 : decode cX1_drawAct 173 = .ok (.iconst 1, 1) := dk_4 (dk_at dksX1_drawAct_7 10 rfl rfl)
theorem dX1_drawAct_174 : decode cX1_drawAct 174 = .ok (.ireturn, 1) := dk_172 (dk_at dksX1_drawAct_7 11 rfl rfl)
abbrev cX1_draw : ByteArray := prog_1_method_108_code
def yX1_draw : MethodName := ⟨RX1, "draw", "(I)I"⟩
def dkwX1_draw_1 : List UInt8 := [133, 113, 136, 172]
abbrev dktX1_draw_1 : List UInt8 := dkwX1_draw_1 ++ []
def dkwX1_draw_0 : List UInt8 := [42, 42, 180, 1, 247, 20, 1, 251, 105, 20, 1, 253, 97, 181, 1, 247, 42, 180, 1, 247, 16, 33, 125, 27]
abbrev dktX1_draw_0 : List UInt8 := dkwX1_draw_0 ++ dktX1_draw_1
theorem dksX1_draw_0 : cX1_draw.data.toList.drop 0 = dktX1_draw_0 := by decide +kernel
theorem dksX1_draw_1 : cX1_draw.data.toList.drop 24 = dktX1_draw_1 := dk_seg dksX1_draw_0 24 rfl rfl
theorem dX1_draw_0 : decode cX1_draw 0 = .ok (.aload_n 0, 1) := dk_42 (dk_at dksX1_draw_0 0 rfl rfl)
theorem dX1_draw_1 : decode cX1_draw 1 = .ok (.aload_n 0, 1) := dk_42 (dk_at dksX1_draw_0 1 rfl rfl)
theorem dX1_draw_2 : decode cX1_draw 2 = .ok (.getfield 503, 3) := dk_180 1 247 (dk_at dksX1_draw_0 2 rfl rfl)
theorem dX1_draw_5 : decode cX1_draw 5 = .ok (.ldc2_w 507, 3) := dk_20 1 251 (dk_at dksX1_draw_0 5 rfl rfl)
theorem dX1_draw_8 : decode cX1_draw 8 = .ok (.lmul, 1) := dk_105 (dk_at dksX1_draw_0 8 rfl rfl)
theorem dX1_draw_9 : decode cX1_draw 9 = .ok (.ldc2_w 509, 3) := dk_20 1 253 (dk_at dksX1_draw_0 9 rfl rfl)
theorem dX1_draw_12 : decode cX1_draw 12 = .ok (.ladd, 1) := dk_97 (dk_at dksX1_draw_0 12 rfl rfl)
theorem dX1_draw_13 : decode cX1_draw 13 = .ok (.putfield 503, 3) := dk_181 1 247 (dk_at dksX1_draw_0 13 rfl rfl)
theorem dX1_draw_16 : decode cX1_draw 16 = .ok (.aload_n 0, 1) := dk_42 (dk_at dksX1_draw_0 16 rfl rfl)
theorem dX1_draw_17 : decode cX1_draw 17 = .ok (.getfield 503, 3) := dk_180 1 247 (dk_at dksX1_draw_0 17 rfl rfl)
theorem dX1_draw_20 : decode cX1_draw 20 = .ok (.bipush 33, 2) := dk_16 33 (dk_at dksX1_draw_0 20 rfl rfl)
theorem dX1_draw_22 : decode cX1_draw 22 = .ok (.lushr, 1) := dk_125 (dk_at dksX1_draw_0 22 rfl rfl)
theorem dX1_draw_23 : decode cX1_draw 23 = .ok (.iload_n 1, 1) := dk_27 (dk_at dksX1_draw_0 23 rfl rfl)
theorem dX1_draw_24 : decode cX1_draw 24 = .ok (.i2l, 1) := dk_133 (dk_at dksX1_draw_1 0 rfl rfl)
theorem dX1_draw_25 : decode cX1_draw 25 = .ok (.lrem, 1) := dk_113 (dk_at dksX1_draw_1 1 rfl rfl)
theorem dX1_draw_26 : decode cX1_draw 26 = .ok (.l2i, 1) := dk_136 (dk_at dksX1_draw_1 2 rfl rfl)
theorem dX1_draw_27 : decode cX1_draw 27 = .ok (.ireturn, 1) := dk_172 (dk_at dksX1_draw_1 3 rfl rfl)
abbrev cX1_status : ByteArray := prog_1_method_111_code
def yX1_status : MethodName := ⟨RX1, "status", "(I)I"⟩
def dkwX1_status_0 : List UInt8 := [27, 3, 6, 184, 0, 149, 153, 0, 12, 42, 180, 0, 67, 27, 46, 167, 0, 4, 2, 172]
abbrev dktX1_status_0 : List UInt8 := dkwX1_status_0 ++ []
theorem dksX1_status_0 : cX1_status.data.toList.drop 0 = dktX1_status_0 := by decide +kernel
theorem dX1_status_0 : decode cX1_status 0 = .ok (.iload_n 1, 1) := dk_27 (dk_at dksX1_status_0 0 rfl rfl)
theorem dX1_status_1 : decode cX1_status 1 = .ok (.iconst 0, 1) := dk_3 (dk_at dksX1_status_0 1 rfl rfl)
theorem dX1_status_2 : decode cX1_status 2 = .ok (.iconst 3, 1) := dk_6 (dk_at dksX1_status_0 2 rfl rfl)
theorem dX1_status_3 : decode cX1_status 3 = .ok (.invokestatic 149, 3) := dk_184 0 149 (dk_at dksX1_status_0 3 rfl rfl)
theorem dX1_status_6 : decode cX1_status 6 = .ok (.ifCond .eq 12, 3) := dk_153 0 12 (dk_at dksX1_status_0 6 rfl rfl)
theorem dX1_status_9 : decode cX1_status 9 = .ok (.aload_n 0, 1) := dk_42 (dk_at dksX1_status_0 9 rfl rfl)
theorem dX1_status_10 : decode cX1_status 10 = .ok (.getfield 67, 3) := dk_180 0 67 (dk_at dksX1_status_0 10 rfl rfl)
theorem dX1_status_13 : decode cX1_status 13 = .ok (.iload_n 1, 1) := dk_27 (dk_at dksX1_status_0 13 rfl rfl)
theorem dX1_status_14 : decode cX1_status 14 = .ok (.iaload, 1) := dk_46 (dk_at dksX1_status_0 14 rfl rfl)
theorem dX1_status_15 : decode cX1_status 15 = .ok (.goto 4, 3) := dk_167 0 4 (dk_at dksX1_status_0 15 rfl rfl)
theorem dX1_status_18 : decode cX1_status 18 = .ok (.iconst (-1), 1) := dk_2 (dk_at dksX1_status_0 18 rfl rfl)
theorem dX1_status_19 : decode cX1_status 19 = .ok (.ireturn, 1) := dk_172 (dk_at dksX1_status_0 19 rfl rfl)
abbrev cX1_image : ByteArray := prog_1_method_113_code
def yX1_image : MethodName := ⟨RX1, "image", "()I"⟩
def dkwX1_image_1 : List UInt8 := [180, 0, 63, 184, 2, 20, 181, 2, 24, 42, 180, 0, 63, 182, 1, 30, 172]
abbrev dktX1_image_1 : List UInt8 := dkwX1_image_1 ++ []
def dkwX1_image_0 : List UInt8 := [42, 180, 0, 220, 199, 0, 5, 2, 172, 42, 42, 180, 0, 220, 182, 0, 3, 181, 2, 17, 42, 42]
abbrev dktX1_image_0 : List UInt8 := dkwX1_image_0 ++ dktX1_image_1
theorem dksX1_image_0 : cX1_image.data.toList.drop 0 = dktX1_image_0 := by decide +kernel
theorem dksX1_image_1 : cX1_image.data.toList.drop 22 = dktX1_image_1 := dk_seg dksX1_image_0 22 rfl rfl
theorem dX1_image_0 : decode cX1_image 0 = .ok (.aload_n 0, 1) := dk_42 (dk_at dksX1_image_0 0 rfl rfl)
theorem dX1_image_1 : decode cX1_image 1 = .ok (.getfield 220, 3) := dk_180 0 220 (dk_at dksX1_image_0 1 rfl rfl)
theorem dX1_image_4 : decode cX1_image 4 = .ok (.ifnonnull 5, 3) := dk_199 0 5 (dk_at dksX1_image_0 4 rfl rfl)
theorem dX1_image_7 : decode cX1_image 7 = .ok (.iconst (-1), 1) := dk_2 (dk_at dksX1_image_0 7 rfl rfl)
theorem dX1_image_8 : decode cX1_image 8 = .ok (.ireturn, 1) := dk_172 (dk_at dksX1_image_0 8 rfl rfl)
theorem dX1_image_9 : decode cX1_image 9 = .ok (.aload_n 0, 1) := dk_42 (dk_at dksX1_image_0 9 rfl rfl)
theorem dX1_image_10 : decode cX1_image 10 = .ok (.aload_n 0, 1) := dk_42 (dk_at dksX1_image_0 10 rfl rfl)
theorem dX1_image_11 : decode cX1_image 11 = .ok (.getfield 220, 3) := dk_180 0 220 (dk_at dksX1_image_0 11 rfl rfl)
theorem dX1_image_14 : decode cX1_image 14 = .ok (.invokevirtual 3, 3) := dk_182 0 3 (dk_at dksX1_image_0 14 rfl rfl)
theorem dX1_image_17 : decode cX1_image 17 = .ok (.putfield 529, 3) := dk_181 2 17 (dk_at dksX1_image_0 17 rfl rfl)
theorem dX1_image_20 : decode cX1_image 20 = .ok (.aload_n 0, 1) := dk_42 (dk_at dksX1_image_0 20 rfl rfl)
theorem dX1_image_21 : decode cX1_image 21 = .ok (.aload_n 0, 1) := dk_42 (dk_at dksX1_image_0 21 rfl rfl)
theorem dX1_image_22 : decode cX1_image 22 = .ok (.getfield 63, 3) := dk_180 0 63 (dk_at dksX1_image_1 0 rfl rfl)
theorem dX1_image_25 : decode cX1_image 25 = .ok (.invokestatic 532, 3) := dk_184 2 20 (dk_at dksX1_image_1 3 rfl rfl)
theorem dX1_image_28 : decode cX1_image 28 = .ok (.putfield 536, 3) := dk_181 2 24 (dk_at dksX1_image_1 6 rfl rfl)
theorem dX1_image_31 : decode cX1_image 31 = .ok (.aload_n 0, 1) := dk_42 (dk_at dksX1_image_1 9 rfl rfl)
theorem dX1_image_32 : decode cX1_image 32 = .ok (.getfield 63, 3) := dk_180 0 63 (dk_at dksX1_image_1 10 rfl rfl)
theorem dX1_image_35 : decode cX1_image 35 = .ok (.invokevirtual 286, 3) := dk_182 1 30 (dk_at dksX1_image_1 13 rfl rfl)
theorem dX1_image_38 : decode cX1_image 38 = .ok (.ireturn, 1) := dk_172 (dk_at dksX1_image_1 16 rfl rfl)
abbrev cX1_listed : ByteArray := prog_1_method_112_code
def yX1_listed : MethodName := ⟨RX1, "listed", "(Ljava/util/LinkedList;)Ljava/util/LinkedList;"⟩
def dkwX1_listed_1 : List UInt8 := [185, 2, 14, 1, 0, 192, 0, 4, 78, 43, 45, 182, 1, 33, 167, 255, 232, 43, 176]
abbrev dktX1_listed_1 : List UInt8 := dkwX1_listed_1 ++ []
def dkwX1_listed_0 : List UInt8 := [187, 0, 60, 89, 183, 0, 62, 76, 42, 182, 2, 5, 77, 44, 185, 2, 9, 1, 0, 153, 0, 21, 44]
abbrev dktX1_listed_0 : List UInt8 := dkwX1_listed_0 ++ dktX1_listed_1
theorem dksX1_listed_0 : cX1_listed.data.toList.drop 0 = dktX1_listed_0 := by decide +kernel
theorem dksX1_listed_1 : cX1_listed.data.toList.drop 23 = dktX1_listed_1 := dk_seg dksX1_listed_0 23 rfl rfl
theorem dX1_listed_0 : decode cX1_listed 0 = .ok (.new 60, 3) := dk_187 0 60 (dk_at dksX1_listed_0 0 rfl rfl)
theorem dX1_listed_3 : decode cX1_listed 3 = .ok (.dup, 1) := dk_89 (dk_at dksX1_listed_0 3 rfl rfl)
theorem dX1_listed_4 : decode cX1_listed 4 = .ok (.invokespecial 62, 3) := dk_183 0 62 (dk_at dksX1_listed_0 4 rfl rfl)
theorem dX1_listed_7 : decode cX1_listed 7 = .ok (.astore_n 1, 1) := dk_76 (dk_at dksX1_listed_0 7 rfl rfl)
theorem dX1_listed_8 : decode cX1_listed 8 = .ok (.aload_n 0, 1) := dk_42 (dk_at dksX1_listed_0 8 rfl rfl)
theorem dX1_listed_9 : decode cX1_listed 9 = .ok (.invokevirtual 517, 3) := dk_182 2 5 (dk_at dksX1_listed_0 9 rfl rfl)
theorem dX1_listed_12 : decode cX1_listed 12 = .ok (.astore_n 2, 1) := dk_77 (dk_at dksX1_listed_0 12 rfl rfl)
theorem dX1_listed_13 : decode cX1_listed 13 = .ok (.aload_n 2, 1) := dk_44 (dk_at dksX1_listed_0 13 rfl rfl)
theorem dX1_listed_14 : decode cX1_listed 14 = .ok (.invokeinterface 521 1, 5) := by decide +kernel
theorem dX1_listed_19 : decode cX1_listed 19 = .ok (.ifCond .eq 21, 3) := dk_153 0 21 (dk_at dksX1_listed_0 19 rfl rfl)
theorem dX1_listed_22 : decode cX1_listed 22 = .ok (.aload_n 2, 1) := dk_44 (dk_at dksX1_listed_0 22 rfl rfl)
theorem dX1_listed_23 : decode cX1_listed 23 = .ok (.invokeinterface 526 1, 5) := by decide +kernel
theorem dX1_listed_28 : decode cX1_listed 28 = .ok (.checkcast 4, 3) := dk_192 0 4 (dk_at dksX1_listed_1 5 rfl rfl)
theorem dX1_listed_31 : decode cX1_listed 31 = .ok (.astore_n 3, 1) := dk_78 (dk_at dksX1_listed_1 8 rfl rfl)
theorem dX1_listed_32 : decode cX1_listed 32 = .ok (.aload_n 1, 1) := dk_43 (dk_at dksX1_listed_1 9 rfl rfl)
theorem dX1_listed_33 : decode cX1_listed 33 = .ok (.aload_n 3, 1) := dk_45 (dk_at dksX1_listed_1 10 rfl rfl)
theorem dX1_listed_34 : decode cX1_listed 34 = .ok (.invokevirtual 289, 3) := dk_182 1 33 (dk_at dksX1_listed_1 11 rfl rfl)
theorem dX1_listed_37 : decode cX1_listed 37 = .ok (.goto (-24), 3) := dk_167 255 232 (dk_at dksX1_listed_1 14 rfl rfl)
theorem dX1_listed_40 : decode cX1_listed 40 = .ok (.aload_n 1, 1) := dk_43 (dk_at dksX1_listed_1 17 rfl rfl)
theorem dX1_listed_41 : decode cX1_listed 41 = .ok (.areturn, 1) := dk_176 (dk_at dksX1_listed_1 18 rfl rfl)
abbrev cX1_back : ByteArray := prog_1_method_114_code
def yX1_back : MethodName := ⟨RX1, "back", "()I"⟩
def dkwX1_back_1 : List UInt8 := [180, 2, 24, 184, 2, 20, 181, 0, 63, 42, 3, 181, 0, 217, 42, 180, 0, 63, 182, 1, 30, 172]
abbrev dktX1_back_1 : List UInt8 := dkwX1_back_1 ++ []
def dkwX1_back_0 : List UInt8 := [42, 180, 2, 17, 199, 0, 5, 2, 172, 42, 42, 180, 2, 17, 182, 0, 3, 182, 0, 213, 42, 42]
abbrev dktX1_back_0 : List UInt8 := dkwX1_back_0 ++ dktX1_back_1
theorem dksX1_back_0 : cX1_back.data.toList.drop 0 = dktX1_back_0 := by decide +kernel
theorem dksX1_back_1 : cX1_back.data.toList.drop 22 = dktX1_back_1 := dk_seg dksX1_back_0 22 rfl rfl
theorem dX1_back_0 : decode cX1_back 0 = .ok (.aload_n 0, 1) := dk_42 (dk_at dksX1_back_0 0 rfl rfl)
theorem dX1_back_1 : decode cX1_back 1 = .ok (.getfield 529, 3) := dk_180 2 17 (dk_at dksX1_back_0 1 rfl rfl)
theorem dX1_back_4 : decode cX1_back 4 = .ok (.ifnonnull 5, 3) := dk_199 0 5 (dk_at dksX1_back_0 4 rfl rfl)
theorem dX1_back_7 : decode cX1_back 7 = .ok (.iconst (-1), 1) := dk_2 (dk_at dksX1_back_0 7 rfl rfl)
theorem dX1_back_8 : decode cX1_back 8 = .ok (.ireturn, 1) := dk_172 (dk_at dksX1_back_0 8 rfl rfl)
theorem dX1_back_9 : decode cX1_back 9 = .ok (.aload_n 0, 1) := dk_42 (dk_at dksX1_back_0 9 rfl rfl)
theorem dX1_back_10 : decode cX1_back 10 = .ok (.aload_n 0, 1) := dk_42 (dk_at dksX1_back_0 10 rfl rfl)
theorem dX1_back_11 : decode cX1_back 11 = .ok (.getfield 529, 3) := dk_180 2 17 (dk_at dksX1_back_0 11 rfl rfl)
theorem dX1_back_14 : decode cX1_back 14 = .ok (.invokevirtual 3, 3) := dk_182 0 3 (dk_at dksX1_back_0 14 rfl rfl)
theorem dX1_back_17 : decode cX1_back 17 = .ok (.invokevirtual 213, 3) := dk_182 0 213 (dk_at dksX1_back_0 17 rfl rfl)
theorem dX1_back_20 : decode cX1_back 20 = .ok (.aload_n 0, 1) := dk_42 (dk_at dksX1_back_0 20 rfl rfl)
theorem dX1_back_21 : decode cX1_back 21 = .ok (.aload_n 0, 1) := dk_42 (dk_at dksX1_back_0 21 rfl rfl)
theorem dX1_back_22 : decode cX1_back 22 = .ok (.getfield 536, 3) := dk_180 2 24 (dk_at dksX1_back_1 0 rfl rfl)
theorem dX1_back_25 : decode cX1_back 25 = .ok (.invokestatic 532, 3) := dk_184 2 20 (dk_at dksX1_back_1 3 rfl rfl)
theorem dX1_back_28 : decode cX1_back 28 = .ok (.putfield 63, 3) := dk_181 0 63 (dk_at dksX1_back_1 6 rfl rfl)
theorem dX1_back_31 : decode cX1_back 31 = .ok (.aload_n 0, 1) := dk_42 (dk_at dksX1_back_1 9 rfl rfl)
theorem dX1_back_32 : decode cX1_back 32 = .ok (.iconst 0, 1) := dk_3 (dk_at dksX1_back_1 10 rfl rfl)
theorem dX1_back_33 : decode cX1_back 33 = .ok (.putfield 217, 3) := dk_181 0 217 (dk_at dksX1_back_1 11 rfl rfl)
theorem dX1_back_36 : decode cX1_back 36 = .ok (.aload_n 0, 1) := dk_42 (dk_at dksX1_back_1 14 rfl rfl)
theorem dX1_back_37 : decode cX1_back 37 = .ok (.getfield 63, 3) := dk_180 0 63 (dk_at dksX1_back_1 15 rfl rfl)
theorem dX1_back_40 : decode cX1_back 40 = .ok (.invokevirtual 286, 3) := dk_182 1 30 (dk_at dksX1_back_1 18 rfl rfl)
theorem dX1_back_43 : decode cX1_back 43 = .ok (.ireturn, 1) := dk_172 (dk_at dksX1_back_1 21 rfl rfl)
abbrev cX1_count : ByteArray := prog_1_method_116_code
def yX1_count : MethodName := ⟨RX1, "count", "(I)I"⟩
def dkwX1_count_6 : List UInt8 := [167, 0, 5, 18, 188, 172]
abbrev dktX1_count_6 : List UInt8 := dkwX1_count_6 ++ []
def dkwX1_count_5 : List UInt8 := [167, 0, 27, 42, 180, 0, 220, 199, 0, 7, 3, 167, 0, 16, 42, 42, 180, 0, 220, 182, 2, 27]
abbrev dktX1_count_5 : List UInt8 := dkwX1_count_5 ++ dktX1_count_6
def dkwX1_count_4 : List UInt8 := [182, 1, 30, 167, 0, 48, 42, 180, 0, 202, 167, 0, 41, 42, 180, 0, 146, 167, 0, 34, 42, 180, 0, 217]
abbrev dktX1_count_4 : List UInt8 := dkwX1_count_4 ++ dktX1_count_5
def dkwX1_count_3 : List UInt8 := [180, 0, 220, 199, 0, 7, 3, 167, 0, 68, 42, 180, 0, 220, 180, 0, 9, 167, 0, 58, 42, 180, 0, 63]
abbrev dktX1_count_3 : List UInt8 := dkwX1_count_3 ++ dktX1_count_4
def dkwX1_count_2 : List UInt8 := [42, 180, 0, 220, 199, 0, 7, 3, 167, 0, 89, 42, 180, 0, 220, 180, 0, 17, 167, 0, 79, 42]
abbrev dktX1_count_2 : List UInt8 := dkwX1_count_2 ++ dktX1_count_3
def dkwX1_count_1 : List UInt8 := [170, 0, 0, 0, 0, 0, 138, 0, 0, 0, 0, 0, 0, 0, 6, 0, 0, 0, 43, 0, 0, 0, 64, 0, 0, 0, 85, 0, 0, 0, 95, 0, 0, 0, 102, 0, 0, 0, 109, 0, 0, 0, 116]
abbrev dktX1_count_1 : List UInt8 := dkwX1_count_1 ++ dktX1_count_2
def dkwX1_count_0 : List UInt8 := [27]
abbrev dktX1_count_0 : List UInt8 := dkwX1_count_0 ++ dktX1_count_1
theorem dksX1_count_0 : cX1_count.data.toList.drop 0 = dktX1_count_0 := by decide +kernel
theorem dksX1_count_1 : cX1_count.data.toList.drop 1 = dktX1_count_1 := dk_seg dksX1_count_0 1 rfl rfl
theorem dksX1_count_2 : cX1_count.data.toList.drop 44 = dktX1_count_2 := dk_seg dksX1_count_1 43 rfl rfl
theorem dksX1_count_3 : cX1_count.data.toList.drop 66 = dktX1_count_3 := dk_seg dksX1_count_2 22 rfl rfl
theorem dksX1_count_4 : cX1_count.data.toList.drop 90 = dktX1_count_4 := dk_seg dksX1_count_3 24 rfl rfl
theorem dksX1_count_5 : cX1_count.data.toList.drop 114 = dktX1_count_5 := dk_seg dksX1_count_4 24 rfl rfl
theorem dksX1_count_6 : cX1_count.data.toList.drop 136 = dktX1_count_6 := dk_seg dksX1_count_5 22 rfl rfl
theorem dX1_count_0 : decode cX1_count 0 = .ok (.iload_n 1, 1) := dk_27 (dk_at dksX1_count_0 0 rfl rfl)
theorem dX1_count_1 : decode cX1_count 1 = .ok (.tableswitch 138 0 6 #[43, 64, 85, 95, 102, 109, 116], 43) := by decide +kernel
theorem dX1_count_44 : decode cX1_count 44 = .ok (.aload_n 0, 1) := dk_42 (dk_at dksX1_count_2 0 rfl rfl)
theorem dX1_count_45 : decode cX1_count 45 = .ok (.getfield 220, 3) := dk_180 0 220 (dk_at dksX1_count_2 1 rfl rfl)
theorem dX1_count_48 : decode cX1_count 48 = .ok (.ifnonnull 7, 3) := dk_199 0 7 (dk_at dksX1_count_2 4 rfl rfl)
theorem dX1_count_51 : decode cX1_count 51 = .ok (.iconst 0, 1) := dk_3 (dk_at dksX1_count_2 7 rfl rfl)
theorem dX1_count_52 : decode cX1_count 52 = .ok (.goto 89, 3) := dk_167 0 89 (dk_at dksX1_count_2 8 rfl rfl)
theorem dX1_count_55 : decode cX1_count 55 = .ok (.aload_n 0, 1) := dk_42 (dk_at dksX1_count_2 11 rfl rfl)
theorem dX1_count_56 : decode cX1_count 56 = .ok (.getfield 220, 3) := dk_180 0 220 (dk_at dksX1_count_2 12 rfl rfl)
theorem dX1_count_59 : decode cX1_count 59 = .ok (.getfield 17, 3) := dk_180 0 17 (dk_at dksX1_count_2 15 rfl rfl)
theorem dX1_count_62 : decode cX1_count 62 = .ok (.goto 79, 3) := dk_167 0 79 (dk_at dksX1_count_2 18 rfl rfl)
theorem dX1_count_65 : decode cX1_count 65 = .ok (.aload_n 0, 1) := dk_42 (dk_at dksX1_count_2 21 rfl rfl)
theorem dX1_count_66 : decode cX1_count 66 = .ok (.getfield 220, 3) := dk_180 0 220 (dk_at dksX1_count_3 0 rfl rfl)
theorem dX1_count_69 : decode cX1_count 69 = .ok (.ifnonnull 7, 3) := dk_199 0 7 (dk_at dksX1_count_3 3 rfl rfl)
theorem dX1_count_72 : decode cX1_count 72 = .ok (.iconst 0, 1) := dk_3 (dk_at dksX1_count_3 6 rfl rfl)
theorem dX1_count_73 : decode cX1_count 73 = .ok (.goto 68, 3) := dk_167 0 68 (dk_at dksX1_count_3 7 rfl rfl)
theorem dX1_count_76 : decode cX1_count 76 = .ok (.aload_n 0, 1) := dk_42 (dk_at dksX1_count_3 10 rfl rfl)
theorem dX1_count_77 : decode cX1_count 77 = .ok (.getfield 220, 3) := dk_180 0 220 (dk_at dksX1_count_3 11 rfl rfl)
theorem dX1_count_80 : decode cX1_count 80 = .ok (.getfield 9, 3) := dk_180 0 9 (dk_at dksX1_count_3 14 rfl rfl)
theorem dX1_count_83 : decode cX1_count 83 = .ok (.goto 58, 3) := dk_167 0 58 (dk_at dksX1_count_3 17 rfl rfl)
theorem dX1_count_86 : decode cX1_count 86 = .ok (.aload_n 0, 1) := dk_42 (dk_at dksX1_count_3 20 rfl rfl)
theorem dX1_count_87 : decode cX1_count 87 = .ok (.getfield 63, 3) := dk_180 0 63 (dk_at dksX1_count_3 21 rfl rfl)
theorem dX1_count_90 : decode cX1_count 90 = .ok (.invokevirtual 286, 3) := dk_182 1 30 (dk_at dksX1_count_4 0 rfl rfl)
theorem dX1_count_93 : decode cX1_count 93 = .ok (.goto 48, 3) := dk_167 0 48 (dk_at dksX1_count_4 3 rfl rfl)
theorem dX1_count_96 : decode cX1_count 96 = .ok (.aload_n 0, 1) := dk_42 (dk_at dksX1_count_4 6 rfl rfl)
theorem dX1_count_97 : decode cX1_count 97 = .ok (.getfield 202, 3) := dk_180 0 202 (dk_at dksX1_count_4 7 rfl rfl)
theorem dX1_count_100 : decode cX1_count 100 = .ok (.goto 41, 3) := dk_167 0 41 (dk_at dksX1_count_4 10 rfl rfl)
theorem dX1_count_103 : decode cX1_count 103 = .ok (.aload_n 0, 1) := dk_42 (dk_at dksX1_count_4 13 rfl rfl)
theorem dX1_count_104 : decode cX1_count 104 = .ok (.getfield 146, 3) := dk_180 0 146 (dk_at dksX1_count_4 14 rfl rfl)
theorem dX1_count_107 : decode cX1_count 107 = .ok (.goto 34, 3) := dk_167 0 34 (dk_at dksX1_count_4 17 rfl rfl)
theorem dX1_count_110 : decode cX1_count 110 = .ok (.aload_n 0, 1) := dk_42 (dk_at dksX1_count_4 20 rfl rfl)
theorem dX1_count_111 : decode cX1_count 111 = .ok (.getfield 217, 3) := dk_180 0 217 (dk_at dksX1_count_4 21 rfl rfl)
theorem dX1_count_114 : decode cX1_count 114 = .ok (.goto 27, 3) := dk_167 0 27 (dk_at dksX1_count_5 0 rfl rfl)
theorem dX1_count_117 : decode cX1_count 117 = .ok (.aload_n 0, 1) := dk_42 (dk_at dksX1_count_5 3 rfl rfl)
theorem dX1_count_118 : decode cX1_count 118 = .ok (.getfield 220, 3) := dk_180 0 220 (dk_at dksX1_count_5 4 rfl rfl)
theorem dX1_count_121 : decode cX1_count 121 = .ok (.ifnonnull 7, 3) := dk_199 0 7 (dk_at dksX1_count_5 7 rfl rfl)
theorem dX1_count_124 : decode cX1_count 124 = .ok (.iconst 0, 1) := dk_3 (dk_at dksX1_count_5 10 rfl rfl)
theorem dX1_count_125 : decode cX1_count 125 = .ok (.goto 16, 3) := dk_167 0 16 (dk_at dksX1_count_5 11 rfl rfl)
theorem dX1_count_128 : decode cX1_count 128 = .ok (.aload_n 0, 1) := dk_42 (dk_at dksX1_count_5 14 rfl rfl)
theorem dX1_count_129 : decode cX1_count 129 = .ok (.aload_n 0, 1) := dk_42 (dk_at dksX1_count_5 15 rfl rfl)
theorem dX1_count_130 : decode cX1_count 130 = .ok (.getfield 220, 3) := dk_180 0 220 (dk_at dksX1_count_5 16 rfl rfl)
theorem dX1_count_133 : decode cX1_count 133 = .ok (.invokevirtual 539, 3) := dk_182 2 27 (dk_at dksX1_count_5 19 rfl rfl)
theorem dX1_count_136 : decode cX1_count 136 = .ok (.goto 5, 3) := dk_167 0 5 (dk_at dksX1_count_6 0 rfl rfl)
theorem dX1_count_139 : decode cX1_count 139 = .ok (.ldc 188, 2) := dk_18 188 (dk_at dksX1_count_6 3 rfl rfl)
theorem dX1_count_141 : decode cX1_count 141 = .ok (.ireturn, 1) := dk_172 (dk_at dksX1_count_6 5 rfl rfl)
abbrev cX1_onesOf : ByteArray := prog_1_method_115_code
def yX1_onesOf : MethodName := ⟨RX1, "onesOf", "(LUnimodularTables$Table;)I"⟩
def dkwX1_onesOf_2 : List UInt8 := [167, 255, 212, 28, 172]
abbrev dktX1_onesOf_2 : List UInt8 := dkwX1_onesOf_2 ++ []
def dkwX1_onesOf_1 : List UInt8 := [43, 180, 0, 13, 29, 50, 21, 4, 46, 153, 0, 6, 132, 2, 1, 132, 4, 1, 167, 255, 229, 132, 3, 1]
abbrev dktX1_onesOf_1 : List UInt8 := dkwX1_onesOf_1 ++ dktX1_onesOf_2
def dkwX1_onesOf_0 : List UInt8 := [3, 61, 3, 62, 29, 43, 180, 0, 17, 162, 0, 42, 3, 54, 4, 21, 4, 43, 180, 0, 9, 162, 0, 24]
abbrev dktX1_onesOf_0 : List UInt8 := dkwX1_onesOf_0 ++ dktX1_onesOf_1
theorem dksX1_onesOf_0 : cX1_onesOf.data.toList.drop 0 = dktX1_onesOf_0 := by decide +kernel
theorem dksX1_onesOf_1 : cX1_onesOf.data.toList.drop 24 = dktX1_onesOf_1 := dk_seg dksX1_onesOf_0 24 rfl rfl
theorem dksX1_onesOf_2 : cX1_onesOf.data.toList.drop 48 = dktX1_onesOf_2 := dk_seg dksX1_onesOf_1 24 rfl rfl
theorem dX1_onesOf_0 : decode cX1_onesOf 0 = .ok (.iconst 0, 1) := dk_3 (dk_at dksX1_onesOf_0 0 rfl rfl)
theorem dX1_onesOf_1 : decode cX1_onesOf 1 = .ok (.istore_n 2, 1) := dk_61 (dk_at dksX1_onesOf_0 1 rfl rfl)
theorem dX1_onesOf_2 : decode cX1_onesOf 2 = .ok (.iconst 0, 1) := dk_3 (dk_at dksX1_onesOf_0 2 rfl rfl)
theorem dX1_onesOf_3 : decode cX1_onesOf 3 = .ok (.istore_n 3, 1) := dk_62 (dk_at dksX1_onesOf_0 3 rfl rfl)
theorem dX1_onesOf_4 : decode cX1_onesOf 4 = .ok (.iload_n 3, 1) := dk_29 (dk_at dksX1_onesOf_0 4 rfl rfl)
theorem dX1_onesOf_5 : decode cX1_onesOf 5 = .ok (.aload_n 1, 1) := dk_43 (dk_at dksX1_onesOf_0 5 rfl rfl)
theorem dX1_onesOf_6 : decode cX1_onesOf 6 = .ok (.getfield 17, 3) := dk_180 0 17 (dk_at dksX1_onesOf_0 6 rfl rfl)
theorem dX1_onesOf_9 : decode cX1_onesOf 9 = .ok (.if_icmp .ge 42, 3) := dk_162 0 42 (dk_at dksX1_onesOf_0 9 rfl rfl)
theorem dX1_onesOf_12 : decode cX1_onesOf 12 = .ok (.iconst 0, 1) := dk_3 (dk_at dksX1_onesOf_0 12 rfl rfl)
theorem dX1_onesOf_13 : decode cX1_onesOf 13 = .ok (.istore 4, 2) := dk_54 4 (dk_at dksX1_onesOf_0 13 rfl rfl)
theorem dX1_onesOf_15 : decode cX1_onesOf 15 = .ok (.iload 4, 2) := dk_21 4 (dk_at dksX1_onesOf_0 15 rfl rfl)
theorem dX1_onesOf_17 : decode cX1_onesOf 17 = .ok (.aload_n 1, 1) := dk_43 (dk_at dksX1_onesOf_0 17 rfl rfl)
theorem dX1_onesOf_18 : decode cX1_onesOf 18 = .ok (.getfield 9, 3) := dk_180 0 9 (dk_at dksX1_onesOf_0 18 rfl rfl)
theorem dX1_onesOf_21 : decode cX1_onesOf 21 = .ok (.if_icmp .ge 24, 3) := dk_162 0 24 (dk_at dksX1_onesOf_0 21 rfl rfl)
theorem dX1_onesOf_24 : decode cX1_onesOf 24 = .ok (.aload_n 1, 1) := dk_43 (dk_at dksX1_onesOf_1 0 rfl rfl)
theorem dX1_onesOf_25 : decode cX1_onesOf 25 = .ok (.getfield 13, 3) := dk_180 0 13 (dk_at dksX1_onesOf_1 1 rfl rfl)
theorem dX1_onesOf_28 : decode cX1_onesOf 28 = .ok (.iload_n 3, 1) := dk_29 (dk_at dksX1_onesOf_1 4 rfl rfl)
theorem dX1_onesOf_29 : decode cX1_onesOf 29 = .ok (.aaload, 1) := dk_50 (dk_at dksX1_onesOf_1 5 rfl rfl)
theorem dX1_onesOf_30 : decode cX1_onesOf 30 = .ok (.iload 4, 2) := dk_21 4 (dk_at dksX1_onesOf_1 6 rfl rfl)
theorem dX1_onesOf_32 : decode cX1_onesOf 32 = .ok (.iaload, 1) := dk_46 (dk_at dksX1_onesOf_1 8 rfl rfl)
theorem dX1_onesOf_33 : decode cX1_onesOf 33 = .ok (.ifCond .eq 6, 3) := dk_153 0 6 (dk_at dksX1_onesOf_1 9 rfl rfl)
theorem dX1_onesOf_36 : decode cX1_onesOf 36 = .ok (.iinc 2 1, 3) := dk_132 2 1 (dk_at dksX1_onesOf_1 12 rfl rfl)
theorem dX1_onesOf_39 : decode cX1_onesOf 39 = .ok (.iinc 4 1, 3) := dk_132 4 1 (dk_at dksX1_onesOf_1 15 rfl rfl)
theorem dX1_onesOf_42 : decode cX1_onesOf 42 = .ok (.goto (-27), 3) := dk_167 255 229 (dk_at dksX1_onesOf_1 18 rfl rfl)
theorem dX1_onesOf_45 : decode cX1_onesOf 45 = .ok (.iinc 3 1, 3) := dk_132 3 1 (dk_at dksX1_onesOf_1 21 rfl rfl)
theorem dX1_onesOf_48 : decode cX1_onesOf 48 = .ok (.goto (-44), 3) := dk_167 255 212 (dk_at dksX1_onesOf_2 0 rfl rfl)
theorem dX1_onesOf_51 : decode cX1_onesOf 51 = .ok (.iload_n 2, 1) := dk_28 (dk_at dksX1_onesOf_2 3 rfl rfl)
theorem dX1_onesOf_52 : decode cX1_onesOf 52 = .ok (.ireturn, 1) := dk_172 (dk_at dksX1_onesOf_2 4 rfl rfl)
abbrev cX1_entry : ByteArray := prog_1_method_36_code
def yX1_entry : MethodName := ⟨RX1, "entry", "(II)I"⟩
def dkwX1_entry_2 : List UInt8 := [46, 172]
abbrev dktX1_entry_2 : List UInt8 := dkwX1_entry_2 ++ []
def dkwX1_entry_1 : List UInt8 := [184, 0, 246, 154, 0, 11, 187, 1, 5, 89, 183, 1, 7, 191, 42, 180, 0, 220, 180, 0, 13, 27, 50, 28]
abbrev dktX1_entry_1 : List UInt8 := dkwX1_entry_1 ++ dktX1_entry_2
def dkwX1_entry_0 : List UInt8 := [42, 180, 0, 220, 198, 0, 25, 42, 180, 0, 220, 27, 184, 0, 242, 153, 0, 14, 42, 180, 0, 220, 28]
abbrev dktX1_entry_0 : List UInt8 := dkwX1_entry_0 ++ dktX1_entry_1
theorem dksX1_entry_0 : cX1_entry.data.toList.drop 0 = dktX1_entry_0 := by decide +kernel
theorem dksX1_entry_1 : cX1_entry.data.toList.drop 23 = dktX1_entry_1 := dk_seg dksX1_entry_0 23 rfl rfl
theorem dksX1_entry_2 : cX1_entry.data.toList.drop 47 = dktX1_entry_2 := dk_seg dksX1_entry_1 24 rfl rfl
theorem dX1_entry_0 : decode cX1_entry 0 = .ok (.aload_n 0, 1) := dk_42 (dk_at dksX1_entry_0 0 rfl rfl)
theorem dX1_entry_1 : decode cX1_entry 1 = .ok (.getfield 220, 3) := dk_180 0 220 (dk_at dksX1_entry_0 1 rfl rfl)
theorem dX1_entry_4 : decode cX1_entry 4 = .ok (.ifnull 25, 3) := dk_198 0 25 (dk_at dksX1_entry_0 4 rfl rfl)
theorem dX1_entry_7 : decode cX1_entry 7 = .ok (.aload_n 0, 1) := dk_42 (dk_at dksX1_entry_0 7 rfl rfl)
theorem dX1_entry_8 : decode cX1_entry 8 = .ok (.getfield 220, 3) := dk_180 0 220 (dk_at dksX1_entry_0 8 rfl rfl)
theorem dX1_entry_11 : decode cX1_entry 11 = .ok (.iload_n 1, 1) := dk_27 (dk_at dksX1_entry_0 11 rfl rfl)
theorem dX1_entry_12 : decode cX1_entry 12 = .ok (.invokestatic 242, 3) := dk_184 0 242 (dk_at dksX1_entry_0 12 rfl rfl)
theorem dX1_entry_15 : decode cX1_entry 15 = .ok (.ifCond .eq 14, 3) := dk_153 0 14 (dk_at dksX1_entry_0 15 rfl rfl)
theorem dX1_entry_18 : decode cX1_entry 18 = .ok (.aload_n 0, 1) := dk_42 (dk_at dksX1_entry_0 18 rfl rfl)
theorem dX1_entry_19 : decode cX1_entry 19 = .ok (.getfield 220, 3) := dk_180 0 220 (dk_at dksX1_entry_0 19 rfl rfl)
theorem dX1_entry_22 : decode cX1_entry 22 = .ok (.iload_n 2, 1) := dk_28 (dk_at dksX1_entry_0 22 rfl rfl)
theorem dX1_entry_23 : decode cX1_entry 23 = .ok (.invokestatic 246, 3) := dk_184 0 246 (dk_at dksX1_entry_1 0 rfl rfl)
theorem dX1_entry_26 : decode cX1_entry 26 = .ok (.ifCond .ne 11, 3) := dk_154 0 11 (dk_at dksX1_entry_1 3 rfl rfl)
theorem dX1_entry_29 : decode cX1_entry 29 = .ok (.new 261, 3) := dk_187 1 5 (dk_at dksX1_entry_1 6 rfl rfl)
theorem dX1_entry_32 : decode cX1_entry 32 = .ok (.dup, 1) := dk_89 (dk_at dksX1_entry_1 9 rfl rfl)
theorem dX1_entry_33 : decode cX1_entry 33 = .ok (.invokespecial 263, 3) := dk_183 1 7 (dk_at dksX1_entry_1 10 rfl rfl)
theorem dX1_entry_36 : decode cX1_entry 36 = .ok (.athrow, 1) := dk_191 (dk_at dksX1_entry_1 13 rfl rfl)
theorem dX1_entry_37 : decode cX1_entry 37 = .ok (.aload_n 0, 1) := dk_42 (dk_at dksX1_entry_1 14 rfl rfl)
theorem dX1_entry_38 : decode cX1_entry 38 = .ok (.getfield 220, 3) := dk_180 0 220 (dk_at dksX1_entry_1 15 rfl rfl)
theorem dX1_entry_41 : decode cX1_entry 41 = .ok (.getfield 13, 3) := dk_180 0 13 (dk_at dksX1_entry_1 18 rfl rfl)
theorem dX1_entry_44 : decode cX1_entry 44 = .ok (.iload_n 1, 1) := dk_27 (dk_at dksX1_entry_1 21 rfl rfl)
theorem dX1_entry_45 : decode cX1_entry 45 = .ok (.aaload, 1) := dk_50 (dk_at dksX1_entry_1 22 rfl rfl)
theorem dX1_entry_46 : decode cX1_entry 46 = .ok (.iload_n 2, 1) := dk_28 (dk_at dksX1_entry_1 23 rfl rfl)
theorem dX1_entry_47 : decode cX1_entry 47 = .ok (.iaload, 1) := dk_46 (dk_at dksX1_entry_2 0 rfl rfl)
theorem dX1_entry_48 : decode cX1_entry 48 = .ok (.ireturn, 1) := dk_172 (dk_at dksX1_entry_2 1 rfl rfl)
theorem q118 : (Jvm.Cond.initialized "UnimodularTables") ∈ lw_all := lw_g (lw_at lw_m1 1 rfl) rfl
theorem q156 : (Jvm.Cond.instantiable "UnimodularTables" (34 : Nat)) ∈ lw_all := lw_g (lw_at lw_m1 39 rfl) rfl
theorem q158 : (Jvm.Cond.instanceMethod ({ cls := "UnimodularTables", name := "<init>", desc := "()V" } : Jvm.MethodName)) ∈ lw_all := lw_g (lw_at lw_m1 41 rfl) rfl
theorem q159 : (Jvm.Cond.code ({ cls := "UnimodularTables", name := "<init>", desc := "()V" } : Jvm.MethodName) prog_1_method_9_code (4 : Nat) (Option.none : Option Jvm.ClassFile.FieldType)) ∈ lw_all := lw_g (lw_at lw_m1 42 rfl) rfl
theorem q160 : (Jvm.Cond.methodLink "UnimodularTables" (28 : Nat) ({ cls := "java/lang/Object", name := "<init>", desc := "()V" } : Jvm.MethodName)) ∈ lw_all := lw_g (lw_at lw_m1 43 rfl) rfl
theorem q163 : (Jvm.Cond.classLink "UnimodularTables" (33 : Nat) "UnimodularTables$Fault") ∈ lw_all := lw_g (lw_at lw_m1 46 rfl) rfl
theorem q203 : (Jvm.Cond.methodLinkNest "UnimodularTables" (35 : Nat) ({ cls := "UnimodularTables$Fault", name := "<init>", desc := "()V" } : Jvm.MethodName) "UnimodularTables") ∈ lw_tbl := lw_at lw_m1 86 rfl
theorem q223 : (Jvm.Cond.classLink "UnimodularTables" (54 : Nat) "UnimodularTables$Back") ∈ lw_all := lw_g (lw_at lw_m1 106 rfl) rfl
theorem q225 : (Jvm.Cond.classLink "UnimodularTables" (60 : Nat) "java/util/LinkedList") ∈ lw_all := lw_g (lw_at lw_m1 108 rfl) rfl
theorem q227 : (Jvm.Cond.methodLink "UnimodularTables" (62 : Nat) ({ cls := "java/util/LinkedList", name := "<init>", desc := "()V" } : Jvm.MethodName)) ∈ lw_all := lw_g (lw_at lw_m1 110 rfl) rfl
theorem q262 : (Jvm.Cond.classLink "UnimodularTables" (76 : Nat) "UnimodularTables$Growth") ∈ lw_all := lw_g (lw_at lw_m1 145 rfl) rfl
theorem q265 : (Jvm.Cond.methodLink "UnimodularTables" (78 : Nat) ({ cls := "UnimodularTables$Growth", name := "<init>", desc := "(LUnimodularTables;)V" } : Jvm.MethodName)) ∈ lw_all := lw_g (lw_at lw_m1 148 rfl) rfl
theorem q295 : (Jvm.Cond.fieldLinkNest "UnimodularTables" (388 : Nat) "UnimodularTables$Growth" "from" "[I" "UnimodularTables") ∈ lw_tbl := lw_at lw_m1 178 rfl
theorem q297 : (Jvm.Cond.fieldLinkNest "UnimodularTables" (391 : Nat) "UnimodularTables$Growth" "to" "[I" "UnimodularTables") ∈ lw_tbl := lw_at lw_m1 180 rfl
theorem q300 : (Jvm.Cond.fieldLinkNest "UnimodularTables" (227 : Nat) "UnimodularTables$Growth" "isLaid" "Z" "UnimodularTables") ∈ lw_tbl := lw_at lw_m1 183 rfl
theorem q303 : (Jvm.Cond.fieldLinkNest "UnimodularTables" (386 : Nat) "UnimodularTables$Growth" "of" "LUnimodularTables$Table;" "UnimodularTables") ∈ lw_tbl := lw_at lw_m1 186 rfl
theorem q323 : (Jvm.Cond.classLink "UnimodularTables" (85 : Nat) "[[I") ∈ lw_all := lw_g (lw_at lw_m1 206 rfl) rfl
theorem q325 : (Jvm.Cond.classLink "UnimodularTables" (92 : Nat) "java/util/ArrayDeque") ∈ lw_all := lw_g (lw_at lw_m1 208 rfl) rfl
theorem q327 : (Jvm.Cond.methodLink "UnimodularTables" (94 : Nat) ({ cls := "java/util/ArrayDeque", name := "<init>", desc := "()V" } : Jvm.MethodName)) ∈ lw_all := lw_g (lw_at lw_m1 210 rfl) rfl
theorem q343 : (Jvm.Cond.stringRef "UnimodularTables" (105 : Nat) "+-00-/-+-00/0-+-0/00-+-/-00-+") ∈ lw_tbl := lw_at lw_m1 226 rfl
theorem q344 : (Jvm.Cond.methodLink "UnimodularTables" (107 : Nat) ({ cls := "UnimodularTables", name := "ten", desc := "(Ljava/lang/String;)LUnimodularTables$Table;" } : Jvm.MethodName)) ∈ lw_all := lw_g (lw_at lw_m1 227 rfl) rfl
theorem q345 : (Jvm.Cond.static ({ cls := "UnimodularTables", name := "ten", desc := "(Ljava/lang/String;)LUnimodularTables$Table;" } : Jvm.MethodName)) ∈ lw_all := lw_g (lw_at lw_m1 228 rfl) rfl
theorem q346 : (Jvm.Cond.code ({ cls := "UnimodularTables", name := "ten", desc := "(Ljava/lang/String;)LUnimodularTables$Table;" } : Jvm.MethodName) prog_1_method_84_code (3 : Nat) (Option.some (Jvm.ClassFile.FieldType.object "UnimodularTables$Table"))) ∈ lw_all := lw_g (lw_at lw_m1 229 rfl) rfl
theorem q347 : (Jvm.Cond.classLink "UnimodularTables" (4 : Nat) "UnimodularTables$Table") ∈ lw_all := lw_g (lw_at lw_m1 230 rfl) rfl
theorem q349 : (Jvm.Cond.methodLink "UnimodularTables" (20 : Nat) ({ cls := "UnimodularTables$Table", name := "<init>", desc := "(II)V" } : Jvm.MethodName)) ∈ lw_all := lw_g (lw_at lw_m1 232 rfl) rfl
theorem q355 : (Jvm.Cond.fieldLinkNest "UnimodularTables" (17 : Nat) "UnimodularTables$Table" "n" "I" "UnimodularTables") ∈ lw_tbl := lw_at lw_m1 238 rfl
theorem q358 : (Jvm.Cond.fieldLinkNest "UnimodularTables" (9 : Nat) "UnimodularTables$Table" "m" "I" "UnimodularTables") ∈ lw_tbl := lw_at lw_m2 1 rfl
theorem q361 : (Jvm.Cond.fieldLinkNest "UnimodularTables" (13 : Nat) "UnimodularTables$Table" "at" "[[I" "UnimodularTables") ∈ lw_tbl := lw_at lw_m2 4 rfl
theorem q370 : (Jvm.Cond.methodLink "UnimodularTables" (453 : Nat) ({ cls := "java/lang/String", name := "charAt", desc := "(I)C" } : Jvm.MethodName)) ∈ lw_all := lw_g (lw_at lw_m2 13 rfl) rfl
theorem q410 : (Jvm.Cond.methodLink "UnimodularTables" (167 : Nat) ({ cls := "UnimodularTables", name := "valueOf", desc := "(I)I" } : Jvm.MethodName)) ∈ lw_all := lw_g (lw_at lw_m2 53 rfl) rfl
theorem q411 : (Jvm.Cond.static ({ cls := "UnimodularTables", name := "valueOf", desc := "(I)I" } : Jvm.MethodName)) ∈ lw_all := lw_g (lw_at lw_m2 54 rfl) rfl
theorem q412 : (Jvm.Cond.code ({ cls := "UnimodularTables", name := "valueOf", desc := "(I)I" } : Jvm.MethodName) prog_1_method_16_code (1 : Nat) (Option.some Jvm.ClassFile.FieldType.int)) ∈ lw_all := lw_g (lw_at lw_m2 55 rfl) rfl
theorem q413 : (Jvm.Cond.stringRef "UnimodularTables" (115 : Nat) "+++++/+++00/+0++0/+00++/++00+") ∈ lw_tbl := lw_at lw_m2 56 rfl
theorem q414 : (Jvm.Cond.static ({ cls := "UnimodularTables", name := "rowNegated", desc := "(LUnimodularTables$Table;II)LUnimodularTables$Table;" } : Jvm.MethodName)) ∈ lw_all := lw_g (lw_at lw_m2 57 rfl) rfl
theorem q415 : (Jvm.Cond.code ({ cls := "UnimodularTables", name := "rowNegated", desc := "(LUnimodularTables$Table;II)LUnimodularTables$Table;" } : Jvm.MethodName) prog_1_method_3_code (5 : Nat) (Option.some (Jvm.ClassFile.FieldType.object "UnimodularTables$Table"))) ∈ lw_all := lw_g (lw_at lw_m2 58 rfl) rfl
theorem q416 : (Jvm.Cond.methodLink "UnimodularTables" (3 : Nat) ({ cls := "UnimodularTables$Table", name := "copied", desc := "()LUnimodularTables$Table;" } : Jvm.MethodName)) ∈ lw_all := lw_g (lw_at lw_m2 59 rfl) rfl
theorem q422 : (Jvm.Cond.static ({ cls := "UnimodularTables", name := "rowsChanged", desc := "(LUnimodularTables$Table;II)LUnimodularTables$Table;" } : Jvm.MethodName)) ∈ lw_all := lw_g (lw_at lw_m2 65 rfl) rfl
theorem q423 : (Jvm.Cond.code ({ cls := "UnimodularTables", name := "rowsChanged", desc := "(LUnimodularTables$Table;II)LUnimodularTables$Table;" } : Jvm.MethodName) prog_1_method_5_code (5 : Nat) (Option.some (Jvm.ClassFile.FieldType.object "UnimodularTables$Table"))) ∈ lw_all := lw_g (lw_at lw_m2 66 rfl) rfl
theorem q424 : (Jvm.Cond.static ({ cls := "UnimodularTables", name := "rowDropped", desc := "(LUnimodularTables$Table;II)LUnimodularTables$Table;" } : Jvm.MethodName)) ∈ lw_all := lw_g (lw_at lw_m2 67 rfl) rfl
theorem q425 : (Jvm.Cond.code ({ cls := "UnimodularTables", name := "rowDropped", desc := "(LUnimodularTables$Table;II)LUnimodularTables$Table;" } : Jvm.MethodName) prog_1_method_6_code (6 : Nat) (Option.some (Jvm.ClassFile.FieldType.object "UnimodularTables$Table"))) ∈ lw_all := lw_g (lw_at lw_m2 68 rfl) rfl
theorem q426 : (Jvm.Cond.classLink "UnimodularTables" (131 : Nat) "UnimodularTables$Turner") ∈ lw_all := lw_g (lw_at lw_m2 69 rfl) rfl
theorem q428 : (Jvm.Cond.methodLink "UnimodularTables" (137 : Nat) ({ cls := "UnimodularTables", name := "sideways", desc := "(LUnimodularTables$Turner;)LUnimodularTables$Turner;" } : Jvm.MethodName)) ∈ lw_all := lw_g (lw_at lw_m2 71 rfl) rfl
theorem q429 : (Jvm.Cond.static ({ cls := "UnimodularTables", name := "sideways", desc := "(LUnimodularTables$Turner;)LUnimodularTables$Turner;" } : Jvm.MethodName)) ∈ lw_all := lw_g (lw_at lw_m2 72 rfl) rfl
theorem q430 : (Jvm.Cond.code ({ cls := "UnimodularTables", name := "sideways", desc := "(LUnimodularTables$Turner;)LUnimodularTables$Turner;" } : Jvm.MethodName) prog_1_method_8_code (1 : Nat) (Option.some (Jvm.ClassFile.FieldType.object "UnimodularTables$Turner"))) ∈ lw_all := lw_g (lw_at lw_m2 73 rfl) rfl
theorem q431 : (Jvm.Cond.static ({ cls := "UnimodularTables", name := "lambda$sideways$0", desc := "(LUnimodularTables$Turner;LUnimodularTables$Table;II)LUnimodularTables$Table;" } : Jvm.MethodName)) ∈ lw_all := lw_g (lw_at lw_m2 74 rfl) rfl
theorem q432 : (Jvm.Cond.code ({ cls := "UnimodularTables", name := "lambda$sideways$0", desc := "(LUnimodularTables$Turner;LUnimodularTables$Table;II)LUnimodularTables$Table;" } : Jvm.MethodName) prog_1_method_124_code (4 : Nat) (Option.some (Jvm.ClassFile.FieldType.object "UnimodularTables$Table"))) ∈ lw_all := lw_g (lw_at lw_m2 75 rfl) rfl
theorem q433 : (Jvm.Cond.methodLink "UnimodularTables" (377 : Nat) ({ cls := "UnimodularTables", name := "transposed", desc := "(LUnimodularTables$Table;II)LUnimodularTables$Table;" } : Jvm.MethodName)) ∈ lw_all := lw_g (lw_at lw_m2 76 rfl) rfl
theorem q434 : (Jvm.Cond.static ({ cls := "UnimodularTables", name := "transposed", desc := "(LUnimodularTables$Table;II)LUnimodularTables$Table;" } : Jvm.MethodName)) ∈ lw_all := lw_g (lw_at lw_m2 77 rfl) rfl
theorem q435 : (Jvm.Cond.code ({ cls := "UnimodularTables", name := "transposed", desc := "(LUnimodularTables$Table;II)LUnimodularTables$Table;" } : Jvm.MethodName) prog_1_method_4_code (6 : Nat) (Option.some (Jvm.ClassFile.FieldType.object "UnimodularTables$Table"))) ∈ lw_all := lw_g (lw_at lw_m2 78 rfl) rfl
theorem q436 : (Jvm.Cond.interfaceEntry "UnimodularTables" (281 : Nat)) ∈ lw_tbl := lw_at lw_m2 79 rfl
theorem q437 : (Jvm.Cond.methodLink "UnimodularTables" (281 : Nat) ({ cls := "UnimodularTables$Turner", name := "of", desc := "(LUnimodularTables$Table;II)LUnimodularTables$Table;" } : Jvm.MethodName)) ∈ lw_all := lw_g (lw_at lw_m2 80 rfl) rfl
theorem q440 : (Jvm.Cond.static ({ cls := "UnimodularTables", name := "turned", desc := "(LUnimodularTables$Table;II)LUnimodularTables$Table;" } : Jvm.MethodName)) ∈ lw_all := lw_g (lw_at lw_m2 83 rfl) rfl
theorem q441 : (Jvm.Cond.code ({ cls := "UnimodularTables", name := "turned", desc := "(LUnimodularTables$Table;II)LUnimodularTables$Table;" } : Jvm.MethodName) prog_1_method_7_code (9 : Nat) (Option.some (Jvm.ClassFile.FieldType.object "UnimodularTables$Table"))) ∈ lw_all := lw_g (lw_at lw_m2 84 rfl) rfl
theorem q442 : (Jvm.Cond.fieldLink "UnimodularTables" (133 : Nat) "UnimodularTables" "turners" "[LUnimodularTables$Turner;") ∈ lw_all := lw_g (lw_at lw_m2 85 rfl) rfl
theorem q443 : (Jvm.Cond.fieldLink "UnimodularTables" (36 : Nat) "UnimodularTables" "fault" "LUnimodularTables$Fault;") ∈ lw_all := lw_g (lw_at lw_m2 86 rfl) rfl
theorem q444 : (Jvm.Cond.fieldLink "UnimodularTables" (40 : Nat) "UnimodularTables" "tape" "[B") ∈ lw_all := lw_g (lw_at lw_m2 87 rfl) rfl
theorem q445 : (Jvm.Cond.fieldLink "UnimodularTables" (146 : Nat) "UnimodularTables" "taped" "I") ∈ lw_all := lw_g (lw_at lw_m2 88 rfl) rfl
theorem q446 : (Jvm.Cond.fieldLink "UnimodularTables" (153 : Nat) "UnimodularTables" "place" "I") ∈ lw_all := lw_g (lw_at lw_m2 89 rfl) rfl
theorem q447 : (Jvm.Cond.fieldLink "UnimodularTables" (44 : Nat) "UnimodularTables" "readEntry" "[I") ∈ lw_all := lw_g (lw_at lw_m2 90 rfl) rfl
theorem q448 : (Jvm.Cond.fieldLink "UnimodularTables" (164 : Nat) "UnimodularTables" "readRows" "I") ∈ lw_all := lw_g (lw_at lw_m2 91 rfl) rfl
theorem q449 : (Jvm.Cond.fieldLink "UnimodularTables" (174 : Nat) "UnimodularTables" "readColumns" "I") ∈ lw_all := lw_g (lw_at lw_m2 92 rfl) rfl
theorem q450 : (Jvm.Cond.fieldLink "UnimodularTables" (48 : Nat) "UnimodularTables" "scripts" "[I") ∈ lw_all := lw_g (lw_at lw_m2 93 rfl) rfl
theorem q451 : (Jvm.Cond.fieldLink "UnimodularTables" (51 : Nat) "UnimodularTables" "scriptLong" "[I") ∈ lw_all := lw_g (lw_at lw_m2 94 rfl) rfl
theorem q452 : (Jvm.Cond.fieldLink "UnimodularTables" (202 : Nat) "UnimodularTables" "scriptMany" "I") ∈ lw_all := lw_g (lw_at lw_m2 95 rfl) rfl
theorem q453 : (Jvm.Cond.fieldLink "UnimodularTables" (220 : Nat) "UnimodularTables" "table" "LUnimodularTables$Table;") ∈ lw_all := lw_g (lw_at lw_m2 96 rfl) rfl
theorem q454 : (Jvm.Cond.fieldLink "UnimodularTables" (56 : Nat) "UnimodularTables" "undos" "[LUnimodularTables$Back;") ∈ lw_all := lw_g (lw_at lw_m2 97 rfl) rfl
theorem q455 : (Jvm.Cond.fieldLink "UnimodularTables" (217 : Nat) "UnimodularTables" "undoMany" "I") ∈ lw_all := lw_g (lw_at lw_m2 98 rfl) rfl
theorem q456 : (Jvm.Cond.fieldLink "UnimodularTables" (63 : Nat) "UnimodularTables" "kept" "Ljava/util/LinkedList;") ∈ lw_all := lw_g (lw_at lw_m2 99 rfl) rfl
theorem q457 : (Jvm.Cond.fieldLink "UnimodularTables" (67 : Nat) "UnimodularTables" "refused" "[I") ∈ lw_all := lw_g (lw_at lw_m2 100 rfl) rfl
theorem q458 : (Jvm.Cond.fieldLink "UnimodularTables" (70 : Nat) "UnimodularTables" "dets" "[I") ∈ lw_all := lw_g (lw_at lw_m2 101 rfl) rfl
theorem q459 : (Jvm.Cond.fieldLink "UnimodularTables" (73 : Nat) "UnimodularTables" "trialDets" "[I") ∈ lw_all := lw_g (lw_at lw_m2 102 rfl) rfl
theorem q460 : (Jvm.Cond.fieldLink "UnimodularTables" (223 : Nat) "UnimodularTables" "isLaid" "Z") ∈ lw_all := lw_g (lw_at lw_m2 103 rfl) rfl
theorem q461 : (Jvm.Cond.fieldLink "UnimodularTables" (362 : Nat) "UnimodularTables" "witnessRows" "I") ∈ lw_all := lw_g (lw_at lw_m2 104 rfl) rfl
theorem q462 : (Jvm.Cond.fieldLink "UnimodularTables" (365 : Nat) "UnimodularTables" "witnessColumns" "I") ∈ lw_all := lw_g (lw_at lw_m2 105 rfl) rfl
theorem q463 : (Jvm.Cond.fieldLink "UnimodularTables" (81 : Nat) "UnimodularTables" "sides" "[LUnimodularTables$Growth;") ∈ lw_all := lw_g (lw_at lw_m2 106 rfl) rfl
theorem q464 : (Jvm.Cond.fieldLink "UnimodularTables" (86 : Nat) "UnimodularTables" "signs" "[[I") ∈ lw_all := lw_g (lw_at lw_m2 107 rfl) rfl
theorem q465 : (Jvm.Cond.fieldLink "UnimodularTables" (89 : Nat) "UnimodularTables" "distance" "[I") ∈ lw_all := lw_g (lw_at lw_m2 108 rfl) rfl
theorem q466 : (Jvm.Cond.fieldLink "UnimodularTables" (95 : Nat) "UnimodularTables" "waiting" "Ljava/util/ArrayDeque;") ∈ lw_all := lw_g (lw_at lw_m2 109 rfl) rfl
theorem q467 : (Jvm.Cond.fieldLink "UnimodularTables" (99 : Nat) "UnimodularTables" "rowSigns" "[I") ∈ lw_all := lw_g (lw_at lw_m2 110 rfl) rfl
theorem q468 : (Jvm.Cond.fieldLink "UnimodularTables" (102 : Nat) "UnimodularTables" "columnSigns" "[I") ∈ lw_all := lw_g (lw_at lw_m2 111 rfl) rfl
theorem q469 : (Jvm.Cond.fieldLink "UnimodularTables" (111 : Nat) "UnimodularTables" "tenOne" "LUnimodularTables$Table;") ∈ lw_all := lw_g (lw_at lw_m2 112 rfl) rfl
theorem q470 : (Jvm.Cond.fieldLink "UnimodularTables" (117 : Nat) "UnimodularTables" "tenOther" "LUnimodularTables$Table;") ∈ lw_all := lw_g (lw_at lw_m2 113 rfl) rfl
theorem q471 : (Jvm.Cond.fieldLink "UnimodularTables" (120 : Nat) "UnimodularTables" "blockRows" "[I") ∈ lw_all := lw_g (lw_at lw_m2 114 rfl) rfl
theorem q472 : (Jvm.Cond.fieldLink "UnimodularTables" (123 : Nat) "UnimodularTables" "blockColumns" "[I") ∈ lw_all := lw_g (lw_at lw_m2 115 rfl) rfl
theorem q473 : (Jvm.Cond.fieldLink "UnimodularTables" (503 : Nat) "UnimodularTables" "drawn" "J") ∈ lw_all := lw_g (lw_at lw_m2 116 rfl) rfl
theorem q474 : (Jvm.Cond.fieldLink "UnimodularTables" (529 : Nat) "UnimodularTables" "imageTable" "LUnimodularTables$Table;") ∈ lw_all := lw_g (lw_at lw_m2 117 rfl) rfl
theorem q475 : (Jvm.Cond.fieldLink "UnimodularTables" (536 : Nat) "UnimodularTables" "imageKept" "Ljava/util/LinkedList;") ∈ lw_all := lw_g (lw_at lw_m2 118 rfl) rfl
theorem q476 : (Jvm.Cond.laysFinal "UnimodularTables" "UnimodularTables" "turners" "[LUnimodularTables$Turner;") ∈ lw_all := lw_g (lw_at lw_m2 119 rfl) rfl
theorem q477 : (Jvm.Cond.soleField "UnimodularTables" "turners") ∈ lw_all := lw_g (lw_at lw_m2 120 rfl) rfl
theorem q478 : (Jvm.Cond.laysFinal "UnimodularTables" "UnimodularTables" "fault" "LUnimodularTables$Fault;") ∈ lw_all := lw_g (lw_at lw_m2 121 rfl) rfl
theorem q479 : (Jvm.Cond.soleField "UnimodularTables" "fault") ∈ lw_all := lw_g (lw_at lw_m2 122 rfl) rfl
theorem q480 : (Jvm.Cond.laysFinal "UnimodularTables" "UnimodularTables" "tape" "[B") ∈ lw_all := lw_g (lw_at lw_m2 123 rfl) rfl
theorem q481 : (Jvm.Cond.soleField "UnimodularTables" "tape") ∈ lw_all := lw_g (lw_at lw_m2 124 rfl) rfl
theorem q482 : (Jvm.Cond.lays "UnimodularTables" "UnimodularTables" "taped" "I") ∈ lw_all := lw_g (lw_at lw_m2 125 rfl) rfl
theorem q483 : (Jvm.Cond.soleField "UnimodularTables" "taped") ∈ lw_all := lw_g (lw_at lw_m2 126 rfl) rfl
theorem q484 : (Jvm.Cond.lays "UnimodularTables" "UnimodularTables" "place" "I") ∈ lw_all := lw_g (lw_at lw_m2 127 rfl) rfl
theorem q485 : (Jvm.Cond.soleField "UnimodularTables" "place") ∈ lw_all := lw_g (lw_at lw_m2 128 rfl) rfl
theorem q486 : (Jvm.Cond.laysFinal "UnimodularTables" "UnimodularTables" "readEntry" "[I") ∈ lw_all := lw_g (lw_at lw_m2 129 rfl) rfl
theorem q487 : (Jvm.Cond.soleField "UnimodularTables" "readEntry") ∈ lw_all := lw_g (lw_at lw_m2 130 rfl) rfl
theorem q488 : (Jvm.Cond.lays "UnimodularTables" "UnimodularTables" "readRows" "I") ∈ lw_all := lw_g (lw_at lw_m2 131 rfl) rfl
theorem q489 : (Jvm.Cond.soleField "UnimodularTables" "readRows") ∈ lw_all := lw_g (lw_at lw_m2 132 rfl) rfl
theorem q490 : (Jvm.Cond.lays "UnimodularTables" "UnimodularTables" "readColumns" "I") ∈ lw_all := lw_g (lw_at lw_m2 133 rfl) rfl
theorem q491 : (Jvm.Cond.soleField "UnimodularTables" "readColumns") ∈ lw_all := lw_g (lw_at lw_m2 134 rfl) rfl
theorem q492 : (Jvm.Cond.laysFinal "UnimodularTables" "UnimodularTables" "scripts" "[I") ∈ lw_all := lw_g (lw_at lw_m2 135 rfl) rfl
theorem q493 : (Jvm.Cond.soleField "UnimodularTables" "scripts") ∈ lw_all := lw_g (lw_at lw_m2 136 rfl) rfl
theorem q494 : (Jvm.Cond.laysFinal "UnimodularTables" "UnimodularTables" "scriptLong" "[I") ∈ lw_all := lw_g (lw_at lw_m2 137 rfl) rfl
theorem q495 : (Jvm.Cond.soleField "UnimodularTables" "scriptLong") ∈ lw_all := lw_g (lw_at lw_m2 138 rfl) rfl
theorem q496 : (Jvm.Cond.lays "UnimodularTables" "UnimodularTables" "scriptMany" "I") ∈ lw_all := lw_g (lw_at lw_m2 139 rfl) rfl
theorem q497 : (Jvm.Cond.soleField "UnimodularTables" "scriptMany") ∈ lw_all := lw_g (lw_at lw_m2 140 rfl) rfl
theorem q498 : (Jvm.Cond.lays "UnimodularTables" "UnimodularTables" "table" "LUnimodularTables$Table;") ∈ lw_all := lw_g (lw_at lw_m2 141 rfl) rfl
theorem q499 : (Jvm.Cond.soleField "UnimodularTables" "table") ∈ lw_all := lw_g (lw_at lw_m2 142 rfl) rfl
theorem q500 : (Jvm.Cond.laysFinal "UnimodularTables" "UnimodularTables" "undos" "[LUnimodularTables$Back;") ∈ lw_all := lw_g (lw_at lw_m2 143 rfl) rfl
theorem q501 : (Jvm.Cond.soleField "UnimodularTables" "undos") ∈ lw_all := lw_g (lw_at lw_m2 144 rfl) rfl
theorem q502 : (Jvm.Cond.lays "UnimodularTables" "UnimodularTables" "undoMany" "I") ∈ lw_all := lw_g (lw_at lw_m2 145 rfl) rfl
theorem q503 : (Jvm.Cond.soleField "UnimodularTables" "undoMany") ∈ lw_all := lw_g (lw_at lw_m2 146 rfl) rfl
theorem q504 : (Jvm.Cond.lays "UnimodularTables" "UnimodularTables" "kept" "Ljava/util/LinkedList;") ∈ lw_all := lw_g (lw_at lw_m2 147 rfl) rfl
theorem q505 : (Jvm.Cond.soleField "UnimodularTables" "kept") ∈ lw_all := lw_g (lw_at lw_m2 148 rfl) rfl
theorem q506 : (Jvm.Cond.laysFinal "UnimodularTables" "UnimodularTables" "refused" "[I") ∈ lw_all := lw_g (lw_at lw_m2 149 rfl) rfl
theorem q507 : (Jvm.Cond.soleField "UnimodularTables" "refused") ∈ lw_all := lw_g (lw_at lw_m2 150 rfl) rfl
theorem q508 : (Jvm.Cond.laysFinal "UnimodularTables" "UnimodularTables" "dets" "[I") ∈ lw_all := lw_g (lw_at lw_m2 151 rfl) rfl
theorem q509 : (Jvm.Cond.soleField "UnimodularTables" "dets") ∈ lw_all := lw_g (lw_at lw_m2 152 rfl) rfl
theorem q510 : (Jvm.Cond.laysFinal "UnimodularTables" "UnimodularTables" "trialDets" "[I") ∈ lw_all := lw_g (lw_at lw_m2 153 rfl) rfl
theorem q511 : (Jvm.Cond.soleField "UnimodularTables" "trialDets") ∈ lw_all := lw_g (lw_at lw_m2 154 rfl) rfl
theorem q512 : (Jvm.Cond.lays "UnimodularTables" "UnimodularTables" "isLaid" "Z") ∈ lw_all := lw_g (lw_at lw_m2 155 rfl) rfl
theorem q513 : (Jvm.Cond.soleField "UnimodularTables" "isLaid") ∈ lw_all := lw_g (lw_at lw_m2 156 rfl) rfl
theorem q514 : (Jvm.Cond.lays "UnimodularTables" "UnimodularTables" "witnessRows" "I") ∈ lw_all := lw_g (lw_at lw_m2 157 rfl) rfl
theorem q515 : (Jvm.Cond.soleField "UnimodularTables" "witnessRows") ∈ lw_all := lw_g (lw_at lw_m2 158 rfl) rfl
theorem q516 : (Jvm.Cond.lays "UnimodularTables" "UnimodularTables" "witnessColumns" "I") ∈ lw_all := lw_g (lw_at lw_m2 159 rfl) rfl
theorem q517 : (Jvm.Cond.soleField "UnimodularTables" "witnessColumns") ∈ lw_all := lw_g (lw_at lw_m2 160 rfl) rfl
theorem q518 : (Jvm.Cond.laysFinal "UnimodularTables" "UnimodularTables" "sides" "[LUnimodularTables$Growth;") ∈ lw_all := lw_g (lw_at lw_m2 161 rfl) rfl
theorem q519 : (Jvm.Cond.soleField "UnimodularTables" "sides") ∈ lw_all := lw_g (lw_at lw_m2 162 rfl) rfl
theorem q520 : (Jvm.Cond.laysFinal "UnimodularTables" "UnimodularTables" "signs" "[[I") ∈ lw_all := lw_g (lw_at lw_m2 163 rfl) rfl
theorem q521 : (Jvm.Cond.soleField "UnimodularTables" "signs") ∈ lw_all := lw_g (lw_at lw_m2 164 rfl) rfl
theorem q522 : (Jvm.Cond.laysFinal "UnimodularTables" "UnimodularTables" "distance" "[I") ∈ lw_all := lw_g (lw_at lw_m2 165 rfl) rfl
theorem q523 : (Jvm.Cond.soleField "UnimodularTables" "distance") ∈ lw_all := lw_g (lw_at lw_m2 166 rfl) rfl
theorem q524 : (Jvm.Cond.laysFinal "UnimodularTables" "UnimodularTables" "waiting" "Ljava/util/ArrayDeque;") ∈ lw_all := lw_g (lw_at lw_m2 167 rfl) rfl
theorem q525 : (Jvm.Cond.soleField "UnimodularTables" "waiting") ∈ lw_all := lw_g (lw_at lw_m2 168 rfl) rfl
theorem q526 : (Jvm.Cond.laysFinal "UnimodularTables" "UnimodularTables" "rowSigns" "[I") ∈ lw_all := lw_g (lw_at lw_m2 169 rfl) rfl
theorem q527 : (Jvm.Cond.soleField "UnimodularTables" "rowSigns") ∈ lw_all := lw_g (lw_at lw_m2 170 rfl) rfl
theorem q528 : (Jvm.Cond.laysFinal "UnimodularTables" "UnimodularTables" "columnSigns" "[I") ∈ lw_all := lw_g (lw_at lw_m2 171 rfl) rfl
theorem q529 : (Jvm.Cond.soleField "UnimodularTables" "columnSigns") ∈ lw_all := lw_g (lw_at lw_m2 172 rfl) rfl
theorem q530 : (Jvm.Cond.laysFinal "UnimodularTables" "UnimodularTables" "tenOne" "LUnimodularTables$Table;") ∈ lw_all := lw_g (lw_at lw_m2 173 rfl) rfl
theorem q531 : (Jvm.Cond.soleField "UnimodularTables" "tenOne") ∈ lw_all := lw_g (lw_at lw_m2 174 rfl) rfl
theorem q532 : (Jvm.Cond.laysFinal "UnimodularTables" "UnimodularTables" "tenOther" "LUnimodularTables$Table;") ∈ lw_all := lw_g (lw_at lw_m2 175 rfl) rfl
theorem q533 : (Jvm.Cond.soleField "UnimodularTables" "tenOther") ∈ lw_all := lw_g (lw_at lw_m2 176 rfl) rfl
theorem q534 : (Jvm.Cond.laysFinal "UnimodularTables" "UnimodularTables" "blockRows" "[I") ∈ lw_all := lw_g (lw_at lw_m2 177 rfl) rfl
theorem q535 : (Jvm.Cond.soleField "UnimodularTables" "blockRows") ∈ lw_all := lw_g (lw_at lw_m2 178 rfl) rfl
theorem q536 : (Jvm.Cond.laysFinal "UnimodularTables" "UnimodularTables" "blockColumns" "[I") ∈ lw_all := lw_g (lw_at lw_m2 179 rfl) rfl
theorem q537 : (Jvm.Cond.soleField "UnimodularTables" "blockColumns") ∈ lw_all := lw_g (lw_at lw_m2 180 rfl) rfl
theorem q538 : (Jvm.Cond.lays "UnimodularTables" "UnimodularTables" "drawn" "J") ∈ lw_all := lw_g (lw_at lw_m2 181 rfl) rfl
theorem q539 : (Jvm.Cond.soleField "UnimodularTables" "drawn") ∈ lw_all := lw_g (lw_at lw_m2 182 rfl) rfl
theorem q540 : (Jvm.Cond.lays "UnimodularTables" "UnimodularTables" "imageTable" "LUnimodularTables$Table;") ∈ lw_all := lw_g (lw_at lw_m2 183 rfl) rfl
theorem q541 : (Jvm.Cond.soleField "UnimodularTables" "imageTable") ∈ lw_all := lw_g (lw_at lw_m2 184 rfl) rfl
theorem q542 : (Jvm.Cond.lays "UnimodularTables" "UnimodularTables" "imageKept" "Ljava/util/LinkedList;") ∈ lw_all := lw_g (lw_at lw_m2 185 rfl) rfl
theorem q543 : (Jvm.Cond.soleField "UnimodularTables" "imageKept") ∈ lw_all := lw_g (lw_at lw_m2 186 rfl) rfl
theorem q544 : (Jvm.Cond.superclass "UnimodularTables" "java/lang/Object") ∈ lw_all := lw_g (lw_at lw_m2 187 rfl) rfl
theorem q546 : (Jvm.Cond.instanceMethod ({ cls := "UnimodularTables", name := "feed", desc := "(IIIII)I" } : Jvm.MethodName)) ∈ lw_all := lw_g (lw_at lw_m2 189 rfl) rfl
theorem q547 : (Jvm.Cond.selects "UnimodularTables" ({ cls := "UnimodularTables", name := "feed", desc := "(IIIII)I" } : Jvm.MethodName) ({ cls := "UnimodularTables", name := "feed", desc := "(IIIII)I" } : Jvm.MethodName)) ∈ lw_all := lw_g (lw_at lw_m2 190 rfl) rfl
theorem q548 : (Jvm.Cond.code ({ cls := "UnimodularTables", name := "feed", desc := "(IIIII)I" } : Jvm.MethodName) prog_1_method_11_code (9 : Nat) (Option.some Jvm.ClassFile.FieldType.int)) ∈ lw_all := lw_g (lw_at lw_m2 191 rfl) rfl
theorem q549 : (Jvm.Cond.methodLink "UnimodularTables" (142 : Nat) ({ cls := "UnimodularTables", name := "byteOf", desc := "(IIIIII)I" } : Jvm.MethodName)) ∈ lw_all := lw_g (lw_at lw_m2 192 rfl) rfl
theorem q550 : (Jvm.Cond.static ({ cls := "UnimodularTables", name := "byteOf", desc := "(IIIIII)I" } : Jvm.MethodName)) ∈ lw_all := lw_g (lw_at lw_m2 193 rfl) rfl
theorem q551 : (Jvm.Cond.code ({ cls := "UnimodularTables", name := "byteOf", desc := "(IIIIII)I" } : Jvm.MethodName) prog_1_method_10_code (7 : Nat) (Option.some Jvm.ClassFile.FieldType.int)) ∈ lw_all := lw_g (lw_at lw_m2 194 rfl) rfl
theorem q553 : (Jvm.Cond.instanceMethod ({ cls := "UnimodularTables", name := "end", desc := "(I)Z" } : Jvm.MethodName)) ∈ lw_all := lw_g (lw_at lw_m2 196 rfl) rfl
theorem q554 : (Jvm.Cond.selects "UnimodularTables" ({ cls := "UnimodularTables", name := "end", desc := "(I)Z" } : Jvm.MethodName) ({ cls := "UnimodularTables", name := "end", desc := "(I)Z" } : Jvm.MethodName)) ∈ lw_all := lw_g (lw_at lw_m2 197 rfl) rfl
theorem q555 : (Jvm.Cond.code ({ cls := "UnimodularTables", name := "end", desc := "(I)Z" } : Jvm.MethodName) prog_1_method_12_code (2 : Nat) (Option.some Jvm.ClassFile.FieldType.boolean)) ∈ lw_all := lw_g (lw_at lw_m2 198 rfl) rfl
theorem q556 : (Jvm.Cond.methodLink "UnimodularTables" (149 : Nat) ({ cls := "UnimodularTables", name := "in", desc := "(III)Z" } : Jvm.MethodName)) ∈ lw_all := lw_g (lw_at lw_m2 199 rfl) rfl
theorem q557 : (Jvm.Cond.static ({ cls := "UnimodularTables", name := "in", desc := "(III)Z" } : Jvm.MethodName)) ∈ lw_all := lw_g (lw_at lw_m2 200 rfl) rfl
theorem q558 : (Jvm.Cond.code ({ cls := "UnimodularTables", name := "in", desc := "(III)Z" } : Jvm.MethodName) prog_1_method_1_code (3 : Nat) (Option.some Jvm.ClassFile.FieldType.boolean)) ∈ lw_all := lw_g (lw_at lw_m2 201 rfl) rfl
theorem q560 : (Jvm.Cond.instanceMethod ({ cls := "UnimodularTables", name := "fault", desc := "(I)I" } : Jvm.MethodName)) ∈ lw_all := lw_g (lw_at lw_m2 203 rfl) rfl
theorem q561 : (Jvm.Cond.selects "UnimodularTables" ({ cls := "UnimodularTables", name := "fault", desc := "(I)I" } : Jvm.MethodName) ({ cls := "UnimodularTables", name := "fault", desc := "(I)I" } : Jvm.MethodName)) ∈ lw_all := lw_g (lw_at lw_m2 204 rfl) rfl
theorem q562 : (Jvm.Cond.codeWith ({ cls := "UnimodularTables", name := "fault", desc := "(I)I" } : Jvm.MethodName) prog_1_method_22_code (3 : Nat) (Option.some Jvm.ClassFile.FieldType.int) [((12 : Nat), (29 : Nat), (30 : Nat), (33 : Nat))]) ∈ lw_all := lw_g (lw_at lw_m2 205 rfl) rfl
theorem q563 : (Jvm.Cond.methodLink "UnimodularTables" (196 : Nat) ({ cls := "UnimodularTables", name := "wholeTable", desc := "()V" } : Jvm.MethodName)) ∈ lw_all := lw_g (lw_at lw_m2 206 rfl) rfl
theorem q564 : (Jvm.Cond.privateMethod ({ cls := "UnimodularTables", name := "wholeTable", desc := "()V" } : Jvm.MethodName)) ∈ lw_tbl := lw_at lw_m2 207 rfl
theorem q565 : (Jvm.Cond.instanceMethod ({ cls := "UnimodularTables", name := "wholeTable", desc := "()V" } : Jvm.MethodName)) ∈ lw_all := lw_g (lw_at lw_m2 208 rfl) rfl
theorem q566 : (Jvm.Cond.code ({ cls := "UnimodularTables", name := "wholeTable", desc := "()V" } : Jvm.MethodName) prog_1_method_18_code (1 : Nat) (Option.none : Option Jvm.ClassFile.FieldType)) ∈ lw_all := lw_g (lw_at lw_m2 209 rfl) rfl
theorem q567 : (Jvm.Cond.methodLink "UnimodularTables" (171 : Nat) ({ cls := "UnimodularTables", name := "rowRead", desc := "(I)I" } : Jvm.MethodName)) ∈ lw_all := lw_g (lw_at lw_m2 210 rfl) rfl
theorem q568 : (Jvm.Cond.privateMethod ({ cls := "UnimodularTables", name := "rowRead", desc := "(I)I" } : Jvm.MethodName)) ∈ lw_tbl := lw_at lw_m2 211 rfl
theorem q569 : (Jvm.Cond.instanceMethod ({ cls := "UnimodularTables", name := "rowRead", desc := "(I)I" } : Jvm.MethodName)) ∈ lw_all := lw_g (lw_at lw_m2 212 rfl) rfl
theorem q570 : (Jvm.Cond.code ({ cls := "UnimodularTables", name := "rowRead", desc := "(I)I" } : Jvm.MethodName) prog_1_method_17_code (3 : Nat) (Option.some Jvm.ClassFile.FieldType.int)) ∈ lw_all := lw_g (lw_at lw_m2 213 rfl) rfl
theorem q571 : (Jvm.Cond.methodLink "UnimodularTables" (156 : Nat) ({ cls := "UnimodularTables", name := "ahead", desc := "()I" } : Jvm.MethodName)) ∈ lw_all := lw_g (lw_at lw_m2 214 rfl) rfl
theorem q572 : (Jvm.Cond.privateMethod ({ cls := "UnimodularTables", name := "ahead", desc := "()I" } : Jvm.MethodName)) ∈ lw_tbl := lw_at lw_m2 215 rfl
theorem q573 : (Jvm.Cond.instanceMethod ({ cls := "UnimodularTables", name := "ahead", desc := "()I" } : Jvm.MethodName)) ∈ lw_all := lw_g (lw_at lw_m2 216 rfl) rfl
theorem q574 : (Jvm.Cond.code ({ cls := "UnimodularTables", name := "ahead", desc := "()I" } : Jvm.MethodName) prog_1_method_13_code (1 : Nat) (Option.some Jvm.ClassFile.FieldType.int)) ∈ lw_all := lw_g (lw_at lw_m2 217 rfl) rfl
theorem q575 : (Jvm.Cond.methodLink "UnimodularTables" (160 : Nat) ({ cls := "UnimodularTables", name := "isEntry", desc := "(I)Z" } : Jvm.MethodName)) ∈ lw_all := lw_g (lw_at lw_m2 218 rfl) rfl
theorem q576 : (Jvm.Cond.static ({ cls := "UnimodularTables", name := "isEntry", desc := "(I)Z" } : Jvm.MethodName)) ∈ lw_all := lw_g (lw_at lw_m2 219 rfl) rfl
theorem q577 : (Jvm.Cond.code ({ cls := "UnimodularTables", name := "isEntry", desc := "(I)Z" } : Jvm.MethodName) prog_1_method_15_code (1 : Nat) (Option.some Jvm.ClassFile.FieldType.boolean)) ∈ lw_all := lw_g (lw_at lw_m2 220 rfl) rfl
theorem q578 : (Jvm.Cond.methodLink "UnimodularTables" (177 : Nat) ({ cls := "UnimodularTables", name := "must", desc := "(Z)V" } : Jvm.MethodName)) ∈ lw_all := lw_g (lw_at lw_m2 221 rfl) rfl
theorem q579 : (Jvm.Cond.privateMethod ({ cls := "UnimodularTables", name := "must", desc := "(Z)V" } : Jvm.MethodName)) ∈ lw_tbl := lw_at lw_m2 222 rfl
theorem q580 : (Jvm.Cond.instanceMethod ({ cls := "UnimodularTables", name := "must", desc := "(Z)V" } : Jvm.MethodName)) ∈ lw_all := lw_g (lw_at lw_m2 223 rfl) rfl
theorem q581 : (Jvm.Cond.code ({ cls := "UnimodularTables", name := "must", desc := "(Z)V" } : Jvm.MethodName) prog_1_method_14_code (2 : Nat) (Option.none : Option Jvm.ClassFile.FieldType)) ∈ lw_all := lw_g (lw_at lw_m2 224 rfl) rfl
theorem q582 : (Jvm.Cond.methodLink "UnimodularTables" (199 : Nat) ({ cls := "UnimodularTables", name := "wholeScript", desc := "(I)V" } : Jvm.MethodName)) ∈ lw_all := lw_g (lw_at lw_m2 225 rfl) rfl
theorem q583 : (Jvm.Cond.privateMethod ({ cls := "UnimodularTables", name := "wholeScript", desc := "(I)V" } : Jvm.MethodName)) ∈ lw_tbl := lw_at lw_m2 226 rfl
theorem q584 : (Jvm.Cond.instanceMethod ({ cls := "UnimodularTables", name := "wholeScript", desc := "(I)V" } : Jvm.MethodName)) ∈ lw_all := lw_g (lw_at lw_m2 227 rfl) rfl
theorem q585 : (Jvm.Cond.code ({ cls := "UnimodularTables", name := "wholeScript", desc := "(I)V" } : Jvm.MethodName) prog_1_method_21_code (3 : Nat) (Option.none : Option Jvm.ClassFile.FieldType)) ∈ lw_all := lw_g (lw_at lw_m2 228 rfl) rfl
theorem q586 : (Jvm.Cond.methodLink "UnimodularTables" (192 : Nat) ({ cls := "UnimodularTables", name := "stepRead", desc := "(I)V" } : Jvm.MethodName)) ∈ lw_all := lw_g (lw_at lw_m2 229 rfl) rfl
theorem q587 : (Jvm.Cond.privateMethod ({ cls := "UnimodularTables", name := "stepRead", desc := "(I)V" } : Jvm.MethodName)) ∈ lw_tbl := lw_at lw_m2 230 rfl
theorem q588 : (Jvm.Cond.instanceMethod ({ cls := "UnimodularTables", name := "stepRead", desc := "(I)V" } : Jvm.MethodName)) ∈ lw_all := lw_g (lw_at lw_m2 231 rfl) rfl
theorem q589 : (Jvm.Cond.code ({ cls := "UnimodularTables", name := "stepRead", desc := "(I)V" } : Jvm.MethodName) prog_1_method_20_code (3 : Nat) (Option.none : Option Jvm.ClassFile.FieldType)) ∈ lw_all := lw_g (lw_at lw_m2 232 rfl) rfl
theorem q590 : (Jvm.Cond.stringRef "UnimodularTables" (181 : Nat) "rcxypte") ∈ lw_tbl := lw_at lw_m2 233 rfl
theorem q591 : (Jvm.Cond.methodLink "UnimodularTables" (183 : Nat) ({ cls := "java/lang/String", name := "indexOf", desc := "(I)I" } : Jvm.MethodName)) ∈ lw_all := lw_g (lw_at lw_m2 234 rfl) rfl
theorem q657 : (Jvm.Cond.constant "UnimodularTables" (188 : Nat) (-1000000 : Int32)) ∈ lw_all := lw_g (lw_at lw_m3 60 rfl) rfl
theorem q658 : (Jvm.Cond.methodLink "UnimodularTables" (189 : Nat) ({ cls := "UnimodularTables", name := "digit", desc := "()I" } : Jvm.MethodName)) ∈ lw_all := lw_g (lw_at lw_m3 61 rfl) rfl
theorem q659 : (Jvm.Cond.privateMethod ({ cls := "UnimodularTables", name := "digit", desc := "()I" } : Jvm.MethodName)) ∈ lw_tbl := lw_at lw_m3 62 rfl
theorem q660 : (Jvm.Cond.instanceMethod ({ cls := "UnimodularTables", name := "digit", desc := "()I" } : Jvm.MethodName)) ∈ lw_all := lw_g (lw_at lw_m3 63 rfl) rfl
theorem q661 : (Jvm.Cond.code ({ cls := "UnimodularTables", name := "digit", desc := "()I" } : Jvm.MethodName) prog_1_method_19_code (2 : Nat) (Option.some Jvm.ClassFile.FieldType.int)) ∈ lw_all := lw_g (lw_at lw_m3 64 rfl) rfl
theorem q663 : (Jvm.Cond.instanceMethod ({ cls := "UnimodularTables", name := "text", desc := "(I)I" } : Jvm.MethodName)) ∈ lw_all := lw_g (lw_at lw_m3 66 rfl) rfl
theorem q664 : (Jvm.Cond.selects "UnimodularTables" ({ cls := "UnimodularTables", name := "text", desc := "(I)I" } : Jvm.MethodName) ({ cls := "UnimodularTables", name := "text", desc := "(I)I" } : Jvm.MethodName)) ∈ lw_all := lw_g (lw_at lw_m3 67 rfl) rfl
theorem q665 : (Jvm.Cond.code ({ cls := "UnimodularTables", name := "text", desc := "(I)I" } : Jvm.MethodName) prog_1_method_25_code (2 : Nat) (Option.some Jvm.ClassFile.FieldType.int)) ∈ lw_all := lw_g (lw_at lw_m3 68 rfl) rfl
theorem q666 : (Jvm.Cond.methodLink "UnimodularTables" (205 : Nat) ({ cls := "UnimodularTables", name := "scriptRead", desc := "()I" } : Jvm.MethodName)) ∈ lw_all := lw_g (lw_at lw_m3 69 rfl) rfl
theorem q667 : (Jvm.Cond.privateMethod ({ cls := "UnimodularTables", name := "scriptRead", desc := "()I" } : Jvm.MethodName)) ∈ lw_tbl := lw_at lw_m3 70 rfl
theorem q668 : (Jvm.Cond.instanceMethod ({ cls := "UnimodularTables", name := "scriptRead", desc := "()I" } : Jvm.MethodName)) ∈ lw_all := lw_g (lw_at lw_m3 71 rfl) rfl
theorem q669 : (Jvm.Cond.codeWith ({ cls := "UnimodularTables", name := "scriptRead", desc := "()I" } : Jvm.MethodName) prog_1_method_23_code (2 : Nat) (Option.some Jvm.ClassFile.FieldType.int) [((10 : Nat), (18 : Nat), (21 : Nat), (33 : Nat))]) ∈ lw_all := lw_g (lw_at lw_m3 72 rfl) rfl
theorem q670 : (Jvm.Cond.methodLink "UnimodularTables" (208 : Nat) ({ cls := "UnimodularTables", name := "fault", desc := "(I)I" } : Jvm.MethodName)) ∈ lw_all := lw_g (lw_at lw_m3 73 rfl) rfl
theorem q671 : (Jvm.Cond.methodLink "UnimodularTables" (210 : Nat) ({ cls := "UnimodularTables", name := "readTable", desc := "()LUnimodularTables$Table;" } : Jvm.MethodName)) ∈ lw_all := lw_g (lw_at lw_m3 74 rfl) rfl
theorem q672 : (Jvm.Cond.privateMethod ({ cls := "UnimodularTables", name := "readTable", desc := "()LUnimodularTables$Table;" } : Jvm.MethodName)) ∈ lw_tbl := lw_at lw_m3 75 rfl
theorem q673 : (Jvm.Cond.instanceMethod ({ cls := "UnimodularTables", name := "readTable", desc := "()LUnimodularTables$Table;" } : Jvm.MethodName)) ∈ lw_all := lw_g (lw_at lw_m3 76 rfl) rfl
theorem q674 : (Jvm.Cond.code ({ cls := "UnimodularTables", name := "readTable", desc := "()LUnimodularTables$Table;" } : Jvm.MethodName) prog_1_method_24_code (4 : Nat) (Option.some (Jvm.ClassFile.FieldType.object "UnimodularTables$Table"))) ∈ lw_all := lw_g (lw_at lw_m3 77 rfl) rfl
theorem q675 : (Jvm.Cond.methodLink "UnimodularTables" (213 : Nat) ({ cls := "UnimodularTables", name := "become", desc := "(LUnimodularTables$Table;)V" } : Jvm.MethodName)) ∈ lw_all := lw_g (lw_at lw_m3 78 rfl) rfl
theorem q676 : (Jvm.Cond.privateMethod ({ cls := "UnimodularTables", name := "become", desc := "(LUnimodularTables$Table;)V" } : Jvm.MethodName)) ∈ lw_tbl := lw_at lw_m3 79 rfl
theorem q677 : (Jvm.Cond.instanceMethod ({ cls := "UnimodularTables", name := "become", desc := "(LUnimodularTables$Table;)V" } : Jvm.MethodName)) ∈ lw_all := lw_g (lw_at lw_m3 80 rfl) rfl
theorem q678 : (Jvm.Cond.code ({ cls := "UnimodularTables", name := "become", desc := "(LUnimodularTables$Table;)V" } : Jvm.MethodName) prog_1_method_26_code (2 : Nat) (Option.none : Option Jvm.ClassFile.FieldType)) ∈ lw_all := lw_g (lw_at lw_m3 81 rfl) rfl
theorem q680 : (Jvm.Cond.instanceMethod ({ cls := "UnimodularTables", name := "change", desc := "(III)I" } : Jvm.MethodName)) ∈ lw_all := lw_g (lw_at lw_m3 83 rfl) rfl
theorem q681 : (Jvm.Cond.selects "UnimodularTables" ({ cls := "UnimodularTables", name := "change", desc := "(III)I" } : Jvm.MethodName) ({ cls := "UnimodularTables", name := "change", desc := "(III)I" } : Jvm.MethodName)) ∈ lw_all := lw_g (lw_at lw_m3 84 rfl) rfl
theorem q682 : (Jvm.Cond.code ({ cls := "UnimodularTables", name := "change", desc := "(III)I" } : Jvm.MethodName) prog_1_method_38_code (5 : Nat) (Option.some Jvm.ClassFile.FieldType.int)) ∈ lw_all := lw_g (lw_at lw_m3 85 rfl) rfl
theorem q683 : (Jvm.Cond.methodLink "UnimodularTables" (267 : Nat) ({ cls := "UnimodularTables", name := "whyNotSet", desc := "(LUnimodularTables$Table;III)I" } : Jvm.MethodName)) ∈ lw_all := lw_g (lw_at lw_m3 86 rfl) rfl
theorem q684 : (Jvm.Cond.static ({ cls := "UnimodularTables", name := "whyNotSet", desc := "(LUnimodularTables$Table;III)I" } : Jvm.MethodName)) ∈ lw_all := lw_g (lw_at lw_m3 87 rfl) rfl
theorem q685 : (Jvm.Cond.code ({ cls := "UnimodularTables", name := "whyNotSet", desc := "(LUnimodularTables$Table;III)I" } : Jvm.MethodName) prog_1_method_35_code (4 : Nat) (Option.some Jvm.ClassFile.FieldType.int)) ∈ lw_all := lw_g (lw_at lw_m3 88 rfl) rfl
theorem q686 : (Jvm.Cond.methodLink "UnimodularTables" (242 : Nat) ({ cls := "UnimodularTables", name := "isRow", desc := "(LUnimodularTables$Table;I)Z" } : Jvm.MethodName)) ∈ lw_all := lw_g (lw_at lw_m3 89 rfl) rfl
theorem q687 : (Jvm.Cond.static ({ cls := "UnimodularTables", name := "isRow", desc := "(LUnimodularTables$Table;I)Z" } : Jvm.MethodName)) ∈ lw_all := lw_g (lw_at lw_m3 90 rfl) rfl
theorem q688 : (Jvm.Cond.code ({ cls := "UnimodularTables", name := "isRow", desc := "(LUnimodularTables$Table;I)Z" } : Jvm.MethodName) prog_1_method_30_code (2 : Nat) (Option.some Jvm.ClassFile.FieldType.boolean)) ∈ lw_all := lw_g (lw_at lw_m3 91 rfl) rfl
theorem q689 : (Jvm.Cond.methodLink "UnimodularTables" (246 : Nat) ({ cls := "UnimodularTables", name := "isColumn", desc := "(LUnimodularTables$Table;I)Z" } : Jvm.MethodName)) ∈ lw_all := lw_g (lw_at lw_m3 92 rfl) rfl
theorem q690 : (Jvm.Cond.static ({ cls := "UnimodularTables", name := "isColumn", desc := "(LUnimodularTables$Table;I)Z" } : Jvm.MethodName)) ∈ lw_all := lw_g (lw_at lw_m3 93 rfl) rfl
theorem q691 : (Jvm.Cond.code ({ cls := "UnimodularTables", name := "isColumn", desc := "(LUnimodularTables$Table;I)Z" } : Jvm.MethodName) prog_1_method_31_code (2 : Nat) (Option.some Jvm.ClassFile.FieldType.boolean)) ∈ lw_all := lw_g (lw_at lw_m3 94 rfl) rfl
theorem q692 : (Jvm.Cond.methodLink "UnimodularTables" (271 : Nat) ({ cls := "UnimodularTables", name := "isRefused", desc := "(I)Z" } : Jvm.MethodName)) ∈ lw_all := lw_g (lw_at lw_m3 95 rfl) rfl
theorem q693 : (Jvm.Cond.privateMethod ({ cls := "UnimodularTables", name := "isRefused", desc := "(I)Z" } : Jvm.MethodName)) ∈ lw_tbl := lw_at lw_m3 96 rfl
theorem q694 : (Jvm.Cond.instanceMethod ({ cls := "UnimodularTables", name := "isRefused", desc := "(I)Z" } : Jvm.MethodName)) ∈ lw_all := lw_g (lw_at lw_m3 97 rfl) rfl
theorem q695 : (Jvm.Cond.code ({ cls := "UnimodularTables", name := "isRefused", desc := "(I)Z" } : Jvm.MethodName) prog_1_method_29_code (2 : Nat) (Option.some Jvm.ClassFile.FieldType.boolean)) ∈ lw_all := lw_g (lw_at lw_m3 98 rfl) rfl
theorem q696 : (Jvm.Cond.methodLink "UnimodularTables" (274 : Nat) ({ cls := "UnimodularTables", name := "setNow", desc := "(III)V" } : Jvm.MethodName)) ∈ lw_all := lw_g (lw_at lw_m3 99 rfl) rfl
theorem q697 : (Jvm.Cond.privateMethod ({ cls := "UnimodularTables", name := "setNow", desc := "(III)V" } : Jvm.MethodName)) ∈ lw_tbl := lw_at lw_m3 100 rfl
theorem q698 : (Jvm.Cond.instanceMethod ({ cls := "UnimodularTables", name := "setNow", desc := "(III)V" } : Jvm.MethodName)) ∈ lw_all := lw_g (lw_at lw_m3 101 rfl) rfl
theorem q699 : (Jvm.Cond.code ({ cls := "UnimodularTables", name := "setNow", desc := "(III)V" } : Jvm.MethodName) prog_1_method_37_code (6 : Nat) (Option.none : Option Jvm.ClassFile.FieldType)) ∈ lw_all := lw_g (lw_at lw_m3 102 rfl) rfl
theorem q700 : (Jvm.Cond.privateMethod ({ cls := "UnimodularTables", name := "lambda$setNow$2", desc := "(LUnimodularTables$Table;III)V" } : Jvm.MethodName)) ∈ lw_tbl := lw_at lw_m3 103 rfl
theorem q701 : (Jvm.Cond.instanceMethod ({ cls := "UnimodularTables", name := "lambda$setNow$2", desc := "(LUnimodularTables$Table;III)V" } : Jvm.MethodName)) ∈ lw_all := lw_g (lw_at lw_m3 104 rfl) rfl
theorem q702 : (Jvm.Cond.code ({ cls := "UnimodularTables", name := "lambda$setNow$2", desc := "(LUnimodularTables$Table;III)V" } : Jvm.MethodName) prog_1_method_122_code (5 : Nat) (Option.none : Option Jvm.ClassFile.FieldType)) ∈ lw_all := lw_g (lw_at lw_m3 105 rfl) rfl
theorem q703 : (Jvm.Cond.methodLink "UnimodularTables" (238 : Nat) ({ cls := "UnimodularTables", name := "did", desc := "(LUnimodularTables$Back;)V" } : Jvm.MethodName)) ∈ lw_all := lw_g (lw_at lw_m3 106 rfl) rfl
theorem q704 : (Jvm.Cond.privateMethod ({ cls := "UnimodularTables", name := "did", desc := "(LUnimodularTables$Back;)V" } : Jvm.MethodName)) ∈ lw_tbl := lw_at lw_m3 107 rfl
theorem q705 : (Jvm.Cond.instanceMethod ({ cls := "UnimodularTables", name := "did", desc := "(LUnimodularTables$Back;)V" } : Jvm.MethodName)) ∈ lw_all := lw_g (lw_at lw_m3 108 rfl) rfl
theorem q706 : (Jvm.Cond.code ({ cls := "UnimodularTables", name := "did", desc := "(LUnimodularTables$Back;)V" } : Jvm.MethodName) prog_1_method_27_code (2 : Nat) (Option.none : Option Jvm.ClassFile.FieldType)) ∈ lw_all := lw_g (lw_at lw_m3 109 rfl) rfl
theorem q707 : (Jvm.Cond.methodLink "UnimodularTables" (228 : Nat) ({ cls := "java/lang/System", name := "arraycopy", desc := "(Ljava/lang/Object;ILjava/lang/Object;II)V" } : Jvm.MethodName)) ∈ lw_all := lw_g (lw_at lw_m3 110 rfl) rfl
theorem q711 : (Jvm.Cond.instanceMethod ({ cls := "UnimodularTables", name := "deal", desc := "(III)I" } : Jvm.MethodName)) ∈ lw_all := lw_g (lw_at lw_m3 114 rfl) rfl
theorem q712 : (Jvm.Cond.selects "UnimodularTables" ({ cls := "UnimodularTables", name := "deal", desc := "(III)I" } : Jvm.MethodName) ({ cls := "UnimodularTables", name := "deal", desc := "(III)I" } : Jvm.MethodName)) ∈ lw_all := lw_g (lw_at lw_m3 115 rfl) rfl
theorem q713 : (Jvm.Cond.code ({ cls := "UnimodularTables", name := "deal", desc := "(III)I" } : Jvm.MethodName) prog_1_method_39_code (4 : Nat) (Option.some Jvm.ClassFile.FieldType.int)) ∈ lw_all := lw_g (lw_at lw_m3 116 rfl) rfl
theorem q714 : (Jvm.Cond.methodLink "UnimodularTables" (278 : Nat) ({ cls := "UnimodularTables", name := "whyNot", desc := "(LUnimodularTables$Table;III)I" } : Jvm.MethodName)) ∈ lw_all := lw_g (lw_at lw_m3 117 rfl) rfl
theorem q715 : (Jvm.Cond.privateMethod ({ cls := "UnimodularTables", name := "whyNot", desc := "(LUnimodularTables$Table;III)I" } : Jvm.MethodName)) ∈ lw_tbl := lw_at lw_m3 118 rfl
theorem q716 : (Jvm.Cond.instanceMethod ({ cls := "UnimodularTables", name := "whyNot", desc := "(LUnimodularTables$Table;III)I" } : Jvm.MethodName)) ∈ lw_all := lw_g (lw_at lw_m3 119 rfl) rfl
theorem q717 : (Jvm.Cond.code ({ cls := "UnimodularTables", name := "whyNot", desc := "(LUnimodularTables$Table;III)I" } : Jvm.MethodName) prog_1_method_34_code (5 : Nat) (Option.some Jvm.ClassFile.FieldType.int)) ∈ lw_all := lw_g (lw_at lw_m3 120 rfl) rfl
theorem q718 : (Jvm.Cond.methodLink "UnimodularTables" (249 : Nat) ({ cls := "UnimodularTables", name := "areThere", desc := "(LUnimodularTables$Table;III)Z" } : Jvm.MethodName)) ∈ lw_all := lw_g (lw_at lw_m3 121 rfl) rfl
theorem q719 : (Jvm.Cond.static ({ cls := "UnimodularTables", name := "areThere", desc := "(LUnimodularTables$Table;III)Z" } : Jvm.MethodName)) ∈ lw_all := lw_g (lw_at lw_m3 122 rfl) rfl
theorem q720 : (Jvm.Cond.code ({ cls := "UnimodularTables", name := "areThere", desc := "(LUnimodularTables$Table;III)Z" } : Jvm.MethodName) prog_1_method_33_code (4 : Nat) (Option.some Jvm.ClassFile.FieldType.boolean)) ∈ lw_all := lw_g (lw_at lw_m3 123 rfl) rfl
theorem q721 : (Jvm.Cond.methodLink "UnimodularTables" (253 : Nat) ({ cls := "UnimodularTables", name := "turned", desc := "(LUnimodularTables$Table;II)LUnimodularTables$Table;" } : Jvm.MethodName)) ∈ lw_all := lw_g (lw_at lw_m3 124 rfl) rfl
theorem q722 : (Jvm.Cond.methodLink "UnimodularTables" (257 : Nat) ({ cls := "UnimodularTables", name := "isWithin", desc := "(LUnimodularTables$Table;)Z" } : Jvm.MethodName)) ∈ lw_all := lw_g (lw_at lw_m3 125 rfl) rfl
theorem q723 : (Jvm.Cond.static ({ cls := "UnimodularTables", name := "isWithin", desc := "(LUnimodularTables$Table;)Z" } : Jvm.MethodName)) ∈ lw_all := lw_g (lw_at lw_m3 126 rfl) rfl
theorem q724 : (Jvm.Cond.code ({ cls := "UnimodularTables", name := "isWithin", desc := "(LUnimodularTables$Table;)Z" } : Jvm.MethodName) prog_1_method_32_code (3 : Nat) (Option.some Jvm.ClassFile.FieldType.boolean)) ∈ lw_all := lw_g (lw_at lw_m3 127 rfl) rfl
theorem q725 : (Jvm.Cond.methodLink "UnimodularTables" (283 : Nat) ({ cls := "UnimodularTables", name := "act", desc := "(LUnimodularTables$Table;)V" } : Jvm.MethodName)) ∈ lw_all := lw_g (lw_at lw_m3 128 rfl) rfl
theorem q726 : (Jvm.Cond.privateMethod ({ cls := "UnimodularTables", name := "act", desc := "(LUnimodularTables$Table;)V" } : Jvm.MethodName)) ∈ lw_tbl := lw_at lw_m3 129 rfl
theorem q727 : (Jvm.Cond.instanceMethod ({ cls := "UnimodularTables", name := "act", desc := "(LUnimodularTables$Table;)V" } : Jvm.MethodName)) ∈ lw_all := lw_g (lw_at lw_m3 130 rfl) rfl
theorem q728 : (Jvm.Cond.code ({ cls := "UnimodularTables", name := "act", desc := "(LUnimodularTables$Table;)V" } : Jvm.MethodName) prog_1_method_28_code (3 : Nat) (Option.none : Option Jvm.ClassFile.FieldType)) ∈ lw_all := lw_g (lw_at lw_m3 131 rfl) rfl
theorem q729 : (Jvm.Cond.privateMethod ({ cls := "UnimodularTables", name := "lambda$act$1", desc := "(LUnimodularTables$Table;)V" } : Jvm.MethodName)) ∈ lw_tbl := lw_at lw_m3 132 rfl
theorem q730 : (Jvm.Cond.instanceMethod ({ cls := "UnimodularTables", name := "lambda$act$1", desc := "(LUnimodularTables$Table;)V" } : Jvm.MethodName)) ∈ lw_all := lw_g (lw_at lw_m3 133 rfl) rfl
theorem q731 : (Jvm.Cond.code ({ cls := "UnimodularTables", name := "lambda$act$1", desc := "(LUnimodularTables$Table;)V" } : Jvm.MethodName) prog_1_method_123_code (2 : Nat) (Option.none : Option Jvm.ClassFile.FieldType)) ∈ lw_all := lw_g (lw_at lw_m3 134 rfl) rfl
theorem q733 : (Jvm.Cond.instanceMethod ({ cls := "UnimodularTables", name := "keep", desc := "()I" } : Jvm.MethodName)) ∈ lw_all := lw_g (lw_at lw_m3 136 rfl) rfl
theorem q734 : (Jvm.Cond.selects "UnimodularTables" ({ cls := "UnimodularTables", name := "keep", desc := "()I" } : Jvm.MethodName) ({ cls := "UnimodularTables", name := "keep", desc := "()I" } : Jvm.MethodName)) ∈ lw_all := lw_g (lw_at lw_m3 137 rfl) rfl
theorem q735 : (Jvm.Cond.code ({ cls := "UnimodularTables", name := "keep", desc := "()I" } : Jvm.MethodName) prog_1_method_40_code (1 : Nat) (Option.some Jvm.ClassFile.FieldType.int)) ∈ lw_all := lw_g (lw_at lw_m3 138 rfl) rfl
theorem q736 : (Jvm.Cond.methodLink "UnimodularTables" (286 : Nat) ({ cls := "java/util/LinkedList", name := "size", desc := "()I" } : Jvm.MethodName)) ∈ lw_all := lw_g (lw_at lw_m3 139 rfl) rfl
theorem q740 : (Jvm.Cond.methodLink "UnimodularTables" (289 : Nat) ({ cls := "java/util/LinkedList", name := "addLast", desc := "(Ljava/lang/Object;)V" } : Jvm.MethodName)) ∈ lw_all := lw_g (lw_at lw_m3 143 rfl) rfl
theorem q771 : (Jvm.Cond.instanceMethod ({ cls := "UnimodularTables", name := "kept", desc := "(III)I" } : Jvm.MethodName)) ∈ lw_all := lw_g (lw_at lw_m3 174 rfl) rfl
theorem q772 : (Jvm.Cond.selects "UnimodularTables" ({ cls := "UnimodularTables", name := "kept", desc := "(III)I" } : Jvm.MethodName) ({ cls := "UnimodularTables", name := "kept", desc := "(III)I" } : Jvm.MethodName)) ∈ lw_all := lw_g (lw_at lw_m3 175 rfl) rfl
theorem q773 : (Jvm.Cond.code ({ cls := "UnimodularTables", name := "kept", desc := "(III)I" } : Jvm.MethodName) prog_1_method_42_code (5 : Nat) (Option.some Jvm.ClassFile.FieldType.int)) ∈ lw_all := lw_g (lw_at lw_m3 176 rfl) rfl
theorem q774 : (Jvm.Cond.methodLink "UnimodularTables" (293 : Nat) ({ cls := "UnimodularTables", name := "isKept", desc := "(I)Z" } : Jvm.MethodName)) ∈ lw_all := lw_g (lw_at lw_m3 177 rfl) rfl
theorem q775 : (Jvm.Cond.privateMethod ({ cls := "UnimodularTables", name := "isKept", desc := "(I)Z" } : Jvm.MethodName)) ∈ lw_tbl := lw_at lw_m3 178 rfl
theorem q776 : (Jvm.Cond.instanceMethod ({ cls := "UnimodularTables", name := "isKept", desc := "(I)Z" } : Jvm.MethodName)) ∈ lw_all := lw_g (lw_at lw_m3 179 rfl) rfl
theorem q777 : (Jvm.Cond.code ({ cls := "UnimodularTables", name := "isKept", desc := "(I)Z" } : Jvm.MethodName) prog_1_method_41_code (2 : Nat) (Option.some Jvm.ClassFile.FieldType.boolean)) ∈ lw_all := lw_g (lw_at lw_m3 180 rfl) rfl
theorem q778 : (Jvm.Cond.methodLink "UnimodularTables" (296 : Nat) ({ cls := "java/util/LinkedList", name := "get", desc := "(I)Ljava/lang/Object;" } : Jvm.MethodName)) ∈ lw_all := lw_g (lw_at lw_m3 181 rfl) rfl
theorem q795 : (Jvm.Cond.instanceMethod ({ cls := "UnimodularTables", name := "join", desc := "(III)I" } : Jvm.MethodName)) ∈ lw_all := lw_g (lw_at lw_m3 198 rfl) rfl
theorem q796 : (Jvm.Cond.selects "UnimodularTables" ({ cls := "UnimodularTables", name := "join", desc := "(III)I" } : Jvm.MethodName) ({ cls := "UnimodularTables", name := "join", desc := "(III)I" } : Jvm.MethodName)) ∈ lw_all := lw_g (lw_at lw_m3 199 rfl) rfl
theorem q797 : (Jvm.Cond.code ({ cls := "UnimodularTables", name := "join", desc := "(III)I" } : Jvm.MethodName) prog_1_method_46_code (4 : Nat) (Option.some Jvm.ClassFile.FieldType.int)) ∈ lw_all := lw_g (lw_at lw_m3 200 rfl) rfl
theorem q798 : (Jvm.Cond.methodLink "UnimodularTables" (300 : Nat) ({ cls := "UnimodularTables", name := "whyNotJoined", desc := "(III)I" } : Jvm.MethodName)) ∈ lw_all := lw_g (lw_at lw_m3 201 rfl) rfl
theorem q799 : (Jvm.Cond.privateMethod ({ cls := "UnimodularTables", name := "whyNotJoined", desc := "(III)I" } : Jvm.MethodName)) ∈ lw_tbl := lw_at lw_m3 202 rfl
theorem q800 : (Jvm.Cond.instanceMethod ({ cls := "UnimodularTables", name := "whyNotJoined", desc := "(III)I" } : Jvm.MethodName)) ∈ lw_all := lw_g (lw_at lw_m3 203 rfl) rfl
theorem q801 : (Jvm.Cond.code ({ cls := "UnimodularTables", name := "whyNotJoined", desc := "(III)I" } : Jvm.MethodName) prog_1_method_45_code (6 : Nat) (Option.some Jvm.ClassFile.FieldType.int)) ∈ lw_all := lw_g (lw_at lw_m3 204 rfl) rfl
theorem q802 : (Jvm.Cond.methodLink "UnimodularTables" (304 : Nat) ({ cls := "UnimodularTables", name := "joined", desc := "(LUnimodularTables$Table;LUnimodularTables$Table;)LUnimodularTables$Table;" } : Jvm.MethodName)) ∈ lw_all := lw_g (lw_at lw_m3 205 rfl) rfl
theorem q803 : (Jvm.Cond.static ({ cls := "UnimodularTables", name := "joined", desc := "(LUnimodularTables$Table;LUnimodularTables$Table;)LUnimodularTables$Table;" } : Jvm.MethodName)) ∈ lw_all := lw_g (lw_at lw_m3 206 rfl) rfl
theorem q804 : (Jvm.Cond.code ({ cls := "UnimodularTables", name := "joined", desc := "(LUnimodularTables$Table;LUnimodularTables$Table;)LUnimodularTables$Table;" } : Jvm.MethodName) prog_1_method_43_code (5 : Nat) (Option.some (Jvm.ClassFile.FieldType.object "UnimodularTables$Table"))) ∈ lw_all := lw_g (lw_at lw_m3 207 rfl) rfl
theorem q805 : (Jvm.Cond.methodLink "UnimodularTables" (308 : Nat) ({ cls := "UnimodularTables", name := "linked", desc := "(LUnimodularTables$Table;LUnimodularTables$Table;)LUnimodularTables$Table;" } : Jvm.MethodName)) ∈ lw_all := lw_g (lw_at lw_m3 208 rfl) rfl
theorem q806 : (Jvm.Cond.static ({ cls := "UnimodularTables", name := "linked", desc := "(LUnimodularTables$Table;LUnimodularTables$Table;)LUnimodularTables$Table;" } : Jvm.MethodName)) ∈ lw_all := lw_g (lw_at lw_m3 209 rfl) rfl
theorem q807 : (Jvm.Cond.code ({ cls := "UnimodularTables", name := "linked", desc := "(LUnimodularTables$Table;LUnimodularTables$Table;)LUnimodularTables$Table;" } : Jvm.MethodName) prog_1_method_44_code (6 : Nat) (Option.some (Jvm.ClassFile.FieldType.object "UnimodularTables$Table"))) ∈ lw_all := lw_g (lw_at lw_m3 210 rfl) rfl
theorem q809 : (Jvm.Cond.instanceMethod ({ cls := "UnimodularTables", name := "undo", desc := "()I" } : Jvm.MethodName)) ∈ lw_all := lw_g (lw_at lw_m3 212 rfl) rfl
theorem q810 : (Jvm.Cond.selects "UnimodularTables" ({ cls := "UnimodularTables", name := "undo", desc := "()I" } : Jvm.MethodName) ({ cls := "UnimodularTables", name := "undo", desc := "()I" } : Jvm.MethodName)) ∈ lw_all := lw_g (lw_at lw_m3 213 rfl) rfl
theorem q811 : (Jvm.Cond.code ({ cls := "UnimodularTables", name := "undo", desc := "()I" } : Jvm.MethodName) prog_1_method_47_code (1 : Nat) (Option.some Jvm.ClassFile.FieldType.int)) ∈ lw_all := lw_g (lw_at lw_m3 214 rfl) rfl
theorem q812 : (Jvm.Cond.interfaceEntry "UnimodularTables" (311 : Nat)) ∈ lw_tbl := lw_at lw_m3 215 rfl
theorem q813 : (Jvm.Cond.methodLink "UnimodularTables" (311 : Nat) ({ cls := "UnimodularTables$Back", name := "goes", desc := "()V" } : Jvm.MethodName)) ∈ lw_all := lw_g (lw_at lw_m3 216 rfl) rfl
theorem q817 : (Jvm.Cond.instanceMethod ({ cls := "UnimodularTables", name := "det", desc := "(II)I" } : Jvm.MethodName)) ∈ lw_all := lw_g (lw_at lw_m3 220 rfl) rfl
theorem q818 : (Jvm.Cond.selects "UnimodularTables" ({ cls := "UnimodularTables", name := "det", desc := "(II)I" } : Jvm.MethodName) ({ cls := "UnimodularTables", name := "det", desc := "(II)I" } : Jvm.MethodName)) ∈ lw_all := lw_g (lw_at lw_m3 221 rfl) rfl
theorem q819 : (Jvm.Cond.code ({ cls := "UnimodularTables", name := "det", desc := "(II)I" } : Jvm.MethodName) prog_1_method_55_code (3 : Nat) (Option.some Jvm.ClassFile.FieldType.int)) ∈ lw_all := lw_g (lw_at lw_m3 222 rfl) rfl
theorem q820 : (Jvm.Cond.methodLink "UnimodularTables" (325 : Nat) ({ cls := "UnimodularTables", name := "isSquare", desc := "(LUnimodularTables$Table;II)Z" } : Jvm.MethodName)) ∈ lw_all := lw_g (lw_at lw_m3 223 rfl) rfl
theorem q821 : (Jvm.Cond.static ({ cls := "UnimodularTables", name := "isSquare", desc := "(LUnimodularTables$Table;II)Z" } : Jvm.MethodName)) ∈ lw_all := lw_g (lw_at lw_m3 224 rfl) rfl
theorem q822 : (Jvm.Cond.code ({ cls := "UnimodularTables", name := "isSquare", desc := "(LUnimodularTables$Table;II)Z" } : Jvm.MethodName) prog_1_method_49_code (3 : Nat) (Option.some Jvm.ClassFile.FieldType.boolean)) ∈ lw_all := lw_g (lw_at lw_m3 225 rfl) rfl
theorem q823 : (Jvm.Cond.methodLink "UnimodularTables" (318 : Nat) ({ cls := "java/lang/Integer", name := "bitCount", desc := "(I)I" } : Jvm.MethodName)) ∈ lw_all := lw_g (lw_at lw_m3 226 rfl) rfl
theorem q829 : (Jvm.Cond.methodLink "UnimodularTables" (345 : Nat) ({ cls := "UnimodularTables", name := "detsNow", desc := "()[I" } : Jvm.MethodName)) ∈ lw_all := lw_g (lw_at lw_m3 232 rfl) rfl
theorem q830 : (Jvm.Cond.privateMethod ({ cls := "UnimodularTables", name := "detsNow", desc := "()[I" } : Jvm.MethodName)) ∈ lw_tbl := lw_at lw_m3 233 rfl
theorem q831 : (Jvm.Cond.instanceMethod ({ cls := "UnimodularTables", name := "detsNow", desc := "()[I" } : Jvm.MethodName)) ∈ lw_all := lw_g (lw_at lw_m3 234 rfl) rfl
theorem q832 : (Jvm.Cond.code ({ cls := "UnimodularTables", name := "detsNow", desc := "()[I" } : Jvm.MethodName) prog_1_method_53_code (1 : Nat) (Option.some (Jvm.ClassFile.FieldType.array Jvm.ClassFile.FieldType.int))) ∈ lw_all := lw_g (lw_at lw_m3 235 rfl) rfl
theorem q833 : (Jvm.Cond.methodLink "UnimodularTables" (334 : Nat) ({ cls := "UnimodularTables", name := "layDets", desc := "(LUnimodularTables$Table;[I)V" } : Jvm.MethodName)) ∈ lw_all := lw_g (lw_at lw_m3 236 rfl) rfl
theorem q834 : (Jvm.Cond.static ({ cls := "UnimodularTables", name := "layDets", desc := "(LUnimodularTables$Table;[I)V" } : Jvm.MethodName)) ∈ lw_all := lw_g (lw_at lw_m3 237 rfl) rfl
theorem q835 : (Jvm.Cond.code ({ cls := "UnimodularTables", name := "layDets", desc := "(LUnimodularTables$Table;[I)V" } : Jvm.MethodName) prog_1_method_48_code (8 : Nat) (Option.none : Option Jvm.ClassFile.FieldType)) ∈ lw_all := lw_g (lw_at lw_m3 238 rfl) rfl
theorem q836 : (Jvm.Cond.methodLink "UnimodularTables" (313 : Nat) ({ cls := "java/lang/Integer", name := "numberOfTrailingZeros", desc := "(I)I" } : Jvm.MethodName)) ∈ lw_all := lw_g (lw_at lw_m3 239 rfl) rfl
theorem q840 : (Jvm.Cond.methodLink "UnimodularTables" (321 : Nat) ({ cls := "UnimodularTables", name := "has", desc := "(II)Z" } : Jvm.MethodName)) ∈ lw_all := lw_g (lw_at lw_m4 3 rfl) rfl
theorem q841 : (Jvm.Cond.static ({ cls := "UnimodularTables", name := "has", desc := "(II)Z" } : Jvm.MethodName)) ∈ lw_all := lw_g (lw_at lw_m4 4 rfl) rfl
theorem q842 : (Jvm.Cond.code ({ cls := "UnimodularTables", name := "has", desc := "(II)Z" } : Jvm.MethodName) prog_1_method_2_code (2 : Nat) (Option.some Jvm.ClassFile.FieldType.boolean)) ∈ lw_all := lw_g (lw_at lw_m4 5 rfl) rfl
theorem q844 : (Jvm.Cond.instanceMethod ({ cls := "UnimodularTables", name := "squares", desc := "(II)I" } : Jvm.MethodName)) ∈ lw_all := lw_g (lw_at lw_m4 7 rfl) rfl
theorem q845 : (Jvm.Cond.selects "UnimodularTables" ({ cls := "UnimodularTables", name := "squares", desc := "(II)I" } : Jvm.MethodName) ({ cls := "UnimodularTables", name := "squares", desc := "(II)I" } : Jvm.MethodName)) ∈ lw_all := lw_g (lw_at lw_m4 8 rfl) rfl
theorem q846 : (Jvm.Cond.code ({ cls := "UnimodularTables", name := "squares", desc := "(II)I" } : Jvm.MethodName) prog_1_method_57_code (3 : Nat) (Option.some Jvm.ClassFile.FieldType.int)) ∈ lw_all := lw_g (lw_at lw_m4 9 rfl) rfl
theorem q847 : (Jvm.Cond.methodLink "UnimodularTables" (351 : Nat) ({ cls := "UnimodularTables", name := "asker", desc := "(I)LUnimodularTables$Asker;" } : Jvm.MethodName)) ∈ lw_all := lw_g (lw_at lw_m4 10 rfl) rfl
theorem q848 : (Jvm.Cond.static ({ cls := "UnimodularTables", name := "asker", desc := "(I)LUnimodularTables$Asker;" } : Jvm.MethodName)) ∈ lw_all := lw_g (lw_at lw_m4 11 rfl) rfl
theorem q849 : (Jvm.Cond.code ({ cls := "UnimodularTables", name := "asker", desc := "(I)LUnimodularTables$Asker;" } : Jvm.MethodName) prog_1_method_56_code (1 : Nat) (Option.some (Jvm.ClassFile.FieldType.object "UnimodularTables$Asker"))) ∈ lw_all := lw_g (lw_at lw_m4 12 rfl) rfl
theorem q850 : (Jvm.Cond.static ({ cls := "UnimodularTables", name := "lambda$asker$3", desc := "(I)Z" } : Jvm.MethodName)) ∈ lw_all := lw_g (lw_at lw_m4 13 rfl) rfl
theorem q851 : (Jvm.Cond.code ({ cls := "UnimodularTables", name := "lambda$asker$3", desc := "(I)Z" } : Jvm.MethodName) prog_1_method_121_code (1 : Nat) (Option.some Jvm.ClassFile.FieldType.boolean)) ∈ lw_all := lw_g (lw_at lw_m4 14 rfl) rfl
theorem q852 : (Jvm.Cond.static ({ cls := "UnimodularTables", name := "lambda$asker$4", desc := "(I)Z" } : Jvm.MethodName)) ∈ lw_all := lw_g (lw_at lw_m4 15 rfl) rfl
theorem q853 : (Jvm.Cond.code ({ cls := "UnimodularTables", name := "lambda$asker$4", desc := "(I)Z" } : Jvm.MethodName) prog_1_method_120_code (1 : Nat) (Option.some Jvm.ClassFile.FieldType.boolean)) ∈ lw_all := lw_g (lw_at lw_m4 16 rfl) rfl
theorem q854 : (Jvm.Cond.static ({ cls := "UnimodularTables", name := "isBeyond", desc := "(I)Z" } : Jvm.MethodName)) ∈ lw_all := lw_g (lw_at lw_m4 17 rfl) rfl
theorem q855 : (Jvm.Cond.code ({ cls := "UnimodularTables", name := "isBeyond", desc := "(I)Z" } : Jvm.MethodName) prog_1_method_51_code (1 : Nat) (Option.some Jvm.ClassFile.FieldType.boolean)) ∈ lw_all := lw_g (lw_at lw_m4 18 rfl) rfl
theorem q856 : (Jvm.Cond.methodLink "UnimodularTables" (341 : Nat) ({ cls := "UnimodularTables", name := "many", desc := "(LUnimodularTables$Table;[IILUnimodularTables$Asker;)I" } : Jvm.MethodName)) ∈ lw_all := lw_g (lw_at lw_m4 19 rfl) rfl
theorem q857 : (Jvm.Cond.static ({ cls := "UnimodularTables", name := "many", desc := "(LUnimodularTables$Table;[IILUnimodularTables$Asker;)I" } : Jvm.MethodName)) ∈ lw_all := lw_g (lw_at lw_m4 20 rfl) rfl
theorem q858 : (Jvm.Cond.code ({ cls := "UnimodularTables", name := "many", desc := "(LUnimodularTables$Table;[IILUnimodularTables$Asker;)I" } : Jvm.MethodName) prog_1_method_50_code (7 : Nat) (Option.some Jvm.ClassFile.FieldType.int)) ∈ lw_all := lw_g (lw_at lw_m4 21 rfl) rfl
theorem q859 : (Jvm.Cond.interfaceEntry "UnimodularTables" (329 : Nat)) ∈ lw_tbl := lw_at lw_m4 22 rfl
theorem q860 : (Jvm.Cond.methodLink "UnimodularTables" (329 : Nat) ({ cls := "UnimodularTables$Asker", name := "holds", desc := "(I)Z" } : Jvm.MethodName)) ∈ lw_all := lw_g (lw_at lw_m4 23 rfl) rfl
theorem q864 : (Jvm.Cond.instanceMethod ({ cls := "UnimodularTables", name := "total", desc := "()I" } : Jvm.MethodName)) ∈ lw_all := lw_g (lw_at lw_m4 27 rfl) rfl
theorem q865 : (Jvm.Cond.selects "UnimodularTables" ({ cls := "UnimodularTables", name := "total", desc := "()I" } : Jvm.MethodName) ({ cls := "UnimodularTables", name := "total", desc := "()I" } : Jvm.MethodName)) ∈ lw_all := lw_g (lw_at lw_m4 28 rfl) rfl
theorem q866 : (Jvm.Cond.code ({ cls := "UnimodularTables", name := "total", desc := "()I" } : Jvm.MethodName) prog_1_method_58_code (1 : Nat) (Option.some Jvm.ClassFile.FieldType.int)) ∈ lw_all := lw_g (lw_at lw_m4 29 rfl) rfl
theorem q867 : (Jvm.Cond.methodLink "UnimodularTables" (355 : Nat) ({ cls := "UnimodularTables", name := "isTotalNow", desc := "()Z" } : Jvm.MethodName)) ∈ lw_all := lw_g (lw_at lw_m4 30 rfl) rfl
theorem q868 : (Jvm.Cond.privateMethod ({ cls := "UnimodularTables", name := "isTotalNow", desc := "()Z" } : Jvm.MethodName)) ∈ lw_tbl := lw_at lw_m4 31 rfl
theorem q869 : (Jvm.Cond.instanceMethod ({ cls := "UnimodularTables", name := "isTotalNow", desc := "()Z" } : Jvm.MethodName)) ∈ lw_all := lw_g (lw_at lw_m4 32 rfl) rfl
theorem q870 : (Jvm.Cond.code ({ cls := "UnimodularTables", name := "isTotalNow", desc := "()Z" } : Jvm.MethodName) prog_1_method_54_code (1 : Nat) (Option.some Jvm.ClassFile.FieldType.boolean)) ∈ lw_all := lw_g (lw_at lw_m4 33 rfl) rfl
theorem q872 : (Jvm.Cond.instanceMethod ({ cls := "UnimodularTables", name := "witness", desc := "(I)I" } : Jvm.MethodName)) ∈ lw_all := lw_g (lw_at lw_m4 35 rfl) rfl
theorem q873 : (Jvm.Cond.selects "UnimodularTables" ({ cls := "UnimodularTables", name := "witness", desc := "(I)I" } : Jvm.MethodName) ({ cls := "UnimodularTables", name := "witness", desc := "(I)I" } : Jvm.MethodName)) ∈ lw_all := lw_g (lw_at lw_m4 36 rfl) rfl
theorem q874 : (Jvm.Cond.code ({ cls := "UnimodularTables", name := "witness", desc := "(I)I" } : Jvm.MethodName) prog_1_method_60_code (2 : Nat) (Option.some Jvm.ClassFile.FieldType.int)) ∈ lw_all := lw_g (lw_at lw_m4 37 rfl) rfl
theorem q875 : (Jvm.Cond.methodLink "UnimodularTables" (368 : Nat) ({ cls := "UnimodularTables", name := "layWitness", desc := "()Z" } : Jvm.MethodName)) ∈ lw_all := lw_g (lw_at lw_m4 38 rfl) rfl
theorem q876 : (Jvm.Cond.privateMethod ({ cls := "UnimodularTables", name := "layWitness", desc := "()Z" } : Jvm.MethodName)) ∈ lw_tbl := lw_at lw_m4 39 rfl
theorem q877 : (Jvm.Cond.instanceMethod ({ cls := "UnimodularTables", name := "layWitness", desc := "()Z" } : Jvm.MethodName)) ∈ lw_all := lw_g (lw_at lw_m4 40 rfl) rfl
theorem q878 : (Jvm.Cond.code ({ cls := "UnimodularTables", name := "layWitness", desc := "()Z" } : Jvm.MethodName) prog_1_method_59_code (4 : Nat) (Option.some Jvm.ClassFile.FieldType.boolean)) ∈ lw_all := lw_g (lw_at lw_m4 41 rfl) rfl
theorem q879 : (Jvm.Cond.methodLink "UnimodularTables" (359 : Nat) ({ cls := "UnimodularTables", name := "isBeyond", desc := "(I)Z" } : Jvm.MethodName)) ∈ lw_all := lw_g (lw_at lw_m4 42 rfl) rfl
theorem q881 : (Jvm.Cond.instanceMethod ({ cls := "UnimodularTables", name := "halves", desc := "(I)I" } : Jvm.MethodName)) ∈ lw_all := lw_g (lw_at lw_m4 44 rfl) rfl
theorem q882 : (Jvm.Cond.selects "UnimodularTables" ({ cls := "UnimodularTables", name := "halves", desc := "(I)I" } : Jvm.MethodName) ({ cls := "UnimodularTables", name := "halves", desc := "(I)I" } : Jvm.MethodName)) ∈ lw_all := lw_g (lw_at lw_m4 45 rfl) rfl
theorem q883 : (Jvm.Cond.code ({ cls := "UnimodularTables", name := "halves", desc := "(I)I" } : Jvm.MethodName) prog_1_method_63_code (2 : Nat) (Option.some Jvm.ClassFile.FieldType.int)) ∈ lw_all := lw_g (lw_at lw_m4 46 rfl) rfl
theorem q884 : (Jvm.Cond.methodLink "UnimodularTables" (374 : Nat) ({ cls := "UnimodularTables", name := "halvesOf", desc := "(I)I" } : Jvm.MethodName)) ∈ lw_all := lw_g (lw_at lw_m4 47 rfl) rfl
theorem q885 : (Jvm.Cond.privateMethod ({ cls := "UnimodularTables", name := "halvesOf", desc := "(I)I" } : Jvm.MethodName)) ∈ lw_tbl := lw_at lw_m4 48 rfl
theorem q886 : (Jvm.Cond.instanceMethod ({ cls := "UnimodularTables", name := "halvesOf", desc := "(I)I" } : Jvm.MethodName)) ∈ lw_all := lw_g (lw_at lw_m4 49 rfl) rfl
theorem q887 : (Jvm.Cond.code ({ cls := "UnimodularTables", name := "halvesOf", desc := "(I)I" } : Jvm.MethodName) prog_1_method_62_code (3 : Nat) (Option.some Jvm.ClassFile.FieldType.int)) ∈ lw_all := lw_g (lw_at lw_m4 50 rfl) rfl
theorem q888 : (Jvm.Cond.methodLink "UnimodularTables" (371 : Nat) ({ cls := "UnimodularTables", name := "doesHalve", desc := "(II)Z" } : Jvm.MethodName)) ∈ lw_all := lw_g (lw_at lw_m4 51 rfl) rfl
theorem q889 : (Jvm.Cond.privateMethod ({ cls := "UnimodularTables", name := "doesHalve", desc := "(II)Z" } : Jvm.MethodName)) ∈ lw_tbl := lw_at lw_m4 52 rfl
theorem q890 : (Jvm.Cond.instanceMethod ({ cls := "UnimodularTables", name := "doesHalve", desc := "(II)Z" } : Jvm.MethodName)) ∈ lw_all := lw_g (lw_at lw_m4 53 rfl) rfl
theorem q891 : (Jvm.Cond.code ({ cls := "UnimodularTables", name := "doesHalve", desc := "(II)Z" } : Jvm.MethodName) prog_1_method_61_code (6 : Nat) (Option.some Jvm.ClassFile.FieldType.boolean)) ∈ lw_all := lw_g (lw_at lw_m4 54 rfl) rfl
theorem q893 : (Jvm.Cond.instanceMethod ({ cls := "UnimodularTables", name := "unhalved", desc := "()I" } : Jvm.MethodName)) ∈ lw_all := lw_g (lw_at lw_m4 56 rfl) rfl
theorem q894 : (Jvm.Cond.selects "UnimodularTables" ({ cls := "UnimodularTables", name := "unhalved", desc := "()I" } : Jvm.MethodName) ({ cls := "UnimodularTables", name := "unhalved", desc := "()I" } : Jvm.MethodName)) ∈ lw_all := lw_g (lw_at lw_m4 57 rfl) rfl
theorem q895 : (Jvm.Cond.code ({ cls := "UnimodularTables", name := "unhalved", desc := "()I" } : Jvm.MethodName) prog_1_method_64_code (2 : Nat) (Option.some Jvm.ClassFile.FieldType.int)) ∈ lw_all := lw_g (lw_at lw_m4 58 rfl) rfl
theorem q897 : (Jvm.Cond.instanceMethod ({ cls := "UnimodularTables", name := "network", desc := "(I)I" } : Jvm.MethodName)) ∈ lw_all := lw_g (lw_at lw_m4 60 rfl) rfl
theorem q898 : (Jvm.Cond.selects "UnimodularTables" ({ cls := "UnimodularTables", name := "network", desc := "(I)I" } : Jvm.MethodName) ({ cls := "UnimodularTables", name := "network", desc := "(I)I" } : Jvm.MethodName)) ∈ lw_all := lw_g (lw_at lw_m4 61 rfl) rfl
theorem q899 : (Jvm.Cond.code ({ cls := "UnimodularTables", name := "network", desc := "(I)I" } : Jvm.MethodName) prog_1_method_66_code (2 : Nat) (Option.some Jvm.ClassFile.FieldType.int)) ∈ lw_all := lw_g (lw_at lw_m4 62 rfl) rfl
theorem q900 : (Jvm.Cond.methodLink "UnimodularTables" (383 : Nat) ({ cls := "UnimodularTables", name := "isGrown", desc := "(I)Z" } : Jvm.MethodName)) ∈ lw_all := lw_g (lw_at lw_m4 63 rfl) rfl
theorem q901 : (Jvm.Cond.privateMethod ({ cls := "UnimodularTables", name := "isGrown", desc := "(I)Z" } : Jvm.MethodName)) ∈ lw_tbl := lw_at lw_m4 64 rfl
theorem q902 : (Jvm.Cond.instanceMethod ({ cls := "UnimodularTables", name := "isGrown", desc := "(I)Z" } : Jvm.MethodName)) ∈ lw_all := lw_g (lw_at lw_m4 65 rfl) rfl
theorem q903 : (Jvm.Cond.code ({ cls := "UnimodularTables", name := "isGrown", desc := "(I)Z" } : Jvm.MethodName) prog_1_method_65_code (2 : Nat) (Option.some Jvm.ClassFile.FieldType.boolean)) ∈ lw_all := lw_g (lw_at lw_m4 66 rfl) rfl
theorem q904 : (Jvm.Cond.methodLink "UnimodularTables" (380 : Nat) ({ cls := "UnimodularTables$Growth", name := "lays", desc := "(LUnimodularTables$Table;)Z" } : Jvm.MethodName)) ∈ lw_all := lw_g (lw_at lw_m4 67 rfl) rfl
theorem q913 : (Jvm.Cond.privateMethod ({ cls := "UnimodularTables", name := "isTotal", desc := "(LUnimodularTables$Table;)Z" } : Jvm.MethodName)) ∈ lw_tbl := lw_at lw_m4 76 rfl
theorem q914 : (Jvm.Cond.instanceMethod ({ cls := "UnimodularTables", name := "isTotal", desc := "(LUnimodularTables$Table;)Z" } : Jvm.MethodName)) ∈ lw_all := lw_g (lw_at lw_m4 77 rfl) rfl
theorem q915 : (Jvm.Cond.code ({ cls := "UnimodularTables", name := "isTotal", desc := "(LUnimodularTables$Table;)Z" } : Jvm.MethodName) prog_1_method_52_code (2 : Nat) (Option.some Jvm.ClassFile.FieldType.boolean)) ∈ lw_all := lw_g (lw_at lw_m4 78 rfl) rfl
theorem q999 : (Jvm.Cond.instanceMethod ({ cls := "UnimodularTables", name := "arc", desc := "(III)I" } : Jvm.MethodName)) ∈ lw_all := lw_g (lw_at lw_m4 162 rfl) rfl
theorem q1000 : (Jvm.Cond.selects "UnimodularTables" ({ cls := "UnimodularTables", name := "arc", desc := "(III)I" } : Jvm.MethodName) ({ cls := "UnimodularTables", name := "arc", desc := "(III)I" } : Jvm.MethodName)) ∈ lw_all := lw_g (lw_at lw_m4 163 rfl) rfl
theorem q1001 : (Jvm.Cond.code ({ cls := "UnimodularTables", name := "arc", desc := "(III)I" } : Jvm.MethodName) prog_1_method_67_code (4 : Nat) (Option.some Jvm.ClassFile.FieldType.int)) ∈ lw_all := lw_g (lw_at lw_m4 164 rfl) rfl
theorem q1003 : (Jvm.Cond.instanceMethod ({ cls := "UnimodularTables", name := "way", desc := "(III)I" } : Jvm.MethodName)) ∈ lw_all := lw_g (lw_at lw_m4 166 rfl) rfl
theorem q1004 : (Jvm.Cond.selects "UnimodularTables" ({ cls := "UnimodularTables", name := "way", desc := "(III)I" } : Jvm.MethodName) ({ cls := "UnimodularTables", name := "way", desc := "(III)I" } : Jvm.MethodName)) ∈ lw_all := lw_g (lw_at lw_m4 167 rfl) rfl
theorem q1005 : (Jvm.Cond.code ({ cls := "UnimodularTables", name := "way", desc := "(III)I" } : Jvm.MethodName) prog_1_method_68_code (5 : Nat) (Option.some Jvm.ClassFile.FieldType.int)) ∈ lw_all := lw_g (lw_at lw_m4 168 rfl) rfl
theorem q1006 : (Jvm.Cond.methodLink "UnimodularTables" (394 : Nat) ({ cls := "UnimodularTables$Growth", name := "wayOf", desc := "(I)Ljava/util/LinkedList;" } : Jvm.MethodName)) ∈ lw_all := lw_g (lw_at lw_m4 169 rfl) rfl
theorem q1171 : (Jvm.Cond.selects "UnimodularTables" ({ cls := "java/lang/Object", name := "getClass", desc := "()Ljava/lang/Class;" } : Jvm.MethodName) ({ cls := "java/lang/Object", name := "getClass", desc := "()Ljava/lang/Class;" } : Jvm.MethodName)) ∈ lw_all := lw_g (lw_at lw_m5 94 rfl) rfl
theorem q1555 : (Jvm.Cond.classLink "UnimodularTables" (314 : Nat) "java/lang/Integer") ∈ lw_all := lw_g (lw_at lw_m6 238 rfl) rfl
theorem q1556 : (Jvm.Cond.methodLink "UnimodularTables" (398 : Nat) ({ cls := "java/lang/Integer", name := "intValue", desc := "()I" } : Jvm.MethodName)) ∈ lw_all := lw_g (lw_at lw_m6 239 rfl) rfl
theorem q1558 : (Jvm.Cond.instanceMethod ({ cls := "UnimodularTables", name := "signed", desc := "(II)I" } : Jvm.MethodName)) ∈ lw_all := lw_g (lw_at lw_m7 1 rfl) rfl
theorem q1559 : (Jvm.Cond.selects "UnimodularTables" ({ cls := "UnimodularTables", name := "signed", desc := "(II)I" } : Jvm.MethodName) ({ cls := "UnimodularTables", name := "signed", desc := "(II)I" } : Jvm.MethodName)) ∈ lw_all := lw_g (lw_at lw_m7 2 rfl) rfl
theorem q1560 : (Jvm.Cond.code ({ cls := "UnimodularTables", name := "signed", desc := "(II)I" } : Jvm.MethodName) prog_1_method_75_code (3 : Nat) (Option.some Jvm.ClassFile.FieldType.int)) ∈ lw_all := lw_g (lw_at lw_m7 3 rfl) rfl
theorem q1561 : (Jvm.Cond.methodLink "UnimodularTables" (428 : Nat) ({ cls := "UnimodularTables", name := "laySigns", desc := "()V" } : Jvm.MethodName)) ∈ lw_all := lw_g (lw_at lw_m7 4 rfl) rfl
theorem q1562 : (Jvm.Cond.privateMethod ({ cls := "UnimodularTables", name := "laySigns", desc := "()V" } : Jvm.MethodName)) ∈ lw_tbl := lw_at lw_m7 5 rfl
theorem q1563 : (Jvm.Cond.instanceMethod ({ cls := "UnimodularTables", name := "laySigns", desc := "()V" } : Jvm.MethodName)) ∈ lw_all := lw_g (lw_at lw_m7 6 rfl) rfl
theorem q1564 : (Jvm.Cond.code ({ cls := "UnimodularTables", name := "laySigns", desc := "()V" } : Jvm.MethodName) prog_1_method_74_code (3 : Nat) (Option.none : Option Jvm.ClassFile.FieldType)) ∈ lw_all := lw_g (lw_at lw_m7 7 rfl) rfl
theorem q1565 : (Jvm.Cond.methodLink "UnimodularTables" (422 : Nat) ({ cls := "UnimodularTables", name := "layForest", desc := "()V" } : Jvm.MethodName)) ∈ lw_all := lw_g (lw_at lw_m7 8 rfl) rfl
theorem q1566 : (Jvm.Cond.privateMethod ({ cls := "UnimodularTables", name := "layForest", desc := "()V" } : Jvm.MethodName)) ∈ lw_tbl := lw_at lw_m7 9 rfl
theorem q1567 : (Jvm.Cond.instanceMethod ({ cls := "UnimodularTables", name := "layForest", desc := "()V" } : Jvm.MethodName)) ∈ lw_all := lw_g (lw_at lw_m7 10 rfl) rfl
theorem q1568 : (Jvm.Cond.code ({ cls := "UnimodularTables", name := "layForest", desc := "()V" } : Jvm.MethodName) prog_1_method_71_code (3 : Nat) (Option.none : Option Jvm.ClassFile.FieldType)) ∈ lw_all := lw_g (lw_at lw_m7 11 rfl) rfl
theorem q1569 : (Jvm.Cond.methodLink "UnimodularTables" (416 : Nat) ({ cls := "UnimodularTables", name := "layDistances", desc := "(I)V" } : Jvm.MethodName)) ∈ lw_all := lw_g (lw_at lw_m7 12 rfl) rfl
theorem q1570 : (Jvm.Cond.privateMethod ({ cls := "UnimodularTables", name := "layDistances", desc := "(I)V" } : Jvm.MethodName)) ∈ lw_tbl := lw_at lw_m7 13 rfl
theorem q1571 : (Jvm.Cond.instanceMethod ({ cls := "UnimodularTables", name := "layDistances", desc := "(I)V" } : Jvm.MethodName)) ∈ lw_all := lw_g (lw_at lw_m7 14 rfl) rfl
theorem q1572 : (Jvm.Cond.code ({ cls := "UnimodularTables", name := "layDistances", desc := "(I)V" } : Jvm.MethodName) prog_1_method_70_code (4 : Nat) (Option.none : Option Jvm.ClassFile.FieldType)) ∈ lw_all := lw_g (lw_at lw_m7 15 rfl) rfl
theorem q1573 : (Jvm.Cond.constant "UnimodularTables" (401 : Nat) (1000000 : Int32)) ∈ lw_all := lw_g (lw_at lw_m7 16 rfl) rfl
theorem q1574 : (Jvm.Cond.methodLink "UnimodularTables" (402 : Nat) ({ cls := "java/lang/Integer", name := "valueOf", desc := "(I)Ljava/lang/Integer;" } : Jvm.MethodName)) ∈ lw_all := lw_g (lw_at lw_m7 17 rfl) rfl
theorem q1575 : (Jvm.Cond.methodLink "UnimodularTables" (405 : Nat) ({ cls := "java/util/ArrayDeque", name := "addLast", desc := "(Ljava/lang/Object;)V" } : Jvm.MethodName)) ∈ lw_all := lw_g (lw_at lw_m7 18 rfl) rfl
theorem q1602 : (Jvm.Cond.methodLink "UnimodularTables" (406 : Nat) ({ cls := "java/util/ArrayDeque", name := "isEmpty", desc := "()Z" } : Jvm.MethodName)) ∈ lw_all := lw_g (lw_at lw_m7 45 rfl) rfl
theorem q1606 : (Jvm.Cond.methodLink "UnimodularTables" (409 : Nat) ({ cls := "java/util/ArrayDeque", name := "removeFirst", desc := "()Ljava/lang/Object;" } : Jvm.MethodName)) ∈ lw_all := lw_g (lw_at lw_m7 49 rfl) rfl
theorem q1619 : (Jvm.Cond.methodLink "UnimodularTables" (413 : Nat) ({ cls := "UnimodularTables", name := "isTold", desc := "(II)Z" } : Jvm.MethodName)) ∈ lw_all := lw_g (lw_at lw_m7 62 rfl) rfl
theorem q1620 : (Jvm.Cond.privateMethod ({ cls := "UnimodularTables", name := "isTold", desc := "(II)Z" } : Jvm.MethodName)) ∈ lw_tbl := lw_at lw_m7 63 rfl
theorem q1621 : (Jvm.Cond.instanceMethod ({ cls := "UnimodularTables", name := "isTold", desc := "(II)Z" } : Jvm.MethodName)) ∈ lw_all := lw_g (lw_at lw_m7 64 rfl) rfl
theorem q1622 : (Jvm.Cond.code ({ cls := "UnimodularTables", name := "isTold", desc := "(II)Z" } : Jvm.MethodName) prog_1_method_69_code (3 : Nat) (Option.some Jvm.ClassFile.FieldType.boolean)) ∈ lw_all := lw_g (lw_at lw_m7 65 rfl) rfl
theorem q1623 : (Jvm.Cond.methodLink "UnimodularTables" (425 : Nat) ({ cls := "UnimodularTables", name := "tellNext", desc := "()Z" } : Jvm.MethodName)) ∈ lw_all := lw_g (lw_at lw_m7 66 rfl) rfl
theorem q1624 : (Jvm.Cond.privateMethod ({ cls := "UnimodularTables", name := "tellNext", desc := "()Z" } : Jvm.MethodName)) ∈ lw_tbl := lw_at lw_m7 67 rfl
theorem q1625 : (Jvm.Cond.instanceMethod ({ cls := "UnimodularTables", name := "tellNext", desc := "()Z" } : Jvm.MethodName)) ∈ lw_all := lw_g (lw_at lw_m7 68 rfl) rfl
theorem q1626 : (Jvm.Cond.code ({ cls := "UnimodularTables", name := "tellNext", desc := "()Z" } : Jvm.MethodName) prog_1_method_73_code (6 : Nat) (Option.some Jvm.ClassFile.FieldType.boolean)) ∈ lw_all := lw_g (lw_at lw_m7 69 rfl) rfl
theorem q1627 : (Jvm.Cond.methodLink "UnimodularTables" (419 : Nat) ({ cls := "UnimodularTables", name := "signsOnWay", desc := "(I)I" } : Jvm.MethodName)) ∈ lw_all := lw_g (lw_at lw_m7 70 rfl) rfl
theorem q1628 : (Jvm.Cond.privateMethod ({ cls := "UnimodularTables", name := "signsOnWay", desc := "(I)I" } : Jvm.MethodName)) ∈ lw_tbl := lw_at lw_m7 71 rfl
theorem q1629 : (Jvm.Cond.instanceMethod ({ cls := "UnimodularTables", name := "signsOnWay", desc := "(I)I" } : Jvm.MethodName)) ∈ lw_all := lw_g (lw_at lw_m7 72 rfl) rfl
theorem q1630 : (Jvm.Cond.code ({ cls := "UnimodularTables", name := "signsOnWay", desc := "(I)I" } : Jvm.MethodName) prog_1_method_72_code (5 : Nat) (Option.some Jvm.ClassFile.FieldType.int)) ∈ lw_all := lw_g (lw_at lw_m7 73 rfl) rfl
theorem q1632 : (Jvm.Cond.instanceMethod ({ cls := "UnimodularTables", name := "regular", desc := "()I" } : Jvm.MethodName)) ∈ lw_all := lw_g (lw_at lw_m7 75 rfl) rfl
theorem q1633 : (Jvm.Cond.selects "UnimodularTables" ({ cls := "UnimodularTables", name := "regular", desc := "()I" } : Jvm.MethodName) ({ cls := "UnimodularTables", name := "regular", desc := "()I" } : Jvm.MethodName)) ∈ lw_all := lw_g (lw_at lw_m7 76 rfl) rfl
theorem q1634 : (Jvm.Cond.code ({ cls := "UnimodularTables", name := "regular", desc := "()I" } : Jvm.MethodName) prog_1_method_76_code (4 : Nat) (Option.some Jvm.ClassFile.FieldType.int)) ∈ lw_all := lw_g (lw_at lw_m7 77 rfl) rfl
theorem q1635 : (Jvm.Cond.methodLink "UnimodularTables" (431 : Nat) ({ cls := "UnimodularTables", name := "isTotal", desc := "(LUnimodularTables$Table;)Z" } : Jvm.MethodName)) ∈ lw_all := lw_g (lw_at lw_m7 78 rfl) rfl
theorem q1637 : (Jvm.Cond.instanceMethod ({ cls := "UnimodularTables", name := "scaled", desc := "(I)I" } : Jvm.MethodName)) ∈ lw_all := lw_g (lw_at lw_m7 80 rfl) rfl
theorem q1638 : (Jvm.Cond.selects "UnimodularTables" ({ cls := "UnimodularTables", name := "scaled", desc := "(I)I" } : Jvm.MethodName) ({ cls := "UnimodularTables", name := "scaled", desc := "(I)I" } : Jvm.MethodName)) ∈ lw_all := lw_g (lw_at lw_m7 81 rfl) rfl
theorem q1639 : (Jvm.Cond.code ({ cls := "UnimodularTables", name := "scaled", desc := "(I)I" } : Jvm.MethodName) prog_1_method_81_code (5 : Nat) (Option.some Jvm.ClassFile.FieldType.int)) ∈ lw_all := lw_g (lw_at lw_m7 82 rfl) rfl
theorem q1640 : (Jvm.Cond.methodLink "UnimodularTables" (438 : Nat) ({ cls := "UnimodularTables", name := "order", desc := "([I)V" } : Jvm.MethodName)) ∈ lw_all := lw_g (lw_at lw_m7 83 rfl) rfl
theorem q1641 : (Jvm.Cond.static ({ cls := "UnimodularTables", name := "order", desc := "([I)V" } : Jvm.MethodName)) ∈ lw_all := lw_g (lw_at lw_m7 84 rfl) rfl
theorem q1642 : (Jvm.Cond.code ({ cls := "UnimodularTables", name := "order", desc := "([I)V" } : Jvm.MethodName) prog_1_method_80_code (2 : Nat) (Option.none : Option Jvm.ClassFile.FieldType)) ∈ lw_all := lw_g (lw_at lw_m7 85 rfl) rfl
theorem q1643 : (Jvm.Cond.methodLink "UnimodularTables" (442 : Nat) ({ cls := "UnimodularTables", name := "isLikePlaced", desc := "(LUnimodularTables$Table;[I[ILUnimodularTables$Table;)Z" } : Jvm.MethodName)) ∈ lw_all := lw_g (lw_at lw_m7 86 rfl) rfl
theorem q1644 : (Jvm.Cond.static ({ cls := "UnimodularTables", name := "isLikePlaced", desc := "(LUnimodularTables$Table;[I[ILUnimodularTables$Table;)Z" } : Jvm.MethodName)) ∈ lw_all := lw_g (lw_at lw_m7 87 rfl) rfl
theorem q1645 : (Jvm.Cond.code ({ cls := "UnimodularTables", name := "isLikePlaced", desc := "(LUnimodularTables$Table;[I[ILUnimodularTables$Table;)Z" } : Jvm.MethodName) prog_1_method_79_code (6 : Nat) (Option.some Jvm.ClassFile.FieldType.boolean)) ∈ lw_all := lw_g (lw_at lw_m7 88 rfl) rfl
theorem q1646 : (Jvm.Cond.methodLink "UnimodularTables" (446 : Nat) ({ cls := "UnimodularTables", name := "isScaled", desc := "(LUnimodularTables$Table;[I[ILUnimodularTables$Table;)Z" } : Jvm.MethodName)) ∈ lw_all := lw_g (lw_at lw_m7 89 rfl) rfl
theorem q1647 : (Jvm.Cond.privateMethod ({ cls := "UnimodularTables", name := "isScaled", desc := "(LUnimodularTables$Table;[I[ILUnimodularTables$Table;)Z" } : Jvm.MethodName)) ∈ lw_tbl := lw_at lw_m7 90 rfl
theorem q1648 : (Jvm.Cond.instanceMethod ({ cls := "UnimodularTables", name := "isScaled", desc := "(LUnimodularTables$Table;[I[ILUnimodularTables$Table;)Z" } : Jvm.MethodName)) ∈ lw_all := lw_g (lw_at lw_m7 91 rfl) rfl
theorem q1649 : (Jvm.Cond.code ({ cls := "UnimodularTables", name := "isScaled", desc := "(LUnimodularTables$Table;[I[ILUnimodularTables$Table;)Z" } : Jvm.MethodName) prog_1_method_78_code (9 : Nat) (Option.some Jvm.ClassFile.FieldType.boolean)) ∈ lw_all := lw_g (lw_at lw_m7 92 rfl) rfl
theorem q1650 : (Jvm.Cond.methodLink "UnimodularTables" (434 : Nat) ({ cls := "UnimodularTables", name := "spreads", desc := "(IIII)Z" } : Jvm.MethodName)) ∈ lw_all := lw_g (lw_at lw_m7 93 rfl) rfl
theorem q1651 : (Jvm.Cond.privateMethod ({ cls := "UnimodularTables", name := "spreads", desc := "(IIII)Z" } : Jvm.MethodName)) ∈ lw_tbl := lw_at lw_m7 94 rfl
theorem q1652 : (Jvm.Cond.instanceMethod ({ cls := "UnimodularTables", name := "spreads", desc := "(IIII)Z" } : Jvm.MethodName)) ∈ lw_all := lw_g (lw_at lw_m7 95 rfl) rfl
theorem q1653 : (Jvm.Cond.code ({ cls := "UnimodularTables", name := "spreads", desc := "(IIII)Z" } : Jvm.MethodName) prog_1_method_77_code (5 : Nat) (Option.some Jvm.ClassFile.FieldType.boolean)) ∈ lw_all := lw_g (lw_at lw_m7 96 rfl) rfl
theorem q1655 : (Jvm.Cond.instanceMethod ({ cls := "UnimodularTables", name := "special", desc := "()I" } : Jvm.MethodName)) ∈ lw_all := lw_g (lw_at lw_m7 98 rfl) rfl
theorem q1656 : (Jvm.Cond.selects "UnimodularTables" ({ cls := "UnimodularTables", name := "special", desc := "()I" } : Jvm.MethodName) ({ cls := "UnimodularTables", name := "special", desc := "()I" } : Jvm.MethodName)) ∈ lw_all := lw_g (lw_at lw_m7 99 rfl) rfl
theorem q1657 : (Jvm.Cond.code ({ cls := "UnimodularTables", name := "special", desc := "()I" } : Jvm.MethodName) prog_1_method_86_code (1 : Nat) (Option.some Jvm.ClassFile.FieldType.int)) ∈ lw_all := lw_g (lw_at lw_m7 100 rfl) rfl
theorem q1658 : (Jvm.Cond.methodLink "UnimodularTables" (461 : Nat) ({ cls := "UnimodularTables", name := "becomes", desc := "(LUnimodularTables$Table;)Z" } : Jvm.MethodName)) ∈ lw_all := lw_g (lw_at lw_m7 101 rfl) rfl
theorem q1659 : (Jvm.Cond.privateMethod ({ cls := "UnimodularTables", name := "becomes", desc := "(LUnimodularTables$Table;)Z" } : Jvm.MethodName)) ∈ lw_tbl := lw_at lw_m7 102 rfl
theorem q1660 : (Jvm.Cond.instanceMethod ({ cls := "UnimodularTables", name := "becomes", desc := "(LUnimodularTables$Table;)Z" } : Jvm.MethodName)) ∈ lw_all := lw_g (lw_at lw_m7 103 rfl) rfl
theorem q1661 : (Jvm.Cond.code ({ cls := "UnimodularTables", name := "becomes", desc := "(LUnimodularTables$Table;)Z" } : Jvm.MethodName) prog_1_method_85_code (6 : Nat) (Option.some Jvm.ClassFile.FieldType.boolean)) ∈ lw_all := lw_g (lw_at lw_m7 104 rfl) rfl
theorem q1662 : (Jvm.Cond.methodLink "UnimodularTables" (457 : Nat) ({ cls := "UnimodularTables", name := "goesOn", desc := "([I)Z" } : Jvm.MethodName)) ∈ lw_all := lw_g (lw_at lw_m7 105 rfl) rfl
theorem q1663 : (Jvm.Cond.static ({ cls := "UnimodularTables", name := "goesOn", desc := "([I)Z" } : Jvm.MethodName)) ∈ lw_all := lw_g (lw_at lw_m7 106 rfl) rfl
theorem q1664 : (Jvm.Cond.code ({ cls := "UnimodularTables", name := "goesOn", desc := "([I)Z" } : Jvm.MethodName) prog_1_method_82_code (5 : Nat) (Option.some Jvm.ClassFile.FieldType.boolean)) ∈ lw_all := lw_g (lw_at lw_m7 107 rfl) rfl
theorem q1665 : (Jvm.Cond.methodLink "UnimodularTables" (449 : Nat) ({ cls := "UnimodularTables", name := "swap", desc := "([III)V" } : Jvm.MethodName)) ∈ lw_all := lw_g (lw_at lw_m7 108 rfl) rfl
theorem q1666 : (Jvm.Cond.static ({ cls := "UnimodularTables", name := "swap", desc := "([III)V" } : Jvm.MethodName)) ∈ lw_all := lw_g (lw_at lw_m7 109 rfl) rfl
theorem q1667 : (Jvm.Cond.code ({ cls := "UnimodularTables", name := "swap", desc := "([III)V" } : Jvm.MethodName) prog_1_method_83_code (4 : Nat) (Option.none : Option Jvm.ClassFile.FieldType)) ∈ lw_all := lw_g (lw_at lw_m7 110 rfl) rfl
theorem q1669 : (Jvm.Cond.instanceMethod ({ cls := "UnimodularTables", name := "block", desc := "(II)I" } : Jvm.MethodName)) ∈ lw_all := lw_g (lw_at lw_m7 112 rfl) rfl
theorem q1670 : (Jvm.Cond.selects "UnimodularTables" ({ cls := "UnimodularTables", name := "block", desc := "(II)I" } : Jvm.MethodName) ({ cls := "UnimodularTables", name := "block", desc := "(II)I" } : Jvm.MethodName)) ∈ lw_all := lw_g (lw_at lw_m7 113 rfl) rfl
theorem q1671 : (Jvm.Cond.code ({ cls := "UnimodularTables", name := "block", desc := "(II)I" } : Jvm.MethodName) prog_1_method_89_code (4 : Nat) (Option.some Jvm.ClassFile.FieldType.int)) ∈ lw_all := lw_g (lw_at lw_m7 114 rfl) rfl
theorem q1672 : (Jvm.Cond.methodLink "UnimodularTables" (467 : Nat) ({ cls := "UnimodularTables", name := "layBlocks", desc := "()I" } : Jvm.MethodName)) ∈ lw_all := lw_g (lw_at lw_m7 115 rfl) rfl
theorem q1673 : (Jvm.Cond.privateMethod ({ cls := "UnimodularTables", name := "layBlocks", desc := "()I" } : Jvm.MethodName)) ∈ lw_tbl := lw_at lw_m7 116 rfl
theorem q1674 : (Jvm.Cond.instanceMethod ({ cls := "UnimodularTables", name := "layBlocks", desc := "()I" } : Jvm.MethodName)) ∈ lw_all := lw_g (lw_at lw_m7 117 rfl) rfl
theorem q1675 : (Jvm.Cond.code ({ cls := "UnimodularTables", name := "layBlocks", desc := "()I" } : Jvm.MethodName) prog_1_method_88_code (6 : Nat) (Option.some Jvm.ClassFile.FieldType.int)) ∈ lw_all := lw_g (lw_at lw_m7 118 rfl) rfl
theorem q1676 : (Jvm.Cond.methodLink "UnimodularTables" (464 : Nat) ({ cls := "UnimodularTables", name := "layBlock", desc := "(II)V" } : Jvm.MethodName)) ∈ lw_all := lw_g (lw_at lw_m7 119 rfl) rfl
theorem q1677 : (Jvm.Cond.privateMethod ({ cls := "UnimodularTables", name := "layBlock", desc := "(II)V" } : Jvm.MethodName)) ∈ lw_tbl := lw_at lw_m7 120 rfl
theorem q1678 : (Jvm.Cond.instanceMethod ({ cls := "UnimodularTables", name := "layBlock", desc := "(II)V" } : Jvm.MethodName)) ∈ lw_all := lw_g (lw_at lw_m7 121 rfl) rfl
theorem q1679 : (Jvm.Cond.code ({ cls := "UnimodularTables", name := "layBlock", desc := "(II)V" } : Jvm.MethodName) prog_1_method_87_code (5 : Nat) (Option.none : Option Jvm.ClassFile.FieldType)) ∈ lw_all := lw_g (lw_at lw_m7 122 rfl) rfl
theorem q1681 : (Jvm.Cond.instanceMethod ({ cls := "UnimodularTables", name := "rank", desc := "(I)I" } : Jvm.MethodName)) ∈ lw_all := lw_g (lw_at lw_m7 124 rfl) rfl
theorem q1682 : (Jvm.Cond.selects "UnimodularTables" ({ cls := "UnimodularTables", name := "rank", desc := "(I)I" } : Jvm.MethodName) ({ cls := "UnimodularTables", name := "rank", desc := "(I)I" } : Jvm.MethodName)) ∈ lw_all := lw_g (lw_at lw_m7 125 rfl) rfl
theorem q1683 : (Jvm.Cond.code ({ cls := "UnimodularTables", name := "rank", desc := "(I)I" } : Jvm.MethodName) prog_1_method_90_code (4 : Nat) (Option.some Jvm.ClassFile.FieldType.int)) ∈ lw_all := lw_g (lw_at lw_m7 126 rfl) rfl
theorem q1684 : (Jvm.Cond.static ({ cls := "UnimodularTables", name := "lambda$rank$5", desc := "(I)Z" } : Jvm.MethodName)) ∈ lw_all := lw_g (lw_at lw_m7 127 rfl) rfl
theorem q1685 : (Jvm.Cond.code ({ cls := "UnimodularTables", name := "lambda$rank$5", desc := "(I)Z" } : Jvm.MethodName) prog_1_method_119_code (1 : Nat) (Option.some Jvm.ClassFile.FieldType.boolean)) ∈ lw_all := lw_g (lw_at lw_m7 128 rfl) rfl
theorem q1686 : (Jvm.Cond.static ({ cls := "UnimodularTables", name := "lambda$rank$6", desc := "(II)Z" } : Jvm.MethodName)) ∈ lw_all := lw_g (lw_at lw_m7 129 rfl) rfl
theorem q1687 : (Jvm.Cond.code ({ cls := "UnimodularTables", name := "lambda$rank$6", desc := "(II)Z" } : Jvm.MethodName) prog_1_method_118_code (2 : Nat) (Option.some Jvm.ClassFile.FieldType.boolean)) ∈ lw_all := lw_g (lw_at lw_m7 130 rfl) rfl
theorem q1689 : (Jvm.Cond.instanceMethod ({ cls := "UnimodularTables", name := "bases", desc := "()I" } : Jvm.MethodName)) ∈ lw_all := lw_g (lw_at lw_m7 132 rfl) rfl
theorem q1690 : (Jvm.Cond.selects "UnimodularTables" ({ cls := "UnimodularTables", name := "bases", desc := "()I" } : Jvm.MethodName) ({ cls := "UnimodularTables", name := "bases", desc := "()I" } : Jvm.MethodName)) ∈ lw_all := lw_g (lw_at lw_m7 133 rfl) rfl
theorem q1691 : (Jvm.Cond.code ({ cls := "UnimodularTables", name := "bases", desc := "()I" } : Jvm.MethodName) prog_1_method_91_code (1 : Nat) (Option.some Jvm.ClassFile.FieldType.int)) ∈ lw_all := lw_g (lw_at lw_m7 134 rfl) rfl
theorem q1692 : (Jvm.Cond.static ({ cls := "UnimodularTables", name := "lambda$bases$7", desc := "(I)Z" } : Jvm.MethodName)) ∈ lw_all := lw_g (lw_at lw_m7 135 rfl) rfl
theorem q1693 : (Jvm.Cond.code ({ cls := "UnimodularTables", name := "lambda$bases$7", desc := "(I)Z" } : Jvm.MethodName) prog_1_method_117_code (1 : Nat) (Option.some Jvm.ClassFile.FieldType.boolean)) ∈ lw_all := lw_g (lw_at lw_m7 136 rfl) rfl
theorem q1695 : (Jvm.Cond.instanceMethod ({ cls := "UnimodularTables", name := "mends", desc := "()I" } : Jvm.MethodName)) ∈ lw_all := lw_g (lw_at lw_m7 138 rfl) rfl
theorem q1696 : (Jvm.Cond.selects "UnimodularTables" ({ cls := "UnimodularTables", name := "mends", desc := "()I" } : Jvm.MethodName) ({ cls := "UnimodularTables", name := "mends", desc := "()I" } : Jvm.MethodName)) ∈ lw_all := lw_g (lw_at lw_m7 139 rfl) rfl
theorem q1697 : (Jvm.Cond.code ({ cls := "UnimodularTables", name := "mends", desc := "()I" } : Jvm.MethodName) prog_1_method_93_code (4 : Nat) (Option.some Jvm.ClassFile.FieldType.int)) ∈ lw_all := lw_g (lw_at lw_m7 140 rfl) rfl
theorem q1698 : (Jvm.Cond.methodLink "UnimodularTables" (474 : Nat) ({ cls := "UnimodularTables", name := "isTotalWith", desc := "(III)Z" } : Jvm.MethodName)) ∈ lw_all := lw_g (lw_at lw_m7 141 rfl) rfl
theorem q1699 : (Jvm.Cond.privateMethod ({ cls := "UnimodularTables", name := "isTotalWith", desc := "(III)Z" } : Jvm.MethodName)) ∈ lw_tbl := lw_at lw_m7 142 rfl
theorem q1700 : (Jvm.Cond.instanceMethod ({ cls := "UnimodularTables", name := "isTotalWith", desc := "(III)Z" } : Jvm.MethodName)) ∈ lw_all := lw_g (lw_at lw_m7 143 rfl) rfl
theorem q1701 : (Jvm.Cond.code ({ cls := "UnimodularTables", name := "isTotalWith", desc := "(III)Z" } : Jvm.MethodName) prog_1_method_92_code (6 : Nat) (Option.some Jvm.ClassFile.FieldType.boolean)) ∈ lw_all := lw_g (lw_at lw_m7 144 rfl) rfl
theorem q1703 : (Jvm.Cond.instanceMethod ({ cls := "UnimodularTables", name := "fragile", desc := "()I" } : Jvm.MethodName)) ∈ lw_all := lw_g (lw_at lw_m7 146 rfl) rfl
theorem q1704 : (Jvm.Cond.selects "UnimodularTables" ({ cls := "UnimodularTables", name := "fragile", desc := "()I" } : Jvm.MethodName) ({ cls := "UnimodularTables", name := "fragile", desc := "()I" } : Jvm.MethodName)) ∈ lw_all := lw_g (lw_at lw_m7 147 rfl) rfl
theorem q1705 : (Jvm.Cond.code ({ cls := "UnimodularTables", name := "fragile", desc := "()I" } : Jvm.MethodName) prog_1_method_94_code (4 : Nat) (Option.some Jvm.ClassFile.FieldType.int)) ∈ lw_all := lw_g (lw_at lw_m7 148 rfl) rfl
theorem q1707 : (Jvm.Cond.instanceMethod ({ cls := "UnimodularTables", name := "fills", desc := "(II)I" } : Jvm.MethodName)) ∈ lw_all := lw_g (lw_at lw_m7 150 rfl) rfl
theorem q1708 : (Jvm.Cond.selects "UnimodularTables" ({ cls := "UnimodularTables", name := "fills", desc := "(II)I" } : Jvm.MethodName) ({ cls := "UnimodularTables", name := "fills", desc := "(II)I" } : Jvm.MethodName)) ∈ lw_all := lw_g (lw_at lw_m7 151 rfl) rfl
theorem q1709 : (Jvm.Cond.code ({ cls := "UnimodularTables", name := "fills", desc := "(II)I" } : Jvm.MethodName) prog_1_method_95_code (5 : Nat) (Option.some Jvm.ClassFile.FieldType.int)) ∈ lw_all := lw_g (lw_at lw_m7 152 rfl) rfl
theorem q1711 : (Jvm.Cond.instanceMethod ({ cls := "UnimodularTables", name := "pack", desc := "(I)I" } : Jvm.MethodName)) ∈ lw_all := lw_g (lw_at lw_m7 154 rfl) rfl
theorem q1712 : (Jvm.Cond.selects "UnimodularTables" ({ cls := "UnimodularTables", name := "pack", desc := "(I)I" } : Jvm.MethodName) ({ cls := "UnimodularTables", name := "pack", desc := "(I)I" } : Jvm.MethodName)) ∈ lw_all := lw_g (lw_at lw_m7 155 rfl) rfl
theorem q1713 : (Jvm.Cond.code ({ cls := "UnimodularTables", name := "pack", desc := "(I)I" } : Jvm.MethodName) prog_1_method_99_code (5 : Nat) (Option.some Jvm.ClassFile.FieldType.int)) ∈ lw_all := lw_g (lw_at lw_m7 156 rfl) rfl
theorem q1714 : (Jvm.Cond.methodLink "UnimodularTables" (481 : Nat) ({ cls := "UnimodularTables", name := "doesPack", desc := "(I)Z" } : Jvm.MethodName)) ∈ lw_all := lw_g (lw_at lw_m7 157 rfl) rfl
theorem q1715 : (Jvm.Cond.privateMethod ({ cls := "UnimodularTables", name := "doesPack", desc := "(I)Z" } : Jvm.MethodName)) ∈ lw_tbl := lw_at lw_m7 158 rfl
theorem q1716 : (Jvm.Cond.instanceMethod ({ cls := "UnimodularTables", name := "doesPack", desc := "(I)Z" } : Jvm.MethodName)) ∈ lw_all := lw_g (lw_at lw_m7 159 rfl) rfl
theorem q1717 : (Jvm.Cond.code ({ cls := "UnimodularTables", name := "doesPack", desc := "(I)Z" } : Jvm.MethodName) prog_1_method_97_code (4 : Nat) (Option.some Jvm.ClassFile.FieldType.boolean)) ∈ lw_all := lw_g (lw_at lw_m7 160 rfl) rfl
theorem q1718 : (Jvm.Cond.methodLink "UnimodularTables" (477 : Nat) ({ cls := "UnimodularTables", name := "onesAt", desc := "(IZ)I" } : Jvm.MethodName)) ∈ lw_all := lw_g (lw_at lw_m7 161 rfl) rfl
theorem q1719 : (Jvm.Cond.privateMethod ({ cls := "UnimodularTables", name := "onesAt", desc := "(IZ)I" } : Jvm.MethodName)) ∈ lw_tbl := lw_at lw_m7 162 rfl
theorem q1720 : (Jvm.Cond.instanceMethod ({ cls := "UnimodularTables", name := "onesAt", desc := "(IZ)I" } : Jvm.MethodName)) ∈ lw_all := lw_g (lw_at lw_m7 163 rfl) rfl
theorem q1721 : (Jvm.Cond.code ({ cls := "UnimodularTables", name := "onesAt", desc := "(IZ)I" } : Jvm.MethodName) prog_1_method_96_code (5 : Nat) (Option.some Jvm.ClassFile.FieldType.int)) ∈ lw_all := lw_g (lw_at lw_m7 164 rfl) rfl
theorem q1722 : (Jvm.Cond.methodLink "UnimodularTables" (484 : Nat) ({ cls := "UnimodularTables", name := "doesCover", desc := "(I)Z" } : Jvm.MethodName)) ∈ lw_all := lw_g (lw_at lw_m7 165 rfl) rfl
theorem q1723 : (Jvm.Cond.privateMethod ({ cls := "UnimodularTables", name := "doesCover", desc := "(I)Z" } : Jvm.MethodName)) ∈ lw_tbl := lw_at lw_m7 166 rfl
theorem q1724 : (Jvm.Cond.instanceMethod ({ cls := "UnimodularTables", name := "doesCover", desc := "(I)Z" } : Jvm.MethodName)) ∈ lw_all := lw_g (lw_at lw_m7 167 rfl) rfl
theorem q1725 : (Jvm.Cond.code ({ cls := "UnimodularTables", name := "doesCover", desc := "(I)Z" } : Jvm.MethodName) prog_1_method_98_code (3 : Nat) (Option.some Jvm.ClassFile.FieldType.boolean)) ∈ lw_all := lw_g (lw_at lw_m7 168 rfl) rfl
theorem q1727 : (Jvm.Cond.instanceMethod ({ cls := "UnimodularTables", name := "adjoint", desc := "(II)I" } : Jvm.MethodName)) ∈ lw_all := lw_g (lw_at lw_m7 170 rfl) rfl
theorem q1728 : (Jvm.Cond.selects "UnimodularTables" ({ cls := "UnimodularTables", name := "adjoint", desc := "(II)I" } : Jvm.MethodName) ({ cls := "UnimodularTables", name := "adjoint", desc := "(II)I" } : Jvm.MethodName)) ∈ lw_all := lw_g (lw_at lw_m7 171 rfl) rfl
theorem q1729 : (Jvm.Cond.code ({ cls := "UnimodularTables", name := "adjoint", desc := "(II)I" } : Jvm.MethodName) prog_1_method_100_code (5 : Nat) (Option.some Jvm.ClassFile.FieldType.int)) ∈ lw_all := lw_g (lw_at lw_m7 172 rfl) rfl
theorem q1731 : (Jvm.Cond.instanceMethod ({ cls := "UnimodularTables", name := "cycle", desc := "()I" } : Jvm.MethodName)) ∈ lw_all := lw_g (lw_at lw_m7 174 rfl) rfl
theorem q1732 : (Jvm.Cond.selects "UnimodularTables" ({ cls := "UnimodularTables", name := "cycle", desc := "()I" } : Jvm.MethodName) ({ cls := "UnimodularTables", name := "cycle", desc := "()I" } : Jvm.MethodName)) ∈ lw_all := lw_g (lw_at lw_m7 175 rfl) rfl
theorem q1733 : (Jvm.Cond.code ({ cls := "UnimodularTables", name := "cycle", desc := "()I" } : Jvm.MethodName) prog_1_method_102_code (4 : Nat) (Option.some Jvm.ClassFile.FieldType.int)) ∈ lw_all := lw_g (lw_at lw_m7 176 rfl) rfl
theorem q1734 : (Jvm.Cond.methodLink "UnimodularTables" (487 : Nat) ({ cls := "UnimodularTables", name := "aroundBy", desc := "(II)I" } : Jvm.MethodName)) ∈ lw_all := lw_g (lw_at lw_m7 177 rfl) rfl
theorem q1735 : (Jvm.Cond.privateMethod ({ cls := "UnimodularTables", name := "aroundBy", desc := "(II)I" } : Jvm.MethodName)) ∈ lw_tbl := lw_at lw_m7 178 rfl
theorem q1736 : (Jvm.Cond.instanceMethod ({ cls := "UnimodularTables", name := "aroundBy", desc := "(II)I" } : Jvm.MethodName)) ∈ lw_all := lw_g (lw_at lw_m7 179 rfl) rfl
theorem q1737 : (Jvm.Cond.code ({ cls := "UnimodularTables", name := "aroundBy", desc := "(II)I" } : Jvm.MethodName) prog_1_method_101_code (8 : Nat) (Option.some Jvm.ClassFile.FieldType.int)) ∈ lw_all := lw_g (lw_at lw_m7 180 rfl) rfl
theorem q1738 : (Jvm.Cond.methodLink "UnimodularTables" (491 : Nat) ({ cls := "java/lang/Math", name := "min", desc := "(II)I" } : Jvm.MethodName)) ∈ lw_all := lw_g (lw_at lw_m7 181 rfl) rfl
theorem q1740 : (Jvm.Cond.instanceMethod ({ cls := "UnimodularTables", name := "step", desc := "(III)I" } : Jvm.MethodName)) ∈ lw_all := lw_g (lw_at lw_m7 183 rfl) rfl
theorem q1741 : (Jvm.Cond.selects "UnimodularTables" ({ cls := "UnimodularTables", name := "step", desc := "(III)I" } : Jvm.MethodName) ({ cls := "UnimodularTables", name := "step", desc := "(III)I" } : Jvm.MethodName)) ∈ lw_all := lw_g (lw_at lw_m7 184 rfl) rfl
theorem q1742 : (Jvm.Cond.code ({ cls := "UnimodularTables", name := "step", desc := "(III)I" } : Jvm.MethodName) prog_1_method_103_code (4 : Nat) (Option.some Jvm.ClassFile.FieldType.int)) ∈ lw_all := lw_g (lw_at lw_m7 185 rfl) rfl
theorem q1744 : (Jvm.Cond.instanceMethod ({ cls := "UnimodularTables", name := "run", desc := "(II)I" } : Jvm.MethodName)) ∈ lw_all := lw_g (lw_at lw_m7 187 rfl) rfl
theorem q1745 : (Jvm.Cond.selects "UnimodularTables" ({ cls := "UnimodularTables", name := "run", desc := "(II)I" } : Jvm.MethodName) ({ cls := "UnimodularTables", name := "run", desc := "(II)I" } : Jvm.MethodName)) ∈ lw_all := lw_g (lw_at lw_m7 188 rfl) rfl
theorem q1746 : (Jvm.Cond.code ({ cls := "UnimodularTables", name := "run", desc := "(II)I" } : Jvm.MethodName) prog_1_method_106_code (5 : Nat) (Option.some Jvm.ClassFile.FieldType.int)) ∈ lw_all := lw_g (lw_at lw_m7 189 rfl) rfl
theorem q1747 : (Jvm.Cond.methodLink "UnimodularTables" (496 : Nat) ({ cls := "UnimodularTables", name := "canStep", desc := "(LUnimodularTables$Table;I)Z" } : Jvm.MethodName)) ∈ lw_all := lw_g (lw_at lw_m7 190 rfl) rfl
theorem q1748 : (Jvm.Cond.privateMethod ({ cls := "UnimodularTables", name := "canStep", desc := "(LUnimodularTables$Table;I)Z" } : Jvm.MethodName)) ∈ lw_tbl := lw_at lw_m7 191 rfl
theorem q1749 : (Jvm.Cond.instanceMethod ({ cls := "UnimodularTables", name := "canStep", desc := "(LUnimodularTables$Table;I)Z" } : Jvm.MethodName)) ∈ lw_all := lw_g (lw_at lw_m7 192 rfl) rfl
theorem q1750 : (Jvm.Cond.code ({ cls := "UnimodularTables", name := "canStep", desc := "(LUnimodularTables$Table;I)Z" } : Jvm.MethodName) prog_1_method_104_code (5 : Nat) (Option.some Jvm.ClassFile.FieldType.boolean)) ∈ lw_all := lw_g (lw_at lw_m7 193 rfl) rfl
theorem q1751 : (Jvm.Cond.methodLink "UnimodularTables" (499 : Nat) ({ cls := "UnimodularTables", name := "stepped", desc := "(LUnimodularTables$Table;I)LUnimodularTables$Table;" } : Jvm.MethodName)) ∈ lw_all := lw_g (lw_at lw_m7 194 rfl) rfl
theorem q1752 : (Jvm.Cond.privateMethod ({ cls := "UnimodularTables", name := "stepped", desc := "(LUnimodularTables$Table;I)LUnimodularTables$Table;" } : Jvm.MethodName)) ∈ lw_tbl := lw_at lw_m7 195 rfl
theorem q1753 : (Jvm.Cond.instanceMethod ({ cls := "UnimodularTables", name := "stepped", desc := "(LUnimodularTables$Table;I)LUnimodularTables$Table;" } : Jvm.MethodName)) ∈ lw_all := lw_g (lw_at lw_m7 196 rfl) rfl
theorem q1754 : (Jvm.Cond.code ({ cls := "UnimodularTables", name := "stepped", desc := "(LUnimodularTables$Table;I)LUnimodularTables$Table;" } : Jvm.MethodName) prog_1_method_105_code (6 : Nat) (Option.some (Jvm.ClassFile.FieldType.object "UnimodularTables$Table"))) ∈ lw_all := lw_g (lw_at lw_m7 197 rfl) rfl
theorem q1756 : (Jvm.Cond.instanceMethod ({ cls := "UnimodularTables", name := "perform", desc := "(I)I" } : Jvm.MethodName)) ∈ lw_all := lw_g (lw_at lw_m7 199 rfl) rfl
theorem q1757 : (Jvm.Cond.selects "UnimodularTables" ({ cls := "UnimodularTables", name := "perform", desc := "(I)I" } : Jvm.MethodName) ({ cls := "UnimodularTables", name := "perform", desc := "(I)I" } : Jvm.MethodName)) ∈ lw_all := lw_g (lw_at lw_m7 200 rfl) rfl
theorem q1758 : (Jvm.Cond.code ({ cls := "UnimodularTables", name := "perform", desc := "(I)I" } : Jvm.MethodName) prog_1_method_107_code (3 : Nat) (Option.some Jvm.ClassFile.FieldType.int)) ∈ lw_all := lw_g (lw_at lw_m7 201 rfl) rfl
theorem q1760 : (Jvm.Cond.instanceMethod ({ cls := "UnimodularTables", name := "draws", desc := "(IJ)I" } : Jvm.MethodName)) ∈ lw_all := lw_g (lw_at lw_m7 203 rfl) rfl
theorem q1761 : (Jvm.Cond.selects "UnimodularTables" ({ cls := "UnimodularTables", name := "draws", desc := "(IJ)I" } : Jvm.MethodName) ({ cls := "UnimodularTables", name := "draws", desc := "(IJ)I" } : Jvm.MethodName)) ∈ lw_all := lw_g (lw_at lw_m7 204 rfl) rfl
theorem q1762 : (Jvm.Cond.code ({ cls := "UnimodularTables", name := "draws", desc := "(IJ)I" } : Jvm.MethodName) prog_1_method_110_code (6 : Nat) (Option.some Jvm.ClassFile.FieldType.int)) ∈ lw_all := lw_g (lw_at lw_m7 205 rfl) rfl
theorem q1763 : (Jvm.Cond.methodLink "UnimodularTables" (514 : Nat) ({ cls := "UnimodularTables", name := "drawAct", desc := "()Z" } : Jvm.MethodName)) ∈ lw_all := lw_g (lw_at lw_m7 206 rfl) rfl
theorem q1764 : (Jvm.Cond.privateMethod ({ cls := "UnimodularTables", name := "drawAct", desc := "()Z" } : Jvm.MethodName)) ∈ lw_tbl := lw_at lw_m7 207 rfl
theorem q1765 : (Jvm.Cond.instanceMethod ({ cls := "UnimodularTables", name := "drawAct", desc := "()Z" } : Jvm.MethodName)) ∈ lw_all := lw_g (lw_at lw_m7 208 rfl) rfl
theorem q1766 : (Jvm.Cond.code ({ cls := "UnimodularTables", name := "drawAct", desc := "()Z" } : Jvm.MethodName) prog_1_method_109_code (6 : Nat) (Option.some Jvm.ClassFile.FieldType.boolean)) ∈ lw_all := lw_g (lw_at lw_m7 209 rfl) rfl
theorem q1767 : (Jvm.Cond.methodLink "UnimodularTables" (511 : Nat) ({ cls := "UnimodularTables", name := "draw", desc := "(I)I" } : Jvm.MethodName)) ∈ lw_all := lw_g (lw_at lw_m7 210 rfl) rfl
theorem q1768 : (Jvm.Cond.privateMethod ({ cls := "UnimodularTables", name := "draw", desc := "(I)I" } : Jvm.MethodName)) ∈ lw_tbl := lw_at lw_m7 211 rfl
theorem q1769 : (Jvm.Cond.instanceMethod ({ cls := "UnimodularTables", name := "draw", desc := "(I)I" } : Jvm.MethodName)) ∈ lw_all := lw_g (lw_at lw_m7 212 rfl) rfl
theorem q1770 : (Jvm.Cond.code ({ cls := "UnimodularTables", name := "draw", desc := "(I)I" } : Jvm.MethodName) prog_1_method_108_code (2 : Nat) (Option.some Jvm.ClassFile.FieldType.int)) ∈ lw_all := lw_g (lw_at lw_m7 213 rfl) rfl
theorem q1771 : (Jvm.Cond.constantLong "UnimodularTables" (507 : Nat) (6364136223846793005 : Int64)) ∈ lw_all := lw_g (lw_at lw_m7 214 rfl) rfl
theorem q1772 : (Jvm.Cond.constantLong "UnimodularTables" (509 : Nat) (1442695040888963407 : Int64)) ∈ lw_all := lw_g (lw_at lw_m7 215 rfl) rfl
theorem q1774 : (Jvm.Cond.instanceMethod ({ cls := "UnimodularTables", name := "status", desc := "(I)I" } : Jvm.MethodName)) ∈ lw_all := lw_g (lw_at lw_m7 217 rfl) rfl
theorem q1775 : (Jvm.Cond.selects "UnimodularTables" ({ cls := "UnimodularTables", name := "status", desc := "(I)I" } : Jvm.MethodName) ({ cls := "UnimodularTables", name := "status", desc := "(I)I" } : Jvm.MethodName)) ∈ lw_all := lw_g (lw_at lw_m7 218 rfl) rfl
theorem q1776 : (Jvm.Cond.code ({ cls := "UnimodularTables", name := "status", desc := "(I)I" } : Jvm.MethodName) prog_1_method_111_code (2 : Nat) (Option.some Jvm.ClassFile.FieldType.int)) ∈ lw_all := lw_g (lw_at lw_m7 219 rfl) rfl
theorem q1778 : (Jvm.Cond.instanceMethod ({ cls := "UnimodularTables", name := "image", desc := "()I" } : Jvm.MethodName)) ∈ lw_all := lw_g (lw_at lw_m7 221 rfl) rfl
theorem q1779 : (Jvm.Cond.selects "UnimodularTables" ({ cls := "UnimodularTables", name := "image", desc := "()I" } : Jvm.MethodName) ({ cls := "UnimodularTables", name := "image", desc := "()I" } : Jvm.MethodName)) ∈ lw_all := lw_g (lw_at lw_m7 222 rfl) rfl
theorem q1780 : (Jvm.Cond.code ({ cls := "UnimodularTables", name := "image", desc := "()I" } : Jvm.MethodName) prog_1_method_113_code (1 : Nat) (Option.some Jvm.ClassFile.FieldType.int)) ∈ lw_all := lw_g (lw_at lw_m7 223 rfl) rfl
theorem q1781 : (Jvm.Cond.methodLink "UnimodularTables" (532 : Nat) ({ cls := "UnimodularTables", name := "listed", desc := "(Ljava/util/LinkedList;)Ljava/util/LinkedList;" } : Jvm.MethodName)) ∈ lw_all := lw_g (lw_at lw_m7 224 rfl) rfl
theorem q1782 : (Jvm.Cond.static ({ cls := "UnimodularTables", name := "listed", desc := "(Ljava/util/LinkedList;)Ljava/util/LinkedList;" } : Jvm.MethodName)) ∈ lw_all := lw_g (lw_at lw_m7 225 rfl) rfl
theorem q1783 : (Jvm.Cond.code ({ cls := "UnimodularTables", name := "listed", desc := "(Ljava/util/LinkedList;)Ljava/util/LinkedList;" } : Jvm.MethodName) prog_1_method_112_code (4 : Nat) (Option.some (Jvm.ClassFile.FieldType.object "java/util/LinkedList"))) ∈ lw_all := lw_g (lw_at lw_m7 226 rfl) rfl
theorem q1784 : (Jvm.Cond.methodLink "UnimodularTables" (517 : Nat) ({ cls := "java/util/LinkedList", name := "iterator", desc := "()Ljava/util/Iterator;" } : Jvm.MethodName)) ∈ lw_all := lw_g (lw_at lw_m7 227 rfl) rfl
theorem q1785 : (Jvm.Cond.interfaceEntry "UnimodularTables" (521 : Nat)) ∈ lw_tbl := lw_at lw_m7 228 rfl
theorem q1786 : (Jvm.Cond.methodLink "UnimodularTables" (521 : Nat) ({ cls := "java/util/Iterator", name := "hasNext", desc := "()Z" } : Jvm.MethodName)) ∈ lw_all := lw_g (lw_at lw_m7 229 rfl) rfl
theorem q1787 : (Jvm.Cond.interfaceEntry "UnimodularTables" (526 : Nat)) ∈ lw_tbl := lw_at lw_m7 230 rfl
theorem q1788 : (Jvm.Cond.methodLink "UnimodularTables" (526 : Nat) ({ cls := "java/util/Iterator", name := "next", desc := "()Ljava/lang/Object;" } : Jvm.MethodName)) ∈ lw_all := lw_g (lw_at lw_m7 231 rfl) rfl
theorem q1790 : (Jvm.Cond.instanceMethod ({ cls := "UnimodularTables", name := "back", desc := "()I" } : Jvm.MethodName)) ∈ lw_all := lw_g (lw_at lw_m7 233 rfl) rfl
theorem q1791 : (Jvm.Cond.selects "UnimodularTables" ({ cls := "UnimodularTables", name := "back", desc := "()I" } : Jvm.MethodName) ({ cls := "UnimodularTables", name := "back", desc := "()I" } : Jvm.MethodName)) ∈ lw_all := lw_g (lw_at lw_m7 234 rfl) rfl
theorem q1792 : (Jvm.Cond.code ({ cls := "UnimodularTables", name := "back", desc := "()I" } : Jvm.MethodName) prog_1_method_114_code (1 : Nat) (Option.some Jvm.ClassFile.FieldType.int)) ∈ lw_all := lw_g (lw_at lw_m7 235 rfl) rfl
theorem q1794 : (Jvm.Cond.instanceMethod ({ cls := "UnimodularTables", name := "count", desc := "(I)I" } : Jvm.MethodName)) ∈ lw_all := lw_g (lw_at lw_m7 237 rfl) rfl
theorem q1795 : (Jvm.Cond.selects "UnimodularTables" ({ cls := "UnimodularTables", name := "count", desc := "(I)I" } : Jvm.MethodName) ({ cls := "UnimodularTables", name := "count", desc := "(I)I" } : Jvm.MethodName)) ∈ lw_all := lw_g (lw_at lw_m7 238 rfl) rfl
theorem q1796 : (Jvm.Cond.code ({ cls := "UnimodularTables", name := "count", desc := "(I)I" } : Jvm.MethodName) prog_1_method_116_code (2 : Nat) (Option.some Jvm.ClassFile.FieldType.int)) ∈ lw_all := lw_g (lw_at lw_m7 239 rfl) rfl
theorem q1797 : (Jvm.Cond.methodLink "UnimodularTables" (539 : Nat) ({ cls := "UnimodularTables", name := "onesOf", desc := "(LUnimodularTables$Table;)I" } : Jvm.MethodName)) ∈ lw_all := lw_g (lw_at lw_m8 0 rfl) rfl
theorem q1798 : (Jvm.Cond.privateMethod ({ cls := "UnimodularTables", name := "onesOf", desc := "(LUnimodularTables$Table;)I" } : Jvm.MethodName)) ∈ lw_tbl := lw_at lw_m8 1 rfl
theorem q1799 : (Jvm.Cond.instanceMethod ({ cls := "UnimodularTables", name := "onesOf", desc := "(LUnimodularTables$Table;)I" } : Jvm.MethodName)) ∈ lw_all := lw_g (lw_at lw_m8 2 rfl) rfl
theorem q1800 : (Jvm.Cond.code ({ cls := "UnimodularTables", name := "onesOf", desc := "(LUnimodularTables$Table;)I" } : Jvm.MethodName) prog_1_method_115_code (5 : Nat) (Option.some Jvm.ClassFile.FieldType.int)) ∈ lw_all := lw_g (lw_at lw_m8 3 rfl) rfl
theorem q1806 : (Jvm.Cond.instanceMethod ({ cls := "UnimodularTables", name := "entry", desc := "(II)I" } : Jvm.MethodName)) ∈ lw_all := lw_g (lw_at lw_m8 9 rfl) rfl
theorem q1807 : (Jvm.Cond.selects "UnimodularTables" ({ cls := "UnimodularTables", name := "entry", desc := "(II)I" } : Jvm.MethodName) ({ cls := "UnimodularTables", name := "entry", desc := "(II)I" } : Jvm.MethodName)) ∈ lw_all := lw_g (lw_at lw_m8 10 rfl) rfl
theorem q1808 : (Jvm.Cond.code ({ cls := "UnimodularTables", name := "entry", desc := "(II)I" } : Jvm.MethodName) prog_1_method_36_code (3 : Nat) (Option.some Jvm.ClassFile.FieldType.int)) ∈ lw_all := lw_g (lw_at lw_m8 11 rfl) rfl
theorem q1809 : (Jvm.Cond.classLink "UnimodularTables" (261 : Nat) "java/util/NoSuchElementException") ∈ lw_all := lw_g (lw_at lw_m8 12 rfl) rfl
theorem q1810 : (Jvm.Cond.methodLink "UnimodularTables" (263 : Nat) ({ cls := "java/util/NoSuchElementException", name := "<init>", desc := "()V" } : Jvm.MethodName)) ∈ lw_all := lw_g (lw_at lw_m8 13 rfl) rfl
theorem q2347 : (Jvm.Cond.castable "UnimodularTables" "java/lang/Object") ∈ lw_tbl := lw_at lw_m10 70 rfl
theorem in_X1 : ∀ w ∈ wsX10, w ∈ lw_all := lw_in wsX10 [476, 478, 480, 482, 484, 486, 488, 490, 492, 494, 496, 498, 500, 502, 504, 506, 508, 510, 512, 514, 516, 518, 520, 522, 524, 526, 528, 530, 532, 534, 536, 538, 540, 542] (by decide +kernel) (by decide +kernel)
