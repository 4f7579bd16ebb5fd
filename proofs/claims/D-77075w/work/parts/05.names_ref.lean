/-! RoomTreesModel -/
set_option maxRecDepth 100000
def RX10 : String := "RoomTreesModel"
def TX10 : u_T := fun k => match k with
  | 0 => ("RoomTreesModel", "errors", "[I", true)
  | 1 => ("RoomTreesModel", "f", "[I", true)
  | 2 => ("RoomTreesModel", "past", "[[I", true)
  | 3 => ("RoomTreesModel", "deeds", "[I", true)
  | 4 => ("RoomTreesModel", "done", "I", false)
  | 5 => ("RoomTreesModel", "all", "I", false)
  | 6 => ("RoomTreesModel", "minors", "[J", true)
  | 7 => ("RoomTreesModel", "sums", "[J", true)
  | 8 => ("RoomTreesModel", "terms", "[J", true)
  | 9 => ("RoomTreesModel", "rows", "[[I", true)
  | 10 => ("RoomTreesModel", "tape", "[I", true)
  | 11 => ("RoomTreesModel", "taped", "I", false)
  | 12 => ("RoomTreesModel", "at", "I", false)
  | 13 => ("RoomTreesModel", "isWrong", "Z", false)
  | 14 => ("RoomTreesModel", "read", "[I", true)
  | 15 => ("RoomTreesModel", "open", "[I", true)
  | 16 => ("RoomTreesModel", "hang", "[[I", true)
  | 17 => ("RoomTreesModel", "hangs", "[I", true)
  | 18 => ("RoomTreesModel", "best", "[[I", true)
  | 19 => ("RoomTreesModel", "bests", "[I", true)
  | 20 => ("RoomTreesModel", "text", "[I", true)
  | 21 => ("RoomTreesModel", "texted", "I", false)
  | 22 => ("RoomTreesModel", "shelves", "[[I", true)
  | 23 => ("RoomTreesModel", "isHeld", "[Z", true)
  | 24 => ("RoomTreesModel", "due", "[I", true)
  | 25 => ("RoomTreesModel", "dues", "I", false)
  | 26 => ("RoomTreesModel", "workers", "[I", true)
  | 27 => ("RoomTreesModel", "hired", "I", false)
  | 28 => ("RoomTreesModel", "thought", "[[I", true)
  | 29 => ("RoomTreesModel", "fewestLeft", "I", false)
  | 30 => ("RoomTreesModel", "fewestMoves", "I", false)
  | 31 => ("RoomTreesModel", "fewestFirst", "I", false)
  | 32 => ("RoomTreesModel", "bitsOf", "[I", true)
  | 33 => ("RoomTreesModel", "sizeOf", "[I", true)
  | 34 => ("RoomTreesModel", "numbers", "[I", true)
  | 35 => ("RoomTreesModel", "passing", "[I", true)
  | 36 => ("RoomTreesModel", "kept", "[I", true)
  | 37 => ("RoomTreesModel", "keptWorkers", "[I", true)
  | 38 => ("RoomTreesModel", "keptHired", "I", false)
  | _ => ("RoomTreesModel", "isKept", "Z", false)
def tyX10 : Nat → FieldType := fun k => match k with
  | 0 => .array .int
  | 1 => .array .int
  | 2 => .array (.array .int)
  | 3 => .array .int
  | 4 => .int
  | 5 => .int
  | 6 => .array .long
  | 7 => .array .long
  | 8 => .array .long
  | 9 => .array (.array .int)
  | 10 => .array .int
  | 11 => .int
  | 12 => .int
  | 13 => .boolean
  | 14 => .array .int
  | 15 => .array .int
  | 16 => .array (.array .int)
  | 17 => .array .int
  | 18 => .array (.array .int)
  | 19 => .array .int
  | 20 => .array .int
  | 21 => .int
  | 22 => .array (.array .int)
  | 23 => .array .boolean
  | 24 => .array .int
  | 25 => .int
  | 26 => .array .int
  | 27 => .int
  | 28 => .array (.array .int)
  | 29 => .int
  | 30 => .int
  | 31 => .int
  | 32 => .array .int
  | 33 => .array .int
  | 34 => .array .int
  | 35 => .array .int
  | 36 => .array .int
  | 37 => .array .int
  | 38 => .int
  | _ => .boolean
abbrev wsX100 : List Cond := u_ws RX10 TX10 40
set_option maxRecDepth 100000 in
theorem nmX10 : ∀ a, a < 40 → ∀ b, b < 40 → a ≠ b → (TX10 a).2.1 ≠ (TX10 b).2.1 := by decide +kernel
set_option maxRecDepth 100000 in
theorem tyX10_ok : ∀ k, k < 40 → parseFieldDescriptor (TX10 k).2.2.1 = some (tyX10 k) := by decide +kernel
abbrev cX10_init : ByteArray := prog_26_method_1_code
def yX10_init : MethodName := ⟨RX10, "<init>", "()V"⟩
def dkwX10_init_10 : List UInt8 := [16, 18, 188, 10, 181, 0, 92, 177]
abbrev dktX10_init_10 : List UInt8 := dkwX10_init_10 ++ []
def dkwX10_init_9 : List UInt8 := [16, 96, 188, 10, 181, 0, 83, 42, 16, 24, 188, 10, 181, 0, 86, 42, 16, 25, 188, 10, 181, 0, 89, 42]
abbrev dktX10_init_9 : List UInt8 := dkwX10_init_9 ++ dktX10_init_10
def dkwX10_init_8 : List UInt8 := [16, 25, 197, 0, 16, 2, 181, 0, 74, 42, 7, 188, 10, 181, 0, 77, 42, 7, 188, 10, 181, 0, 80, 42]
abbrev dktX10_init_8 : List UInt8 := dkwX10_init_8 ++ dktX10_init_9
def dkwX10_init_7 : List UInt8 := [188, 4, 181, 0, 64, 42, 16, 64, 188, 10, 181, 0, 68, 42, 16, 18, 188, 10, 181, 0, 71, 42, 16, 6]
abbrev dktX10_init_7 : List UInt8 := dkwX10_init_7 ++ dktX10_init_8
def dkwX10_init_6 : List UInt8 := [181, 0, 55, 42, 16, 64, 188, 10, 181, 0, 58, 42, 7, 16, 25, 197, 0, 16, 2, 181, 0, 61, 42, 7]
abbrev dktX10_init_6 : List UInt8 := dkwX10_init_6 ++ dktX10_init_7
def dkwX10_init_5 : List UInt8 := [16, 12, 188, 10, 181, 0, 49, 42, 16, 12, 16, 64, 197, 0, 16, 2, 181, 0, 52, 42, 16, 12, 188, 10]
abbrev dktX10_init_5 : List UInt8 := dkwX10_init_5 ++ dktX10_init_6
def dkwX10_init_4 : List UInt8 := [181, 0, 40, 42, 16, 12, 188, 10, 181, 0, 43, 42, 16, 12, 16, 64, 197, 0, 16, 2, 181, 0, 46, 42]
abbrev dktX10_init_4 : List UInt8 := dkwX10_init_4 ++ dktX10_init_5
def dkwX10_init_3 : List UInt8 := [16, 12, 197, 0, 16, 2, 181, 0, 34, 42, 16, 120, 188, 10, 181, 0, 37, 42, 16, 25, 188, 10]
abbrev dktX10_init_3 : List UInt8 := dkwX10_init_3 ++ dktX10_init_4
def dkwX10_init_2 : List UInt8 := [181, 0, 24, 42, 17, 16, 0, 188, 11, 181, 0, 28, 42, 16, 13, 188, 11, 181, 0, 31, 42, 16, 12]
abbrev dktX10_init_2 : List UInt8 := dkwX10_init_2 ++ dktX10_init_3
def dkwX10_init_1 : List UInt8 := [16, 25, 197, 0, 16, 2, 181, 0, 18, 42, 17, 0, 240, 188, 10, 181, 0, 21, 42, 17, 16, 0, 188, 11]
abbrev dktX10_init_1 : List UInt8 := dkwX10_init_1 ++ dktX10_init_2
def dkwX10_init_0 : List UInt8 := [42, 183, 0, 1, 42, 16, 8, 188, 10, 181, 0, 7, 42, 16, 25, 188, 10, 181, 0, 13, 42, 16, 41]
abbrev dktX10_init_0 : List UInt8 := dkwX10_init_0 ++ dktX10_init_1
theorem dksX10_init_0 : cX10_init.data.toList.drop 0 = dktX10_init_0 := by decide +kernel
theorem dksX10_init_1 : cX10_init.data.toList.drop 23 = dktX10_init_1 := dk_seg dksX10_init_0 23 rfl rfl
theorem dksX10_init_2 : cX10_init.data.toList.drop 47 = dktX10_init_2 := dk_seg dksX10_init_1 24 rfl rfl
theorem dksX10_init_3 : cX10_init.data.toList.drop 70 = dktX10_init_3 := dk_seg dksX10_init_2 23 rfl rfl
theorem dksX10_init_4 : cX10_init.data.toList.drop 92 = dktX10_init_4 := dk_seg dksX10_init_3 22 rfl rfl
theorem dksX10_init_5 : cX10_init.data.toList.drop 116 = dktX10_init_5 := dk_seg dksX10_init_4 24 rfl rfl
theorem dksX10_init_6 : cX10_init.data.toList.drop 140 = dktX10_init_6 := dk_seg dksX10_init_5 24 rfl rfl
theorem dksX10_init_7 : cX10_init.data.toList.drop 164 = dktX10_init_7 := dk_seg dksX10_init_6 24 rfl rfl
theorem dksX10_init_8 : cX10_init.data.toList.drop 188 = dktX10_init_8 := dk_seg dksX10_init_7 24 rfl rfl
theorem dksX10_init_9 : cX10_init.data.toList.drop 212 = dktX10_init_9 := dk_seg dksX10_init_8 24 rfl rfl
theorem dksX10_init_10 : cX10_init.data.toList.drop 236 = dktX10_init_10 := dk_seg dksX10_init_9 24 rfl rfl
theorem dX10_init_0 : decode cX10_init 0 = .ok (.aload_n 0, 1) := dk_42 (dk_at dksX10_init_0 0 rfl rfl)
theorem dX10_init_1 : decode cX10_init 1 = .ok (.invokespecial 1, 3) := dk_183 0 1 (dk_at dksX10_init_0 1 rfl rfl)
theorem dX10_init_4 : decode cX10_init 4 = .ok (.aload_n 0, 1) := dk_42 (dk_at dksX10_init_0 4 rfl rfl)
theorem dX10_init_5 : decode cX10_init 5 = .ok (.bipush 8, 2) := dk_16 8 (dk_at dksX10_init_0 5 rfl rfl)
theorem dX10_init_7 : decode cX10_init 7 = .ok (.newarray .int, 2) := dk_188_10 (dk_at dksX10_init_0 7 rfl rfl)
theorem dX10_init_9 : decode cX10_init 9 = .ok (.putfield 7, 3) := dk_181 0 7 (dk_at dksX10_init_0 9 rfl rfl)
theorem dX10_init_12 : decode cX10_init 12 = .ok (.aload_n 0, 1) := dk_42 (dk_at dksX10_init_0 12 rfl rfl)
theorem dX10_init_13 : decode cX10_init 13 = .ok (.bipush 25, 2) := dk_16 25 (dk_at dksX10_init_0 13 rfl rfl)
theorem dX10_init_15 : decode cX10_init 15 = .ok (.newarray .int, 2) := dk_188_10 (dk_at dksX10_init_0 15 rfl rfl)
theorem dX10_init_17 : decode cX10_init 17 = .ok (.putfield 13, 3) := dk_181 0 13 (dk_at dksX10_init_0 17 rfl rfl)
theorem dX10_init_20 : decode cX10_init 20 = .ok (.aload_n 0, 1) := dk_42 (dk_at dksX10_init_0 20 rfl rfl)
theorem dX10_init_21 : decode cX10_init 21 = .ok (.bipush 41, 2) := dk_16 41 (dk_at dksX10_init_0 21 rfl rfl)
theorem dX10_init_23 : decode cX10_init 23 = .ok (.bipush 25, 2) := dk_16 25 (dk_at dksX10_init_1 0 rfl rfl)
theorem dX10_init_25 : decode cX10_init 25 = .ok (.multianewarray 16 2, 4) := by decide +kernel
theorem dX10_init_29 : decode cX10_init 29 = .ok (.putfield 18, 3) := dk_181 0 18 (dk_at dksX10_init_1 6 rfl rfl)
theorem dX10_init_32 : decode cX10_init 32 = .ok (.aload_n 0, 1) := dk_42 (dk_at dksX10_init_1 9 rfl rfl)
theorem dX10_init_33 : decode cX10_init 33 = .ok (.sipush 240, 3) := dk_17 0 240 (dk_at dksX10_init_1 10 rfl rfl)
theorem dX10_init_36 : decode cX10_init 36 = .ok (.newarray .int, 2) := dk_188_10 (dk_at dksX10_init_1 13 rfl rfl)
theorem dX10_init_38 : decode cX10_init 38 = .ok (.putfield 21, 3) := dk_181 0 21 (dk_at dksX10_init_1 15 rfl rfl)
theorem dX10_init_41 : decode cX10_init 41 = .ok (.aload_n 0, 1) := dk_42 (dk_at dksX10_init_1 18 rfl rfl)
theorem dX10_init_42 : decode cX10_init 42 = .ok (.sipush 4096, 3) := dk_17 16 0 (dk_at dksX10_init_1 19 rfl rfl)
theorem dX10_init_45 : decode cX10_init 45 = .ok (.newarray .long, 2) := dk_188_11 (dk_at dksX10_init_1 22 rfl rfl)
theorem dX10_init_47 : decode cX10_init 47 = .ok (.putfield 24, 3) := dk_181 0 24 (dk_at dksX10_init_2 0 rfl rfl)
theorem dX10_init_50 : decode cX10_init 50 = .ok (.aload_n 0, 1) := dk_42 (dk_at dksX10_init_2 3 rfl rfl)
theorem dX10_init_51 : decode cX10_init 51 = .ok (.sipush 4096, 3) := dk_17 16 0 (dk_at dksX10_init_2 4 rfl rfl)
theorem dX10_init_54 : decode cX10_init 54 = .ok (.newarray .long, 2) := dk_188_11 (dk_at dksX10_init_2 7 rfl rfl)
theorem dX10_init_56 : decode cX10_init 56 = .ok (.putfield 28, 3) := dk_181 0 28 (dk_at dksX10_init_2 9 rfl rfl)
theorem dX10_init_59 : decode cX10_init 59 = .ok (.aload_n 0, 1) := dk_42 (dk_at dksX10_init_2 12 rfl rfl)
theorem dX10_init_60 : decode cX10_init 60 = .ok (.bipush 13, 2) := dk_16 13 (dk_at dksX10_init_2 13 rfl rfl)
theorem dX10_init_62 : decode cX10_init 62 = .ok (.newarray .long, 2) := dk_188_11 (dk_at dksX10_init_2 15 rfl rfl)
theorem dX10_init_64 : decode cX10_init 64 = .ok (.putfield 31, 3) := dk_181 0 31 (dk_at dksX10_init_2 17 rfl rfl)
theorem dX10_init_67 : decode cX10_init 67 = .ok (.aload_n 0, 1) := dk_42 (dk_at dksX10_init_2 20 rfl rfl)
theorem dX10_init_68 : decode cX10_init 68 = .ok (.bipush 12, 2) := dk_16 12 (dk_at dksX10_init_2 21 rfl rfl)
theorem dX10_init_70 : decode cX10_init 70 = .ok (.bipush 12, 2) := dk_16 12 (dk_at dksX10_init_3 0 rfl rfl)
theorem dX10_init_72 : decode cX10_init 72 = .ok (.multianewarray 16 2, 4) := by decide +kernel
theorem dX10_init_76 : decode cX10_init 76 = .ok (.putfield 34, 3) := dk_181 0 34 (dk_at dksX10_init_3 6 rfl rfl)
theorem dX10_init_79 : decode cX10_init 79 = .ok (.aload_n 0, 1) := dk_42 (dk_at dksX10_init_3 9 rfl rfl)
theorem dX10_init_80 : decode cX10_init 80 = .ok (.bipush 120, 2) := dk_16 120 (dk_at dksX10_init_3 10 rfl rfl)
theorem dX10_init_82 : decode cX10_init 82 = .ok (.newarray .int, 2) := dk_188_10 (dk_at dksX10_init_3 12 rfl rfl)
theorem dX10_init_84 : decode cX10_init 84 = .ok (.putfield 37, 3) := dk_181 0 37 (dk_at dksX10_init_3 14 rfl rfl)
theorem dX10_init_87 : decode cX10_init 87 = .ok (.aload_n 0, 1) := dk_42 (dk_at dksX10_init_3 17 rfl rfl)
theorem dX10_init_88 : decode cX10_init 88 = .ok (.bipush 25, 2) := dk_16 25 (dk_at dksX10_init_3 18 rfl rfl)
theorem dX10_init_90 : decode cX10_init 90 = .ok (.newarray .int, 2) := dk_188_10 (dk_at dksX10_init_3 20 rfl rfl)
theorem dX10_init_92 : decode cX10_init 92 = .ok (.putfield 40, 3) := dk_181 0 40 (dk_at dksX10_init_4 0 rfl rfl)
theorem dX10_init_95 : decode cX10_init 95 = .ok (.aload_n 0, 1) := dk_42 (dk_at dksX10_init_4 3 rfl rfl)
theorem dX10_init_96 : decode cX10_init 96 = .ok (.bipush 12, 2) := dk_16 12 (dk_at dksX10_init_4 4 rfl rfl)
theorem dX10_init_98 : decode cX10_init 98 = .ok (.newarray .int, 2) := dk_188_10 (dk_at dksX10_init_4 6 rfl rfl)
theorem dX10_init_100 : decode cX10_init 100 = .ok (.putfield 43, 3) := dk_181 0 43 (dk_at dksX10_init_4 8 rfl rfl)
theorem dX10_init_103 : decode cX10_init 103 = .ok (.aload_n 0, 1) := dk_42 (dk_at dksX10_init_4 11 rfl rfl)
theorem dX10_init_104 : decode cX10_init 104 = .ok (.bipush 12, 2) := dk_16 12 (dk_at dksX10_init_4 12 rfl rfl)
theorem dX10_init_106 : decode cX10_init 106 = .ok (.bipush 64, 2) := dk_16 64 (dk_at dksX10_init_4 14 rfl rfl)
theorem dX10_init_108 : decode cX10_init 108 = .ok (.multianewarray 16 2, 4) := by decide +kernel
theorem dX10_init_112 : decode cX10_init 112 = .ok (.putfield 46, 3) := dk_181 0 46 (dk_at dksX10_init_4 20 rfl rfl)
theorem dX10_init_115 : decode cX10_init 115 = .ok (.aload_n 0, 1) := dk_42 (dk_at dksX10_init_4 23 rfl rfl)
theorem dX10_init_116 : decode cX10_init 116 = .ok (.bipush 12, 2) := dk_16 12 (dk_at dksX10_init_5 0 rfl rfl)
theorem dX10_init_118 : decode cX10_init 118 = .ok (.newarray .int, 2) := dk_188_10 (dk_at dksX10_init_5 2 rfl rfl)
theorem dX10_init_120 : decode cX10_init 120 = .ok (.putfield 49, 3) := dk_181 0 49 (dk_at dksX10_init_5 4 rfl rfl)
theorem dX10_init_123 : decode cX10_init 123 = .ok (.aload_n 0, 1) := dk_42 (dk_at dksX10_init_5 7 rfl rfl)
theorem dX10_init_124 : decode cX10_init 124 = .ok (.bipush 12, 2) := dk_16 12 (dk_at dksX10_init_5 8 rfl rfl)
theorem dX10_init_126 : decode cX10_init 126 = .ok (.bipush 64, 2) := dk_16 64 (dk_at dksX10_init_5 10 rfl rfl)
theorem dX10_init_128 : decode cX10_init 128 = .ok (.multianewarray 16 2, 4) := by decide +kernel
theorem dX10_init_132 : decode cX10_init 132 = .ok (.putfield 52, 3) := dk_181 0 52 (dk_at dksX10_init_5 16 rfl rfl)
theorem dX10_init_135 : decode cX10_init 135 = .ok (.aload_n 0, 1) := dk_42 (dk_at dksX10_init_5 19 rfl rfl)
theorem dX10_init_136 : decode cX10_init 136 = .ok (.bipush 12, 2) := dk_16 12 (dk_at dksX10_init_5 20 rfl rfl)
theorem dX10_init_138 : decode cX10_init 138 = .ok (.newarray .int, 2) := dk_188_10 (dk_at dksX10_init_5 22 rfl rfl)
theorem dX10_init_140 : decode cX10_init 140 = .ok (.putfield 55, 3) := dk_181 0 55 (dk_at dksX10_init_6 0 rfl rfl)
theorem dX10_init_143 : decode cX10_init 143 = .ok (.aload_n 0, 1) := dk_42 (dk_at dksX10_init_6 3 rfl rfl)
theorem dX10_init_144 : decode cX10_init 144 = .ok (.bipush 64, 2) := dk_16 64 (dk_at dksX10_init_6 4 rfl rfl)
theorem dX10_init_146 : decode cX10_init 146 = .ok (.newarray .int, 2) := dk_188_10 (dk_at dksX10_init_6 6 rfl rfl)
theorem dX10_init_148 : decode cX10_init 148 = .ok (.putfield 58, 3) := dk_181 0 58 (dk_at dksX10_init_6 8 rfl rfl)
theorem dX10_init_151 : decode cX10_init 151 = .ok (.aload_n 0, 1) := dk_42 (dk_at dksX10_init_6 11 rfl rfl)
theorem dX10_init_152 : decode cX10_init 152 = .ok (.iconst 4, 1) := dk_7 (dk_at dksX10_init_6 12 rfl rfl)
theorem dX10_init_153 : decode cX10_init 153 = .ok (.bipush 25, 2) := dk_16 25 (dk_at dksX10_init_6 13 rfl rfl)
theorem dX10_init_155 : decode cX10_init 155 = .ok (.multianewarray 16 2, 4) := by decide +kernel
theorem dX10_init_159 : decode cX10_init 159 = .ok (.putfield 61, 3) := dk_181 0 61 (dk_at dksX10_init_6 19 rfl rfl)
theorem dX10_init_162 : decode cX10_init 162 = .ok (.aload_n 0, 1) := dk_42 (dk_at dksX10_init_6 22 rfl rfl)
theorem dX10_init_163 : decode cX10_init 163 = .ok (.iconst 4, 1) := dk_7 (dk_at dksX10_init_6 23 rfl rfl)
theorem dX10_init_164 : decode cX10_init 164 = .ok (.newarray .boolean, 2) := dk_188_4 (dk_at dksX10_init_7 0 rfl rfl)
theorem dX10_init_166 : decode cX10_init 166 = .ok (.putfield 64, 3) := dk_181 0 64 (dk_at dksX10_init_7 2 rfl rfl)
theorem dX10_init_169 : decode cX10_init 169 = .ok (.aload_n 0, 1) := dk_42 (dk_at dksX10_init_7 5 rfl rfl)
theorem dX10_init_170 : decode cX10_init 170 = .ok (.bipush 64, 2) := dk_16 64 (dk_at dksX10_init_7 6 rfl rfl)
theorem dX10_init_172 : decode cX10_init 172 = .ok (.newarray .int, 2) := dk_188_10 (dk_at dksX10_init_7 8 rfl rfl)
theorem dX10_init_174 : decode cX10_init 174 = .ok (.putfield 68, 3) := dk_181 0 68 (dk_at dksX10_init_7 10 rfl rfl)
theorem dX10_init_177 : decode cX10_init 177 = .ok (.aload_n 0, 1) := dk_42 (dk_at dksX10_init_7 13 rfl rfl)
theorem dX10_init_178 : decode cX10_init 178 = .ok (.bipush 18, 2) := dk_16 18 (dk_at dksX10_init_7 14 rfl rfl)
theorem dX10_init_180 : decode cX10_init 180 = .ok (.newarray .int, 2) := dk_188_10 (dk_at dksX10_init_7 16 rfl rfl)
theorem dX10_init_182 : decode cX10_init 182 = .ok (.putfield 71, 3) := dk_181 0 71 (dk_at dksX10_init_7 18 rfl rfl)
theorem dX10_init_185 : decode cX10_init 185 = .ok (.aload_n 0, 1) := dk_42 (dk_at dksX10_init_7 21 rfl rfl)
theorem dX10_init_186 : decode cX10_init 186 = .ok (.bipush 6, 2) := dk_16 6 (dk_at dksX10_init_7 22 rfl rfl)
theorem dX10_init_188 : decode cX10_init 188 = .ok (.bipush 25, 2) := dk_16 25 (dk_at dksX10_init_8 0 rfl rfl)
theorem dX10_init_190 : decode cX10_init 190 = .ok (.multianewarray 16 2, 4) := by decide +kernel
theorem dX10_init_194 : decode cX10_init 194 = .ok (.putfield 74, 3) := dk_181 0 74 (dk_at dksX10_init_8 6 rfl rfl)
theorem dX10_init_197 : decode cX10_init 197 = .ok (.aload_n 0, 1) := dk_42 (dk_at dksX10_init_8 9 rfl rfl)
theorem dX10_init_198 : decode cX10_init 198 = .ok (.iconst 4, 1) := dk_7 (dk_at dksX10_init_8 10 rfl rfl)
theorem dX10_init_199 : decode cX10_init 199 = .ok (.newarray .int, 2) := dk_188_10 (dk_at dksX10_init_8 11 rfl rfl)
theorem dX10_init_201 : decode cX10_init 201 = .ok (.putfield 77, 3) := dk_181 0 77 (dk_at dksX10_init_8 13 rfl rfl)
theorem dX10_init_204 : decode cX10_init 204 = .ok (.aload_n 0, 1) := dk_42 (dk_at dksX10_init_8 16 rfl rfl)
theorem dX10_init_205 : decode cX10_init 205 = .ok (.iconst 4, 1) := dk_7 (dk_at dksX10_init_8 17 rfl rfl)
theorem dX10_init_206 : decode cX10_init 206 = .ok (.newarray .int, 2) := dk_188_10 (dk_at dksX10_init_8 18 rfl rfl)
theorem dX10_init_208 : decode cX10_init 208 = .ok (.putfield 80, 3) := dk_181 0 80 (dk_at dksX10_init_8 20 rfl rfl)
theorem dX10_init_211 : decode cX10_init 211 = .ok (.aload_n 0, 1) := dk_42 (dk_at dksX10_init_8 23 rfl rfl)
theorem dX10_init_212 : decode cX10_init 212 = .ok (.bipush 96, 2) := dk_16 96 (dk_at dksX10_init_9 0 rfl rfl)
theorem dX10_init_214 : decode cX10_init 214 = .ok (.newarray .int, 2) := dk_188_10 (dk_at dksX10_init_9 2 rfl rfl)
theorem dX10_init_216 : decode cX10_init 216 = .ok (.putfield 83, 3) := dk_181 0 83 (dk_at dksX10_init_9 4 rfl rfl)
theorem dX10_init_219 : decode cX10_init 219 = .ok (.aload_n 0, 1) := dk_42 (dk_at dksX10_init_9 7 rfl rfl)
theorem dX10_init_220 : decode cX10_init 220 = .ok (.bipush 24, 2) := dk_16 24 (dk_at dksX10_init_9 8 rfl rfl)
theorem dX10_init_222 : decode cX10_init 222 = .ok (.newarray .int, 2) := dk_188_10 (dk_at dksX10_init_9 10 rfl rfl)
theorem dX10_init_224 : decode cX10_init 224 = .ok (.putfield 86, 3) := dk_181 0 86 (dk_at dksX10_init_9 12 rfl rfl)
theorem dX10_init_227 : decode cX10_init 227 = .ok (.aload_n 0, 1) := dk_42 (dk_at dksX10_init_9 15 rfl rfl)
theorem dX10_init_228 : decode cX10_init 228 = .ok (.bipush 25, 2) := dk_16 25 (dk_at dksX10_init_9 16 rfl rfl)
theorem dX10_init_230 : decode cX10_init 230 = .ok (.newarray .int, 2) := dk_188_10 (dk_at dksX10_init_9 18 rfl rfl)
theorem dX10_init_232 : decode cX10_init 232 = .ok (.putfield 89, 3) := dk_181 0 89 (dk_at dksX10_init_9 20 rfl rfl)
theorem dX10_init_235 : decode cX10_init 235 = .ok (.aload_n 0, 1) := dk_42 (dk_at dksX10_init_9 23 rfl rfl)
theorem dX10_init_236 : decode cX10_init 236 = .ok (.bipush 18, 2) := dk_16 18 (dk_at dksX10_init_10 0 rfl rfl)
theorem dX10_init_238 : decode cX10_init 238 = .ok (.newarray .int, 2) := dk_188_10 (dk_at dksX10_init_10 2 rfl rfl)
theorem dX10_init_240 : decode cX10_init 240 = .ok (.putfield 92, 3) := dk_181 0 92 (dk_at dksX10_init_10 4 rfl rfl)
theorem dX10_init_243 : decode cX10_init 243 = .ok (.return_, 1) := dk_177 (dk_at dksX10_init_10 7 rfl rfl)
abbrev cX10_move : ByteArray := prog_26_method_32_code
def yX10_move : MethodName := ⟨RX10, "move", "(IIIII)I"⟩
def dkwX10_move_3 : List UInt8 := [172]
abbrev dktX10_move_3 : List UInt8 := dkwX10_move_3 ++ []
def dkwX10_move_2 : List UInt8 := [182, 0, 204, 172, 42, 27, 28, 29, 21, 4, 21, 5, 182, 0, 207, 42, 180, 0, 13, 3, 46, 184, 0, 130]
abbrev dktX10_move_2 : List UInt8 := dkwX10_move_2 ++ dktX10_move_3
def dkwX10_move_1 : List UInt8 := [160, 0, 15, 42, 180, 0, 181, 16, 40, 160, 0, 6, 7, 54, 6, 21, 6, 153, 0, 10, 42, 21, 6]
abbrev dktX10_move_1 : List UInt8 := dkwX10_move_1 ++ dktX10_move_2
def dkwX10_move_0 : List UInt8 := [42, 180, 0, 13, 27, 28, 29, 21, 4, 21, 5, 184, 0, 200, 54, 6, 21, 6, 153, 0, 9, 21, 6, 8]
abbrev dktX10_move_0 : List UInt8 := dkwX10_move_0 ++ dktX10_move_1
theorem dksX10_move_0 : cX10_move.data.toList.drop 0 = dktX10_move_0 := by decide +kernel
theorem dksX10_move_1 : cX10_move.data.toList.drop 24 = dktX10_move_1 := dk_seg dksX10_move_0 24 rfl rfl
theorem dksX10_move_2 : cX10_move.data.toList.drop 47 = dktX10_move_2 := dk_seg dksX10_move_1 23 rfl rfl
theorem dksX10_move_3 : cX10_move.data.toList.drop 71 = dktX10_move_3 := dk_seg dksX10_move_2 24 rfl rfl
theorem dX10_move_0 : decode cX10_move 0 = .ok (.aload_n 0, 1) := dk_42 (dk_at dksX10_move_0 0 rfl rfl)
theorem dX10_move_1 : decode cX10_move 1 = .ok (.getfield 13, 3) := dk_180 0 13 (dk_at dksX10_move_0 1 rfl rfl)
theorem dX10_move_4 : decode cX10_move 4 = .ok (.iload_n 1, 1) := dk_27 (dk_at dksX10_move_0 4 rfl rfl)
theorem dX10_move_5 : decode cX10_move 5 = .ok (.iload_n 2, 1) := dk_28 (dk_at dksX10_move_0 5 rfl rfl)
theorem dX10_move_6 : decode cX10_move 6 = .ok (.iload_n 3, 1) := dk_29 (dk_at dksX10_move_0 6 rfl rfl)
theorem dX10_move_7 : decode cX10_move 7 = .ok (.iload 4, 2) := dk_21 4 (dk_at dksX10_move_0 7 rfl rfl)
theorem dX10_move_9 : decode cX10_move 9 = .ok (.iload 5, 2) := dk_21 5 (dk_at dksX10_move_0 9 rfl rfl)
theorem dX10_move_11 : decode cX10_move 11 = .ok (.invokestatic 200, 3) := dk_184 0 200 (dk_at dksX10_move_0 11 rfl rfl)
theorem dX10_move_14 : decode cX10_move 14 = .ok (.istore 6, 2) := dk_54 6 (dk_at dksX10_move_0 14 rfl rfl)
theorem dX10_move_16 : decode cX10_move 16 = .ok (.iload 6, 2) := dk_21 6 (dk_at dksX10_move_0 16 rfl rfl)
theorem dX10_move_18 : decode cX10_move 18 = .ok (.ifCond .eq 9, 3) := dk_153 0 9 (dk_at dksX10_move_0 18 rfl rfl)
theorem dX10_move_21 : decode cX10_move 21 = .ok (.iload 6, 2) := dk_21 6 (dk_at dksX10_move_0 21 rfl rfl)
theorem dX10_move_23 : decode cX10_move 23 = .ok (.iconst 5, 1) := dk_8 (dk_at dksX10_move_0 23 rfl rfl)
theorem dX10_move_24 : decode cX10_move 24 = .ok (.if_icmp .ne 15, 3) := dk_160 0 15 (dk_at dksX10_move_1 0 rfl rfl)
theorem dX10_move_27 : decode cX10_move 27 = .ok (.aload_n 0, 1) := dk_42 (dk_at dksX10_move_1 3 rfl rfl)
theorem dX10_move_28 : decode cX10_move 28 = .ok (.getfield 181, 3) := dk_180 0 181 (dk_at dksX10_move_1 4 rfl rfl)
theorem dX10_move_31 : decode cX10_move 31 = .ok (.bipush 40, 2) := dk_16 40 (dk_at dksX10_move_1 7 rfl rfl)
theorem dX10_move_33 : decode cX10_move 33 = .ok (.if_icmp .ne 6, 3) := dk_160 0 6 (dk_at dksX10_move_1 9 rfl rfl)
theorem dX10_move_36 : decode cX10_move 36 = .ok (.iconst 4, 1) := dk_7 (dk_at dksX10_move_1 12 rfl rfl)
theorem dX10_move_37 : decode cX10_move 37 = .ok (.istore 6, 2) := dk_54 6 (dk_at dksX10_move_1 13 rfl rfl)
theorem dX10_move_39 : decode cX10_move 39 = .ok (.iload 6, 2) := dk_21 6 (dk_at dksX10_move_1 15 rfl rfl)
theorem dX10_move_41 : decode cX10_move 41 = .ok (.ifCond .eq 10, 3) := dk_153 0 10 (dk_at dksX10_move_1 17 rfl rfl)
theorem dX10_move_44 : decode cX10_move 44 = .ok (.aload_n 0, 1) := dk_42 (dk_at dksX10_move_1 20 rfl rfl)
theorem dX10_move_45 : decode cX10_move 45 = .ok (.iload 6, 2) := dk_21 6 (dk_at dksX10_move_1 21 rfl rfl)
theorem dX10_move_47 : decode cX10_move 47 = .ok (.invokevirtual 204, 3) := dk_182 0 204 (dk_at dksX10_move_2 0 rfl rfl)
theorem dX10_move_50 : decode cX10_move 50 = .ok (.ireturn, 1) := dk_172 (dk_at dksX10_move_2 3 rfl rfl)
theorem dX10_move_51 : decode cX10_move 51 = .ok (.aload_n 0, 1) := dk_42 (dk_at dksX10_move_2 4 rfl rfl)
theorem dX10_move_52 : decode cX10_move 52 = .ok (.iload_n 1, 1) := dk_27 (dk_at dksX10_move_2 5 rfl rfl)
theorem dX10_move_53 : decode cX10_move 53 = .ok (.iload_n 2, 1) := dk_28 (dk_at dksX10_move_2 6 rfl rfl)
theorem dX10_move_54 : decode cX10_move 54 = .ok (.iload_n 3, 1) := dk_29 (dk_at dksX10_move_2 7 rfl rfl)
theorem dX10_move_55 : decode cX10_move 55 = .ok (.iload 4, 2) := dk_21 4 (dk_at dksX10_move_2 8 rfl rfl)
theorem dX10_move_57 : decode cX10_move 57 = .ok (.iload 5, 2) := dk_21 5 (dk_at dksX10_move_2 10 rfl rfl)
theorem dX10_move_59 : decode cX10_move 59 = .ok (.invokevirtual 207, 3) := dk_182 0 207 (dk_at dksX10_move_2 12 rfl rfl)
theorem dX10_move_62 : decode cX10_move 62 = .ok (.aload_n 0, 1) := dk_42 (dk_at dksX10_move_2 15 rfl rfl)
theorem dX10_move_63 : decode cX10_move 63 = .ok (.getfield 13, 3) := dk_180 0 13 (dk_at dksX10_move_2 16 rfl rfl)
theorem dX10_move_66 : decode cX10_move 66 = .ok (.iconst 0, 1) := dk_3 (dk_at dksX10_move_2 19 rfl rfl)
theorem dX10_move_67 : decode cX10_move 67 = .ok (.iaload, 1) := dk_46 (dk_at dksX10_move_2 20 rfl rfl)
theorem dX10_move_68 : decode cX10_move 68 = .ok (.invokestatic 130, 3) := dk_184 0 130 (dk_at dksX10_move_2 21 rfl rfl)
theorem dX10_move_71 : decode cX10_move 71 = .ok (.ireturn, 1) := dk_172 (dk_at dksX10_move_3 0 rfl rfl)
abbrev cX10_refused : ByteArray := prog_26_method_23_code
def yX10_refused : MethodName := ⟨RX10, "refused", "([IIIIII)I"⟩
def dkwX10_refused_2 : List UInt8 := [27, 28, 29, 21, 4, 184, 0, 150, 153, 0, 7, 3, 167, 0, 4, 8, 172]
abbrev dktX10_refused_2 : List UInt8 := dkwX10_refused_2 ++ []
def dkwX10_refused_1 : List UInt8 := [154, 0, 5, 6, 172, 42, 3, 46, 184, 0, 130, 27, 184, 0, 147, 96, 16, 12, 164, 0, 5, 7, 172, 42]
abbrev dktX10_refused_1 : List UInt8 := dkwX10_refused_1 ++ dktX10_refused_2
def dkwX10_refused_0 : List UInt8 := [42, 27, 28, 29, 21, 4, 21, 5, 184, 0, 139, 154, 0, 5, 4, 172, 42, 27, 28, 29, 184, 0, 143]
abbrev dktX10_refused_0 : List UInt8 := dkwX10_refused_0 ++ dktX10_refused_1
theorem dksX10_refused_0 : cX10_refused.data.toList.drop 0 = dktX10_refused_0 := by decide +kernel
theorem dksX10_refused_1 : cX10_refused.data.toList.drop 23 = dktX10_refused_1 := dk_seg dksX10_refused_0 23 rfl rfl
theorem dksX10_refused_2 : cX10_refused.data.toList.drop 47 = dktX10_refused_2 := dk_seg dksX10_refused_1 24 rfl rfl
theorem dX10_refused_0 : decode cX10_refused 0 = .ok (.aload_n 0, 1) := dk_42 (dk_at dksX10_refused_0 0 rfl rfl)
theorem dX10_refused_1 : decode cX10_refused 1 = .ok (.iload_n 1, 1) := dk_27 (dk_at dksX10_refused_0 1 rfl rfl)
theorem dX10_refused_2 : decode cX10_refused 2 = .ok (.iload_n 2, 1) := dk_28 (dk_at dksX10_refused_0 2 rfl rfl)
theorem dX10_refused_3 : decode cX10_refused 3 = .ok (.iload_n 3, 1) := dk_29 (dk_at dksX10_refused_0 3 rfl rfl)
theorem dX10_refused_4 : decode cX10_refused 4 = .ok (.iload 4, 2) := dk_21 4 (dk_at dksX10_refused_0 4 rfl rfl)
theorem dX10_refused_6 : decode cX10_refused 6 = .ok (.iload 5, 2) := dk_21 5 (dk_at dksX10_refused_0 6 rfl rfl)
theorem dX10_refused_8 : decode cX10_refused 8 = .ok (.invokestatic 139, 3) := dk_184 0 139 (dk_at dksX10_refused_0 8 rfl rfl)
theorem dX10_refused_11 : decode cX10_refused 11 = .ok (.ifCond .ne 5, 3) := dk_154 0 5 (dk_at dksX10_refused_0 11 rfl rfl)
theorem dX10_refused_14 : decode cX10_refused 14 = .ok (.iconst 1, 1) := dk_4 (dk_at dksX10_refused_0 14 rfl rfl)
theorem dX10_refused_15 : decode cX10_refused 15 = .ok (.ireturn, 1) := dk_172 (dk_at dksX10_refused_0 15 rfl rfl)
theorem dX10_refused_16 : decode cX10_refused 16 = .ok (.aload_n 0, 1) := dk_42 (dk_at dksX10_refused_0 16 rfl rfl)
theorem dX10_refused_17 : decode cX10_refused 17 = .ok (.iload_n 1, 1) := dk_27 (dk_at dksX10_refused_0 17 rfl rfl)
theorem dX10_refused_18 : decode cX10_refused 18 = .ok (.iload_n 2, 1) := dk_28 (dk_at dksX10_refused_0 18 rfl rfl)
theorem dX10_refused_19 : decode cX10_refused 19 = .ok (.iload_n 3, 1) := dk_29 (dk_at dksX10_refused_0 19 rfl rfl)
theorem dX10_refused_20 : decode cX10_refused 20 = .ok (.invokestatic 143, 3) := dk_184 0 143 (dk_at dksX10_refused_0 20 rfl rfl)
theorem dX10_refused_23 : decode cX10_refused 23 = .ok (.ifCond .ne 5, 3) := dk_154 0 5 (dk_at dksX10_refused_1 0 rfl rfl)
theorem dX10_refused_26 : decode cX10_refused 26 = .ok (.iconst 3, 1) := dk_6 (dk_at dksX10_refused_1 3 rfl rfl)
theorem dX10_refused_27 : decode cX10_refused 27 = .ok (.ireturn, 1) := dk_172 (dk_at dksX10_refused_1 4 rfl rfl)
theorem dX10_refused_28 : decode cX10_refused 28 = .ok (.aload_n 0, 1) := dk_42 (dk_at dksX10_refused_1 5 rfl rfl)
theorem dX10_refused_29 : decode cX10_refused 29 = .ok (.iconst 0, 1) := dk_3 (dk_at dksX10_refused_1 6 rfl rfl)
theorem dX10_refused_30 : decode cX10_refused 30 = .ok (.iaload, 1) := dk_46 (dk_at dksX10_refused_1 7 rfl rfl)
theorem dX10_refused_31 : decode cX10_refused 31 = .ok (.invokestatic 130, 3) := dk_184 0 130 (dk_at dksX10_refused_1 8 rfl rfl)
theorem dX10_refused_34 : decode cX10_refused 34 = .ok (.iload_n 1, 1) := dk_27 (dk_at dksX10_refused_1 11 rfl rfl)
theorem dX10_refused_35 : decode cX10_refused 35 = .ok (.invokestatic 147, 3) := dk_184 0 147 (dk_at dksX10_refused_1 12 rfl rfl)
theorem dX10_refused_38 : decode cX10_refused 38 = .ok (.iadd, 1) := dk_96 (dk_at dksX10_refused_1 15 rfl rfl)
theorem dX10_refused_39 : decode cX10_refused 39 = .ok (.bipush 12, 2) := dk_16 12 (dk_at dksX10_refused_1 16 rfl rfl)
theorem dX10_refused_41 : decode cX10_refused 41 = .ok (.if_icmp .le 5, 3) := dk_164 0 5 (dk_at dksX10_refused_1 18 rfl rfl)
theorem dX10_refused_44 : decode cX10_refused 44 = .ok (.iconst 4, 1) := dk_7 (dk_at dksX10_refused_1 21 rfl rfl)
theorem dX10_refused_45 : decode cX10_refused 45 = .ok (.ireturn, 1) := dk_172 (dk_at dksX10_refused_1 22 rfl rfl)
theorem dX10_refused_46 : decode cX10_refused 46 = .ok (.aload_n 0, 1) := dk_42 (dk_at dksX10_refused_1 23 rfl rfl)
theorem dX10_refused_47 : decode cX10_refused 47 = .ok (.iload_n 1, 1) := dk_27 (dk_at dksX10_refused_2 0 rfl rfl)
theorem dX10_refused_48 : decode cX10_refused 48 = .ok (.iload_n 2, 1) := dk_28 (dk_at dksX10_refused_2 1 rfl rfl)
theorem dX10_refused_49 : decode cX10_refused 49 = .ok (.iload_n 3, 1) := dk_29 (dk_at dksX10_refused_2 2 rfl rfl)
theorem dX10_refused_50 : decode cX10_refused 50 = .ok (.iload 4, 2) := dk_21 4 (dk_at dksX10_refused_2 3 rfl rfl)
theorem dX10_refused_52 : decode cX10_refused 52 = .ok (.invokestatic 150, 3) := dk_184 0 150 (dk_at dksX10_refused_2 5 rfl rfl)
theorem dX10_refused_55 : decode cX10_refused 55 = .ok (.ifCond .eq 7, 3) := dk_153 0 7 (dk_at dksX10_refused_2 8 rfl rfl)
theorem dX10_refused_58 : decode cX10_refused 58 = .ok (.iconst 0, 1) := dk_3 (dk_at dksX10_refused_2 11 rfl rfl)
theorem dX10_refused_59 : decode cX10_refused 59 = .ok (.goto 4, 3) := dk_167 0 4 (dk_at dksX10_refused_2 12 rfl rfl)
theorem dX10_refused_62 : decode cX10_refused 62 = .ok (.iconst 5, 1) := dk_8 (dk_at dksX10_refused_2 15 rfl rfl)
theorem dX10_refused_63 : decode cX10_refused 63 = .ok (.ireturn, 1) := dk_172 (dk_at dksX10_refused_2 16 rfl rfl)
abbrev cX10_isAsTold : ByteArray := prog_26_method_19_code
def yX10_isAsTold : MethodName := ⟨RX10, "isAsTold", "([IIIIII)Z"⟩
def dkwX10_isAsTold_4 : List UInt8 := [28, 96, 46, 2, 130, 126, 154, 0, 7, 4, 167, 0, 4, 3, 172]
abbrev dktX10_isAsTold_4 : List UInt8 := dkwX10_isAsTold_4 ++ []
def dkwX10_isAsTold_3 : List UInt8 := [159, 0, 5, 3, 172, 27, 16, 7, 160, 0, 25, 21, 4, 184, 0, 126, 153, 0, 21, 21, 5, 42, 16, 13]
abbrev dktX10_isAsTold_3 : List UInt8 := dkwX10_isAsTold_3 ++ dktX10_isAsTold_4
def dkwX10_isAsTold_2 : List UInt8 := [3, 172, 27, 133, 10, 20, 0, 124, 184, 0, 102, 153, 0, 17, 21, 4, 4, 159, 0, 11, 21, 4, 2]
abbrev dktX10_isAsTold_2 : List UInt8 := dkwX10_isAsTold_2 ++ dktX10_isAsTold_3
def dkwX10_isAsTold_1 : List UInt8 := [159, 0, 11, 42, 28, 184, 0, 106, 153, 0, 16, 27, 4, 160, 0, 13, 42, 29, 184, 0, 106, 154, 0, 5]
abbrev dktX10_isAsTold_1 : List UInt8 := dkwX10_isAsTold_1 ++ dktX10_isAsTold_2
def dkwX10_isAsTold_0 : List UInt8 := [27, 133, 9, 20, 0, 122, 184, 0, 102, 154, 0, 5, 3, 172, 27, 6, 159, 0, 17, 27, 16, 6]
abbrev dktX10_isAsTold_0 : List UInt8 := dkwX10_isAsTold_0 ++ dktX10_isAsTold_1
theorem dksX10_isAsTold_0 : cX10_isAsTold.data.toList.drop 0 = dktX10_isAsTold_0 := by decide +kernel
theorem dksX10_isAsTold_1 : cX10_isAsTold.data.toList.drop 22 = dktX10_isAsTold_1 := dk_seg dksX10_isAsTold_0 22 rfl rfl
theorem dksX10_isAsTold_2 : cX10_isAsTold.data.toList.drop 46 = dktX10_isAsTold_2 := dk_seg dksX10_isAsTold_1 24 rfl rfl
theorem dksX10_isAsTold_3 : cX10_isAsTold.data.toList.drop 69 = dktX10_isAsTold_3 := dk_seg dksX10_isAsTold_2 23 rfl rfl
theorem dksX10_isAsTold_4 : cX10_isAsTold.data.toList.drop 93 = dktX10_isAsTold_4 := dk_seg dksX10_isAsTold_3 24 rfl rfl
theorem dX10_isAsTold_0 : decode cX10_isAsTold 0 = .ok (.iload_n 1, 1) := dk_27 (dk_at dksX10_isAsTold_0 0 rfl rfl)
theorem dX10_isAsTold_1 : decode cX10_isAsTold 1 = .ok (.i2l, 1) := dk_133 (dk_at dksX10_isAsTold_0 1 rfl rfl)
theorem dX10_isAsTold_2 : decode cX10_isAsTold 2 = .ok (.lconst 0, 1) := dk_9 (dk_at dksX10_isAsTold_0 2 rfl rfl)
theorem dX10_isAsTold_3 : decode cX10_isAsTold 3 = .ok (.ldc2_w 122, 3) := dk_20 0 122 (dk_at dksX10_isAsTold_0 3 rfl rfl)
theorem dX10_isAsTold_6 : decode cX10_isAsTold 6 = .ok (.invokestatic 102, 3) := dk_184 0 102 (dk_at dksX10_isAsTold_0 6 rfl rfl)
theorem dX10_isAsTold_9 : decode cX10_isAsTold 9 = .ok (.ifCond .ne 5, 3) := dk_154 0 5 (dk_at dksX10_isAsTold_0 9 rfl rfl)
theorem dX10_isAsTold_12 : decode cX10_isAsTold 12 = .ok (.iconst 0, 1) := dk_3 (dk_at dksX10_isAsTold_0 12 rfl rfl)
theorem dX10_isAsTold_13 : decode cX10_isAsTold 13 = .ok (.ireturn, 1) := dk_172 (dk_at dksX10_isAsTold_0 13 rfl rfl)
theorem dX10_isAsTold_14 : decode cX10_isAsTold 14 = .ok (.iload_n 1, 1) := dk_27 (dk_at dksX10_isAsTold_0 14 rfl rfl)
theorem dX10_isAsTold_15 : decode cX10_isAsTold 15 = .ok (.iconst 3, 1) := dk_6 (dk_at dksX10_isAsTold_0 15 rfl rfl)
theorem dX10_isAsTold_16 : decode cX10_isAsTold 16 = .ok (.if_icmp .eq 17, 3) := dk_159 0 17 (dk_at dksX10_isAsTold_0 16 rfl rfl)
theorem dX10_isAsTold_19 : decode cX10_isAsTold 19 = .ok (.iload_n 1, 1) := dk_27 (dk_at dksX10_isAsTold_0 19 rfl rfl)
theorem dX10_isAsTold_20 : decode cX10_isAsTold 20 = .ok (.bipush 6, 2) := dk_16 6 (dk_at dksX10_isAsTold_0 20 rfl rfl)
theorem dX10_isAsTold_22 : decode cX10_isAsTold 22 = .ok (.if_icmp .eq 11, 3) := dk_159 0 11 (dk_at dksX10_isAsTold_1 0 rfl rfl)
theorem dX10_isAsTold_25 : decode cX10_isAsTold 25 = .ok (.aload_n 0, 1) := dk_42 (dk_at dksX10_isAsTold_1 3 rfl rfl)
theorem dX10_isAsTold_26 : decode cX10_isAsTold 26 = .ok (.iload_n 2, 1) := dk_28 (dk_at dksX10_isAsTold_1 4 rfl rfl)
theorem dX10_isAsTold_27 : decode cX10_isAsTold 27 = .ok (.invokestatic 106, 3) := dk_184 0 106 (dk_at dksX10_isAsTold_1 5 rfl rfl)
theorem dX10_isAsTold_30 : decode cX10_isAsTold 30 = .ok (.ifCond .eq 16, 3) := dk_153 0 16 (dk_at dksX10_isAsTold_1 8 rfl rfl)
theorem dX10_isAsTold_33 : decode cX10_isAsTold 33 = .ok (.iload_n 1, 1) := dk_27 (dk_at dksX10_isAsTold_1 11 rfl rfl)
theorem dX10_isAsTold_34 : decode cX10_isAsTold 34 = .ok (.iconst 1, 1) := dk_4 (dk_at dksX10_isAsTold_1 12 rfl rfl)
theorem dX10_isAsTold_35 : decode cX10_isAsTold 35 = .ok (.if_icmp .ne 13, 3) := dk_160 0 13 (dk_at dksX10_isAsTold_1 13 rfl rfl)
theorem dX10_isAsTold_38 : decode cX10_isAsTold 38 = .ok (.aload_n 0, 1) := dk_42 (dk_at dksX10_isAsTold_1 16 rfl rfl)
theorem dX10_isAsTold_39 : decode cX10_isAsTold 39 = .ok (.iload_n 3, 1) := dk_29 (dk_at dksX10_isAsTold_1 17 rfl rfl)
theorem dX10_isAsTold_40 : decode cX10_isAsTold 40 = .ok (.invokestatic 106, 3) := dk_184 0 106 (dk_at dksX10_isAsTold_1 18 rfl rfl)
theorem dX10_isAsTold_43 : decode cX10_isAsTold 43 = .ok (.ifCond .ne 5, 3) := dk_154 0 5 (dk_at dksX10_isAsTold_1 21 rfl rfl)
theorem dX10_isAsTold_46 : decode cX10_isAsTold 46 = .ok (.iconst 0, 1) := dk_3 (dk_at dksX10_isAsTold_2 0 rfl rfl)
theorem dX10_isAsTold_47 : decode cX10_isAsTold 47 = .ok (.ireturn, 1) := dk_172 (dk_at dksX10_isAsTold_2 1 rfl rfl)
theorem dX10_isAsTold_48 : decode cX10_isAsTold 48 = .ok (.iload_n 1, 1) := dk_27 (dk_at dksX10_isAsTold_2 2 rfl rfl)
theorem dX10_isAsTold_49 : decode cX10_isAsTold 49 = .ok (.i2l, 1) := dk_133 (dk_at dksX10_isAsTold_2 3 rfl rfl)
theorem dX10_isAsTold_50 : decode cX10_isAsTold 50 = .ok (.lconst 1, 1) := dk_10 (dk_at dksX10_isAsTold_2 4 rfl rfl)
theorem dX10_isAsTold_51 : decode cX10_isAsTold 51 = .ok (.ldc2_w 124, 3) := dk_20 0 124 (dk_at dksX10_isAsTold_2 5 rfl rfl)
theorem dX10_isAsTold_54 : decode cX10_isAsTold 54 = .ok (.invokestatic 102, 3) := dk_184 0 102 (dk_at dksX10_isAsTold_2 8 rfl rfl)
theorem dX10_isAsTold_57 : decode cX10_isAsTold 57 = .ok (.ifCond .eq 17, 3) := dk_153 0 17 (dk_at dksX10_isAsTold_2 11 rfl rfl)
theorem dX10_isAsTold_60 : decode cX10_isAsTold 60 = .ok (.iload 4, 2) := dk_21 4 (dk_at dksX10_isAsTold_2 14 rfl rfl)
theorem dX10_isAsTold_62 : decode cX10_isAsTold 62 = .ok (.iconst 1, 1) := dk_4 (dk_at dksX10_isAsTold_2 16 rfl rfl)
theorem dX10_isAsTold_63 : decode cX10_isAsTold 63 = .ok (.if_icmp .eq 11, 3) := dk_159 0 11 (dk_at dksX10_isAsTold_2 17 rfl rfl)
theorem dX10_isAsTold_66 : decode cX10_isAsTold 66 = .ok (.iload 4, 2) := dk_21 4 (dk_at dksX10_isAsTold_2 20 rfl rfl)
theorem dX10_isAsTold_68 : decode cX10_isAsTold 68 = .ok (.iconst (-1), 1) := dk_2 (dk_at dksX10_isAsTold_2 22 rfl rfl)
theorem dX10_isAsTold_69 : decode cX10_isAsTold 69 = .ok (.if_icmp .eq 5, 3) := dk_159 0 5 (dk_at dksX10_isAsTold_3 0 rfl rfl)
theorem dX10_isAsTold_72 : decode cX10_isAsTold 72 = .ok (.iconst 0, 1) := dk_3 (dk_at dksX10_isAsTold_3 3 rfl rfl)
theorem dX10_isAsTold_73 : decode cX10_isAsTold 73 = .ok (.ireturn, 1) := dk_172 (dk_at dksX10_isAsTold_3 4 rfl rfl)
theorem dX10_isAsTold_74 : decode cX10_isAsTold 74 = .ok (.iload_n 1, 1) := dk_27 (dk_at dksX10_isAsTold_3 5 rfl rfl)
theorem dX10_isAsTold_75 : decode cX10_isAsTold 75 = .ok (.bipush 7, 2) := dk_16 7 (dk_at dksX10_isAsTold_3 6 rfl rfl)
theorem dX10_isAsTold_77 : decode cX10_isAsTold 77 = .ok (.if_icmp .ne 25, 3) := dk_160 0 25 (dk_at dksX10_isAsTold_3 8 rfl rfl)
theorem dX10_isAsTold_80 : decode cX10_isAsTold 80 = .ok (.iload 4, 2) := dk_21 4 (dk_at dksX10_isAsTold_3 11 rfl rfl)
theorem dX10_isAsTold_82 : decode cX10_isAsTold 82 = .ok (.invokestatic 126, 3) := dk_184 0 126 (dk_at dksX10_isAsTold_3 13 rfl rfl)
theorem dX10_isAsTold_85 : decode cX10_isAsTold 85 = .ok (.ifCond .eq 21, 3) := dk_153 0 21 (dk_at dksX10_isAsTold_3 16 rfl rfl)
theorem dX10_isAsTold_88 : decode cX10_isAsTold 88 = .ok (.iload 5, 2) := dk_21 5 (dk_at dksX10_isAsTold_3 19 rfl rfl)
theorem dX10_isAsTold_90 : decode cX10_isAsTold 90 = .ok (.aload_n 0, 1) := dk_42 (dk_at dksX10_isAsTold_3 21 rfl rfl)
theorem dX10_isAsTold_91 : decode cX10_isAsTold 91 = .ok (.bipush 13, 2) := dk_16 13 (dk_at dksX10_isAsTold_3 22 rfl rfl)
theorem dX10_isAsTold_93 : decode cX10_isAsTold 93 = .ok (.iload_n 2, 1) := dk_28 (dk_at dksX10_isAsTold_4 0 rfl rfl)
theorem dX10_isAsTold_94 : decode cX10_isAsTold 94 = .ok (.iadd, 1) := dk_96 (dk_at dksX10_isAsTold_4 1 rfl rfl)
theorem dX10_isAsTold_95 : decode cX10_isAsTold 95 = .ok (.iaload, 1) := dk_46 (dk_at dksX10_isAsTold_4 2 rfl rfl)
theorem dX10_isAsTold_96 : decode cX10_isAsTold 96 = .ok (.iconst (-1), 1) := dk_2 (dk_at dksX10_isAsTold_4 3 rfl rfl)
theorem dX10_isAsTold_97 : decode cX10_isAsTold 97 = .ok (.ixor, 1) := dk_130 (dk_at dksX10_isAsTold_4 4 rfl rfl)
theorem dX10_isAsTold_98 : decode cX10_isAsTold 98 = .ok (.iand, 1) := dk_126 (dk_at dksX10_isAsTold_4 5 rfl rfl)
theorem dX10_isAsTold_99 : decode cX10_isAsTold 99 = .ok (.ifCond .ne 7, 3) := dk_154 0 7 (dk_at dksX10_isAsTold_4 6 rfl rfl)
theorem dX10_isAsTold_102 : decode cX10_isAsTold 102 = .ok (.iconst 1, 1) := dk_4 (dk_at dksX10_isAsTold_4 9 rfl rfl)
theorem dX10_isAsTold_103 : decode cX10_isAsTold 103 = .ok (.goto 4, 3) := dk_167 0 4 (dk_at dksX10_isAsTold_4 10 rfl rfl)
theorem dX10_isAsTold_106 : decode cX10_isAsTold 106 = .ok (.iconst 0, 1) := dk_3 (dk_at dksX10_isAsTold_4 13 rfl rfl)
theorem dX10_isAsTold_107 : decode cX10_isAsTold 107 = .ok (.ireturn, 1) := dk_172 (dk_at dksX10_isAsTold_4 14 rfl rfl)
abbrev cX10_in : ByteArray := prog_26_method_2_code
def yX10_in : MethodName := ⟨RX10, "in", "(JJJ)Z"⟩
def dkwX10_in_0 : List UInt8 := [30, 32, 148, 155, 0, 14, 30, 22, 4, 148, 157, 0, 7, 4, 167, 0, 4, 3, 172]
abbrev dktX10_in_0 : List UInt8 := dkwX10_in_0 ++ []
theorem dksX10_in_0 : cX10_in.data.toList.drop 0 = dktX10_in_0 := by decide +kernel
theorem dX10_in_0 : decode cX10_in 0 = .ok (.lload_n 0, 1) := dk_30 (dk_at dksX10_in_0 0 rfl rfl)
theorem dX10_in_1 : decode cX10_in 1 = .ok (.lload_n 2, 1) := dk_32 (dk_at dksX10_in_0 1 rfl rfl)
theorem dX10_in_2 : decode cX10_in 2 = .ok (.lcmp, 1) := dk_148 (dk_at dksX10_in_0 2 rfl rfl)
theorem dX10_in_3 : decode cX10_in 3 = .ok (.ifCond .lt 14, 3) := dk_155 0 14 (dk_at dksX10_in_0 3 rfl rfl)
theorem dX10_in_6 : decode cX10_in 6 = .ok (.lload_n 0, 1) := dk_30 (dk_at dksX10_in_0 6 rfl rfl)
theorem dX10_in_7 : decode cX10_in 7 = .ok (.lload 4, 2) := dk_22 4 (dk_at dksX10_in_0 7 rfl rfl)
theorem dX10_in_9 : decode cX10_in 9 = .ok (.lcmp, 1) := dk_148 (dk_at dksX10_in_0 9 rfl rfl)
theorem dX10_in_10 : decode cX10_in 10 = .ok (.ifCond .gt 7, 3) := dk_157 0 7 (dk_at dksX10_in_0 10 rfl rfl)
theorem dX10_in_13 : decode cX10_in 13 = .ok (.iconst 1, 1) := dk_4 (dk_at dksX10_in_0 13 rfl rfl)
theorem dX10_in_14 : decode cX10_in 14 = .ok (.goto 4, 3) := dk_167 0 4 (dk_at dksX10_in_0 14 rfl rfl)
theorem dX10_in_17 : decode cX10_in 17 = .ok (.iconst 0, 1) := dk_3 (dk_at dksX10_in_0 17 rfl rfl)
theorem dX10_in_18 : decode cX10_in 18 = .ok (.ireturn, 1) := dk_172 (dk_at dksX10_in_0 18 rfl rfl)
abbrev cX10_isThere : ByteArray := prog_26_method_8_code
def yX10_isThere : MethodName := ⟨RX10, "isThere", "([II)Z"⟩
def dkwX10_isThere_1 : List UInt8 := [167, 0, 4, 3, 172]
abbrev dktX10_isThere_1 : List UInt8 := dkwX10_isThere_1 ++ []
def dkwX10_isThere_0 : List UInt8 := [27, 133, 9, 20, 0, 100, 184, 0, 102, 153, 0, 17, 42, 3, 46, 27, 184, 0, 96, 153, 0, 7, 4]
abbrev dktX10_isThere_0 : List UInt8 := dkwX10_isThere_0 ++ dktX10_isThere_1
theorem dksX10_isThere_0 : cX10_isThere.data.toList.drop 0 = dktX10_isThere_0 := by decide +kernel
theorem dksX10_isThere_1 : cX10_isThere.data.toList.drop 23 = dktX10_isThere_1 := dk_seg dksX10_isThere_0 23 rfl rfl
theorem dX10_isThere_0 : decode cX10_isThere 0 = .ok (.iload_n 1, 1) := dk_27 (dk_at dksX10_isThere_0 0 rfl rfl)
theorem dX10_isThere_1 : decode cX10_isThere 1 = .ok (.i2l, 1) := dk_133 (dk_at dksX10_isThere_0 1 rfl rfl)
theorem dX10_isThere_2 : decode cX10_isThere 2 = .ok (.lconst 0, 1) := dk_9 (dk_at dksX10_isThere_0 2 rfl rfl)
theorem dX10_isThere_3 : decode cX10_isThere 3 = .ok (.ldc2_w 100, 3) := dk_20 0 100 (dk_at dksX10_isThere_0 3 rfl rfl)
theorem dX10_isThere_6 : decode cX10_isThere 6 = .ok (.invokestatic 102, 3) := dk_184 0 102 (dk_at dksX10_isThere_0 6 rfl rfl)
theorem dX10_isThere_9 : decode cX10_isThere 9 = .ok (.ifCond .eq 17, 3) := dk_153 0 17 (dk_at dksX10_isThere_0 9 rfl rfl)
theorem dX10_isThere_12 : decode cX10_isThere 12 = .ok (.aload_n 0, 1) := dk_42 (dk_at dksX10_isThere_0 12 rfl rfl)
theorem dX10_isThere_13 : decode cX10_isThere 13 = .ok (.iconst 0, 1) := dk_3 (dk_at dksX10_isThere_0 13 rfl rfl)
theorem dX10_isThere_14 : decode cX10_isThere 14 = .ok (.iaload, 1) := dk_46 (dk_at dksX10_isThere_0 14 rfl rfl)
theorem dX10_isThere_15 : decode cX10_isThere 15 = .ok (.iload_n 1, 1) := dk_27 (dk_at dksX10_isThere_0 15 rfl rfl)
theorem dX10_isThere_16 : decode cX10_isThere 16 = .ok (.invokestatic 96, 3) := dk_184 0 96 (dk_at dksX10_isThere_0 16 rfl rfl)
theorem dX10_isThere_19 : decode cX10_isThere 19 = .ok (.ifCond .eq 7, 3) := dk_153 0 7 (dk_at dksX10_isThere_0 19 rfl rfl)
theorem dX10_isThere_22 : decode cX10_isThere 22 = .ok (.iconst 1, 1) := dk_4 (dk_at dksX10_isThere_0 22 rfl rfl)
theorem dX10_isThere_23 : decode cX10_isThere 23 = .ok (.goto 4, 3) := dk_167 0 4 (dk_at dksX10_isThere_1 0 rfl rfl)
theorem dX10_isThere_26 : decode cX10_isThere 26 = .ok (.iconst 0, 1) := dk_3 (dk_at dksX10_isThere_1 3 rfl rfl)
theorem dX10_isThere_27 : decode cX10_isThere 27 = .ok (.ireturn, 1) := dk_172 (dk_at dksX10_isThere_1 4 rfl rfl)
abbrev cX10_has : ByteArray := prog_26_method_5_code
def yX10_has : MethodName := ⟨RX10, "has", "(II)Z"⟩
def dkwX10_has_0 : List UInt8 := [26, 27, 122, 4, 126, 4, 160, 0, 7, 4, 167, 0, 4, 3, 172]
abbrev dktX10_has_0 : List UInt8 := dkwX10_has_0 ++ []
theorem dksX10_has_0 : cX10_has.data.toList.drop 0 = dktX10_has_0 := by decide +kernel
theorem dX10_has_0 : decode cX10_has 0 = .ok (.iload_n 0, 1) := dk_26 (dk_at dksX10_has_0 0 rfl rfl)
theorem dX10_has_1 : decode cX10_has 1 = .ok (.iload_n 1, 1) := dk_27 (dk_at dksX10_has_0 1 rfl rfl)
theorem dX10_has_2 : decode cX10_has 2 = .ok (.ishr, 1) := dk_122 (dk_at dksX10_has_0 2 rfl rfl)
theorem dX10_has_3 : decode cX10_has 3 = .ok (.iconst 1, 1) := dk_4 (dk_at dksX10_has_0 3 rfl rfl)
theorem dX10_has_4 : decode cX10_has 4 = .ok (.iand, 1) := dk_126 (dk_at dksX10_has_0 4 rfl rfl)
theorem dX10_has_5 : decode cX10_has 5 = .ok (.iconst 1, 1) := dk_4 (dk_at dksX10_has_0 5 rfl rfl)
theorem dX10_has_6 : decode cX10_has 6 = .ok (.if_icmp .ne 7, 3) := dk_160 0 7 (dk_at dksX10_has_0 6 rfl rfl)
theorem dX10_has_9 : decode cX10_has 9 = .ok (.iconst 1, 1) := dk_4 (dk_at dksX10_has_0 9 rfl rfl)
theorem dX10_has_10 : decode cX10_has 10 = .ok (.goto 4, 3) := dk_167 0 4 (dk_at dksX10_has_0 10 rfl rfl)
theorem dX10_has_13 : decode cX10_has 13 = .ok (.iconst 0, 1) := dk_3 (dk_at dksX10_has_0 13 rfl rfl)
theorem dX10_has_14 : decode cX10_has 14 = .ok (.ireturn, 1) := dk_172 (dk_at dksX10_has_0 14 rfl rfl)
abbrev cX10_isWeight : ByteArray := prog_26_method_10_code
def yX10_isWeight : MethodName := ⟨RX10, "isWeight", "(I)Z"⟩
def dkwX10_isWeight_0 : List UInt8 := [26, 133, 20, 0, 110, 20, 0, 112, 184, 0, 102, 172]
abbrev dktX10_isWeight_0 : List UInt8 := dkwX10_isWeight_0 ++ []
theorem dksX10_isWeight_0 : cX10_isWeight.data.toList.drop 0 = dktX10_isWeight_0 := by decide +kernel
theorem dX10_isWeight_0 : decode cX10_isWeight 0 = .ok (.iload_n 0, 1) := dk_26 (dk_at dksX10_isWeight_0 0 rfl rfl)
theorem dX10_isWeight_1 : decode cX10_isWeight 1 = .ok (.i2l, 1) := dk_133 (dk_at dksX10_isWeight_0 1 rfl rfl)
theorem dX10_isWeight_2 : decode cX10_isWeight 2 = .ok (.ldc2_w 110, 3) := dk_20 0 110 (dk_at dksX10_isWeight_0 2 rfl rfl)
theorem dX10_isWeight_5 : decode cX10_isWeight 5 = .ok (.ldc2_w 112, 3) := dk_20 0 112 (dk_at dksX10_isWeight_0 5 rfl rfl)
theorem dX10_isWeight_8 : decode cX10_isWeight 8 = .ok (.invokestatic 102, 3) := dk_184 0 102 (dk_at dksX10_isWeight_0 8 rfl rfl)
theorem dX10_isWeight_11 : decode cX10_isWeight 11 = .ok (.ireturn, 1) := dk_172 (dk_at dksX10_isWeight_0 11 rfl rfl)
abbrev cX10_canBe : ByteArray := prog_26_method_20_code
def yX10_canBe : MethodName := ⟨RX10, "canBe", "([IIII)Z"⟩
def dkwX10_canBe_6 : List UInt8 := [167, 0, 4, 3, 172, 21, 4, 154, 0, 13, 21, 5, 4, 160, 0, 7, 4, 167, 0, 4, 3, 172, 4, 172]
abbrev dktX10_canBe_6 : List UInt8 := dkwX10_canBe_6 ++ []
def dkwX10_canBe_5 : List UInt8 := [42, 16, 13, 28, 96, 46, 29, 184, 0, 96, 172, 21, 4, 154, 0, 13, 21, 5, 5, 160, 0, 7, 4]
abbrev dktX10_canBe_5 : List UInt8 := dkwX10_canBe_5 ++ dktX10_canBe_6
def dkwX10_canBe_4 : List UInt8 := [21, 4, 4, 159, 0, 9, 21, 4, 2, 160, 0, 13, 21, 5, 5, 163, 0, 7, 4, 167, 0, 4, 3, 172]
abbrev dktX10_canBe_4 : List UInt8 := dkwX10_canBe_4 ++ dktX10_canBe_5
def dkwX10_canBe_3 : List UInt8 := [170, 0, 0, 0, 0, 0, 108, 0, 0, 0, 0, 0, 0, 0, 5, 0, 0, 0, 39, 0, 0, 0, 63, 0, 0, 0, 108, 0, 0, 0, 108, 0, 0, 0, 74, 0, 0, 0, 91]
abbrev dktX10_canBe_3 : List UInt8 := dkwX10_canBe_3 ++ dktX10_canBe_4
def dkwX10_canBe_2 : List UInt8 := [27]
abbrev dktX10_canBe_2 : List UInt8 := dkwX10_canBe_2 ++ dktX10_canBe_3
def dkwX10_canBe_1 : List UInt8 := [159, 0, 9, 27, 16, 6, 160, 0, 7, 3, 167, 0, 12, 42, 16, 13, 28, 96, 46, 184, 0, 130, 54, 5]
abbrev dktX10_canBe_1 : List UInt8 := dkwX10_canBe_1 ++ dktX10_canBe_2
def dkwX10_canBe_0 : List UInt8 := [27, 6, 159, 0, 9, 27, 16, 6, 160, 0, 7, 3, 167, 0, 8, 42, 4, 28, 96, 46, 54, 4, 27, 6]
abbrev dktX10_canBe_0 : List UInt8 := dkwX10_canBe_0 ++ dktX10_canBe_1
theorem dksX10_canBe_0 : cX10_canBe.data.toList.drop 0 = dktX10_canBe_0 := by decide +kernel
theorem dksX10_canBe_1 : cX10_canBe.data.toList.drop 24 = dktX10_canBe_1 := dk_seg dksX10_canBe_0 24 rfl rfl
theorem dksX10_canBe_2 : cX10_canBe.data.toList.drop 48 = dktX10_canBe_2 := dk_seg dksX10_canBe_1 24 rfl rfl
theorem dksX10_canBe_3 : cX10_canBe.data.toList.drop 49 = dktX10_canBe_3 := dk_seg dksX10_canBe_2 1 rfl rfl
theorem dksX10_canBe_4 : cX10_canBe.data.toList.drop 88 = dktX10_canBe_4 := dk_seg dksX10_canBe_3 39 rfl rfl
theorem dksX10_canBe_5 : cX10_canBe.data.toList.drop 112 = dktX10_canBe_5 := dk_seg dksX10_canBe_4 24 rfl rfl
theorem dksX10_canBe_6 : cX10_canBe.data.toList.drop 135 = dktX10_canBe_6 := dk_seg dksX10_canBe_5 23 rfl rfl
theorem dX10_canBe_0 : decode cX10_canBe 0 = .ok (.iload_n 1, 1) := dk_27 (dk_at dksX10_canBe_0 0 rfl rfl)
theorem dX10_canBe_1 : decode cX10_canBe 1 = .ok (.iconst 3, 1) := dk_6 (dk_at dksX10_canBe_0 1 rfl rfl)
theorem dX10_canBe_2 : decode cX10_canBe 2 = .ok (.if_icmp .eq 9, 3) := dk_159 0 9 (dk_at dksX10_canBe_0 2 rfl rfl)
theorem dX10_canBe_5 : decode cX10_canBe 5 = .ok (.iload_n 1, 1) := dk_27 (dk_at dksX10_canBe_0 5 rfl rfl)
theorem dX10_canBe_6 : decode cX10_canBe 6 = .ok (.bipush 6, 2) := dk_16 6 (dk_at dksX10_canBe_0 6 rfl rfl)
theorem dX10_canBe_8 : decode cX10_canBe 8 = .ok (.if_icmp .ne 7, 3) := dk_160 0 7 (dk_at dksX10_canBe_0 8 rfl rfl)
theorem dX10_canBe_11 : decode cX10_canBe 11 = .ok (.iconst 0, 1) := dk_3 (dk_at dksX10_canBe_0 11 rfl rfl)
theorem dX10_canBe_12 : decode cX10_canBe 12 = .ok (.goto 8, 3) := dk_167 0 8 (dk_at dksX10_canBe_0 12 rfl rfl)
theorem dX10_canBe_15 : decode cX10_canBe 15 = .ok (.aload_n 0, 1) := dk_42 (dk_at dksX10_canBe_0 15 rfl rfl)
theorem dX10_canBe_16 : decode cX10_canBe 16 = .ok (.iconst 1, 1) := dk_4 (dk_at dksX10_canBe_0 16 rfl rfl)
theorem dX10_canBe_17 : decode cX10_canBe 17 = .ok (.iload_n 2, 1) := dk_28 (dk_at dksX10_canBe_0 17 rfl rfl)
theorem dX10_canBe_18 : decode cX10_canBe 18 = .ok (.iadd, 1) := dk_96 (dk_at dksX10_canBe_0 18 rfl rfl)
theorem dX10_canBe_19 : decode cX10_canBe 19 = .ok (.iaload, 1) := dk_46 (dk_at dksX10_canBe_0 19 rfl rfl)
theorem dX10_canBe_20 : decode cX10_canBe 20 = .ok (.istore 4, 2) := dk_54 4 (dk_at dksX10_canBe_0 20 rfl rfl)
theorem dX10_canBe_22 : decode cX10_canBe 22 = .ok (.iload_n 1, 1) := dk_27 (dk_at dksX10_canBe_0 22 rfl rfl)
theorem dX10_canBe_23 : decode cX10_canBe 23 = .ok (.iconst 3, 1) := dk_6 (dk_at dksX10_canBe_0 23 rfl rfl)
theorem dX10_canBe_24 : decode cX10_canBe 24 = .ok (.if_icmp .eq 9, 3) := dk_159 0 9 (dk_at dksX10_canBe_1 0 rfl rfl)
theorem dX10_canBe_27 : decode cX10_canBe 27 = .ok (.iload_n 1, 1) := dk_27 (dk_at dksX10_canBe_1 3 rfl rfl)
theorem dX10_canBe_28 : decode cX10_canBe 28 = .ok (.bipush 6, 2) := dk_16 6 (dk_at dksX10_canBe_1 4 rfl rfl)
theorem dX10_canBe_30 : decode cX10_canBe 30 = .ok (.if_icmp .ne 7, 3) := dk_160 0 7 (dk_at dksX10_canBe_1 6 rfl rfl)
theorem dX10_canBe_33 : decode cX10_canBe 33 = .ok (.iconst 0, 1) := dk_3 (dk_at dksX10_canBe_1 9 rfl rfl)
theorem dX10_canBe_34 : decode cX10_canBe 34 = .ok (.goto 12, 3) := dk_167 0 12 (dk_at dksX10_canBe_1 10 rfl rfl)
theorem dX10_canBe_37 : decode cX10_canBe 37 = .ok (.aload_n 0, 1) := dk_42 (dk_at dksX10_canBe_1 13 rfl rfl)
theorem dX10_canBe_38 : decode cX10_canBe 38 = .ok (.bipush 13, 2) := dk_16 13 (dk_at dksX10_canBe_1 14 rfl rfl)
theorem dX10_canBe_40 : decode cX10_canBe 40 = .ok (.iload_n 2, 1) := dk_28 (dk_at dksX10_canBe_1 16 rfl rfl)
theorem dX10_canBe_41 : decode cX10_canBe 41 = .ok (.iadd, 1) := dk_96 (dk_at dksX10_canBe_1 17 rfl rfl)
theorem dX10_canBe_42 : decode cX10_canBe 42 = .ok (.iaload, 1) := dk_46 (dk_at dksX10_canBe_1 18 rfl rfl)
theorem dX10_canBe_43 : decode cX10_canBe 43 = .ok (.invokestatic 130, 3) := dk_184 0 130 (dk_at dksX10_canBe_1 19 rfl rfl)
theorem dX10_canBe_46 : decode cX10_canBe 46 = .ok (.istore 5, 2) := dk_54 5 (dk_at dksX10_canBe_1 22 rfl rfl)
theorem dX10_canBe_48 : decode cX10_canBe 48 = .ok (.iload_n 1, 1) := dk_27 (dk_at dksX10_canBe_2 0 rfl rfl)
theorem dX10_canBe_49 : decode cX10_canBe 49 = .ok (.tableswitch 108 0 5 #[39, 63, 108, 108, 74, 91], 39) := by decide +kernel
theorem dX10_canBe_88 : decode cX10_canBe 88 = .ok (.iload 4, 2) := dk_21 4 (dk_at dksX10_canBe_4 0 rfl rfl)
theorem dX10_canBe_90 : decode cX10_canBe 90 = .ok (.iconst 1, 1) := dk_4 (dk_at dksX10_canBe_4 2 rfl rfl)
theorem dX10_canBe_91 : decode cX10_canBe 91 = .ok (.if_icmp .eq 9, 3) := dk_159 0 9 (dk_at dksX10_canBe_4 3 rfl rfl)
theorem dX10_canBe_94 : decode cX10_canBe 94 = .ok (.iload 4, 2) := dk_21 4 (dk_at dksX10_canBe_4 6 rfl rfl)
theorem dX10_canBe_96 : decode cX10_canBe 96 = .ok (.iconst (-1), 1) := dk_2 (dk_at dksX10_canBe_4 8 rfl rfl)
theorem dX10_canBe_97 : decode cX10_canBe 97 = .ok (.if_icmp .ne 13, 3) := dk_160 0 13 (dk_at dksX10_canBe_4 9 rfl rfl)
theorem dX10_canBe_100 : decode cX10_canBe 100 = .ok (.iload 5, 2) := dk_21 5 (dk_at dksX10_canBe_4 12 rfl rfl)
theorem dX10_canBe_102 : decode cX10_canBe 102 = .ok (.iconst 2, 1) := dk_5 (dk_at dksX10_canBe_4 14 rfl rfl)
theorem dX10_canBe_103 : decode cX10_canBe 103 = .ok (.if_icmp .gt 7, 3) := dk_163 0 7 (dk_at dksX10_canBe_4 15 rfl rfl)
theorem dX10_canBe_106 : decode cX10_canBe 106 = .ok (.iconst 1, 1) := dk_4 (dk_at dksX10_canBe_4 18 rfl rfl)
theorem dX10_canBe_107 : decode cX10_canBe 107 = .ok (.goto 4, 3) := dk_167 0 4 (dk_at dksX10_canBe_4 19 rfl rfl)
theorem dX10_canBe_110 : decode cX10_canBe 110 = .ok (.iconst 0, 1) := dk_3 (dk_at dksX10_canBe_4 22 rfl rfl)
theorem dX10_canBe_111 : decode cX10_canBe 111 = .ok (.ireturn, 1) := dk_172 (dk_at dksX10_canBe_4 23 rfl rfl)
theorem dX10_canBe_112 : decode cX10_canBe 112 = .ok (.aload_n 0, 1) := dk_42 (dk_at dksX10_canBe_5 0 rfl rfl)
theorem dX10_canBe_113 : decode cX10_canBe 113 = .ok (.bipush 13, 2) := dk_16 13 (dk_at dksX10_canBe_5 1 rfl rfl)
theorem dX10_canBe_115 : decode cX10_canBe 115 = .ok (.iload_n 2, 1) := dk_28 (dk_at dksX10_canBe_5 3 rfl rfl)
theorem dX10_canBe_116 : decode cX10_canBe 116 = .ok (.iadd, 1) := dk_96 (dk_at dksX10_canBe_5 4 rfl rfl)
theorem dX10_canBe_117 : decode cX10_canBe 117 = .ok (.iaload, 1) := dk_46 (dk_at dksX10_canBe_5 5 rfl rfl)
theorem dX10_canBe_118 : decode cX10_canBe 118 = .ok (.iload_n 3, 1) := dk_29 (dk_at dksX10_canBe_5 6 rfl rfl)
theorem dX10_canBe_119 : decode cX10_canBe 119 = .ok (.invokestatic 96, 3) := dk_184 0 96 (dk_at dksX10_canBe_5 7 rfl rfl)
theorem dX10_canBe_122 : decode cX10_canBe 122 = .ok (.ireturn, 1) := dk_172 (dk_at dksX10_canBe_5 10 rfl rfl)
theorem dX10_canBe_123 : decode cX10_canBe 123 = .ok (.iload 4, 2) := dk_21 4 (dk_at dksX10_canBe_5 11 rfl rfl)
theorem dX10_canBe_125 : decode cX10_canBe 125 = .ok (.ifCond .ne 13, 3) := dk_154 0 13 (dk_at dksX10_canBe_5 13 rfl rfl)
theorem dX10_canBe_128 : decode cX10_canBe 128 = .ok (.iload 5, 2) := dk_21 5 (dk_at dksX10_canBe_5 16 rfl rfl)
theorem dX10_canBe_130 : decode cX10_canBe 130 = .ok (.iconst 2, 1) := dk_5 (dk_at dksX10_canBe_5 18 rfl rfl)
theorem dX10_canBe_131 : decode cX10_canBe 131 = .ok (.if_icmp .ne 7, 3) := dk_160 0 7 (dk_at dksX10_canBe_5 19 rfl rfl)
theorem dX10_canBe_134 : decode cX10_canBe 134 = .ok (.iconst 1, 1) := dk_4 (dk_at dksX10_canBe_5 22 rfl rfl)
theorem dX10_canBe_135 : decode cX10_canBe 135 = .ok (.goto 4, 3) := dk_167 0 4 (dk_at dksX10_canBe_6 0 rfl rfl)
theorem dX10_canBe_138 : decode cX10_canBe 138 = .ok (.iconst 0, 1) := dk_3 (dk_at dksX10_canBe_6 3 rfl rfl)
theorem dX10_canBe_139 : decode cX10_canBe 139 = .ok (.ireturn, 1) := dk_172 (dk_at dksX10_canBe_6 4 rfl rfl)
theorem dX10_canBe_140 : decode cX10_canBe 140 = .ok (.iload 4, 2) := dk_21 4 (dk_at dksX10_canBe_6 5 rfl rfl)
theorem dX10_canBe_142 : decode cX10_canBe 142 = .ok (.ifCond .ne 13, 3) := dk_154 0 13 (dk_at dksX10_canBe_6 7 rfl rfl)
theorem dX10_canBe_145 : decode cX10_canBe 145 = .ok (.iload 5, 2) := dk_21 5 (dk_at dksX10_canBe_6 10 rfl rfl)
theorem dX10_canBe_147 : decode cX10_canBe 147 = .ok (.iconst 1, 1) := dk_4 (dk_at dksX10_canBe_6 12 rfl rfl)
theorem dX10_canBe_148 : decode cX10_canBe 148 = .ok (.if_icmp .ne 7, 3) := dk_160 0 7 (dk_at dksX10_canBe_6 13 rfl rfl)
theorem dX10_canBe_151 : decode cX10_canBe 151 = .ok (.iconst 1, 1) := dk_4 (dk_at dksX10_canBe_6 16 rfl rfl)
theorem dX10_canBe_152 : decode cX10_canBe 152 = .ok (.goto 4, 3) := dk_167 0 4 (dk_at dksX10_canBe_6 17 rfl rfl)
theorem dX10_canBe_155 : decode cX10_canBe 155 = .ok (.iconst 0, 1) := dk_3 (dk_at dksX10_canBe_6 20 rfl rfl)
theorem dX10_canBe_156 : decode cX10_canBe 156 = .ok (.ireturn, 1) := dk_172 (dk_at dksX10_canBe_6 21 rfl rfl)
theorem dX10_canBe_157 : decode cX10_canBe 157 = .ok (.iconst 1, 1) := dk_4 (dk_at dksX10_canBe_6 22 rfl rfl)
theorem dX10_canBe_158 : decode cX10_canBe 158 = .ok (.ireturn, 1) := dk_172 (dk_at dksX10_canBe_6 23 rfl rfl)
abbrev cX10_many : ByteArray := prog_26_method_6_code
def yX10_many : MethodName := ⟨RX10, "many", "(I)I"⟩
def dkwX10_many_1 : List UInt8 := [27, 172]
abbrev dktX10_many_1 : List UInt8 := dkwX10_many_1 ++ []
def dkwX10_many_0 : List UInt8 := [3, 60, 3, 61, 28, 16, 12, 162, 0, 17, 27, 26, 28, 122, 4, 126, 96, 60, 132, 2, 1, 167, 255, 239]
abbrev dktX10_many_0 : List UInt8 := dkwX10_many_0 ++ dktX10_many_1
theorem dksX10_many_0 : cX10_many.data.toList.drop 0 = dktX10_many_0 := by decide +kernel
theorem dksX10_many_1 : cX10_many.data.toList.drop 24 = dktX10_many_1 := dk_seg dksX10_many_0 24 rfl rfl
theorem dX10_many_0 : decode cX10_many 0 = .ok (.iconst 0, 1) := dk_3 (dk_at dksX10_many_0 0 rfl rfl)
theorem dX10_many_1 : decode cX10_many 1 = .ok (.istore_n 1, 1) := dk_60 (dk_at dksX10_many_0 1 rfl rfl)
theorem dX10_many_2 : decode cX10_many 2 = .ok (.iconst 0, 1) := dk_3 (dk_at dksX10_many_0 2 rfl rfl)
theorem dX10_many_3 : decode cX10_many 3 = .ok (.istore_n 2, 1) := dk_61 (dk_at dksX10_many_0 3 rfl rfl)
theorem dX10_many_4 : decode cX10_many 4 = .ok (.iload_n 2, 1) := dk_28 (dk_at dksX10_many_0 4 rfl rfl)
theorem dX10_many_5 : decode cX10_many 5 = .ok (.bipush 12, 2) := dk_16 12 (dk_at dksX10_many_0 5 rfl rfl)
theorem dX10_many_7 : decode cX10_many 7 = .ok (.if_icmp .ge 17, 3) := dk_162 0 17 (dk_at dksX10_many_0 7 rfl rfl)
theorem dX10_many_10 : decode cX10_many 10 = .ok (.iload_n 1, 1) := dk_27 (dk_at dksX10_many_0 10 rfl rfl)
theorem dX10_many_11 : decode cX10_many 11 = .ok (.iload_n 0, 1) := dk_26 (dk_at dksX10_many_0 11 rfl rfl)
theorem dX10_many_12 : decode cX10_many 12 = .ok (.iload_n 2, 1) := dk_28 (dk_at dksX10_many_0 12 rfl rfl)
theorem dX10_many_13 : decode cX10_many 13 = .ok (.ishr, 1) := dk_122 (dk_at dksX10_many_0 13 rfl rfl)
theorem dX10_many_14 : decode cX10_many 14 = .ok (.iconst 1, 1) := dk_4 (dk_at dksX10_many_0 14 rfl rfl)
theorem dX10_many_15 : decode cX10_many 15 = .ok (.iand, 1) := dk_126 (dk_at dksX10_many_0 15 rfl rfl)
theorem dX10_many_16 : decode cX10_many 16 = .ok (.iadd, 1) := dk_96 (dk_at dksX10_many_0 16 rfl rfl)
theorem dX10_many_17 : decode cX10_many 17 = .ok (.istore_n 1, 1) := dk_60 (dk_at dksX10_many_0 17 rfl rfl)
theorem dX10_many_18 : decode cX10_many 18 = .ok (.iinc 2 1, 3) := dk_132 2 1 (dk_at dksX10_many_0 18 rfl rfl)
theorem dX10_many_21 : decode cX10_many 21 = .ok (.goto (-17), 3) := dk_167 255 239 (dk_at dksX10_many_0 21 rfl rfl)
theorem dX10_many_24 : decode cX10_many 24 = .ok (.iload_n 1, 1) := dk_27 (dk_at dksX10_many_1 0 rfl rfl)
theorem dX10_many_25 : decode cX10_many 25 = .ok (.ireturn, 1) := dk_172 (dk_at dksX10_many_1 1 rfl rfl)
abbrev cX10_room : ByteArray := prog_26_method_21_code
def yX10_room : MethodName := ⟨RX10, "room", "(I)I"⟩
def dkwX10_room_1 : List UInt8 := [167, 0, 4, 3, 172]
abbrev dktX10_room_1 : List UInt8 := dkwX10_room_1 ++ []
def dkwX10_room_0 : List UInt8 := [26, 16, 7, 160, 0, 7, 5, 167, 0, 20, 26, 133, 10, 20, 0, 124, 184, 0, 102, 153, 0, 7, 4]
abbrev dktX10_room_0 : List UInt8 := dkwX10_room_0 ++ dktX10_room_1
theorem dksX10_room_0 : cX10_room.data.toList.drop 0 = dktX10_room_0 := by decide +kernel
theorem dksX10_room_1 : cX10_room.data.toList.drop 23 = dktX10_room_1 := dk_seg dksX10_room_0 23 rfl rfl
theorem dX10_room_0 : decode cX10_room 0 = .ok (.iload_n 0, 1) := dk_26 (dk_at dksX10_room_0 0 rfl rfl)
theorem dX10_room_1 : decode cX10_room 1 = .ok (.bipush 7, 2) := dk_16 7 (dk_at dksX10_room_0 1 rfl rfl)
theorem dX10_room_3 : decode cX10_room 3 = .ok (.if_icmp .ne 7, 3) := dk_160 0 7 (dk_at dksX10_room_0 3 rfl rfl)
theorem dX10_room_6 : decode cX10_room 6 = .ok (.iconst 2, 1) := dk_5 (dk_at dksX10_room_0 6 rfl rfl)
theorem dX10_room_7 : decode cX10_room 7 = .ok (.goto 20, 3) := dk_167 0 20 (dk_at dksX10_room_0 7 rfl rfl)
theorem dX10_room_10 : decode cX10_room 10 = .ok (.iload_n 0, 1) := dk_26 (dk_at dksX10_room_0 10 rfl rfl)
theorem dX10_room_11 : decode cX10_room 11 = .ok (.i2l, 1) := dk_133 (dk_at dksX10_room_0 11 rfl rfl)
theorem dX10_room_12 : decode cX10_room 12 = .ok (.lconst 1, 1) := dk_10 (dk_at dksX10_room_0 12 rfl rfl)
theorem dX10_room_13 : decode cX10_room 13 = .ok (.ldc2_w 124, 3) := dk_20 0 124 (dk_at dksX10_room_0 13 rfl rfl)
theorem dX10_room_16 : decode cX10_room 16 = .ok (.invokestatic 102, 3) := dk_184 0 102 (dk_at dksX10_room_0 16 rfl rfl)
theorem dX10_room_19 : decode cX10_room 19 = .ok (.ifCond .eq 7, 3) := dk_153 0 7 (dk_at dksX10_room_0 19 rfl rfl)
theorem dX10_room_22 : decode cX10_room 22 = .ok (.iconst 1, 1) := dk_4 (dk_at dksX10_room_0 22 rfl rfl)
theorem dX10_room_23 : decode cX10_room 23 = .ok (.goto 4, 3) := dk_167 0 4 (dk_at dksX10_room_1 0 rfl rfl)
theorem dX10_room_26 : decode cX10_room 26 = .ok (.iconst 0, 1) := dk_3 (dk_at dksX10_room_1 3 rfl rfl)
theorem dX10_room_27 : decode cX10_room 27 = .ok (.ireturn, 1) := dk_172 (dk_at dksX10_room_1 4 rfl rfl)
abbrev cX10_isLight : ByteArray := prog_26_method_22_code
def yX10_isLight : MethodName := ⟨RX10, "isLight", "([IIIII)Z"⟩
def dkwX10_isLight_8 : List UInt8 := [184, 0, 126, 172, 4, 172]
abbrev dktX10_isLight_8 : List UInt8 := dkwX10_isLight_8 ++ []
def dkwX10_isLight_7 : List UInt8 := [96, 46, 42, 4, 42, 28, 184, 0, 136, 96, 46, 96, 184, 0, 126, 172, 42, 4, 28, 96, 46, 21, 4, 100]
abbrev dktX10_isLight_7 : List UInt8 := dkwX10_isLight_7 ++ dktX10_isLight_8
def dkwX10_isLight_6 : List UInt8 := [167, 0, 4, 3, 172, 42, 4, 28, 96, 46, 21, 4, 96, 184, 0, 126, 172, 42, 4, 42, 28, 184, 0, 133]
abbrev dktX10_isLight_6 : List UInt8 := dkwX10_isLight_6 ++ dktX10_isLight_7
def dkwX10_isLight_5 : List UInt8 := [96, 184, 0, 126, 153, 0, 21, 42, 4, 29, 96, 46, 21, 4, 96, 184, 0, 126, 153, 0, 7, 4]
abbrev dktX10_isLight_5 : List UInt8 := dkwX10_isLight_5 ++ dktX10_isLight_6
def dkwX10_isLight_4 : List UInt8 := [4, 167, 0, 4, 3, 126, 54, 5, 132, 6, 1, 167, 255, 204, 21, 5, 172, 42, 4, 28, 96, 46, 21, 4]
abbrev dktX10_isLight_4 : List UInt8 := dkwX10_isLight_4 ++ dktX10_isLight_5
def dkwX10_isLight_3 : List UInt8 := [184, 0, 96, 153, 0, 21, 42, 4, 21, 6, 96, 46, 42, 4, 28, 96, 46, 100, 184, 0, 126, 153, 0, 7]
abbrev dktX10_isLight_3 : List UInt8 := dkwX10_isLight_3 ++ dktX10_isLight_4
def dkwX10_isLight_2 : List UInt8 := [4, 54, 5, 3, 54, 6, 21, 6, 16, 12, 162, 0, 51, 21, 5, 42, 16, 13, 28, 96, 46, 21, 6]
abbrev dktX10_isLight_2 : List UInt8 := dkwX10_isLight_2 ++ dktX10_isLight_3
def dkwX10_isLight_1 : List UInt8 := [170, 0, 0, 0, 0, 0, 192, 0, 0, 0, 0, 0, 0, 0, 7, 0, 0, 0, 47, 0, 0, 0, 111, 0, 0, 0, 145, 0, 0, 0, 192, 0, 0, 0, 157, 0, 0, 0, 192, 0, 0, 0, 192, 0, 0, 0, 180]
abbrev dktX10_isLight_1 : List UInt8 := dkwX10_isLight_1 ++ dktX10_isLight_2
def dkwX10_isLight_0 : List UInt8 := [27]
abbrev dktX10_isLight_0 : List UInt8 := dkwX10_isLight_0 ++ dktX10_isLight_1
theorem dksX10_isLight_0 : cX10_isLight.data.toList.drop 0 = dktX10_isLight_0 := by decide +kernel
theorem dksX10_isLight_1 : cX10_isLight.data.toList.drop 1 = dktX10_isLight_1 := dk_seg dksX10_isLight_0 1 rfl rfl
theorem dksX10_isLight_2 : cX10_isLight.data.toList.drop 48 = dktX10_isLight_2 := dk_seg dksX10_isLight_1 47 rfl rfl
theorem dksX10_isLight_3 : cX10_isLight.data.toList.drop 71 = dktX10_isLight_3 := dk_seg dksX10_isLight_2 23 rfl rfl
theorem dksX10_isLight_4 : cX10_isLight.data.toList.drop 95 = dktX10_isLight_4 := dk_seg dksX10_isLight_3 24 rfl rfl
theorem dksX10_isLight_5 : cX10_isLight.data.toList.drop 119 = dktX10_isLight_5 := dk_seg dksX10_isLight_4 24 rfl rfl
theorem dksX10_isLight_6 : cX10_isLight.data.toList.drop 141 = dktX10_isLight_6 := dk_seg dksX10_isLight_5 22 rfl rfl
theorem dksX10_isLight_7 : cX10_isLight.data.toList.drop 165 = dktX10_isLight_7 := dk_seg dksX10_isLight_6 24 rfl rfl
theorem dksX10_isLight_8 : cX10_isLight.data.toList.drop 189 = dktX10_isLight_8 := dk_seg dksX10_isLight_7 24 rfl rfl
theorem dX10_isLight_0 : decode cX10_isLight 0 = .ok (.iload_n 1, 1) := dk_27 (dk_at dksX10_isLight_0 0 rfl rfl)
theorem dX10_isLight_1 : decode cX10_isLight 1 = .ok (.tableswitch 192 0 7 #[47, 111, 145, 192, 157, 192, 192, 180], 47) := by decide +kernel
theorem dX10_isLight_48 : decode cX10_isLight 48 = .ok (.iconst 1, 1) := dk_4 (dk_at dksX10_isLight_2 0 rfl rfl)
theorem dX10_isLight_49 : decode cX10_isLight 49 = .ok (.istore 5, 2) := dk_54 5 (dk_at dksX10_isLight_2 1 rfl rfl)
theorem dX10_isLight_51 : decode cX10_isLight 51 = .ok (.iconst 0, 1) := dk_3 (dk_at dksX10_isLight_2 3 rfl rfl)
theorem dX10_isLight_52 : decode cX10_isLight 52 = .ok (.istore 6, 2) := dk_54 6 (dk_at dksX10_isLight_2 4 rfl rfl)
theorem dX10_isLight_54 : decode cX10_isLight 54 = .ok (.iload 6, 2) := dk_21 6 (dk_at dksX10_isLight_2 6 rfl rfl)
theorem dX10_isLight_56 : decode cX10_isLight 56 = .ok (.bipush 12, 2) := dk_16 12 (dk_at dksX10_isLight_2 8 rfl rfl)
theorem dX10_isLight_58 : decode cX10_isLight 58 = .ok (.if_icmp .ge 51, 3) := dk_162 0 51 (dk_at dksX10_isLight_2 10 rfl rfl)
theorem dX10_isLight_61 : decode cX10_isLight 61 = .ok (.iload 5, 2) := dk_21 5 (dk_at dksX10_isLight_2 13 rfl rfl)
theorem dX10_isLight_63 : decode cX10_isLight 63 = .ok (.aload_n 0, 1) := dk_42 (dk_at dksX10_isLight_2 15 rfl rfl)
theorem dX10_isLight_64 : decode cX10_isLight 64 = .ok (.bipush 13, 2) := dk_16 13 (dk_at dksX10_isLight_2 16 rfl rfl)
theorem dX10_isLight_66 : decode cX10_isLight 66 = .ok (.iload_n 2, 1) := dk_28 (dk_at dksX10_isLight_2 18 rfl rfl)
theorem dX10_isLight_67 : decode cX10_isLight 67 = .ok (.iadd, 1) := dk_96 (dk_at dksX10_isLight_2 19 rfl rfl)
theorem dX10_isLight_68 : decode cX10_isLight 68 = .ok (.iaload, 1) := dk_46 (dk_at dksX10_isLight_2 20 rfl rfl)
theorem dX10_isLight_69 : decode cX10_isLight 69 = .ok (.iload 6, 2) := dk_21 6 (dk_at dksX10_isLight_2 21 rfl rfl)
theorem dX10_isLight_71 : decode cX10_isLight 71 = .ok (.invokestatic 96, 3) := dk_184 0 96 (dk_at dksX10_isLight_3 0 rfl rfl)
theorem dX10_isLight_74 : decode cX10_isLight 74 = .ok (.ifCond .eq 21, 3) := dk_153 0 21 (dk_at dksX10_isLight_3 3 rfl rfl)
theorem dX10_isLight_77 : decode cX10_isLight 77 = .ok (.aload_n 0, 1) := dk_42 (dk_at dksX10_isLight_3 6 rfl rfl)
theorem dX10_isLight_78 : decode cX10_isLight 78 = .ok (.iconst 1, 1) := dk_4 (dk_at dksX10_isLight_3 7 rfl rfl)
theorem dX10_isLight_79 : decode cX10_isLight 79 = .ok (.iload 6, 2) := dk_21 6 (dk_at dksX10_isLight_3 8 rfl rfl)
theorem dX10_isLight_81 : decode cX10_isLight 81 = .ok (.iadd, 1) := dk_96 (dk_at dksX10_isLight_3 10 rfl rfl)
theorem dX10_isLight_82 : decode cX10_isLight 82 = .ok (.iaload, 1) := dk_46 (dk_at dksX10_isLight_3 11 rfl rfl)
theorem dX10_isLight_83 : decode cX10_isLight 83 = .ok (.aload_n 0, 1) := dk_42 (dk_at dksX10_isLight_3 12 rfl rfl)
theorem dX10_isLight_84 : decode cX10_isLight 84 = .ok (.iconst 1, 1) := dk_4 (dk_at dksX10_isLight_3 13 rfl rfl)
theorem dX10_isLight_85 : decode cX10_isLight 85 = .ok (.iload_n 2, 1) := dk_28 (dk_at dksX10_isLight_3 14 rfl rfl)
theorem dX10_isLight_86 : decode cX10_isLight 86 = .ok (.iadd, 1) := dk_96 (dk_at dksX10_isLight_3 15 rfl rfl)
theorem dX10_isLight_87 : decode cX10_isLight 87 = .ok (.iaload, 1) := dk_46 (dk_at dksX10_isLight_3 16 rfl rfl)
theorem dX10_isLight_88 : decode cX10_isLight 88 = .ok (.isub, 1) := dk_100 (dk_at dksX10_isLight_3 17 rfl rfl)
theorem dX10_isLight_89 : decode cX10_isLight 89 = .ok (.invokestatic 126, 3) := dk_184 0 126 (dk_at dksX10_isLight_3 18 rfl rfl)
theorem dX10_isLight_92 : decode cX10_isLight 92 = .ok (.ifCond .eq 7, 3) := dk_153 0 7 (dk_at dksX10_isLight_3 21 rfl rfl)
theorem dX10_isLight_95 : decode cX10_isLight 95 = .ok (.iconst 1, 1) := dk_4 (dk_at dksX10_isLight_4 0 rfl rfl)
theorem dX10_isLight_96 : decode cX10_isLight 96 = .ok (.goto 4, 3) := dk_167 0 4 (dk_at dksX10_isLight_4 1 rfl rfl)
theorem dX10_isLight_99 : decode cX10_isLight 99 = .ok (.iconst 0, 1) := dk_3 (dk_at dksX10_isLight_4 4 rfl rfl)
theorem dX10_isLight_100 : decode cX10_isLight 100 = .ok (.iand, 1) := dk_126 (dk_at dksX10_isLight_4 5 rfl rfl)
theorem dX10_isLight_101 : decode cX10_isLight 101 = .ok (.istore 5, 2) := dk_54 5 (dk_at dksX10_isLight_4 6 rfl rfl)
theorem dX10_isLight_103 : decode cX10_isLight 103 = .ok (.iinc 6 1, 3) := dk_132 6 1 (dk_at dksX10_isLight_4 8 rfl rfl)
theorem dX10_isLight_106 : decode cX10_isLight 106 = .ok (.goto (-52), 3) := dk_167 255 204 (dk_at dksX10_isLight_4 11 rfl rfl)
theorem dX10_isLight_109 : decode cX10_isLight 109 = .ok (.iload 5, 2) := dk_21 5 (dk_at dksX10_isLight_4 14 rfl rfl)
theorem dX10_isLight_111 : decode cX10_isLight 111 = .ok (.ireturn, 1) := dk_172 (dk_at dksX10_isLight_4 16 rfl rfl)
theorem dX10_isLight_112 : decode cX10_isLight 112 = .ok (.aload_n 0, 1) := dk_42 (dk_at dksX10_isLight_4 17 rfl rfl)
theorem dX10_isLight_113 : decode cX10_isLight 113 = .ok (.iconst 1, 1) := dk_4 (dk_at dksX10_isLight_4 18 rfl rfl)
theorem dX10_isLight_114 : decode cX10_isLight 114 = .ok (.iload_n 2, 1) := dk_28 (dk_at dksX10_isLight_4 19 rfl rfl)
theorem dX10_isLight_115 : decode cX10_isLight 115 = .ok (.iadd, 1) := dk_96 (dk_at dksX10_isLight_4 20 rfl rfl)
theorem dX10_isLight_116 : decode cX10_isLight 116 = .ok (.iaload, 1) := dk_46 (dk_at dksX10_isLight_4 21 rfl rfl)
theorem dX10_isLight_117 : decode cX10_isLight 117 = .ok (.iload 4, 2) := dk_21 4 (dk_at dksX10_isLight_4 22 rfl rfl)
theorem dX10_isLight_119 : decode cX10_isLight 119 = .ok (.iadd, 1) := dk_96 (dk_at dksX10_isLight_5 0 rfl rfl)
theorem dX10_isLight_120 : decode cX10_isLight 120 = .ok (.invokestatic 126, 3) := dk_184 0 126 (dk_at dksX10_isLight_5 1 rfl rfl)
theorem dX10_isLight_123 : decode cX10_isLight 123 = .ok (.ifCond .eq 21, 3) := dk_153 0 21 (dk_at dksX10_isLight_5 4 rfl rfl)
theorem dX10_isLight_126 : decode cX10_isLight 126 = .ok (.aload_n 0, 1) := dk_42 (dk_at dksX10_isLight_5 7 rfl rfl)
theorem dX10_isLight_127 : decode cX10_isLight 127 = .ok (.iconst 1, 1) := dk_4 (dk_at dksX10_isLight_5 8 rfl rfl)
theorem dX10_isLight_128 : decode cX10_isLight 128 = .ok (.iload_n 3, 1) := dk_29 (dk_at dksX10_isLight_5 9 rfl rfl)
theorem dX10_isLight_129 : decode cX10_isLight 129 = .ok (.iadd, 1) := dk_96 (dk_at dksX10_isLight_5 10 rfl rfl)
theorem dX10_isLight_130 : decode cX10_isLight 130 = .ok (.iaload, 1) := dk_46 (dk_at dksX10_isLight_5 11 rfl rfl)
theorem dX10_isLight_131 : decode cX10_isLight 131 = .ok (.iload 4, 2) := dk_21 4 (dk_at dksX10_isLight_5 12 rfl rfl)
theorem dX10_isLight_133 : decode cX10_isLight 133 = .ok (.iadd, 1) := dk_96 (dk_at dksX10_isLight_5 14 rfl rfl)
theorem dX10_isLight_134 : decode cX10_isLight 134 = .ok (.invokestatic 126, 3) := dk_184 0 126 (dk_at dksX10_isLight_5 15 rfl rfl)
theorem dX10_isLight_137 : decode cX10_isLight 137 = .ok (.ifCond .eq 7, 3) := dk_153 0 7 (dk_at dksX10_isLight_5 18 rfl rfl)
theorem dX10_isLight_140 : decode cX10_isLight 140 = .ok (.iconst 1, 1) := dk_4 (dk_at dksX10_isLight_5 21 rfl rfl)
theorem dX10_isLight_141 : decode cX10_isLight 141 = .ok (.goto 4, 3) := dk_167 0 4 (dk_at dksX10_isLight_6 0 rfl rfl)
theorem dX10_isLight_144 : decode cX10_isLight 144 = .ok (.iconst 0, 1) := dk_3 (dk_at dksX10_isLight_6 3 rfl rfl)
theorem dX10_isLight_145 : decode cX10_isLight 145 = .ok (.ireturn, 1) := dk_172 (dk_at dksX10_isLight_6 4 rfl rfl)
theorem dX10_isLight_146 : decode cX10_isLight 146 = .ok (.aload_n 0, 1) := dk_42 (dk_at dksX10_isLight_6 5 rfl rfl)
theorem dX10_isLight_147 : decode cX10_isLight 147 = .ok (.iconst 1, 1) := dk_4 (dk_at dksX10_isLight_6 6 rfl rfl)
theorem dX10_isLight_148 : decode cX10_isLight 148 = .ok (.iload_n 2, 1) := dk_28 (dk_at dksX10_isLight_6 7 rfl rfl)
theorem dX10_isLight_149 : decode cX10_isLight 149 = .ok (.iadd, 1) := dk_96 (dk_at dksX10_isLight_6 8 rfl rfl)
theorem dX10_isLight_150 : decode cX10_isLight 150 = .ok (.iaload, 1) := dk_46 (dk_at dksX10_isLight_6 9 rfl rfl)
theorem dX10_isLight_151 : decode cX10_isLight 151 = .ok (.iload 4, 2) := dk_21 4 (dk_at dksX10_isLight_6 10 rfl rfl)
theorem dX10_isLight_153 : decode cX10_isLight 153 = .ok (.iadd, 1) := dk_96 (dk_at dksX10_isLight_6 12 rfl rfl)
theorem dX10_isLight_154 : decode cX10_isLight 154 = .ok (.invokestatic 126, 3) := dk_184 0 126 (dk_at dksX10_isLight_6 13 rfl rfl)
theorem dX10_isLight_157 : decode cX10_isLight 157 = .ok (.ireturn, 1) := dk_172 (dk_at dksX10_isLight_6 16 rfl rfl)
theorem dX10_isLight_158 : decode cX10_isLight 158 = .ok (.aload_n 0, 1) := dk_42 (dk_at dksX10_isLight_6 17 rfl rfl)
theorem dX10_isLight_159 : decode cX10_isLight 159 = .ok (.iconst 1, 1) := dk_4 (dk_at dksX10_isLight_6 18 rfl rfl)
theorem dX10_isLight_160 : decode cX10_isLight 160 = .ok (.aload_n 0, 1) := dk_42 (dk_at dksX10_isLight_6 19 rfl rfl)
theorem dX10_isLight_161 : decode cX10_isLight 161 = .ok (.iload_n 2, 1) := dk_28 (dk_at dksX10_isLight_6 20 rfl rfl)
theorem dX10_isLight_162 : decode cX10_isLight 162 = .ok (.invokestatic 133, 3) := dk_184 0 133 (dk_at dksX10_isLight_6 21 rfl rfl)
theorem dX10_isLight_165 : decode cX10_isLight 165 = .ok (.iadd, 1) := dk_96 (dk_at dksX10_isLight_7 0 rfl rfl)
theorem dX10_isLight_166 : decode cX10_isLight 166 = .ok (.iaload, 1) := dk_46 (dk_at dksX10_isLight_7 1 rfl rfl)
theorem dX10_isLight_167 : decode cX10_isLight 167 = .ok (.aload_n 0, 1) := dk_42 (dk_at dksX10_isLight_7 2 rfl rfl)
theorem dX10_isLight_168 : decode cX10_isLight 168 = .ok (.iconst 1, 1) := dk_4 (dk_at dksX10_isLight_7 3 rfl rfl)
theorem dX10_isLight_169 : decode cX10_isLight 169 = .ok (.aload_n 0, 1) := dk_42 (dk_at dksX10_isLight_7 4 rfl rfl)
theorem dX10_isLight_170 : decode cX10_isLight 170 = .ok (.iload_n 2, 1) := dk_28 (dk_at dksX10_isLight_7 5 rfl rfl)
theorem dX10_isLight_171 : decode cX10_isLight 171 = .ok (.invokestatic 136, 3) := dk_184 0 136 (dk_at dksX10_isLight_7 6 rfl rfl)
theorem dX10_isLight_174 : decode cX10_isLight 174 = .ok (.iadd, 1) := dk_96 (dk_at dksX10_isLight_7 9 rfl rfl)
theorem dX10_isLight_175 : decode cX10_isLight 175 = .ok (.iaload, 1) := dk_46 (dk_at dksX10_isLight_7 10 rfl rfl)
theorem dX10_isLight_176 : decode cX10_isLight 176 = .ok (.iadd, 1) := dk_96 (dk_at dksX10_isLight_7 11 rfl rfl)
theorem dX10_isLight_177 : decode cX10_isLight 177 = .ok (.invokestatic 126, 3) := dk_184 0 126 (dk_at dksX10_isLight_7 12 rfl rfl)
theorem dX10_isLight_180 : decode cX10_isLight 180 = .ok (.ireturn, 1) := dk_172 (dk_at dksX10_isLight_7 15 rfl rfl)
theorem dX10_isLight_181 : decode cX10_isLight 181 = .ok (.aload_n 0, 1) := dk_42 (dk_at dksX10_isLight_7 16 rfl rfl)
theorem dX10_isLight_182 : decode cX10_isLight 182 = .ok (.iconst 1, 1) := dk_4 (dk_at dksX10_isLight_7 17 rfl rfl)
theorem dX10_isLight_183 : decode cX10_isLight 183 = .ok (.iload_n 2, 1) := dk_28 (dk_at dksX10_isLight_7 18 rfl rfl)
theorem dX10_isLight_184 : decode cX10_isLight 184 = .ok (.iadd, 1) := dk_96 (dk_at dksX10_isLight_7 19 rfl rfl)
theorem dX10_isLight_185 : decode cX10_isLight 185 = .ok (.iaload, 1) := dk_46 (dk_at dksX10_isLight_7 20 rfl rfl)
theorem dX10_isLight_186 : decode cX10_isLight 186 = .ok (.iload 4, 2) := dk_21 4 (dk_at dksX10_isLight_7 21 rfl rfl)
theorem dX10_isLight_188 : decode cX10_isLight 188 = .ok (.isub, 1) := dk_100 (dk_at dksX10_isLight_7 23 rfl rfl)
theorem dX10_isLight_189 : decode cX10_isLight 189 = .ok (.invokestatic 126, 3) := dk_184 0 126 (dk_at dksX10_isLight_8 0 rfl rfl)
theorem dX10_isLight_192 : decode cX10_isLight 192 = .ok (.ireturn, 1) := dk_172 (dk_at dksX10_isLight_8 3 rfl rfl)
theorem dX10_isLight_193 : decode cX10_isLight 193 = .ok (.iconst 1, 1) := dk_4 (dk_at dksX10_isLight_8 4 rfl rfl)
theorem dX10_isLight_194 : decode cX10_isLight 194 = .ok (.ireturn, 1) := dk_172 (dk_at dksX10_isLight_8 5 rfl rfl)
abbrev cX10_lightest : ByteArray := prog_26_method_17_code
def yX10_lightest : MethodName := ⟨RX10, "lightest", "([II)I"⟩
def dkwX10_lightest_0 : List UInt8 := [42, 16, 13, 27, 96, 46, 184, 0, 114, 172]
abbrev dktX10_lightest_0 : List UInt8 := dkwX10_lightest_0 ++ []
theorem dksX10_lightest_0 : cX10_lightest.data.toList.drop 0 = dktX10_lightest_0 := by decide +kernel
theorem dX10_lightest_0 : decode cX10_lightest 0 = .ok (.aload_n 0, 1) := dk_42 (dk_at dksX10_lightest_0 0 rfl rfl)
theorem dX10_lightest_1 : decode cX10_lightest 1 = .ok (.bipush 13, 2) := dk_16 13 (dk_at dksX10_lightest_0 1 rfl rfl)
theorem dX10_lightest_3 : decode cX10_lightest 3 = .ok (.iload_n 1, 1) := dk_27 (dk_at dksX10_lightest_0 3 rfl rfl)
theorem dX10_lightest_4 : decode cX10_lightest 4 = .ok (.iadd, 1) := dk_96 (dk_at dksX10_lightest_0 4 rfl rfl)
theorem dX10_lightest_5 : decode cX10_lightest 5 = .ok (.iaload, 1) := dk_46 (dk_at dksX10_lightest_0 5 rfl rfl)
theorem dX10_lightest_6 : decode cX10_lightest 6 = .ok (.invokestatic 114, 3) := dk_184 0 114 (dk_at dksX10_lightest_0 6 rfl rfl)
theorem dX10_lightest_9 : decode cX10_lightest 9 = .ok (.ireturn, 1) := dk_172 (dk_at dksX10_lightest_0 9 rfl rfl)
abbrev cX10_lowest : ByteArray := prog_26_method_7_code
def yX10_lowest : MethodName := ⟨RX10, "lowest", "(I)I"⟩
def dkwX10_lowest_0 : List UInt8 := [3, 60, 26, 27, 184, 0, 96, 154, 0, 9, 132, 1, 1, 167, 255, 245, 27, 172]
abbrev dktX10_lowest_0 : List UInt8 := dkwX10_lowest_0 ++ []
theorem dksX10_lowest_0 : cX10_lowest.data.toList.drop 0 = dktX10_lowest_0 := by decide +kernel
theorem dX10_lowest_0 : decode cX10_lowest 0 = .ok (.iconst 0, 1) := dk_3 (dk_at dksX10_lowest_0 0 rfl rfl)
theorem dX10_lowest_1 : decode cX10_lowest 1 = .ok (.istore_n 1, 1) := dk_60 (dk_at dksX10_lowest_0 1 rfl rfl)
theorem dX10_lowest_2 : decode cX10_lowest 2 = .ok (.iload_n 0, 1) := dk_26 (dk_at dksX10_lowest_0 2 rfl rfl)
theorem dX10_lowest_3 : decode cX10_lowest 3 = .ok (.iload_n 1, 1) := dk_27 (dk_at dksX10_lowest_0 3 rfl rfl)
theorem dX10_lowest_4 : decode cX10_lowest 4 = .ok (.invokestatic 96, 3) := dk_184 0 96 (dk_at dksX10_lowest_0 4 rfl rfl)
theorem dX10_lowest_7 : decode cX10_lowest 7 = .ok (.ifCond .ne 9, 3) := dk_154 0 9 (dk_at dksX10_lowest_0 7 rfl rfl)
theorem dX10_lowest_10 : decode cX10_lowest 10 = .ok (.iinc 1 1, 3) := dk_132 1 1 (dk_at dksX10_lowest_0 10 rfl rfl)
theorem dX10_lowest_13 : decode cX10_lowest 13 = .ok (.goto (-11), 3) := dk_167 255 245 (dk_at dksX10_lowest_0 13 rfl rfl)
theorem dX10_lowest_16 : decode cX10_lowest 16 = .ok (.iload_n 1, 1) := dk_27 (dk_at dksX10_lowest_0 16 rfl rfl)
theorem dX10_lowest_17 : decode cX10_lowest 17 = .ok (.ireturn, 1) := dk_172 (dk_at dksX10_lowest_0 17 rfl rfl)
abbrev cX10_other : ByteArray := prog_26_method_18_code
def yX10_other : MethodName := ⟨RX10, "other", "([II)I"⟩
def dkwX10_other_0 : List UInt8 := [42, 16, 13, 27, 96, 46, 42, 16, 13, 27, 96, 46, 4, 100, 126, 184, 0, 114, 172]
abbrev dktX10_other_0 : List UInt8 := dkwX10_other_0 ++ []
theorem dksX10_other_0 : cX10_other.data.toList.drop 0 = dktX10_other_0 := by decide +kernel
theorem dX10_other_0 : decode cX10_other 0 = .ok (.aload_n 0, 1) := dk_42 (dk_at dksX10_other_0 0 rfl rfl)
theorem dX10_other_1 : decode cX10_other 1 = .ok (.bipush 13, 2) := dk_16 13 (dk_at dksX10_other_0 1 rfl rfl)
theorem dX10_other_3 : decode cX10_other 3 = .ok (.iload_n 1, 1) := dk_27 (dk_at dksX10_other_0 3 rfl rfl)
theorem dX10_other_4 : decode cX10_other 4 = .ok (.iadd, 1) := dk_96 (dk_at dksX10_other_0 4 rfl rfl)
theorem dX10_other_5 : decode cX10_other 5 = .ok (.iaload, 1) := dk_46 (dk_at dksX10_other_0 5 rfl rfl)
theorem dX10_other_6 : decode cX10_other 6 = .ok (.aload_n 0, 1) := dk_42 (dk_at dksX10_other_0 6 rfl rfl)
theorem dX10_other_7 : decode cX10_other 7 = .ok (.bipush 13, 2) := dk_16 13 (dk_at dksX10_other_0 7 rfl rfl)
theorem dX10_other_9 : decode cX10_other 9 = .ok (.iload_n 1, 1) := dk_27 (dk_at dksX10_other_0 9 rfl rfl)
theorem dX10_other_10 : decode cX10_other 10 = .ok (.iadd, 1) := dk_96 (dk_at dksX10_other_0 10 rfl rfl)
theorem dX10_other_11 : decode cX10_other 11 = .ok (.iaload, 1) := dk_46 (dk_at dksX10_other_0 11 rfl rfl)
theorem dX10_other_12 : decode cX10_other 12 = .ok (.iconst 1, 1) := dk_4 (dk_at dksX10_other_0 12 rfl rfl)
theorem dX10_other_13 : decode cX10_other 13 = .ok (.isub, 1) := dk_100 (dk_at dksX10_other_0 13 rfl rfl)
theorem dX10_other_14 : decode cX10_other 14 = .ok (.iand, 1) := dk_126 (dk_at dksX10_other_0 14 rfl rfl)
theorem dX10_other_15 : decode cX10_other 15 = .ok (.invokestatic 114, 3) := dk_184 0 114 (dk_at dksX10_other_0 15 rfl rfl)
theorem dX10_other_18 : decode cX10_other 18 = .ok (.ireturn, 1) := dk_172 (dk_at dksX10_other_0 18 rfl rfl)
abbrev cX10_error : ByteArray := prog_26_method_3_code
def yX10_error : MethodName := ⟨RX10, "error", "(I)I"⟩
def dkwX10_error_0 : List UInt8 := [42, 180, 0, 7, 27, 92, 46, 4, 96, 79, 18, 95, 27, 100, 172]
abbrev dktX10_error_0 : List UInt8 := dkwX10_error_0 ++ []
theorem dksX10_error_0 : cX10_error.data.toList.drop 0 = dktX10_error_0 := by decide +kernel
theorem dX10_error_0 : decode cX10_error 0 = .ok (.aload_n 0, 1) := dk_42 (dk_at dksX10_error_0 0 rfl rfl)
theorem dX10_error_1 : decode cX10_error 1 = .ok (.getfield 7, 3) := dk_180 0 7 (dk_at dksX10_error_0 1 rfl rfl)
theorem dX10_error_4 : decode cX10_error 4 = .ok (.iload_n 1, 1) := dk_27 (dk_at dksX10_error_0 4 rfl rfl)
theorem dX10_error_5 : decode cX10_error 5 = .ok (.dup2, 1) := dk_92 (dk_at dksX10_error_0 5 rfl rfl)
theorem dX10_error_6 : decode cX10_error 6 = .ok (.iaload, 1) := dk_46 (dk_at dksX10_error_0 6 rfl rfl)
theorem dX10_error_7 : decode cX10_error 7 = .ok (.iconst 1, 1) := dk_4 (dk_at dksX10_error_0 7 rfl rfl)
theorem dX10_error_8 : decode cX10_error 8 = .ok (.iadd, 1) := dk_96 (dk_at dksX10_error_0 8 rfl rfl)
theorem dX10_error_9 : decode cX10_error 9 = .ok (.iastore, 1) := dk_79 (dk_at dksX10_error_0 9 rfl rfl)
theorem dX10_error_10 : decode cX10_error 10 = .ok (.ldc 95, 2) := dk_18 95 (dk_at dksX10_error_0 10 rfl rfl)
theorem dX10_error_12 : decode cX10_error 12 = .ok (.iload_n 1, 1) := dk_27 (dk_at dksX10_error_0 12 rfl rfl)
theorem dX10_error_13 : decode cX10_error 13 = .ok (.isub, 1) := dk_100 (dk_at dksX10_error_0 13 rfl rfl)
theorem dX10_error_14 : decode cX10_error 14 = .ok (.ireturn, 1) := dk_172 (dk_at dksX10_error_0 14 rfl rfl)
abbrev cX10_goes : ByteArray := prog_26_method_31_code
def yX10_goes : MethodName := ⟨RX10, "goes", "(IIIII)V"⟩
def dkwX10_goes_8 : List UInt8 := [180, 0, 13, 42, 180, 0, 18, 42, 180, 0, 181, 50, 184, 0, 188, 177]
abbrev dktX10_goes_8 : List UInt8 := dkwX10_goes_8 ++ []
def dkwX10_goes_7 : List UInt8 := [184, 0, 196, 42, 89, 180, 0, 181, 4, 96, 181, 0, 181, 42, 42, 180, 0, 181, 181, 0, 185, 42]
abbrev dktX10_goes_7 : List UInt8 := dkwX10_goes_7 ++ dktX10_goes_8
def dkwX10_goes_6 : List UInt8 := [180, 0, 13, 27, 28, 21, 4, 184, 0, 192, 79, 42, 180, 0, 13, 27, 28, 29, 21, 4, 21, 5]
abbrev dktX10_goes_6 : List UInt8 := dkwX10_goes_6 ++ dktX10_goes_7
def dkwX10_goes_5 : List UInt8 := [27, 16, 7, 160, 0, 8, 21, 5, 167, 0, 4, 3, 79, 42, 180, 0, 21, 21, 6, 8, 96, 42]
abbrev dktX10_goes_5 : List UInt8 := dkwX10_goes_5 ++ dktX10_goes_6
def dkwX10_goes_4 : List UInt8 := [154, 0, 9, 27, 16, 7, 160, 0, 8, 21, 4, 167, 0, 4, 3, 79, 42, 180, 0, 21, 21, 6, 7, 96]
abbrev dktX10_goes_4 : List UInt8 := dkwX10_goes_4 ++ dktX10_goes_5
def dkwX10_goes_3 : List UInt8 := [29, 167, 0, 4, 3, 79, 42, 180, 0, 21, 21, 6, 6, 96, 27, 133, 10, 20, 0, 124, 184, 0, 102]
abbrev dktX10_goes_3 : List UInt8 := dkwX10_goes_3 ++ dktX10_goes_4
def dkwX10_goes_2 : List UInt8 := [16, 6, 160, 0, 7, 3, 167, 0, 4, 28, 79, 42, 180, 0, 21, 21, 6, 5, 96, 27, 4, 160, 0, 7]
abbrev dktX10_goes_2 : List UInt8 := dkwX10_goes_2 ++ dktX10_goes_3
def dkwX10_goes_1 : List UInt8 := [54, 6, 42, 180, 0, 21, 21, 6, 27, 79, 42, 180, 0, 21, 21, 6, 4, 96, 27, 6, 159, 0, 9, 27]
abbrev dktX10_goes_1 : List UInt8 := dkwX10_goes_1 ++ dktX10_goes_2
def dkwX10_goes_0 : List UInt8 := [42, 180, 0, 13, 42, 180, 0, 18, 42, 180, 0, 181, 50, 184, 0, 188, 16, 6, 42, 180, 0, 181, 104]
abbrev dktX10_goes_0 : List UInt8 := dkwX10_goes_0 ++ dktX10_goes_1
theorem dksX10_goes_0 : cX10_goes.data.toList.drop 0 = dktX10_goes_0 := by decide +kernel
theorem dksX10_goes_1 : cX10_goes.data.toList.drop 23 = dktX10_goes_1 := dk_seg dksX10_goes_0 23 rfl rfl
theorem dksX10_goes_2 : cX10_goes.data.toList.drop 47 = dktX10_goes_2 := dk_seg dksX10_goes_1 24 rfl rfl
theorem dksX10_goes_3 : cX10_goes.data.toList.drop 71 = dktX10_goes_3 := dk_seg dksX10_goes_2 24 rfl rfl
theorem dksX10_goes_4 : cX10_goes.data.toList.drop 94 = dktX10_goes_4 := dk_seg dksX10_goes_3 23 rfl rfl
theorem dksX10_goes_5 : cX10_goes.data.toList.drop 118 = dktX10_goes_5 := dk_seg dksX10_goes_4 24 rfl rfl
theorem dksX10_goes_6 : cX10_goes.data.toList.drop 140 = dktX10_goes_6 := dk_seg dksX10_goes_5 22 rfl rfl
theorem dksX10_goes_7 : cX10_goes.data.toList.drop 162 = dktX10_goes_7 := dk_seg dksX10_goes_6 22 rfl rfl
theorem dksX10_goes_8 : cX10_goes.data.toList.drop 184 = dktX10_goes_8 := dk_seg dksX10_goes_7 22 rfl rfl
theorem dX10_goes_0 : decode cX10_goes 0 = .ok (.aload_n 0, 1) := dk_42 (dk_at dksX10_goes_0 0 rfl rfl)
theorem dX10_goes_1 : decode cX10_goes 1 = .ok (.getfield 13, 3) := dk_180 0 13 (dk_at dksX10_goes_0 1 rfl rfl)
theorem dX10_goes_4 : decode cX10_goes 4 = .ok (.aload_n 0, 1) := dk_42 (dk_at dksX10_goes_0 4 rfl rfl)
theorem dX10_goes_5 : decode cX10_goes 5 = .ok (.getfield 18, 3) := dk_180 0 18 (dk_at dksX10_goes_0 5 rfl rfl)
theorem dX10_goes_8 : decode cX10_goes 8 = .ok (.aload_n 0, 1) := dk_42 (dk_at dksX10_goes_0 8 rfl rfl)
theorem dX10_goes_9 : decode cX10_goes 9 = .ok (.getfield 181, 3) := dk_180 0 181 (dk_at dksX10_goes_0 9 rfl rfl)
theorem dX10_goes_12 : decode cX10_goes 12 = .ok (.aaload, 1) := dk_50 (dk_at dksX10_goes_0 12 rfl rfl)
theorem dX10_goes_13 : decode cX10_goes 13 = .ok (.invokestatic 188, 3) := dk_184 0 188 (dk_at dksX10_goes_0 13 rfl rfl)
theorem dX10_goes_16 : decode cX10_goes 16 = .ok (.bipush 6, 2) := dk_16 6 (dk_at dksX10_goes_0 16 rfl rfl)
theorem dX10_goes_18 : decode cX10_goes 18 = .ok (.aload_n 0, 1) := dk_42 (dk_at dksX10_goes_0 18 rfl rfl)
theorem dX10_goes_19 : decode cX10_goes 19 = .ok (.getfield 181, 3) := dk_180 0 181 (dk_at dksX10_goes_0 19 rfl rfl)
theorem dX10_goes_22 : decode cX10_goes 22 = .ok (.imul, 1) := dk_104 (dk_at dksX10_goes_0 22 rfl rfl)
theorem dX10_goes_23 : decode cX10_goes 23 = .ok (.istore 6, 2) := dk_54 6 (dk_at dksX10_goes_1 0 rfl rfl)
theorem dX10_goes_25 : decode cX10_goes 25 = .ok (.aload_n 0, 1) := dk_42 (dk_at dksX10_goes_1 2 rfl rfl)
theorem dX10_goes_26 : decode cX10_goes 26 = .ok (.getfield 21, 3) := dk_180 0 21 (dk_at dksX10_goes_1 3 rfl rfl)
theorem dX10_goes_29 : decode cX10_goes 29 = .ok (.iload 6, 2) := dk_21 6 (dk_at dksX10_goes_1 6 rfl rfl)
theorem dX10_goes_31 : decode cX10_goes 31 = .ok (.iload_n 1, 1) := dk_27 (dk_at dksX10_goes_1 8 rfl rfl)
theorem dX10_goes_32 : decode cX10_goes 32 = .ok (.iastore, 1) := dk_79 (dk_at dksX10_goes_1 9 rfl rfl)
theorem dX10_goes_33 : decode cX10_goes 33 = .ok (.aload_n 0, 1) := dk_42 (dk_at dksX10_goes_1 10 rfl rfl)
theorem dX10_goes_34 : decode cX10_goes 34 = .ok (.getfield 21, 3) := dk_180 0 21 (dk_at dksX10_goes_1 11 rfl rfl)
theorem dX10_goes_37 : decode cX10_goes 37 = .ok (.iload 6, 2) := dk_21 6 (dk_at dksX10_goes_1 14 rfl rfl)
theorem dX10_goes_39 : decode cX10_goes 39 = .ok (.iconst 1, 1) := dk_4 (dk_at dksX10_goes_1 16 rfl rfl)
theorem dX10_goes_40 : decode cX10_goes 40 = .ok (.iadd, 1) := dk_96 (dk_at dksX10_goes_1 17 rfl rfl)
theorem dX10_goes_41 : decode cX10_goes 41 = .ok (.iload_n 1, 1) := dk_27 (dk_at dksX10_goes_1 18 rfl rfl)
theorem dX10_goes_42 : decode cX10_goes 42 = .ok (.iconst 3, 1) := dk_6 (dk_at dksX10_goes_1 19 rfl rfl)
theorem dX10_goes_43 : decode cX10_goes 43 = .ok (.if_icmp .eq 9, 3) := dk_159 0 9 (dk_at dksX10_goes_1 20 rfl rfl)
theorem dX10_goes_46 : decode cX10_goes 46 = .ok (.iload_n 1, 1) := dk_27 (dk_at dksX10_goes_1 23 rfl rfl)
theorem dX10_goes_47 : decode cX10_goes 47 = .ok (.bipush 6, 2) := dk_16 6 (dk_at dksX10_goes_2 0 rfl rfl)
theorem dX10_goes_49 : decode cX10_goes 49 = .ok (.if_icmp .ne 7, 3) := dk_160 0 7 (dk_at dksX10_goes_2 2 rfl rfl)
theorem dX10_goes_52 : decode cX10_goes 52 = .ok (.iconst 0, 1) := dk_3 (dk_at dksX10_goes_2 5 rfl rfl)
theorem dX10_goes_53 : decode cX10_goes 53 = .ok (.goto 4, 3) := dk_167 0 4 (dk_at dksX10_goes_2 6 rfl rfl)
theorem dX10_goes_56 : decode cX10_goes 56 = .ok (.iload_n 2, 1) := dk_28 (dk_at dksX10_goes_2 9 rfl rfl)
theorem dX10_goes_57 : decode cX10_goes 57 = .ok (.iastore, 1) := dk_79 (dk_at dksX10_goes_2 10 rfl rfl)
theorem dX10_goes_58 : decode cX10_goes 58 = .ok (.aload_n 0, 1) := dk_42 (dk_at dksX10_goes_2 11 rfl rfl)
theorem dX10_goes_59 : decode cX10_goes 59 = .ok (.getfield 21, 3) := dk_180 0 21 (dk_at dksX10_goes_2 12 rfl rfl)
theorem dX10_goes_62 : decode cX10_goes 62 = .ok (.iload 6, 2) := dk_21 6 (dk_at dksX10_goes_2 15 rfl rfl)
theorem dX10_goes_64 : decode cX10_goes 64 = .ok (.iconst 2, 1) := dk_5 (dk_at dksX10_goes_2 17 rfl rfl)
theorem dX10_goes_65 : decode cX10_goes 65 = .ok (.iadd, 1) := dk_96 (dk_at dksX10_goes_2 18 rfl rfl)
theorem dX10_goes_66 : decode cX10_goes 66 = .ok (.iload_n 1, 1) := dk_27 (dk_at dksX10_goes_2 19 rfl rfl)
theorem dX10_goes_67 : decode cX10_goes 67 = .ok (.iconst 1, 1) := dk_4 (dk_at dksX10_goes_2 20 rfl rfl)
theorem dX10_goes_68 : decode cX10_goes 68 = .ok (.if_icmp .ne 7, 3) := dk_160 0 7 (dk_at dksX10_goes_2 21 rfl rfl)
theorem dX10_goes_71 : decode cX10_goes 71 = .ok (.iload_n 3, 1) := dk_29 (dk_at dksX10_goes_3 0 rfl rfl)
theorem dX10_goes_72 : decode cX10_goes 72 = .ok (.goto 4, 3) := dk_167 0 4 (dk_at dksX10_goes_3 1 rfl rfl)
theorem dX10_goes_75 : decode cX10_goes 75 = .ok (.iconst 0, 1) := dk_3 (dk_at dksX10_goes_3 4 rfl rfl)
theorem dX10_goes_76 : decode cX10_goes 76 = .ok (.iastore, 1) := dk_79 (dk_at dksX10_goes_3 5 rfl rfl)
theorem dX10_goes_77 : decode cX10_goes 77 = .ok (.aload_n 0, 1) := dk_42 (dk_at dksX10_goes_3 6 rfl rfl)
theorem dX10_goes_78 : decode cX10_goes 78 = .ok (.getfield 21, 3) := dk_180 0 21 (dk_at dksX10_goes_3 7 rfl rfl)
theorem dX10_goes_81 : decode cX10_goes 81 = .ok (.iload 6, 2) := dk_21 6 (dk_at dksX10_goes_3 10 rfl rfl)
theorem dX10_goes_83 : decode cX10_goes 83 = .ok (.iconst 3, 1) := dk_6 (dk_at dksX10_goes_3 12 rfl rfl)
theorem dX10_goes_84 : decode cX10_goes 84 = .ok (.iadd, 1) := dk_96 (dk_at dksX10_goes_3 13 rfl rfl)
theorem dX10_goes_85 : decode cX10_goes 85 = .ok (.iload_n 1, 1) := dk_27 (dk_at dksX10_goes_3 14 rfl rfl)
theorem dX10_goes_86 : decode cX10_goes 86 = .ok (.i2l, 1) := dk_133 (dk_at dksX10_goes_3 15 rfl rfl)
theorem dX10_goes_87 : decode cX10_goes 87 = .ok (.lconst 1, 1) := dk_10 (dk_at dksX10_goes_3 16 rfl rfl)
theorem dX10_goes_88 : decode cX10_goes 88 = .ok (.ldc2_w 124, 3) := dk_20 0 124 (dk_at dksX10_goes_3 17 rfl rfl)
theorem dX10_goes_91 : decode cX10_goes 91 = .ok (.invokestatic 102, 3) := dk_184 0 102 (dk_at dksX10_goes_3 20 rfl rfl)
theorem dX10_goes_94 : decode cX10_goes 94 = .ok (.ifCond .ne 9, 3) := dk_154 0 9 (dk_at dksX10_goes_4 0 rfl rfl)
theorem dX10_goes_97 : decode cX10_goes 97 = .ok (.iload_n 1, 1) := dk_27 (dk_at dksX10_goes_4 3 rfl rfl)
theorem dX10_goes_98 : decode cX10_goes 98 = .ok (.bipush 7, 2) := dk_16 7 (dk_at dksX10_goes_4 4 rfl rfl)
theorem dX10_goes_100 : decode cX10_goes 100 = .ok (.if_icmp .ne 8, 3) := dk_160 0 8 (dk_at dksX10_goes_4 6 rfl rfl)
theorem dX10_goes_103 : decode cX10_goes 103 = .ok (.iload 4, 2) := dk_21 4 (dk_at dksX10_goes_4 9 rfl rfl)
theorem dX10_goes_105 : decode cX10_goes 105 = .ok (.goto 4, 3) := dk_167 0 4 (dk_at dksX10_goes_4 11 rfl rfl)
theorem dX10_goes_108 : decode cX10_goes 108 = .ok (.iconst 0, 1) := dk_3 (dk_at dksX10_goes_4 14 rfl rfl)
theorem dX10_goes_109 : decode cX10_goes 109 = .ok (.iastore, 1) := dk_79 (dk_at dksX10_goes_4 15 rfl rfl)
theorem dX10_goes_110 : decode cX10_goes 110 = .ok (.aload_n 0, 1) := dk_42 (dk_at dksX10_goes_4 16 rfl rfl)
theorem dX10_goes_111 : decode cX10_goes 111 = .ok (.getfield 21, 3) := dk_180 0 21 (dk_at dksX10_goes_4 17 rfl rfl)
theorem dX10_goes_114 : decode cX10_goes 114 = .ok (.iload 6, 2) := dk_21 6 (dk_at dksX10_goes_4 20 rfl rfl)
theorem dX10_goes_116 : decode cX10_goes 116 = .ok (.iconst 4, 1) := dk_7 (dk_at dksX10_goes_4 22 rfl rfl)
theorem dX10_goes_117 : decode cX10_goes 117 = .ok (.iadd, 1) := dk_96 (dk_at dksX10_goes_4 23 rfl rfl)
theorem dX10_goes_118 : decode cX10_goes 118 = .ok (.iload_n 1, 1) := dk_27 (dk_at dksX10_goes_5 0 rfl rfl)
theorem dX10_goes_119 : decode cX10_goes 119 = .ok (.bipush 7, 2) := dk_16 7 (dk_at dksX10_goes_5 1 rfl rfl)
theorem dX10_goes_121 : decode cX10_goes 121 = .ok (.if_icmp .ne 8, 3) := dk_160 0 8 (dk_at dksX10_goes_5 3 rfl rfl)
theorem dX10_goes_124 : decode cX10_goes 124 = .ok (.iload 5, 2) := dk_21 5 (dk_at dksX10_goes_5 6 rfl rfl)
theorem dX10_goes_126 : decode cX10_goes 126 = .ok (.goto 4, 3) := dk_167 0 4 (dk_at dksX10_goes_5 8 rfl rfl)
theorem dX10_goes_129 : decode cX10_goes 129 = .ok (.iconst 0, 1) := dk_3 (dk_at dksX10_goes_5 11 rfl rfl)
theorem dX10_goes_130 : decode cX10_goes 130 = .ok (.iastore, 1) := dk_79 (dk_at dksX10_goes_5 12 rfl rfl)
theorem dX10_goes_131 : decode cX10_goes 131 = .ok (.aload_n 0, 1) := dk_42 (dk_at dksX10_goes_5 13 rfl rfl)
theorem dX10_goes_132 : decode cX10_goes 132 = .ok (.getfield 21, 3) := dk_180 0 21 (dk_at dksX10_goes_5 14 rfl rfl)
theorem dX10_goes_135 : decode cX10_goes 135 = .ok (.iload 6, 2) := dk_21 6 (dk_at dksX10_goes_5 17 rfl rfl)
theorem dX10_goes_137 : decode cX10_goes 137 = .ok (.iconst 5, 1) := dk_8 (dk_at dksX10_goes_5 19 rfl rfl)
theorem dX10_goes_138 : decode cX10_goes 138 = .ok (.iadd, 1) := dk_96 (dk_at dksX10_goes_5 20 rfl rfl)
theorem dX10_goes_139 : decode cX10_goes 139 = .ok (.aload_n 0, 1) := dk_42 (dk_at dksX10_goes_5 21 rfl rfl)
theorem dX10_goes_140 : decode cX10_goes 140 = .ok (.getfield 13, 3) := dk_180 0 13 (dk_at dksX10_goes_6 0 rfl rfl)
theorem dX10_goes_143 : decode cX10_goes 143 = .ok (.iload_n 1, 1) := dk_27 (dk_at dksX10_goes_6 3 rfl rfl)
theorem dX10_goes_144 : decode cX10_goes 144 = .ok (.iload_n 2, 1) := dk_28 (dk_at dksX10_goes_6 4 rfl rfl)
theorem dX10_goes_145 : decode cX10_goes 145 = .ok (.iload 4, 2) := dk_21 4 (dk_at dksX10_goes_6 5 rfl rfl)
theorem dX10_goes_147 : decode cX10_goes 147 = .ok (.invokestatic 192, 3) := dk_184 0 192 (dk_at dksX10_goes_6 7 rfl rfl)
theorem dX10_goes_150 : decode cX10_goes 150 = .ok (.iastore, 1) := dk_79 (dk_at dksX10_goes_6 10 rfl rfl)
theorem dX10_goes_151 : decode cX10_goes 151 = .ok (.aload_n 0, 1) := dk_42 (dk_at dksX10_goes_6 11 rfl rfl)
theorem dX10_goes_152 : decode cX10_goes 152 = .ok (.getfield 13, 3) := dk_180 0 13 (dk_at dksX10_goes_6 12 rfl rfl)
theorem dX10_goes_155 : decode cX10_goes 155 = .ok (.iload_n 1, 1) := dk_27 (dk_at dksX10_goes_6 15 rfl rfl)
theorem dX10_goes_156 : decode cX10_goes 156 = .ok (.iload_n 2, 1) := dk_28 (dk_at dksX10_goes_6 16 rfl rfl)
theorem dX10_goes_157 : decode cX10_goes 157 = .ok (.iload_n 3, 1) := dk_29 (dk_at dksX10_goes_6 17 rfl rfl)
theorem dX10_goes_158 : decode cX10_goes 158 = .ok (.iload 4, 2) := dk_21 4 (dk_at dksX10_goes_6 18 rfl rfl)
theorem dX10_goes_160 : decode cX10_goes 160 = .ok (.iload 5, 2) := dk_21 5 (dk_at dksX10_goes_6 20 rfl rfl)
theorem dX10_goes_162 : decode cX10_goes 162 = .ok (.invokestatic 196, 3) := dk_184 0 196 (dk_at dksX10_goes_7 0 rfl rfl)
theorem dX10_goes_165 : decode cX10_goes 165 = .ok (.aload_n 0, 1) := dk_42 (dk_at dksX10_goes_7 3 rfl rfl)
theorem dX10_goes_166 : decode cX10_goes 166 = .ok (.dup, 1) := dk_89 (dk_at dksX10_goes_7 4 rfl rfl)
theorem dX10_goes_167 : decode cX10_goes 167 = .ok (.getfield 181, 3) := dk_180 0 181 (dk_at dksX10_goes_7 5 rfl rfl)
theorem dX10_goes_170 : decode cX10_goes 170 = .ok (.iconst 1, 1) := dk_4 (dk_at dksX10_goes_7 8 rfl rfl)
theorem dX10_goes_171 : decode cX10_goes 171 = .ok (.iadd, 1) := dk_96 (dk_at dksX10_goes_7 9 rfl rfl)
theorem dX10_goes_172 : decode cX10_goes 172 = .ok (.putfield 181, 3) := dk_181 0 181 (dk_at dksX10_goes_7 10 rfl rfl)
theorem dX10_goes_175 : decode cX10_goes 175 = .ok (.aload_n 0, 1) := dk_42 (dk_at dksX10_goes_7 13 rfl rfl)
theorem dX10_goes_176 : decode cX10_goes 176 = .ok (.aload_n 0, 1) := dk_42 (dk_at dksX10_goes_7 14 rfl rfl)
theorem dX10_goes_177 : decode cX10_goes 177 = .ok (.getfield 181, 3) := dk_180 0 181 (dk_at dksX10_goes_7 15 rfl rfl)
theorem dX10_goes_180 : decode cX10_goes 180 = .ok (.putfield 185, 3) := dk_181 0 185 (dk_at dksX10_goes_7 18 rfl rfl)
theorem dX10_goes_183 : decode cX10_goes 183 = .ok (.aload_n 0, 1) := dk_42 (dk_at dksX10_goes_7 21 rfl rfl)
theorem dX10_goes_184 : decode cX10_goes 184 = .ok (.getfield 13, 3) := dk_180 0 13 (dk_at dksX10_goes_8 0 rfl rfl)
theorem dX10_goes_187 : decode cX10_goes 187 = .ok (.aload_n 0, 1) := dk_42 (dk_at dksX10_goes_8 3 rfl rfl)
theorem dX10_goes_188 : decode cX10_goes 188 = .ok (.getfield 18, 3) := dk_180 0 18 (dk_at dksX10_goes_8 4 rfl rfl)
theorem dX10_goes_191 : decode cX10_goes 191 = .ok (.aload_n 0, 1) := dk_42 (dk_at dksX10_goes_8 7 rfl rfl)
theorem dX10_goes_192 : decode cX10_goes 192 = .ok (.getfield 181, 3) := dk_180 0 181 (dk_at dksX10_goes_8 8 rfl rfl)
theorem dX10_goes_195 : decode cX10_goes 195 = .ok (.aaload, 1) := dk_50 (dk_at dksX10_goes_8 11 rfl rfl)
theorem dX10_goes_196 : decode cX10_goes 196 = .ok (.invokestatic 188, 3) := dk_184 0 188 (dk_at dksX10_goes_8 12 rfl rfl)
theorem dX10_goes_199 : decode cX10_goes 199 = .ok (.return_, 1) := dk_177 (dk_at dksX10_goes_8 15 rfl rfl)
abbrev cX10_copies : ByteArray := prog_26_method_4_code
def yX10_copies : MethodName := ⟨RX10, "copies", "([I[I)V"⟩
def dkwX10_copies_0 : List UInt8 := [3, 61, 28, 16, 25, 162, 0, 15, 43, 28, 42, 28, 46, 79, 132, 2, 1, 167, 255, 241, 177]
abbrev dktX10_copies_0 : List UInt8 := dkwX10_copies_0 ++ []
theorem dksX10_copies_0 : cX10_copies.data.toList.drop 0 = dktX10_copies_0 := by decide +kernel
theorem dX10_copies_0 : decode cX10_copies 0 = .ok (.iconst 0, 1) := dk_3 (dk_at dksX10_copies_0 0 rfl rfl)
theorem dX10_copies_1 : decode cX10_copies 1 = .ok (.istore_n 2, 1) := dk_61 (dk_at dksX10_copies_0 1 rfl rfl)
theorem dX10_copies_2 : decode cX10_copies 2 = .ok (.iload_n 2, 1) := dk_28 (dk_at dksX10_copies_0 2 rfl rfl)
theorem dX10_copies_3 : decode cX10_copies 3 = .ok (.bipush 25, 2) := dk_16 25 (dk_at dksX10_copies_0 3 rfl rfl)
theorem dX10_copies_5 : decode cX10_copies 5 = .ok (.if_icmp .ge 15, 3) := dk_162 0 15 (dk_at dksX10_copies_0 5 rfl rfl)
theorem dX10_copies_8 : decode cX10_copies 8 = .ok (.aload_n 1, 1) := dk_43 (dk_at dksX10_copies_0 8 rfl rfl)
theorem dX10_copies_9 : decode cX10_copies 9 = .ok (.iload_n 2, 1) := dk_28 (dk_at dksX10_copies_0 9 rfl rfl)
theorem dX10_copies_10 : decode cX10_copies 10 = .ok (.aload_n 0, 1) := dk_42 (dk_at dksX10_copies_0 10 rfl rfl)
theorem dX10_copies_11 : decode cX10_copies 11 = .ok (.iload_n 2, 1) := dk_28 (dk_at dksX10_copies_0 11 rfl rfl)
theorem dX10_copies_12 : decode cX10_copies 12 = .ok (.iaload, 1) := dk_46 (dk_at dksX10_copies_0 12 rfl rfl)
theorem dX10_copies_13 : decode cX10_copies 13 = .ok (.iastore, 1) := dk_79 (dk_at dksX10_copies_0 13 rfl rfl)
theorem dX10_copies_14 : decode cX10_copies 14 = .ok (.iinc 2 1, 3) := dk_132 2 1 (dk_at dksX10_copies_0 14 rfl rfl)
theorem dX10_copies_17 : decode cX10_copies 17 = .ok (.goto (-15), 3) := dk_167 255 241 (dk_at dksX10_copies_0 17 rfl rfl)
theorem dX10_copies_20 : decode cX10_copies 20 = .ok (.return_, 1) := dk_177 (dk_at dksX10_copies_0 20 rfl rfl)
abbrev cX10_signOf : ByteArray := prog_26_method_24_code
def yX10_signOf : MethodName := ⟨RX10, "signOf", "([IIII)I"⟩
def dkwX10_signOf_1 : List UInt8 := [27, 16, 6, 160, 0, 18, 42, 3, 46, 184, 0, 130, 5, 112, 154, 0, 7, 4, 167, 0, 4, 2, 172]
abbrev dktX10_signOf_1 : List UInt8 := dkwX10_signOf_1 ++ []
def dkwX10_signOf_0 : List UInt8 := [27, 154, 0, 9, 42, 4, 28, 96, 46, 172, 27, 133, 10, 20, 0, 124, 184, 0, 102, 153, 0, 5, 29, 172]
abbrev dktX10_signOf_0 : List UInt8 := dkwX10_signOf_0 ++ dktX10_signOf_1
theorem dksX10_signOf_0 : cX10_signOf.data.toList.drop 0 = dktX10_signOf_0 := by decide +kernel
theorem dksX10_signOf_1 : cX10_signOf.data.toList.drop 24 = dktX10_signOf_1 := dk_seg dksX10_signOf_0 24 rfl rfl
theorem dX10_signOf_0 : decode cX10_signOf 0 = .ok (.iload_n 1, 1) := dk_27 (dk_at dksX10_signOf_0 0 rfl rfl)
theorem dX10_signOf_1 : decode cX10_signOf 1 = .ok (.ifCond .ne 9, 3) := dk_154 0 9 (dk_at dksX10_signOf_0 1 rfl rfl)
theorem dX10_signOf_4 : decode cX10_signOf 4 = .ok (.aload_n 0, 1) := dk_42 (dk_at dksX10_signOf_0 4 rfl rfl)
theorem dX10_signOf_5 : decode cX10_signOf 5 = .ok (.iconst 1, 1) := dk_4 (dk_at dksX10_signOf_0 5 rfl rfl)
theorem dX10_signOf_6 : decode cX10_signOf 6 = .ok (.iload_n 2, 1) := dk_28 (dk_at dksX10_signOf_0 6 rfl rfl)
theorem dX10_signOf_7 : decode cX10_signOf 7 = .ok (.iadd, 1) := dk_96 (dk_at dksX10_signOf_0 7 rfl rfl)
theorem dX10_signOf_8 : decode cX10_signOf 8 = .ok (.iaload, 1) := dk_46 (dk_at dksX10_signOf_0 8 rfl rfl)
theorem dX10_signOf_9 : decode cX10_signOf 9 = .ok (.ireturn, 1) := dk_172 (dk_at dksX10_signOf_0 9 rfl rfl)
theorem dX10_signOf_10 : decode cX10_signOf 10 = .ok (.iload_n 1, 1) := dk_27 (dk_at dksX10_signOf_0 10 rfl rfl)
theorem dX10_signOf_11 : decode cX10_signOf 11 = .ok (.i2l, 1) := dk_133 (dk_at dksX10_signOf_0 11 rfl rfl)
theorem dX10_signOf_12 : decode cX10_signOf 12 = .ok (.lconst 1, 1) := dk_10 (dk_at dksX10_signOf_0 12 rfl rfl)
theorem dX10_signOf_13 : decode cX10_signOf 13 = .ok (.ldc2_w 124, 3) := dk_20 0 124 (dk_at dksX10_signOf_0 13 rfl rfl)
theorem dX10_signOf_16 : decode cX10_signOf 16 = .ok (.invokestatic 102, 3) := dk_184 0 102 (dk_at dksX10_signOf_0 16 rfl rfl)
theorem dX10_signOf_19 : decode cX10_signOf 19 = .ok (.ifCond .eq 5, 3) := dk_153 0 5 (dk_at dksX10_signOf_0 19 rfl rfl)
theorem dX10_signOf_22 : decode cX10_signOf 22 = .ok (.iload_n 3, 1) := dk_29 (dk_at dksX10_signOf_0 22 rfl rfl)
theorem dX10_signOf_23 : decode cX10_signOf 23 = .ok (.ireturn, 1) := dk_172 (dk_at dksX10_signOf_0 23 rfl rfl)
theorem dX10_signOf_24 : decode cX10_signOf 24 = .ok (.iload_n 1, 1) := dk_27 (dk_at dksX10_signOf_1 0 rfl rfl)
theorem dX10_signOf_25 : decode cX10_signOf 25 = .ok (.bipush 6, 2) := dk_16 6 (dk_at dksX10_signOf_1 1 rfl rfl)
theorem dX10_signOf_27 : decode cX10_signOf 27 = .ok (.if_icmp .ne 18, 3) := dk_160 0 18 (dk_at dksX10_signOf_1 3 rfl rfl)
theorem dX10_signOf_30 : decode cX10_signOf 30 = .ok (.aload_n 0, 1) := dk_42 (dk_at dksX10_signOf_1 6 rfl rfl)
theorem dX10_signOf_31 : decode cX10_signOf 31 = .ok (.iconst 0, 1) := dk_3 (dk_at dksX10_signOf_1 7 rfl rfl)
theorem dX10_signOf_32 : decode cX10_signOf 32 = .ok (.iaload, 1) := dk_46 (dk_at dksX10_signOf_1 8 rfl rfl)
theorem dX10_signOf_33 : decode cX10_signOf 33 = .ok (.invokestatic 130, 3) := dk_184 0 130 (dk_at dksX10_signOf_1 9 rfl rfl)
theorem dX10_signOf_36 : decode cX10_signOf 36 = .ok (.iconst 2, 1) := dk_5 (dk_at dksX10_signOf_1 12 rfl rfl)
theorem dX10_signOf_37 : decode cX10_signOf 37 = .ok (.irem, 1) := dk_112 (dk_at dksX10_signOf_1 13 rfl rfl)
theorem dX10_signOf_38 : decode cX10_signOf 38 = .ok (.ifCond .ne 7, 3) := dk_154 0 7 (dk_at dksX10_signOf_1 14 rfl rfl)
theorem dX10_signOf_41 : decode cX10_signOf 41 = .ok (.iconst 1, 1) := dk_4 (dk_at dksX10_signOf_1 17 rfl rfl)
theorem dX10_signOf_42 : decode cX10_signOf 42 = .ok (.goto 4, 3) := dk_167 0 4 (dk_at dksX10_signOf_1 18 rfl rfl)
theorem dX10_signOf_45 : decode cX10_signOf 45 = .ok (.iconst (-1), 1) := dk_2 (dk_at dksX10_signOf_1 21 rfl rfl)
theorem dX10_signOf_46 : decode cX10_signOf 46 = .ok (.ireturn, 1) := dk_172 (dk_at dksX10_signOf_1 22 rfl rfl)
abbrev cX10_does : ByteArray := prog_26_method_29_code
def yX10_does : MethodName := ⟨RX10, "does", "([IIIIII)V"⟩
def dkwX10_does_7 : List UInt8 := [21, 5, 184, 0, 178, 177]
abbrev dktX10_does_7 : List UInt8 := dkwX10_does_7 ++ []
def dkwX10_does_6 : List UInt8 := [21, 6, 96, 42, 4, 21, 6, 96, 46, 116, 79, 132, 6, 1, 167, 255, 233, 167, 0, 12, 42, 28, 21, 4]
abbrev dktX10_does_6 : List UInt8 := dkwX10_does_6 ++ dktX10_does_7
def dkwX10_does_5 : List UInt8 := [184, 0, 154, 42, 29, 184, 0, 154, 167, 0, 44, 3, 54, 6, 21, 6, 16, 12, 162, 0, 22, 42, 4]
abbrev dktX10_does_5 : List UInt8 := dkwX10_does_5 ++ dktX10_does_6
def dkwX10_does_4 : List UInt8 := [184, 0, 165, 62, 167, 0, 71, 42, 28, 184, 0, 175, 167, 0, 63, 42, 28, 184, 0, 133, 62, 42, 28]
abbrev dktX10_does_4 : List UInt8 := dkwX10_does_4 ++ dktX10_does_5
def dkwX10_does_3 : List UInt8 := [46, 21, 4, 96, 79, 42, 42, 21, 4, 184, 0, 165, 28, 184, 0, 158, 167, 0, 81, 42, 21, 4]
abbrev dktX10_does_3 : List UInt8 := dkwX10_does_3 ++ dktX10_does_4
def dkwX10_does_2 : List UInt8 := [42, 28, 184, 0, 168, 167, 0, 116, 42, 28, 29, 21, 4, 184, 0, 171, 167, 0, 105, 42, 4, 28, 96, 92]
abbrev dktX10_does_2 : List UInt8 := dkwX10_does_2 ++ dktX10_does_3
def dkwX10_does_1 : List UInt8 := [170, 0, 0, 0, 0, 0, 155, 0, 0, 0, 0, 0, 0, 0, 6, 0, 0, 0, 43, 0, 0, 0, 51, 0, 0, 0, 62, 0, 0, 0, 86, 0, 0, 0, 96, 0, 0, 0, 104, 0, 0, 0, 123]
abbrev dktX10_does_1 : List UInt8 := dkwX10_does_1 ++ dktX10_does_2
def dkwX10_does_0 : List UInt8 := [27]
abbrev dktX10_does_0 : List UInt8 := dkwX10_does_0 ++ dktX10_does_1
theorem dksX10_does_0 : cX10_does.data.toList.drop 0 = dktX10_does_0 := by decide +kernel
theorem dksX10_does_1 : cX10_does.data.toList.drop 1 = dktX10_does_1 := dk_seg dksX10_does_0 1 rfl rfl
theorem dksX10_does_2 : cX10_does.data.toList.drop 44 = dktX10_does_2 := dk_seg dksX10_does_1 43 rfl rfl
theorem dksX10_does_3 : cX10_does.data.toList.drop 68 = dktX10_does_3 := dk_seg dksX10_does_2 24 rfl rfl
theorem dksX10_does_4 : cX10_does.data.toList.drop 90 = dktX10_does_4 := dk_seg dksX10_does_3 22 rfl rfl
theorem dksX10_does_5 : cX10_does.data.toList.drop 113 = dktX10_does_5 := dk_seg dksX10_does_4 23 rfl rfl
theorem dksX10_does_6 : cX10_does.data.toList.drop 136 = dktX10_does_6 := dk_seg dksX10_does_5 23 rfl rfl
theorem dksX10_does_7 : cX10_does.data.toList.drop 160 = dktX10_does_7 := dk_seg dksX10_does_6 24 rfl rfl
theorem dX10_does_0 : decode cX10_does 0 = .ok (.iload_n 1, 1) := dk_27 (dk_at dksX10_does_0 0 rfl rfl)
theorem dX10_does_1 : decode cX10_does 1 = .ok (.tableswitch 155 0 6 #[43, 51, 62, 86, 96, 104, 123], 43) := by decide +kernel
theorem dX10_does_44 : decode cX10_does 44 = .ok (.aload_n 0, 1) := dk_42 (dk_at dksX10_does_2 0 rfl rfl)
theorem dX10_does_45 : decode cX10_does 45 = .ok (.iload_n 2, 1) := dk_28 (dk_at dksX10_does_2 1 rfl rfl)
theorem dX10_does_46 : decode cX10_does 46 = .ok (.invokestatic 168, 3) := dk_184 0 168 (dk_at dksX10_does_2 2 rfl rfl)
theorem dX10_does_49 : decode cX10_does 49 = .ok (.goto 116, 3) := dk_167 0 116 (dk_at dksX10_does_2 5 rfl rfl)
theorem dX10_does_52 : decode cX10_does 52 = .ok (.aload_n 0, 1) := dk_42 (dk_at dksX10_does_2 8 rfl rfl)
theorem dX10_does_53 : decode cX10_does 53 = .ok (.iload_n 2, 1) := dk_28 (dk_at dksX10_does_2 9 rfl rfl)
theorem dX10_does_54 : decode cX10_does 54 = .ok (.iload_n 3, 1) := dk_29 (dk_at dksX10_does_2 10 rfl rfl)
theorem dX10_does_55 : decode cX10_does 55 = .ok (.iload 4, 2) := dk_21 4 (dk_at dksX10_does_2 11 rfl rfl)
theorem dX10_does_57 : decode cX10_does 57 = .ok (.invokestatic 171, 3) := dk_184 0 171 (dk_at dksX10_does_2 13 rfl rfl)
theorem dX10_does_60 : decode cX10_does 60 = .ok (.goto 105, 3) := dk_167 0 105 (dk_at dksX10_does_2 16 rfl rfl)
theorem dX10_does_63 : decode cX10_does 63 = .ok (.aload_n 0, 1) := dk_42 (dk_at dksX10_does_2 19 rfl rfl)
theorem dX10_does_64 : decode cX10_does 64 = .ok (.iconst 1, 1) := dk_4 (dk_at dksX10_does_2 20 rfl rfl)
theorem dX10_does_65 : decode cX10_does 65 = .ok (.iload_n 2, 1) := dk_28 (dk_at dksX10_does_2 21 rfl rfl)
theorem dX10_does_66 : decode cX10_does 66 = .ok (.iadd, 1) := dk_96 (dk_at dksX10_does_2 22 rfl rfl)
theorem dX10_does_67 : decode cX10_does 67 = .ok (.dup2, 1) := dk_92 (dk_at dksX10_does_2 23 rfl rfl)
theorem dX10_does_68 : decode cX10_does 68 = .ok (.iaload, 1) := dk_46 (dk_at dksX10_does_3 0 rfl rfl)
theorem dX10_does_69 : decode cX10_does 69 = .ok (.iload 4, 2) := dk_21 4 (dk_at dksX10_does_3 1 rfl rfl)
theorem dX10_does_71 : decode cX10_does 71 = .ok (.iadd, 1) := dk_96 (dk_at dksX10_does_3 3 rfl rfl)
theorem dX10_does_72 : decode cX10_does 72 = .ok (.iastore, 1) := dk_79 (dk_at dksX10_does_3 4 rfl rfl)
theorem dX10_does_73 : decode cX10_does 73 = .ok (.aload_n 0, 1) := dk_42 (dk_at dksX10_does_3 5 rfl rfl)
theorem dX10_does_74 : decode cX10_does 74 = .ok (.aload_n 0, 1) := dk_42 (dk_at dksX10_does_3 6 rfl rfl)
theorem dX10_does_75 : decode cX10_does 75 = .ok (.iload 4, 2) := dk_21 4 (dk_at dksX10_does_3 7 rfl rfl)
theorem dX10_does_77 : decode cX10_does 77 = .ok (.invokestatic 165, 3) := dk_184 0 165 (dk_at dksX10_does_3 9 rfl rfl)
theorem dX10_does_80 : decode cX10_does 80 = .ok (.iload_n 2, 1) := dk_28 (dk_at dksX10_does_3 12 rfl rfl)
theorem dX10_does_81 : decode cX10_does 81 = .ok (.invokestatic 158, 3) := dk_184 0 158 (dk_at dksX10_does_3 13 rfl rfl)
theorem dX10_does_84 : decode cX10_does 84 = .ok (.goto 81, 3) := dk_167 0 81 (dk_at dksX10_does_3 16 rfl rfl)
theorem dX10_does_87 : decode cX10_does 87 = .ok (.aload_n 0, 1) := dk_42 (dk_at dksX10_does_3 19 rfl rfl)
theorem dX10_does_88 : decode cX10_does 88 = .ok (.iload 4, 2) := dk_21 4 (dk_at dksX10_does_3 20 rfl rfl)
theorem dX10_does_90 : decode cX10_does 90 = .ok (.invokestatic 165, 3) := dk_184 0 165 (dk_at dksX10_does_4 0 rfl rfl)
theorem dX10_does_93 : decode cX10_does 93 = .ok (.istore_n 3, 1) := dk_62 (dk_at dksX10_does_4 3 rfl rfl)
theorem dX10_does_94 : decode cX10_does 94 = .ok (.goto 71, 3) := dk_167 0 71 (dk_at dksX10_does_4 4 rfl rfl)
theorem dX10_does_97 : decode cX10_does 97 = .ok (.aload_n 0, 1) := dk_42 (dk_at dksX10_does_4 7 rfl rfl)
theorem dX10_does_98 : decode cX10_does 98 = .ok (.iload_n 2, 1) := dk_28 (dk_at dksX10_does_4 8 rfl rfl)
theorem dX10_does_99 : decode cX10_does 99 = .ok (.invokestatic 175, 3) := dk_184 0 175 (dk_at dksX10_does_4 9 rfl rfl)
theorem dX10_does_102 : decode cX10_does 102 = .ok (.goto 63, 3) := dk_167 0 63 (dk_at dksX10_does_4 12 rfl rfl)
theorem dX10_does_105 : decode cX10_does 105 = .ok (.aload_n 0, 1) := dk_42 (dk_at dksX10_does_4 15 rfl rfl)
theorem dX10_does_106 : decode cX10_does 106 = .ok (.iload_n 2, 1) := dk_28 (dk_at dksX10_does_4 16 rfl rfl)
theorem dX10_does_107 : decode cX10_does 107 = .ok (.invokestatic 133, 3) := dk_184 0 133 (dk_at dksX10_does_4 17 rfl rfl)
theorem dX10_does_110 : decode cX10_does 110 = .ok (.istore_n 3, 1) := dk_62 (dk_at dksX10_does_4 20 rfl rfl)
theorem dX10_does_111 : decode cX10_does 111 = .ok (.aload_n 0, 1) := dk_42 (dk_at dksX10_does_4 21 rfl rfl)
theorem dX10_does_112 : decode cX10_does 112 = .ok (.iload_n 2, 1) := dk_28 (dk_at dksX10_does_4 22 rfl rfl)
theorem dX10_does_113 : decode cX10_does 113 = .ok (.invokestatic 154, 3) := dk_184 0 154 (dk_at dksX10_does_5 0 rfl rfl)
theorem dX10_does_116 : decode cX10_does 116 = .ok (.aload_n 0, 1) := dk_42 (dk_at dksX10_does_5 3 rfl rfl)
theorem dX10_does_117 : decode cX10_does 117 = .ok (.iload_n 3, 1) := dk_29 (dk_at dksX10_does_5 4 rfl rfl)
theorem dX10_does_118 : decode cX10_does 118 = .ok (.invokestatic 154, 3) := dk_184 0 154 (dk_at dksX10_does_5 5 rfl rfl)
theorem dX10_does_121 : decode cX10_does 121 = .ok (.goto 44, 3) := dk_167 0 44 (dk_at dksX10_does_5 8 rfl rfl)
theorem dX10_does_124 : decode cX10_does 124 = .ok (.iconst 0, 1) := dk_3 (dk_at dksX10_does_5 11 rfl rfl)
theorem dX10_does_125 : decode cX10_does 125 = .ok (.istore 6, 2) := dk_54 6 (dk_at dksX10_does_5 12 rfl rfl)
theorem dX10_does_127 : decode cX10_does 127 = .ok (.iload 6, 2) := dk_21 6 (dk_at dksX10_does_5 14 rfl rfl)
theorem dX10_does_129 : decode cX10_does 129 = .ok (.bipush 12, 2) := dk_16 12 (dk_at dksX10_does_5 16 rfl rfl)
theorem dX10_does_131 : decode cX10_does 131 = .ok (.if_icmp .ge 22, 3) := dk_162 0 22 (dk_at dksX10_does_5 18 rfl rfl)
theorem dX10_does_134 : decode cX10_does 134 = .ok (.aload_n 0, 1) := dk_42 (dk_at dksX10_does_5 21 rfl rfl)
theorem dX10_does_135 : decode cX10_does 135 = .ok (.iconst 1, 1) := dk_4 (dk_at dksX10_does_5 22 rfl rfl)
theorem dX10_does_136 : decode cX10_does 136 = .ok (.iload 6, 2) := dk_21 6 (dk_at dksX10_does_6 0 rfl rfl)
theorem dX10_does_138 : decode cX10_does 138 = .ok (.iadd, 1) := dk_96 (dk_at dksX10_does_6 2 rfl rfl)
theorem dX10_does_139 : decode cX10_does 139 = .ok (.aload_n 0, 1) := dk_42 (dk_at dksX10_does_6 3 rfl rfl)
theorem dX10_does_140 : decode cX10_does 140 = .ok (.iconst 1, 1) := dk_4 (dk_at dksX10_does_6 4 rfl rfl)
theorem dX10_does_141 : decode cX10_does 141 = .ok (.iload 6, 2) := dk_21 6 (dk_at dksX10_does_6 5 rfl rfl)
theorem dX10_does_143 : decode cX10_does 143 = .ok (.iadd, 1) := dk_96 (dk_at dksX10_does_6 7 rfl rfl)
theorem dX10_does_144 : decode cX10_does 144 = .ok (.iaload, 1) := dk_46 (dk_at dksX10_does_6 8 rfl rfl)
theorem dX10_does_145 : decode cX10_does 145 = .ok (.ineg, 1) := dk_116 (dk_at dksX10_does_6 9 rfl rfl)
theorem dX10_does_146 : decode cX10_does 146 = .ok (.iastore, 1) := dk_79 (dk_at dksX10_does_6 10 rfl rfl)
theorem dX10_does_147 : decode cX10_does 147 = .ok (.iinc 6 1, 3) := dk_132 6 1 (dk_at dksX10_does_6 11 rfl rfl)
theorem dX10_does_150 : decode cX10_does 150 = .ok (.goto (-23), 3) := dk_167 255 233 (dk_at dksX10_does_6 14 rfl rfl)
theorem dX10_does_153 : decode cX10_does 153 = .ok (.goto 12, 3) := dk_167 0 12 (dk_at dksX10_does_6 17 rfl rfl)
theorem dX10_does_156 : decode cX10_does 156 = .ok (.aload_n 0, 1) := dk_42 (dk_at dksX10_does_6 20 rfl rfl)
theorem dX10_does_157 : decode cX10_does 157 = .ok (.iload_n 2, 1) := dk_28 (dk_at dksX10_does_6 21 rfl rfl)
theorem dX10_does_158 : decode cX10_does 158 = .ok (.iload 4, 2) := dk_21 4 (dk_at dksX10_does_6 22 rfl rfl)
theorem dX10_does_160 : decode cX10_does 160 = .ok (.iload 5, 2) := dk_21 5 (dk_at dksX10_does_7 0 rfl rfl)
theorem dX10_does_162 : decode cX10_does 162 = .ok (.invokestatic 178, 3) := dk_184 0 178 (dk_at dksX10_does_7 2 rfl rfl)
theorem dX10_does_165 : decode cX10_does 165 = .ok (.return_, 1) := dk_177 (dk_at dksX10_does_7 5 rfl rfl)
abbrev cX10_goesDown : ByteArray := prog_26_method_25_code
def yX10_goesDown : MethodName := ⟨RX10, "goesDown", "([II)V"⟩
def dkwX10_goesDown_3 : List UInt8 := [29, 29, 4, 100, 126, 184, 0, 114, 184, 0, 158, 177]
abbrev dktX10_goesDown_3 : List UInt8 := dkwX10_goesDown_3 ++ []
def dkwX10_goesDown_2 : List UInt8 := [132, 4, 1, 167, 255, 223, 42, 27, 184, 0, 154, 29, 184, 0, 130, 5, 160, 0, 19, 42, 29, 184, 0, 114]
abbrev dktX10_goesDown_2 : List UInt8 := dkwX10_goesDown_2 ++ dktX10_goesDown_3
def dkwX10_goesDown_1 : List UInt8 := [4, 21, 4, 96, 92, 46, 29, 21, 4, 184, 0, 96, 153, 0, 7, 28, 167, 0, 4, 3, 100, 79]
abbrev dktX10_goesDown_1 : List UInt8 := dkwX10_goesDown_1 ++ dktX10_goesDown_2
def dkwX10_goesDown_0 : List UInt8 := [42, 4, 27, 96, 46, 61, 42, 16, 13, 27, 96, 46, 62, 3, 54, 4, 21, 4, 16, 12, 162, 0, 32, 42]
abbrev dktX10_goesDown_0 : List UInt8 := dkwX10_goesDown_0 ++ dktX10_goesDown_1
theorem dksX10_goesDown_0 : cX10_goesDown.data.toList.drop 0 = dktX10_goesDown_0 := by decide +kernel
theorem dksX10_goesDown_1 : cX10_goesDown.data.toList.drop 24 = dktX10_goesDown_1 := dk_seg dksX10_goesDown_0 24 rfl rfl
theorem dksX10_goesDown_2 : cX10_goesDown.data.toList.drop 46 = dktX10_goesDown_2 := dk_seg dksX10_goesDown_1 22 rfl rfl
theorem dksX10_goesDown_3 : cX10_goesDown.data.toList.drop 70 = dktX10_goesDown_3 := dk_seg dksX10_goesDown_2 24 rfl rfl
theorem dX10_goesDown_0 : decode cX10_goesDown 0 = .ok (.aload_n 0, 1) := dk_42 (dk_at dksX10_goesDown_0 0 rfl rfl)
theorem dX10_goesDown_1 : decode cX10_goesDown 1 = .ok (.iconst 1, 1) := dk_4 (dk_at dksX10_goesDown_0 1 rfl rfl)
theorem dX10_goesDown_2 : decode cX10_goesDown 2 = .ok (.iload_n 1, 1) := dk_27 (dk_at dksX10_goesDown_0 2 rfl rfl)
theorem dX10_goesDown_3 : decode cX10_goesDown 3 = .ok (.iadd, 1) := dk_96 (dk_at dksX10_goesDown_0 3 rfl rfl)
theorem dX10_goesDown_4 : decode cX10_goesDown 4 = .ok (.iaload, 1) := dk_46 (dk_at dksX10_goesDown_0 4 rfl rfl)
theorem dX10_goesDown_5 : decode cX10_goesDown 5 = .ok (.istore_n 2, 1) := dk_61 (dk_at dksX10_goesDown_0 5 rfl rfl)
theorem dX10_goesDown_6 : decode cX10_goesDown 6 = .ok (.aload_n 0, 1) := dk_42 (dk_at dksX10_goesDown_0 6 rfl rfl)
theorem dX10_goesDown_7 : decode cX10_goesDown 7 = .ok (.bipush 13, 2) := dk_16 13 (dk_at dksX10_goesDown_0 7 rfl rfl)
theorem dX10_goesDown_9 : decode cX10_goesDown 9 = .ok (.iload_n 1, 1) := dk_27 (dk_at dksX10_goesDown_0 9 rfl rfl)
theorem dX10_goesDown_10 : decode cX10_goesDown 10 = .ok (.iadd, 1) := dk_96 (dk_at dksX10_goesDown_0 10 rfl rfl)
theorem dX10_goesDown_11 : decode cX10_goesDown 11 = .ok (.iaload, 1) := dk_46 (dk_at dksX10_goesDown_0 11 rfl rfl)
theorem dX10_goesDown_12 : decode cX10_goesDown 12 = .ok (.istore_n 3, 1) := dk_62 (dk_at dksX10_goesDown_0 12 rfl rfl)
theorem dX10_goesDown_13 : decode cX10_goesDown 13 = .ok (.iconst 0, 1) := dk_3 (dk_at dksX10_goesDown_0 13 rfl rfl)
theorem dX10_goesDown_14 : decode cX10_goesDown 14 = .ok (.istore 4, 2) := dk_54 4 (dk_at dksX10_goesDown_0 14 rfl rfl)
theorem dX10_goesDown_16 : decode cX10_goesDown 16 = .ok (.iload 4, 2) := dk_21 4 (dk_at dksX10_goesDown_0 16 rfl rfl)
theorem dX10_goesDown_18 : decode cX10_goesDown 18 = .ok (.bipush 12, 2) := dk_16 12 (dk_at dksX10_goesDown_0 18 rfl rfl)
theorem dX10_goesDown_20 : decode cX10_goesDown 20 = .ok (.if_icmp .ge 32, 3) := dk_162 0 32 (dk_at dksX10_goesDown_0 20 rfl rfl)
theorem dX10_goesDown_23 : decode cX10_goesDown 23 = .ok (.aload_n 0, 1) := dk_42 (dk_at dksX10_goesDown_0 23 rfl rfl)
theorem dX10_goesDown_24 : decode cX10_goesDown 24 = .ok (.iconst 1, 1) := dk_4 (dk_at dksX10_goesDown_1 0 rfl rfl)
theorem dX10_goesDown_25 : decode cX10_goesDown 25 = .ok (.iload 4, 2) := dk_21 4 (dk_at dksX10_goesDown_1 1 rfl rfl)
theorem dX10_goesDown_27 : decode cX10_goesDown 27 = .ok (.iadd, 1) := dk_96 (dk_at dksX10_goesDown_1 3 rfl rfl)
theorem dX10_goesDown_28 : decode cX10_goesDown 28 = .ok (.dup2, 1) := dk_92 (dk_at dksX10_goesDown_1 4 rfl rfl)
theorem dX10_goesDown_29 : decode cX10_goesDown 29 = .ok (.iaload, 1) := dk_46 (dk_at dksX10_goesDown_1 5 rfl rfl)
theorem dX10_goesDown_30 : decode cX10_goesDown 30 = .ok (.iload_n 3, 1) := dk_29 (dk_at dksX10_goesDown_1 6 rfl rfl)
theorem dX10_goesDown_31 : decode cX10_goesDown 31 = .ok (.iload 4, 2) := dk_21 4 (dk_at dksX10_goesDown_1 7 rfl rfl)
theorem dX10_goesDown_33 : decode cX10_goesDown 33 = .ok (.invokestatic 96, 3) := dk_184 0 96 (dk_at dksX10_goesDown_1 9 rfl rfl)
theorem dX10_goesDown_36 : decode cX10_goesDown 36 = .ok (.ifCond .eq 7, 3) := dk_153 0 7 (dk_at dksX10_goesDown_1 12 rfl rfl)
theorem dX10_goesDown_39 : decode cX10_goesDown 39 = .ok (.iload_n 2, 1) := dk_28 (dk_at dksX10_goesDown_1 15 rfl rfl)
theorem dX10_goesDown_40 : decode cX10_goesDown 40 = .ok (.goto 4, 3) := dk_167 0 4 (dk_at dksX10_goesDown_1 16 rfl rfl)
theorem dX10_goesDown_43 : decode cX10_goesDown 43 = .ok (.iconst 0, 1) := dk_3 (dk_at dksX10_goesDown_1 19 rfl rfl)
theorem dX10_goesDown_44 : decode cX10_goesDown 44 = .ok (.isub, 1) := dk_100 (dk_at dksX10_goesDown_1 20 rfl rfl)
theorem dX10_goesDown_45 : decode cX10_goesDown 45 = .ok (.iastore, 1) := dk_79 (dk_at dksX10_goesDown_1 21 rfl rfl)
theorem dX10_goesDown_46 : decode cX10_goesDown 46 = .ok (.iinc 4 1, 3) := dk_132 4 1 (dk_at dksX10_goesDown_2 0 rfl rfl)
theorem dX10_goesDown_49 : decode cX10_goesDown 49 = .ok (.goto (-33), 3) := dk_167 255 223 (dk_at dksX10_goesDown_2 3 rfl rfl)
theorem dX10_goesDown_52 : decode cX10_goesDown 52 = .ok (.aload_n 0, 1) := dk_42 (dk_at dksX10_goesDown_2 6 rfl rfl)
theorem dX10_goesDown_53 : decode cX10_goesDown 53 = .ok (.iload_n 1, 1) := dk_27 (dk_at dksX10_goesDown_2 7 rfl rfl)
theorem dX10_goesDown_54 : decode cX10_goesDown 54 = .ok (.invokestatic 154, 3) := dk_184 0 154 (dk_at dksX10_goesDown_2 8 rfl rfl)
theorem dX10_goesDown_57 : decode cX10_goesDown 57 = .ok (.iload_n 3, 1) := dk_29 (dk_at dksX10_goesDown_2 11 rfl rfl)
theorem dX10_goesDown_58 : decode cX10_goesDown 58 = .ok (.invokestatic 130, 3) := dk_184 0 130 (dk_at dksX10_goesDown_2 12 rfl rfl)
theorem dX10_goesDown_61 : decode cX10_goesDown 61 = .ok (.iconst 2, 1) := dk_5 (dk_at dksX10_goesDown_2 15 rfl rfl)
theorem dX10_goesDown_62 : decode cX10_goesDown 62 = .ok (.if_icmp .ne 19, 3) := dk_160 0 19 (dk_at dksX10_goesDown_2 16 rfl rfl)
theorem dX10_goesDown_65 : decode cX10_goesDown 65 = .ok (.aload_n 0, 1) := dk_42 (dk_at dksX10_goesDown_2 19 rfl rfl)
theorem dX10_goesDown_66 : decode cX10_goesDown 66 = .ok (.iload_n 3, 1) := dk_29 (dk_at dksX10_goesDown_2 20 rfl rfl)
theorem dX10_goesDown_67 : decode cX10_goesDown 67 = .ok (.invokestatic 114, 3) := dk_184 0 114 (dk_at dksX10_goesDown_2 21 rfl rfl)
theorem dX10_goesDown_70 : decode cX10_goesDown 70 = .ok (.iload_n 3, 1) := dk_29 (dk_at dksX10_goesDown_3 0 rfl rfl)
theorem dX10_goesDown_71 : decode cX10_goesDown 71 = .ok (.iload_n 3, 1) := dk_29 (dk_at dksX10_goesDown_3 1 rfl rfl)
theorem dX10_goesDown_72 : decode cX10_goesDown 72 = .ok (.iconst 1, 1) := dk_4 (dk_at dksX10_goesDown_3 2 rfl rfl)
theorem dX10_goesDown_73 : decode cX10_goesDown 73 = .ok (.isub, 1) := dk_100 (dk_at dksX10_goesDown_3 3 rfl rfl)
theorem dX10_goesDown_74 : decode cX10_goesDown 74 = .ok (.iand, 1) := dk_126 (dk_at dksX10_goesDown_3 4 rfl rfl)
theorem dX10_goesDown_75 : decode cX10_goesDown 75 = .ok (.invokestatic 114, 3) := dk_184 0 114 (dk_at dksX10_goesDown_3 5 rfl rfl)
theorem dX10_goesDown_78 : decode cX10_goesDown 78 = .ok (.invokestatic 158, 3) := dk_184 0 158 (dk_at dksX10_goesDown_3 8 rfl rfl)
theorem dX10_goesDown_81 : decode cX10_goesDown 81 = .ok (.return_, 1) := dk_177 (dk_at dksX10_goesDown_3 11 rfl rfl)
abbrev cX10_leaves : ByteArray := prog_26_method_14_code
def yX10_leaves : MethodName := ⟨RX10, "leaves", "([II)V"⟩
def dkwX10_leaves_2 : List UInt8 := [27, 120, 2, 130, 126, 79, 177]
abbrev dktX10_leaves_2 : List UInt8 := dkwX10_leaves_2 ++ []
def dkwX10_leaves_1 : List UInt8 := [132, 2, 1, 167, 255, 233, 42, 16, 13, 27, 96, 3, 79, 42, 4, 27, 96, 3, 79, 42, 3, 92, 46, 4]
abbrev dktX10_leaves_1 : List UInt8 := dkwX10_leaves_1 ++ dktX10_leaves_2
def dkwX10_leaves_0 : List UInt8 := [3, 61, 28, 16, 12, 162, 0, 23, 42, 16, 13, 28, 96, 92, 46, 4, 27, 120, 2, 130, 126, 79]
abbrev dktX10_leaves_0 : List UInt8 := dkwX10_leaves_0 ++ dktX10_leaves_1
theorem dksX10_leaves_0 : cX10_leaves.data.toList.drop 0 = dktX10_leaves_0 := by decide +kernel
theorem dksX10_leaves_1 : cX10_leaves.data.toList.drop 22 = dktX10_leaves_1 := dk_seg dksX10_leaves_0 22 rfl rfl
theorem dksX10_leaves_2 : cX10_leaves.data.toList.drop 46 = dktX10_leaves_2 := dk_seg dksX10_leaves_1 24 rfl rfl
theorem dX10_leaves_0 : decode cX10_leaves 0 = .ok (.iconst 0, 1) := dk_3 (dk_at dksX10_leaves_0 0 rfl rfl)
theorem dX10_leaves_1 : decode cX10_leaves 1 = .ok (.istore_n 2, 1) := dk_61 (dk_at dksX10_leaves_0 1 rfl rfl)
theorem dX10_leaves_2 : decode cX10_leaves 2 = .ok (.iload_n 2, 1) := dk_28 (dk_at dksX10_leaves_0 2 rfl rfl)
theorem dX10_leaves_3 : decode cX10_leaves 3 = .ok (.bipush 12, 2) := dk_16 12 (dk_at dksX10_leaves_0 3 rfl rfl)
theorem dX10_leaves_5 : decode cX10_leaves 5 = .ok (.if_icmp .ge 23, 3) := dk_162 0 23 (dk_at dksX10_leaves_0 5 rfl rfl)
theorem dX10_leaves_8 : decode cX10_leaves 8 = .ok (.aload_n 0, 1) := dk_42 (dk_at dksX10_leaves_0 8 rfl rfl)
theorem dX10_leaves_9 : decode cX10_leaves 9 = .ok (.bipush 13, 2) := dk_16 13 (dk_at dksX10_leaves_0 9 rfl rfl)
theorem dX10_leaves_11 : decode cX10_leaves 11 = .ok (.iload_n 2, 1) := dk_28 (dk_at dksX10_leaves_0 11 rfl rfl)
theorem dX10_leaves_12 : decode cX10_leaves 12 = .ok (.iadd, 1) := dk_96 (dk_at dksX10_leaves_0 12 rfl rfl)
theorem dX10_leaves_13 : decode cX10_leaves 13 = .ok (.dup2, 1) := dk_92 (dk_at dksX10_leaves_0 13 rfl rfl)
theorem dX10_leaves_14 : decode cX10_leaves 14 = .ok (.iaload, 1) := dk_46 (dk_at dksX10_leaves_0 14 rfl rfl)
theorem dX10_leaves_15 : decode cX10_leaves 15 = .ok (.iconst 1, 1) := dk_4 (dk_at dksX10_leaves_0 15 rfl rfl)
theorem dX10_leaves_16 : decode cX10_leaves 16 = .ok (.iload_n 1, 1) := dk_27 (dk_at dksX10_leaves_0 16 rfl rfl)
theorem dX10_leaves_17 : decode cX10_leaves 17 = .ok (.ishl, 1) := dk_120 (dk_at dksX10_leaves_0 17 rfl rfl)
theorem dX10_leaves_18 : decode cX10_leaves 18 = .ok (.iconst (-1), 1) := dk_2 (dk_at dksX10_leaves_0 18 rfl rfl)
theorem dX10_leaves_19 : decode cX10_leaves 19 = .ok (.ixor, 1) := dk_130 (dk_at dksX10_leaves_0 19 rfl rfl)
theorem dX10_leaves_20 : decode cX10_leaves 20 = .ok (.iand, 1) := dk_126 (dk_at dksX10_leaves_0 20 rfl rfl)
theorem dX10_leaves_21 : decode cX10_leaves 21 = .ok (.iastore, 1) := dk_79 (dk_at dksX10_leaves_0 21 rfl rfl)
theorem dX10_leaves_22 : decode cX10_leaves 22 = .ok (.iinc 2 1, 3) := dk_132 2 1 (dk_at dksX10_leaves_1 0 rfl rfl)
theorem dX10_leaves_25 : decode cX10_leaves 25 = .ok (.goto (-23), 3) := dk_167 255 233 (dk_at dksX10_leaves_1 3 rfl rfl)
theorem dX10_leaves_28 : decode cX10_leaves 28 = .ok (.aload_n 0, 1) := dk_42 (dk_at dksX10_leaves_1 6 rfl rfl)
theorem dX10_leaves_29 : decode cX10_leaves 29 = .ok (.bipush 13, 2) := dk_16 13 (dk_at dksX10_leaves_1 7 rfl rfl)
theorem dX10_leaves_31 : decode cX10_leaves 31 = .ok (.iload_n 1, 1) := dk_27 (dk_at dksX10_leaves_1 9 rfl rfl)
theorem dX10_leaves_32 : decode cX10_leaves 32 = .ok (.iadd, 1) := dk_96 (dk_at dksX10_leaves_1 10 rfl rfl)
theorem dX10_leaves_33 : decode cX10_leaves 33 = .ok (.iconst 0, 1) := dk_3 (dk_at dksX10_leaves_1 11 rfl rfl)
theorem dX10_leaves_34 : decode cX10_leaves 34 = .ok (.iastore, 1) := dk_79 (dk_at dksX10_leaves_1 12 rfl rfl)
theorem dX10_leaves_35 : decode cX10_leaves 35 = .ok (.aload_n 0, 1) := dk_42 (dk_at dksX10_leaves_1 13 rfl rfl)
theorem dX10_leaves_36 : decode cX10_leaves 36 = .ok (.iconst 1, 1) := dk_4 (dk_at dksX10_leaves_1 14 rfl rfl)
theorem dX10_leaves_37 : decode cX10_leaves 37 = .ok (.iload_n 1, 1) := dk_27 (dk_at dksX10_leaves_1 15 rfl rfl)
theorem dX10_leaves_38 : decode cX10_leaves 38 = .ok (.iadd, 1) := dk_96 (dk_at dksX10_leaves_1 16 rfl rfl)
theorem dX10_leaves_39 : decode cX10_leaves 39 = .ok (.iconst 0, 1) := dk_3 (dk_at dksX10_leaves_1 17 rfl rfl)
theorem dX10_leaves_40 : decode cX10_leaves 40 = .ok (.iastore, 1) := dk_79 (dk_at dksX10_leaves_1 18 rfl rfl)
theorem dX10_leaves_41 : decode cX10_leaves 41 = .ok (.aload_n 0, 1) := dk_42 (dk_at dksX10_leaves_1 19 rfl rfl)
theorem dX10_leaves_42 : decode cX10_leaves 42 = .ok (.iconst 0, 1) := dk_3 (dk_at dksX10_leaves_1 20 rfl rfl)
theorem dX10_leaves_43 : decode cX10_leaves 43 = .ok (.dup2, 1) := dk_92 (dk_at dksX10_leaves_1 21 rfl rfl)
theorem dX10_leaves_44 : decode cX10_leaves 44 = .ok (.iaload, 1) := dk_46 (dk_at dksX10_leaves_1 22 rfl rfl)
theorem dX10_leaves_45 : decode cX10_leaves 45 = .ok (.iconst 1, 1) := dk_4 (dk_at dksX10_leaves_1 23 rfl rfl)
theorem dX10_leaves_46 : decode cX10_leaves 46 = .ok (.iload_n 1, 1) := dk_27 (dk_at dksX10_leaves_2 0 rfl rfl)
theorem dX10_leaves_47 : decode cX10_leaves 47 = .ok (.ishl, 1) := dk_120 (dk_at dksX10_leaves_2 1 rfl rfl)
theorem dX10_leaves_48 : decode cX10_leaves 48 = .ok (.iconst (-1), 1) := dk_2 (dk_at dksX10_leaves_2 2 rfl rfl)
theorem dX10_leaves_49 : decode cX10_leaves 49 = .ok (.ixor, 1) := dk_130 (dk_at dksX10_leaves_2 3 rfl rfl)
theorem dX10_leaves_50 : decode cX10_leaves 50 = .ok (.iand, 1) := dk_126 (dk_at dksX10_leaves_2 4 rfl rfl)
theorem dX10_leaves_51 : decode cX10_leaves 51 = .ok (.iastore, 1) := dk_79 (dk_at dksX10_leaves_2 5 rfl rfl)
theorem dX10_leaves_52 : decode cX10_leaves 52 = .ok (.return_, 1) := dk_177 (dk_at dksX10_leaves_2 6 rfl rfl)
abbrev cX10_ties : ByteArray := prog_26_method_12_code
def yX10_ties : MethodName := ⟨RX10, "ties", "([III)V"⟩
def dkwX10_ties_1 : List UInt8 := [177]
abbrev dktX10_ties_1 : List UInt8 := dkwX10_ties_1 ++ []
def dkwX10_ties_0 : List UInt8 := [42, 16, 13, 27, 96, 92, 46, 4, 28, 120, 128, 79, 42, 16, 13, 28, 96, 92, 46, 4, 27, 120, 128, 79]
abbrev dktX10_ties_0 : List UInt8 := dkwX10_ties_0 ++ dktX10_ties_1
theorem dksX10_ties_0 : cX10_ties.data.toList.drop 0 = dktX10_ties_0 := by decide +kernel
theorem dksX10_ties_1 : cX10_ties.data.toList.drop 24 = dktX10_ties_1 := dk_seg dksX10_ties_0 24 rfl rfl
theorem dX10_ties_0 : decode cX10_ties 0 = .ok (.aload_n 0, 1) := dk_42 (dk_at dksX10_ties_0 0 rfl rfl)
theorem dX10_ties_1 : decode cX10_ties 1 = .ok (.bipush 13, 2) := dk_16 13 (dk_at dksX10_ties_0 1 rfl rfl)
theorem dX10_ties_3 : decode cX10_ties 3 = .ok (.iload_n 1, 1) := dk_27 (dk_at dksX10_ties_0 3 rfl rfl)
theorem dX10_ties_4 : decode cX10_ties 4 = .ok (.iadd, 1) := dk_96 (dk_at dksX10_ties_0 4 rfl rfl)
theorem dX10_ties_5 : decode cX10_ties 5 = .ok (.dup2, 1) := dk_92 (dk_at dksX10_ties_0 5 rfl rfl)
theorem dX10_ties_6 : decode cX10_ties 6 = .ok (.iaload, 1) := dk_46 (dk_at dksX10_ties_0 6 rfl rfl)
theorem dX10_ties_7 : decode cX10_ties 7 = .ok (.iconst 1, 1) := dk_4 (dk_at dksX10_ties_0 7 rfl rfl)
theorem dX10_ties_8 : decode cX10_ties 8 = .ok (.iload_n 2, 1) := dk_28 (dk_at dksX10_ties_0 8 rfl rfl)
theorem dX10_ties_9 : decode cX10_ties 9 = .ok (.ishl, 1) := dk_120 (dk_at dksX10_ties_0 9 rfl rfl)
theorem dX10_ties_10 : decode cX10_ties 10 = .ok (.ior, 1) := dk_128 (dk_at dksX10_ties_0 10 rfl rfl)
theorem dX10_ties_11 : decode cX10_ties 11 = .ok (.iastore, 1) := dk_79 (dk_at dksX10_ties_0 11 rfl rfl)
theorem dX10_ties_12 : decode cX10_ties 12 = .ok (.aload_n 0, 1) := dk_42 (dk_at dksX10_ties_0 12 rfl rfl)
theorem dX10_ties_13 : decode cX10_ties 13 = .ok (.bipush 13, 2) := dk_16 13 (dk_at dksX10_ties_0 13 rfl rfl)
theorem dX10_ties_15 : decode cX10_ties 15 = .ok (.iload_n 2, 1) := dk_28 (dk_at dksX10_ties_0 15 rfl rfl)
theorem dX10_ties_16 : decode cX10_ties 16 = .ok (.iadd, 1) := dk_96 (dk_at dksX10_ties_0 16 rfl rfl)
theorem dX10_ties_17 : decode cX10_ties 17 = .ok (.dup2, 1) := dk_92 (dk_at dksX10_ties_0 17 rfl rfl)
theorem dX10_ties_18 : decode cX10_ties 18 = .ok (.iaload, 1) := dk_46 (dk_at dksX10_ties_0 18 rfl rfl)
theorem dX10_ties_19 : decode cX10_ties 19 = .ok (.iconst 1, 1) := dk_4 (dk_at dksX10_ties_0 19 rfl rfl)
theorem dX10_ties_20 : decode cX10_ties 20 = .ok (.iload_n 1, 1) := dk_27 (dk_at dksX10_ties_0 20 rfl rfl)
theorem dX10_ties_21 : decode cX10_ties 21 = .ok (.ishl, 1) := dk_120 (dk_at dksX10_ties_0 21 rfl rfl)
theorem dX10_ties_22 : decode cX10_ties 22 = .ok (.ior, 1) := dk_128 (dk_at dksX10_ties_0 22 rfl rfl)
theorem dX10_ties_23 : decode cX10_ties 23 = .ok (.iastore, 1) := dk_79 (dk_at dksX10_ties_0 23 rfl rfl)
theorem dX10_ties_24 : decode cX10_ties 24 = .ok (.return_, 1) := dk_177 (dk_at dksX10_ties_1 0 rfl rfl)
abbrev cX10_goesUp : ByteArray := prog_26_method_26_code
def yX10_goesUp : MethodName := ⟨RX10, "goesUp", "([IIII)V"⟩
def dkwX10_goesUp_1 : List UInt8 := [42, 29, 184, 0, 165, 54, 4, 42, 21, 4, 27, 184, 0, 158, 42, 21, 4, 28, 184, 0, 158, 177]
abbrev dktX10_goesUp_1 : List UInt8 := dkwX10_goesUp_1 ++ []
def dkwX10_goesUp_0 : List UInt8 := [42, 4, 27, 96, 92, 46, 29, 96, 79, 42, 4, 28, 96, 92, 46, 29, 96, 79, 42, 27, 28, 184, 0, 162]
abbrev dktX10_goesUp_0 : List UInt8 := dkwX10_goesUp_0 ++ dktX10_goesUp_1
theorem dksX10_goesUp_0 : cX10_goesUp.data.toList.drop 0 = dktX10_goesUp_0 := by decide +kernel
theorem dksX10_goesUp_1 : cX10_goesUp.data.toList.drop 24 = dktX10_goesUp_1 := dk_seg dksX10_goesUp_0 24 rfl rfl
theorem dX10_goesUp_0 : decode cX10_goesUp 0 = .ok (.aload_n 0, 1) := dk_42 (dk_at dksX10_goesUp_0 0 rfl rfl)
theorem dX10_goesUp_1 : decode cX10_goesUp 1 = .ok (.iconst 1, 1) := dk_4 (dk_at dksX10_goesUp_0 1 rfl rfl)
theorem dX10_goesUp_2 : decode cX10_goesUp 2 = .ok (.iload_n 1, 1) := dk_27 (dk_at dksX10_goesUp_0 2 rfl rfl)
theorem dX10_goesUp_3 : decode cX10_goesUp 3 = .ok (.iadd, 1) := dk_96 (dk_at dksX10_goesUp_0 3 rfl rfl)
theorem dX10_goesUp_4 : decode cX10_goesUp 4 = .ok (.dup2, 1) := dk_92 (dk_at dksX10_goesUp_0 4 rfl rfl)
theorem dX10_goesUp_5 : decode cX10_goesUp 5 = .ok (.iaload, 1) := dk_46 (dk_at dksX10_goesUp_0 5 rfl rfl)
theorem dX10_goesUp_6 : decode cX10_goesUp 6 = .ok (.iload_n 3, 1) := dk_29 (dk_at dksX10_goesUp_0 6 rfl rfl)
theorem dX10_goesUp_7 : decode cX10_goesUp 7 = .ok (.iadd, 1) := dk_96 (dk_at dksX10_goesUp_0 7 rfl rfl)
theorem dX10_goesUp_8 : decode cX10_goesUp 8 = .ok (.iastore, 1) := dk_79 (dk_at dksX10_goesUp_0 8 rfl rfl)
theorem dX10_goesUp_9 : decode cX10_goesUp 9 = .ok (.aload_n 0, 1) := dk_42 (dk_at dksX10_goesUp_0 9 rfl rfl)
theorem dX10_goesUp_10 : decode cX10_goesUp 10 = .ok (.iconst 1, 1) := dk_4 (dk_at dksX10_goesUp_0 10 rfl rfl)
theorem dX10_goesUp_11 : decode cX10_goesUp 11 = .ok (.iload_n 2, 1) := dk_28 (dk_at dksX10_goesUp_0 11 rfl rfl)
theorem dX10_goesUp_12 : decode cX10_goesUp 12 = .ok (.iadd, 1) := dk_96 (dk_at dksX10_goesUp_0 12 rfl rfl)
theorem dX10_goesUp_13 : decode cX10_goesUp 13 = .ok (.dup2, 1) := dk_92 (dk_at dksX10_goesUp_0 13 rfl rfl)
theorem dX10_goesUp_14 : decode cX10_goesUp 14 = .ok (.iaload, 1) := dk_46 (dk_at dksX10_goesUp_0 14 rfl rfl)
theorem dX10_goesUp_15 : decode cX10_goesUp 15 = .ok (.iload_n 3, 1) := dk_29 (dk_at dksX10_goesUp_0 15 rfl rfl)
theorem dX10_goesUp_16 : decode cX10_goesUp 16 = .ok (.iadd, 1) := dk_96 (dk_at dksX10_goesUp_0 16 rfl rfl)
theorem dX10_goesUp_17 : decode cX10_goesUp 17 = .ok (.iastore, 1) := dk_79 (dk_at dksX10_goesUp_0 17 rfl rfl)
theorem dX10_goesUp_18 : decode cX10_goesUp 18 = .ok (.aload_n 0, 1) := dk_42 (dk_at dksX10_goesUp_0 18 rfl rfl)
theorem dX10_goesUp_19 : decode cX10_goesUp 19 = .ok (.iload_n 1, 1) := dk_27 (dk_at dksX10_goesUp_0 19 rfl rfl)
theorem dX10_goesUp_20 : decode cX10_goesUp 20 = .ok (.iload_n 2, 1) := dk_28 (dk_at dksX10_goesUp_0 20 rfl rfl)
theorem dX10_goesUp_21 : decode cX10_goesUp 21 = .ok (.invokestatic 162, 3) := dk_184 0 162 (dk_at dksX10_goesUp_0 21 rfl rfl)
theorem dX10_goesUp_24 : decode cX10_goesUp 24 = .ok (.aload_n 0, 1) := dk_42 (dk_at dksX10_goesUp_1 0 rfl rfl)
theorem dX10_goesUp_25 : decode cX10_goesUp 25 = .ok (.iload_n 3, 1) := dk_29 (dk_at dksX10_goesUp_1 1 rfl rfl)
theorem dX10_goesUp_26 : decode cX10_goesUp 26 = .ok (.invokestatic 165, 3) := dk_184 0 165 (dk_at dksX10_goesUp_1 2 rfl rfl)
theorem dX10_goesUp_29 : decode cX10_goesUp 29 = .ok (.istore 4, 2) := dk_54 4 (dk_at dksX10_goesUp_1 5 rfl rfl)
theorem dX10_goesUp_31 : decode cX10_goesUp 31 = .ok (.aload_n 0, 1) := dk_42 (dk_at dksX10_goesUp_1 7 rfl rfl)
theorem dX10_goesUp_32 : decode cX10_goesUp 32 = .ok (.iload 4, 2) := dk_21 4 (dk_at dksX10_goesUp_1 8 rfl rfl)
theorem dX10_goesUp_34 : decode cX10_goesUp 34 = .ok (.iload_n 1, 1) := dk_27 (dk_at dksX10_goesUp_1 10 rfl rfl)
theorem dX10_goesUp_35 : decode cX10_goesUp 35 = .ok (.invokestatic 158, 3) := dk_184 0 158 (dk_at dksX10_goesUp_1 11 rfl rfl)
theorem dX10_goesUp_38 : decode cX10_goesUp 38 = .ok (.aload_n 0, 1) := dk_42 (dk_at dksX10_goesUp_1 14 rfl rfl)
theorem dX10_goesUp_39 : decode cX10_goesUp 39 = .ok (.iload 4, 2) := dk_21 4 (dk_at dksX10_goesUp_1 15 rfl rfl)
theorem dX10_goesUp_41 : decode cX10_goesUp 41 = .ok (.iload_n 2, 1) := dk_28 (dk_at dksX10_goesUp_1 17 rfl rfl)
theorem dX10_goesUp_42 : decode cX10_goesUp 42 = .ok (.invokestatic 158, 3) := dk_184 0 158 (dk_at dksX10_goesUp_1 18 rfl rfl)
theorem dX10_goesUp_45 : decode cX10_goesUp 45 = .ok (.return_, 1) := dk_177 (dk_at dksX10_goesUp_1 21 rfl rfl)
abbrev cX10_cuts : ByteArray := prog_26_method_13_code
def yX10_cuts : MethodName := ⟨RX10, "cuts", "([III)V"⟩
def dkwX10_cuts_1 : List UInt8 := [2, 130, 126, 79, 177]
abbrev dktX10_cuts_1 : List UInt8 := dkwX10_cuts_1 ++ []
def dkwX10_cuts_0 : List UInt8 := [42, 16, 13, 27, 96, 92, 46, 4, 28, 120, 2, 130, 126, 79, 42, 16, 13, 28, 96, 92, 46, 4, 27, 120]
abbrev dktX10_cuts_0 : List UInt8 := dkwX10_cuts_0 ++ dktX10_cuts_1
theorem dksX10_cuts_0 : cX10_cuts.data.toList.drop 0 = dktX10_cuts_0 := by decide +kernel
theorem dksX10_cuts_1 : cX10_cuts.data.toList.drop 24 = dktX10_cuts_1 := dk_seg dksX10_cuts_0 24 rfl rfl
theorem dX10_cuts_0 : decode cX10_cuts 0 = .ok (.aload_n 0, 1) := dk_42 (dk_at dksX10_cuts_0 0 rfl rfl)
theorem dX10_cuts_1 : decode cX10_cuts 1 = .ok (.bipush 13, 2) := dk_16 13 (dk_at dksX10_cuts_0 1 rfl rfl)
theorem dX10_cuts_3 : decode cX10_cuts 3 = .ok (.iload_n 1, 1) := dk_27 (dk_at dksX10_cuts_0 3 rfl rfl)
theorem dX10_cuts_4 : decode cX10_cuts 4 = .ok (.iadd, 1) := dk_96 (dk_at dksX10_cuts_0 4 rfl rfl)
theorem dX10_cuts_5 : decode cX10_cuts 5 = .ok (.dup2, 1) := dk_92 (dk_at dksX10_cuts_0 5 rfl rfl)
theorem dX10_cuts_6 : decode cX10_cuts 6 = .ok (.iaload, 1) := dk_46 (dk_at dksX10_cuts_0 6 rfl rfl)
theorem dX10_cuts_7 : decode cX10_cuts 7 = .ok (.iconst 1, 1) := dk_4 (dk_at dksX10_cuts_0 7 rfl rfl)
theorem dX10_cuts_8 : decode cX10_cuts 8 = .ok (.iload_n 2, 1) := dk_28 (dk_at dksX10_cuts_0 8 rfl rfl)
theorem dX10_cuts_9 : decode cX10_cuts 9 = .ok (.ishl, 1) := dk_120 (dk_at dksX10_cuts_0 9 rfl rfl)
theorem dX10_cuts_10 : decode cX10_cuts 10 = .ok (.iconst (-1), 1) := dk_2 (dk_at dksX10_cuts_0 10 rfl rfl)
theorem dX10_cuts_11 : decode cX10_cuts 11 = .ok (.ixor, 1) := dk_130 (dk_at dksX10_cuts_0 11 rfl rfl)
theorem dX10_cuts_12 : decode cX10_cuts 12 = .ok (.iand, 1) := dk_126 (dk_at dksX10_cuts_0 12 rfl rfl)
theorem dX10_cuts_13 : decode cX10_cuts 13 = .ok (.iastore, 1) := dk_79 (dk_at dksX10_cuts_0 13 rfl rfl)
theorem dX10_cuts_14 : decode cX10_cuts 14 = .ok (.aload_n 0, 1) := dk_42 (dk_at dksX10_cuts_0 14 rfl rfl)
theorem dX10_cuts_15 : decode cX10_cuts 15 = .ok (.bipush 13, 2) := dk_16 13 (dk_at dksX10_cuts_0 15 rfl rfl)
theorem dX10_cuts_17 : decode cX10_cuts 17 = .ok (.iload_n 2, 1) := dk_28 (dk_at dksX10_cuts_0 17 rfl rfl)
theorem dX10_cuts_18 : decode cX10_cuts 18 = .ok (.iadd, 1) := dk_96 (dk_at dksX10_cuts_0 18 rfl rfl)
theorem dX10_cuts_19 : decode cX10_cuts 19 = .ok (.dup2, 1) := dk_92 (dk_at dksX10_cuts_0 19 rfl rfl)
theorem dX10_cuts_20 : decode cX10_cuts 20 = .ok (.iaload, 1) := dk_46 (dk_at dksX10_cuts_0 20 rfl rfl)
theorem dX10_cuts_21 : decode cX10_cuts 21 = .ok (.iconst 1, 1) := dk_4 (dk_at dksX10_cuts_0 21 rfl rfl)
theorem dX10_cuts_22 : decode cX10_cuts 22 = .ok (.iload_n 1, 1) := dk_27 (dk_at dksX10_cuts_0 22 rfl rfl)
theorem dX10_cuts_23 : decode cX10_cuts 23 = .ok (.ishl, 1) := dk_120 (dk_at dksX10_cuts_0 23 rfl rfl)
theorem dX10_cuts_24 : decode cX10_cuts 24 = .ok (.iconst (-1), 1) := dk_2 (dk_at dksX10_cuts_1 0 rfl rfl)
theorem dX10_cuts_25 : decode cX10_cuts 25 = .ok (.ixor, 1) := dk_130 (dk_at dksX10_cuts_1 1 rfl rfl)
theorem dX10_cuts_26 : decode cX10_cuts 26 = .ok (.iand, 1) := dk_126 (dk_at dksX10_cuts_1 2 rfl rfl)
theorem dX10_cuts_27 : decode cX10_cuts 27 = .ok (.iastore, 1) := dk_79 (dk_at dksX10_cuts_1 3 rfl rfl)
theorem dX10_cuts_28 : decode cX10_cuts 28 = .ok (.return_, 1) := dk_177 (dk_at dksX10_cuts_1 4 rfl rfl)
abbrev cX10_comes : ByteArray := prog_26_method_11_code
def yX10_comes : MethodName := ⟨RX10, "comes", "([II)I"⟩
def dkwX10_comes_1 : List UInt8 := [42, 16, 13, 28, 96, 3, 79, 28, 172]
abbrev dktX10_comes_1 : List UInt8 := dkwX10_comes_1 ++ []
def dkwX10_comes_0 : List UInt8 := [42, 3, 46, 2, 130, 184, 0, 114, 61, 42, 3, 92, 46, 4, 28, 120, 128, 79, 42, 4, 28, 96, 27, 79]
abbrev dktX10_comes_0 : List UInt8 := dkwX10_comes_0 ++ dktX10_comes_1
theorem dksX10_comes_0 : cX10_comes.data.toList.drop 0 = dktX10_comes_0 := by decide +kernel
theorem dksX10_comes_1 : cX10_comes.data.toList.drop 24 = dktX10_comes_1 := dk_seg dksX10_comes_0 24 rfl rfl
theorem dX10_comes_0 : decode cX10_comes 0 = .ok (.aload_n 0, 1) := dk_42 (dk_at dksX10_comes_0 0 rfl rfl)
theorem dX10_comes_1 : decode cX10_comes 1 = .ok (.iconst 0, 1) := dk_3 (dk_at dksX10_comes_0 1 rfl rfl)
theorem dX10_comes_2 : decode cX10_comes 2 = .ok (.iaload, 1) := dk_46 (dk_at dksX10_comes_0 2 rfl rfl)
theorem dX10_comes_3 : decode cX10_comes 3 = .ok (.iconst (-1), 1) := dk_2 (dk_at dksX10_comes_0 3 rfl rfl)
theorem dX10_comes_4 : decode cX10_comes 4 = .ok (.ixor, 1) := dk_130 (dk_at dksX10_comes_0 4 rfl rfl)
theorem dX10_comes_5 : decode cX10_comes 5 = .ok (.invokestatic 114, 3) := dk_184 0 114 (dk_at dksX10_comes_0 5 rfl rfl)
theorem dX10_comes_8 : decode cX10_comes 8 = .ok (.istore_n 2, 1) := dk_61 (dk_at dksX10_comes_0 8 rfl rfl)
theorem dX10_comes_9 : decode cX10_comes 9 = .ok (.aload_n 0, 1) := dk_42 (dk_at dksX10_comes_0 9 rfl rfl)
theorem dX10_comes_10 : decode cX10_comes 10 = .ok (.iconst 0, 1) := dk_3 (dk_at dksX10_comes_0 10 rfl rfl)
theorem dX10_comes_11 : decode cX10_comes 11 = .ok (.dup2, 1) := dk_92 (dk_at dksX10_comes_0 11 rfl rfl)
theorem dX10_comes_12 : decode cX10_comes 12 = .ok (.iaload, 1) := dk_46 (dk_at dksX10_comes_0 12 rfl rfl)
theorem dX10_comes_13 : decode cX10_comes 13 = .ok (.iconst 1, 1) := dk_4 (dk_at dksX10_comes_0 13 rfl rfl)
theorem dX10_comes_14 : decode cX10_comes 14 = .ok (.iload_n 2, 1) := dk_28 (dk_at dksX10_comes_0 14 rfl rfl)
theorem dX10_comes_15 : decode cX10_comes 15 = .ok (.ishl, 1) := dk_120 (dk_at dksX10_comes_0 15 rfl rfl)
theorem dX10_comes_16 : decode cX10_comes 16 = .ok (.ior, 1) := dk_128 (dk_at dksX10_comes_0 16 rfl rfl)
theorem dX10_comes_17 : decode cX10_comes 17 = .ok (.iastore, 1) := dk_79 (dk_at dksX10_comes_0 17 rfl rfl)
theorem dX10_comes_18 : decode cX10_comes 18 = .ok (.aload_n 0, 1) := dk_42 (dk_at dksX10_comes_0 18 rfl rfl)
theorem dX10_comes_19 : decode cX10_comes 19 = .ok (.iconst 1, 1) := dk_4 (dk_at dksX10_comes_0 19 rfl rfl)
theorem dX10_comes_20 : decode cX10_comes 20 = .ok (.iload_n 2, 1) := dk_28 (dk_at dksX10_comes_0 20 rfl rfl)
theorem dX10_comes_21 : decode cX10_comes 21 = .ok (.iadd, 1) := dk_96 (dk_at dksX10_comes_0 21 rfl rfl)
theorem dX10_comes_22 : decode cX10_comes 22 = .ok (.iload_n 1, 1) := dk_27 (dk_at dksX10_comes_0 22 rfl rfl)
theorem dX10_comes_23 : decode cX10_comes 23 = .ok (.iastore, 1) := dk_79 (dk_at dksX10_comes_0 23 rfl rfl)
theorem dX10_comes_24 : decode cX10_comes 24 = .ok (.aload_n 0, 1) := dk_42 (dk_at dksX10_comes_1 0 rfl rfl)
theorem dX10_comes_25 : decode cX10_comes 25 = .ok (.bipush 13, 2) := dk_16 13 (dk_at dksX10_comes_1 1 rfl rfl)
theorem dX10_comes_27 : decode cX10_comes 27 = .ok (.iload_n 2, 1) := dk_28 (dk_at dksX10_comes_1 3 rfl rfl)
theorem dX10_comes_28 : decode cX10_comes 28 = .ok (.iadd, 1) := dk_96 (dk_at dksX10_comes_1 4 rfl rfl)
theorem dX10_comes_29 : decode cX10_comes 29 = .ok (.iconst 0, 1) := dk_3 (dk_at dksX10_comes_1 5 rfl rfl)
theorem dX10_comes_30 : decode cX10_comes 30 = .ok (.iastore, 1) := dk_79 (dk_at dksX10_comes_1 6 rfl rfl)
theorem dX10_comes_31 : decode cX10_comes 31 = .ok (.iload_n 2, 1) := dk_28 (dk_at dksX10_comes_1 7 rfl rfl)
theorem dX10_comes_32 : decode cX10_comes 32 = .ok (.ireturn, 1) := dk_172 (dk_at dksX10_comes_1 8 rfl rfl)
abbrev cX10_absorbs : ByteArray := prog_26_method_27_code
def yX10_absorbs : MethodName := ⟨RX10, "absorbs", "([II)V"⟩
def dkwX10_absorbs_3 : List UInt8 := [167, 255, 223, 42, 27, 184, 0, 154, 42, 29, 184, 0, 154, 177]
abbrev dktX10_absorbs_3 : List UInt8 := dkwX10_absorbs_3 ++ []
def dkwX10_absorbs_2 : List UInt8 := [184, 0, 96, 153, 0, 16, 21, 5, 27, 159, 0, 10, 42, 28, 21, 5, 184, 0, 158, 132, 5, 1]
abbrev dktX10_absorbs_2 : List UInt8 := dkwX10_absorbs_2 ++ dktX10_absorbs_3
def dkwX10_absorbs_1 : List UInt8 := [79, 42, 16, 13, 29, 96, 46, 54, 4, 3, 54, 5, 21, 5, 16, 12, 162, 0, 32, 21, 4, 21, 5]
abbrev dktX10_absorbs_1 : List UInt8 := dkwX10_absorbs_1 ++ dktX10_absorbs_2
def dkwX10_absorbs_0 : List UInt8 := [42, 27, 184, 0, 133, 61, 42, 27, 184, 0, 136, 62, 42, 4, 28, 96, 92, 46, 42, 4, 29, 96, 46, 96]
abbrev dktX10_absorbs_0 : List UInt8 := dkwX10_absorbs_0 ++ dktX10_absorbs_1
theorem dksX10_absorbs_0 : cX10_absorbs.data.toList.drop 0 = dktX10_absorbs_0 := by decide +kernel
theorem dksX10_absorbs_1 : cX10_absorbs.data.toList.drop 24 = dktX10_absorbs_1 := dk_seg dksX10_absorbs_0 24 rfl rfl
theorem dksX10_absorbs_2 : cX10_absorbs.data.toList.drop 47 = dktX10_absorbs_2 := dk_seg dksX10_absorbs_1 23 rfl rfl
theorem dksX10_absorbs_3 : cX10_absorbs.data.toList.drop 69 = dktX10_absorbs_3 := dk_seg dksX10_absorbs_2 22 rfl rfl
theorem dX10_absorbs_0 : decode cX10_absorbs 0 = .ok (.aload_n 0, 1) := dk_42 (dk_at dksX10_absorbs_0 0 rfl rfl)
theorem dX10_absorbs_1 : decode cX10_absorbs 1 = .ok (.iload_n 1, 1) := dk_27 (dk_at dksX10_absorbs_0 1 rfl rfl)
theorem dX10_absorbs_2 : decode cX10_absorbs 2 = .ok (.invokestatic 133, 3) := dk_184 0 133 (dk_at dksX10_absorbs_0 2 rfl rfl)
theorem dX10_absorbs_5 : decode cX10_absorbs 5 = .ok (.istore_n 2, 1) := dk_61 (dk_at dksX10_absorbs_0 5 rfl rfl)
theorem dX10_absorbs_6 : decode cX10_absorbs 6 = .ok (.aload_n 0, 1) := dk_42 (dk_at dksX10_absorbs_0 6 rfl rfl)
theorem dX10_absorbs_7 : decode cX10_absorbs 7 = .ok (.iload_n 1, 1) := dk_27 (dk_at dksX10_absorbs_0 7 rfl rfl)
theorem dX10_absorbs_8 : decode cX10_absorbs 8 = .ok (.invokestatic 136, 3) := dk_184 0 136 (dk_at dksX10_absorbs_0 8 rfl rfl)
theorem dX10_absorbs_11 : decode cX10_absorbs 11 = .ok (.istore_n 3, 1) := dk_62 (dk_at dksX10_absorbs_0 11 rfl rfl)
theorem dX10_absorbs_12 : decode cX10_absorbs 12 = .ok (.aload_n 0, 1) := dk_42 (dk_at dksX10_absorbs_0 12 rfl rfl)
theorem dX10_absorbs_13 : decode cX10_absorbs 13 = .ok (.iconst 1, 1) := dk_4 (dk_at dksX10_absorbs_0 13 rfl rfl)
theorem dX10_absorbs_14 : decode cX10_absorbs 14 = .ok (.iload_n 2, 1) := dk_28 (dk_at dksX10_absorbs_0 14 rfl rfl)
theorem dX10_absorbs_15 : decode cX10_absorbs 15 = .ok (.iadd, 1) := dk_96 (dk_at dksX10_absorbs_0 15 rfl rfl)
theorem dX10_absorbs_16 : decode cX10_absorbs 16 = .ok (.dup2, 1) := dk_92 (dk_at dksX10_absorbs_0 16 rfl rfl)
theorem dX10_absorbs_17 : decode cX10_absorbs 17 = .ok (.iaload, 1) := dk_46 (dk_at dksX10_absorbs_0 17 rfl rfl)
theorem dX10_absorbs_18 : decode cX10_absorbs 18 = .ok (.aload_n 0, 1) := dk_42 (dk_at dksX10_absorbs_0 18 rfl rfl)
theorem dX10_absorbs_19 : decode cX10_absorbs 19 = .ok (.iconst 1, 1) := dk_4 (dk_at dksX10_absorbs_0 19 rfl rfl)
theorem dX10_absorbs_20 : decode cX10_absorbs 20 = .ok (.iload_n 3, 1) := dk_29 (dk_at dksX10_absorbs_0 20 rfl rfl)
theorem dX10_absorbs_21 : decode cX10_absorbs 21 = .ok (.iadd, 1) := dk_96 (dk_at dksX10_absorbs_0 21 rfl rfl)
theorem dX10_absorbs_22 : decode cX10_absorbs 22 = .ok (.iaload, 1) := dk_46 (dk_at dksX10_absorbs_0 22 rfl rfl)
theorem dX10_absorbs_23 : decode cX10_absorbs 23 = .ok (.iadd, 1) := dk_96 (dk_at dksX10_absorbs_0 23 rfl rfl)
theorem dX10_absorbs_24 : decode cX10_absorbs 24 = .ok (.iastore, 1) := dk_79 (dk_at dksX10_absorbs_1 0 rfl rfl)
theorem dX10_absorbs_25 : decode cX10_absorbs 25 = .ok (.aload_n 0, 1) := dk_42 (dk_at dksX10_absorbs_1 1 rfl rfl)
theorem dX10_absorbs_26 : decode cX10_absorbs 26 = .ok (.bipush 13, 2) := dk_16 13 (dk_at dksX10_absorbs_1 2 rfl rfl)
theorem dX10_absorbs_28 : decode cX10_absorbs 28 = .ok (.iload_n 3, 1) := dk_29 (dk_at dksX10_absorbs_1 4 rfl rfl)
theorem dX10_absorbs_29 : decode cX10_absorbs 29 = .ok (.iadd, 1) := dk_96 (dk_at dksX10_absorbs_1 5 rfl rfl)
theorem dX10_absorbs_30 : decode cX10_absorbs 30 = .ok (.iaload, 1) := dk_46 (dk_at dksX10_absorbs_1 6 rfl rfl)
theorem dX10_absorbs_31 : decode cX10_absorbs 31 = .ok (.istore 4, 2) := dk_54 4 (dk_at dksX10_absorbs_1 7 rfl rfl)
theorem dX10_absorbs_33 : decode cX10_absorbs 33 = .ok (.iconst 0, 1) := dk_3 (dk_at dksX10_absorbs_1 9 rfl rfl)
theorem dX10_absorbs_34 : decode cX10_absorbs 34 = .ok (.istore 5, 2) := dk_54 5 (dk_at dksX10_absorbs_1 10 rfl rfl)
theorem dX10_absorbs_36 : decode cX10_absorbs 36 = .ok (.iload 5, 2) := dk_21 5 (dk_at dksX10_absorbs_1 12 rfl rfl)
theorem dX10_absorbs_38 : decode cX10_absorbs 38 = .ok (.bipush 12, 2) := dk_16 12 (dk_at dksX10_absorbs_1 14 rfl rfl)
theorem dX10_absorbs_40 : decode cX10_absorbs 40 = .ok (.if_icmp .ge 32, 3) := dk_162 0 32 (dk_at dksX10_absorbs_1 16 rfl rfl)
theorem dX10_absorbs_43 : decode cX10_absorbs 43 = .ok (.iload 4, 2) := dk_21 4 (dk_at dksX10_absorbs_1 19 rfl rfl)
theorem dX10_absorbs_45 : decode cX10_absorbs 45 = .ok (.iload 5, 2) := dk_21 5 (dk_at dksX10_absorbs_1 21 rfl rfl)
theorem dX10_absorbs_47 : decode cX10_absorbs 47 = .ok (.invokestatic 96, 3) := dk_184 0 96 (dk_at dksX10_absorbs_2 0 rfl rfl)
theorem dX10_absorbs_50 : decode cX10_absorbs 50 = .ok (.ifCond .eq 16, 3) := dk_153 0 16 (dk_at dksX10_absorbs_2 3 rfl rfl)
theorem dX10_absorbs_53 : decode cX10_absorbs 53 = .ok (.iload 5, 2) := dk_21 5 (dk_at dksX10_absorbs_2 6 rfl rfl)
theorem dX10_absorbs_55 : decode cX10_absorbs 55 = .ok (.iload_n 1, 1) := dk_27 (dk_at dksX10_absorbs_2 8 rfl rfl)
theorem dX10_absorbs_56 : decode cX10_absorbs 56 = .ok (.if_icmp .eq 10, 3) := dk_159 0 10 (dk_at dksX10_absorbs_2 9 rfl rfl)
theorem dX10_absorbs_59 : decode cX10_absorbs 59 = .ok (.aload_n 0, 1) := dk_42 (dk_at dksX10_absorbs_2 12 rfl rfl)
theorem dX10_absorbs_60 : decode cX10_absorbs 60 = .ok (.iload_n 2, 1) := dk_28 (dk_at dksX10_absorbs_2 13 rfl rfl)
theorem dX10_absorbs_61 : decode cX10_absorbs 61 = .ok (.iload 5, 2) := dk_21 5 (dk_at dksX10_absorbs_2 14 rfl rfl)
theorem dX10_absorbs_63 : decode cX10_absorbs 63 = .ok (.invokestatic 158, 3) := dk_184 0 158 (dk_at dksX10_absorbs_2 16 rfl rfl)
theorem dX10_absorbs_66 : decode cX10_absorbs 66 = .ok (.iinc 5 1, 3) := dk_132 5 1 (dk_at dksX10_absorbs_2 19 rfl rfl)
theorem dX10_absorbs_69 : decode cX10_absorbs 69 = .ok (.goto (-33), 3) := dk_167 255 223 (dk_at dksX10_absorbs_3 0 rfl rfl)
theorem dX10_absorbs_72 : decode cX10_absorbs 72 = .ok (.aload_n 0, 1) := dk_42 (dk_at dksX10_absorbs_3 3 rfl rfl)
theorem dX10_absorbs_73 : decode cX10_absorbs 73 = .ok (.iload_n 1, 1) := dk_27 (dk_at dksX10_absorbs_3 4 rfl rfl)
theorem dX10_absorbs_74 : decode cX10_absorbs 74 = .ok (.invokestatic 154, 3) := dk_184 0 154 (dk_at dksX10_absorbs_3 5 rfl rfl)
theorem dX10_absorbs_77 : decode cX10_absorbs 77 = .ok (.aload_n 0, 1) := dk_42 (dk_at dksX10_absorbs_3 8 rfl rfl)
theorem dX10_absorbs_78 : decode cX10_absorbs 78 = .ok (.iload_n 3, 1) := dk_29 (dk_at dksX10_absorbs_3 9 rfl rfl)
theorem dX10_absorbs_79 : decode cX10_absorbs 79 = .ok (.invokestatic 154, 3) := dk_184 0 154 (dk_at dksX10_absorbs_3 10 rfl rfl)
theorem dX10_absorbs_82 : decode cX10_absorbs 82 = .ok (.return_, 1) := dk_177 (dk_at dksX10_absorbs_3 13 rfl rfl)
abbrev cX10_draws : ByteArray := prog_26_method_28_code
def yX10_draws : MethodName := ⟨RX10, "draws", "([IIII)V"⟩
def dkwX10_draws_3 : List UInt8 := [42, 21, 5, 21, 4, 184, 0, 158, 177]
abbrev dktX10_draws_3 : List UInt8 := dkwX10_draws_3 ++ []
def dkwX10_draws_2 : List UInt8 := [184, 0, 162, 42, 21, 5, 21, 6, 184, 0, 158, 132, 6, 1, 167, 255, 222, 42, 21, 4, 27, 184, 0, 158]
abbrev dktX10_draws_2 : List UInt8 := dkwX10_draws_2 ++ dktX10_draws_3
def dkwX10_draws_1 : List UInt8 := [54, 6, 21, 6, 16, 12, 162, 0, 33, 29, 21, 6, 184, 0, 96, 153, 0, 18, 42, 27, 21, 6]
abbrev dktX10_draws_1 : List UInt8 := dkwX10_draws_1 ++ dktX10_draws_2
def dkwX10_draws_0 : List UInt8 := [42, 4, 27, 96, 92, 46, 28, 100, 79, 42, 3, 184, 0, 165, 54, 4, 42, 28, 184, 0, 165, 54, 5, 3]
abbrev dktX10_draws_0 : List UInt8 := dkwX10_draws_0 ++ dktX10_draws_1
theorem dksX10_draws_0 : cX10_draws.data.toList.drop 0 = dktX10_draws_0 := by decide +kernel
theorem dksX10_draws_1 : cX10_draws.data.toList.drop 24 = dktX10_draws_1 := dk_seg dksX10_draws_0 24 rfl rfl
theorem dksX10_draws_2 : cX10_draws.data.toList.drop 46 = dktX10_draws_2 := dk_seg dksX10_draws_1 22 rfl rfl
theorem dksX10_draws_3 : cX10_draws.data.toList.drop 70 = dktX10_draws_3 := dk_seg dksX10_draws_2 24 rfl rfl
theorem dX10_draws_0 : decode cX10_draws 0 = .ok (.aload_n 0, 1) := dk_42 (dk_at dksX10_draws_0 0 rfl rfl)
theorem dX10_draws_1 : decode cX10_draws 1 = .ok (.iconst 1, 1) := dk_4 (dk_at dksX10_draws_0 1 rfl rfl)
theorem dX10_draws_2 : decode cX10_draws 2 = .ok (.iload_n 1, 1) := dk_27 (dk_at dksX10_draws_0 2 rfl rfl)
theorem dX10_draws_3 : decode cX10_draws 3 = .ok (.iadd, 1) := dk_96 (dk_at dksX10_draws_0 3 rfl rfl)
theorem dX10_draws_4 : decode cX10_draws 4 = .ok (.dup2, 1) := dk_92 (dk_at dksX10_draws_0 4 rfl rfl)
theorem dX10_draws_5 : decode cX10_draws 5 = .ok (.iaload, 1) := dk_46 (dk_at dksX10_draws_0 5 rfl rfl)
theorem dX10_draws_6 : decode cX10_draws 6 = .ok (.iload_n 2, 1) := dk_28 (dk_at dksX10_draws_0 6 rfl rfl)
theorem dX10_draws_7 : decode cX10_draws 7 = .ok (.isub, 1) := dk_100 (dk_at dksX10_draws_0 7 rfl rfl)
theorem dX10_draws_8 : decode cX10_draws 8 = .ok (.iastore, 1) := dk_79 (dk_at dksX10_draws_0 8 rfl rfl)
theorem dX10_draws_9 : decode cX10_draws 9 = .ok (.aload_n 0, 1) := dk_42 (dk_at dksX10_draws_0 9 rfl rfl)
theorem dX10_draws_10 : decode cX10_draws 10 = .ok (.iconst 0, 1) := dk_3 (dk_at dksX10_draws_0 10 rfl rfl)
theorem dX10_draws_11 : decode cX10_draws 11 = .ok (.invokestatic 165, 3) := dk_184 0 165 (dk_at dksX10_draws_0 11 rfl rfl)
theorem dX10_draws_14 : decode cX10_draws 14 = .ok (.istore 4, 2) := dk_54 4 (dk_at dksX10_draws_0 14 rfl rfl)
theorem dX10_draws_16 : decode cX10_draws 16 = .ok (.aload_n 0, 1) := dk_42 (dk_at dksX10_draws_0 16 rfl rfl)
theorem dX10_draws_17 : decode cX10_draws 17 = .ok (.iload_n 2, 1) := dk_28 (dk_at dksX10_draws_0 17 rfl rfl)
theorem dX10_draws_18 : decode cX10_draws 18 = .ok (.invokestatic 165, 3) := dk_184 0 165 (dk_at dksX10_draws_0 18 rfl rfl)
theorem dX10_draws_21 : decode cX10_draws 21 = .ok (.istore 5, 2) := dk_54 5 (dk_at dksX10_draws_0 21 rfl rfl)
theorem dX10_draws_23 : decode cX10_draws 23 = .ok (.iconst 0, 1) := dk_3 (dk_at dksX10_draws_0 23 rfl rfl)
theorem dX10_draws_24 : decode cX10_draws 24 = .ok (.istore 6, 2) := dk_54 6 (dk_at dksX10_draws_1 0 rfl rfl)
theorem dX10_draws_26 : decode cX10_draws 26 = .ok (.iload 6, 2) := dk_21 6 (dk_at dksX10_draws_1 2 rfl rfl)
theorem dX10_draws_28 : decode cX10_draws 28 = .ok (.bipush 12, 2) := dk_16 12 (dk_at dksX10_draws_1 4 rfl rfl)
theorem dX10_draws_30 : decode cX10_draws 30 = .ok (.if_icmp .ge 33, 3) := dk_162 0 33 (dk_at dksX10_draws_1 6 rfl rfl)
theorem dX10_draws_33 : decode cX10_draws 33 = .ok (.iload_n 3, 1) := dk_29 (dk_at dksX10_draws_1 9 rfl rfl)
theorem dX10_draws_34 : decode cX10_draws 34 = .ok (.iload 6, 2) := dk_21 6 (dk_at dksX10_draws_1 10 rfl rfl)
theorem dX10_draws_36 : decode cX10_draws 36 = .ok (.invokestatic 96, 3) := dk_184 0 96 (dk_at dksX10_draws_1 12 rfl rfl)
theorem dX10_draws_39 : decode cX10_draws 39 = .ok (.ifCond .eq 18, 3) := dk_153 0 18 (dk_at dksX10_draws_1 15 rfl rfl)
theorem dX10_draws_42 : decode cX10_draws 42 = .ok (.aload_n 0, 1) := dk_42 (dk_at dksX10_draws_1 18 rfl rfl)
theorem dX10_draws_43 : decode cX10_draws 43 = .ok (.iload_n 1, 1) := dk_27 (dk_at dksX10_draws_1 19 rfl rfl)
theorem dX10_draws_44 : decode cX10_draws 44 = .ok (.iload 6, 2) := dk_21 6 (dk_at dksX10_draws_1 20 rfl rfl)
theorem dX10_draws_46 : decode cX10_draws 46 = .ok (.invokestatic 162, 3) := dk_184 0 162 (dk_at dksX10_draws_2 0 rfl rfl)
theorem dX10_draws_49 : decode cX10_draws 49 = .ok (.aload_n 0, 1) := dk_42 (dk_at dksX10_draws_2 3 rfl rfl)
theorem dX10_draws_50 : decode cX10_draws 50 = .ok (.iload 5, 2) := dk_21 5 (dk_at dksX10_draws_2 4 rfl rfl)
theorem dX10_draws_52 : decode cX10_draws 52 = .ok (.iload 6, 2) := dk_21 6 (dk_at dksX10_draws_2 6 rfl rfl)
theorem dX10_draws_54 : decode cX10_draws 54 = .ok (.invokestatic 158, 3) := dk_184 0 158 (dk_at dksX10_draws_2 8 rfl rfl)
theorem dX10_draws_57 : decode cX10_draws 57 = .ok (.iinc 6 1, 3) := dk_132 6 1 (dk_at dksX10_draws_2 11 rfl rfl)
theorem dX10_draws_60 : decode cX10_draws 60 = .ok (.goto (-34), 3) := dk_167 255 222 (dk_at dksX10_draws_2 14 rfl rfl)
theorem dX10_draws_63 : decode cX10_draws 63 = .ok (.aload_n 0, 1) := dk_42 (dk_at dksX10_draws_2 17 rfl rfl)
theorem dX10_draws_64 : decode cX10_draws 64 = .ok (.iload 4, 2) := dk_21 4 (dk_at dksX10_draws_2 18 rfl rfl)
theorem dX10_draws_66 : decode cX10_draws 66 = .ok (.iload_n 1, 1) := dk_27 (dk_at dksX10_draws_2 20 rfl rfl)
theorem dX10_draws_67 : decode cX10_draws 67 = .ok (.invokestatic 158, 3) := dk_184 0 158 (dk_at dksX10_draws_2 21 rfl rfl)
theorem dX10_draws_70 : decode cX10_draws 70 = .ok (.aload_n 0, 1) := dk_42 (dk_at dksX10_draws_3 0 rfl rfl)
theorem dX10_draws_71 : decode cX10_draws 71 = .ok (.iload 5, 2) := dk_21 5 (dk_at dksX10_draws_3 1 rfl rfl)
theorem dX10_draws_73 : decode cX10_draws 73 = .ok (.iload 4, 2) := dk_21 4 (dk_at dksX10_draws_3 3 rfl rfl)
theorem dX10_draws_75 : decode cX10_draws 75 = .ok (.invokestatic 158, 3) := dk_184 0 158 (dk_at dksX10_draws_3 5 rfl rfl)
theorem dX10_draws_78 : decode cX10_draws 78 = .ok (.return_, 1) := dk_177 (dk_at dksX10_draws_3 8 rfl rfl)
abbrev cX10_undo : ByteArray := prog_26_method_33_code
def yX10_undo : MethodName := ⟨RX10, "undo", "()I"⟩
def dkwX10_undo_1 : List UInt8 := [180, 0, 18, 42, 180, 0, 181, 50, 42, 180, 0, 13, 184, 0, 188, 42, 180, 0, 181, 172]
abbrev dktX10_undo_1 : List UInt8 := dkwX10_undo_1 ++ []
def dkwX10_undo_0 : List UInt8 := [42, 180, 0, 181, 154, 0, 9, 42, 5, 182, 0, 204, 172, 42, 89, 180, 0, 181, 4, 100, 181, 0, 181, 42]
abbrev dktX10_undo_0 : List UInt8 := dkwX10_undo_0 ++ dktX10_undo_1
theorem dksX10_undo_0 : cX10_undo.data.toList.drop 0 = dktX10_undo_0 := by decide +kernel
theorem dksX10_undo_1 : cX10_undo.data.toList.drop 24 = dktX10_undo_1 := dk_seg dksX10_undo_0 24 rfl rfl
theorem dX10_undo_0 : decode cX10_undo 0 = .ok (.aload_n 0, 1) := dk_42 (dk_at dksX10_undo_0 0 rfl rfl)
theorem dX10_undo_1 : decode cX10_undo 1 = .ok (.getfield 181, 3) := dk_180 0 181 (dk_at dksX10_undo_0 1 rfl rfl)
theorem dX10_undo_4 : decode cX10_undo 4 = .ok (.ifCond .ne 9, 3) := dk_154 0 9 (dk_at dksX10_undo_0 4 rfl rfl)
theorem dX10_undo_7 : decode cX10_undo 7 = .ok (.aload_n 0, 1) := dk_42 (dk_at dksX10_undo_0 7 rfl rfl)
theorem dX10_undo_8 : decode cX10_undo 8 = .ok (.iconst 2, 1) := dk_5 (dk_at dksX10_undo_0 8 rfl rfl)
theorem dX10_undo_9 : decode cX10_undo 9 = .ok (.invokevirtual 204, 3) := dk_182 0 204 (dk_at dksX10_undo_0 9 rfl rfl)
theorem dX10_undo_12 : decode cX10_undo 12 = .ok (.ireturn, 1) := dk_172 (dk_at dksX10_undo_0 12 rfl rfl)
theorem dX10_undo_13 : decode cX10_undo 13 = .ok (.aload_n 0, 1) := dk_42 (dk_at dksX10_undo_0 13 rfl rfl)
theorem dX10_undo_14 : decode cX10_undo 14 = .ok (.dup, 1) := dk_89 (dk_at dksX10_undo_0 14 rfl rfl)
theorem dX10_undo_15 : decode cX10_undo 15 = .ok (.getfield 181, 3) := dk_180 0 181 (dk_at dksX10_undo_0 15 rfl rfl)
theorem dX10_undo_18 : decode cX10_undo 18 = .ok (.iconst 1, 1) := dk_4 (dk_at dksX10_undo_0 18 rfl rfl)
theorem dX10_undo_19 : decode cX10_undo 19 = .ok (.isub, 1) := dk_100 (dk_at dksX10_undo_0 19 rfl rfl)
theorem dX10_undo_20 : decode cX10_undo 20 = .ok (.putfield 181, 3) := dk_181 0 181 (dk_at dksX10_undo_0 20 rfl rfl)
theorem dX10_undo_23 : decode cX10_undo 23 = .ok (.aload_n 0, 1) := dk_42 (dk_at dksX10_undo_0 23 rfl rfl)
theorem dX10_undo_24 : decode cX10_undo 24 = .ok (.getfield 18, 3) := dk_180 0 18 (dk_at dksX10_undo_1 0 rfl rfl)
theorem dX10_undo_27 : decode cX10_undo 27 = .ok (.aload_n 0, 1) := dk_42 (dk_at dksX10_undo_1 3 rfl rfl)
theorem dX10_undo_28 : decode cX10_undo 28 = .ok (.getfield 181, 3) := dk_180 0 181 (dk_at dksX10_undo_1 4 rfl rfl)
theorem dX10_undo_31 : decode cX10_undo 31 = .ok (.aaload, 1) := dk_50 (dk_at dksX10_undo_1 7 rfl rfl)
theorem dX10_undo_32 : decode cX10_undo 32 = .ok (.aload_n 0, 1) := dk_42 (dk_at dksX10_undo_1 8 rfl rfl)
theorem dX10_undo_33 : decode cX10_undo 33 = .ok (.getfield 13, 3) := dk_180 0 13 (dk_at dksX10_undo_1 9 rfl rfl)
theorem dX10_undo_36 : decode cX10_undo 36 = .ok (.invokestatic 188, 3) := dk_184 0 188 (dk_at dksX10_undo_1 12 rfl rfl)
theorem dX10_undo_39 : decode cX10_undo 39 = .ok (.aload_n 0, 1) := dk_42 (dk_at dksX10_undo_1 15 rfl rfl)
theorem dX10_undo_40 : decode cX10_undo 40 = .ok (.getfield 181, 3) := dk_180 0 181 (dk_at dksX10_undo_1 16 rfl rfl)
theorem dX10_undo_43 : decode cX10_undo 43 = .ok (.ireturn, 1) := dk_172 (dk_at dksX10_undo_1 19 rfl rfl)
abbrev cX10_redo : ByteArray := prog_26_method_34_code
def yX10_redo : MethodName := ⟨RX10, "redo", "()I"⟩
def dkwX10_redo_1 : List UInt8 := [181, 0, 181, 42, 180, 0, 18, 42, 180, 0, 181, 50, 42, 180, 0, 13, 184, 0, 188, 42, 180, 0, 181, 172]
abbrev dktX10_redo_1 : List UInt8 := dkwX10_redo_1 ++ []
def dkwX10_redo_0 : List UInt8 := [42, 180, 0, 181, 42, 180, 0, 185, 160, 0, 9, 42, 5, 182, 0, 204, 172, 42, 89, 180, 0, 181, 4, 96]
abbrev dktX10_redo_0 : List UInt8 := dkwX10_redo_0 ++ dktX10_redo_1
theorem dksX10_redo_0 : cX10_redo.data.toList.drop 0 = dktX10_redo_0 := by decide +kernel
theorem dksX10_redo_1 : cX10_redo.data.toList.drop 24 = dktX10_redo_1 := dk_seg dksX10_redo_0 24 rfl rfl
theorem dX10_redo_0 : decode cX10_redo 0 = .ok (.aload_n 0, 1) := dk_42 (dk_at dksX10_redo_0 0 rfl rfl)
theorem dX10_redo_1 : decode cX10_redo 1 = .ok (.getfield 181, 3) := dk_180 0 181 (dk_at dksX10_redo_0 1 rfl rfl)
theorem dX10_redo_4 : decode cX10_redo 4 = .ok (.aload_n 0, 1) := dk_42 (dk_at dksX10_redo_0 4 rfl rfl)
theorem dX10_redo_5 : decode cX10_redo 5 = .ok (.getfield 185, 3) := dk_180 0 185 (dk_at dksX10_redo_0 5 rfl rfl)
theorem dX10_redo_8 : decode cX10_redo 8 = .ok (.if_icmp .ne 9, 3) := dk_160 0 9 (dk_at dksX10_redo_0 8 rfl rfl)
theorem dX10_redo_11 : decode cX10_redo 11 = .ok (.aload_n 0, 1) := dk_42 (dk_at dksX10_redo_0 11 rfl rfl)
theorem dX10_redo_12 : decode cX10_redo 12 = .ok (.iconst 2, 1) := dk_5 (dk_at dksX10_redo_0 12 rfl rfl)
theorem dX10_redo_13 : decode cX10_redo 13 = .ok (.invokevirtual 204, 3) := dk_182 0 204 (dk_at dksX10_redo_0 13 rfl rfl)
theorem dX10_redo_16 : decode cX10_redo 16 = .ok (.ireturn, 1) := dk_172 (dk_at dksX10_redo_0 16 rfl rfl)
theorem dX10_redo_17 : decode cX10_redo 17 = .ok (.aload_n 0, 1) := dk_42 (dk_at dksX10_redo_0 17 rfl rfl)
theorem dX10_redo_18 : decode cX10_redo 18 = .ok (.dup, 1) := dk_89 (dk_at dksX10_redo_0 18 rfl rfl)
theorem dX10_redo_19 : decode cX10_redo 19 = .ok (.getfield 181, 3) := dk_180 0 181 (dk_at dksX10_redo_0 19 rfl rfl)
theorem dX10_redo_22 : decode cX10_redo 22 = .ok (.iconst 1, 1) := dk_4 (dk_at dksX10_redo_0 22 rfl rfl)
theorem dX10_redo_23 : decode cX10_redo 23 = .ok (.iadd, 1) := dk_96 (dk_at dksX10_redo_0 23 rfl rfl)
theorem dX10_redo_24 : decode cX10_redo 24 = .ok (.putfield 181, 3) := dk_181 0 181 (dk_at dksX10_redo_1 0 rfl rfl)
theorem dX10_redo_27 : decode cX10_redo 27 = .ok (.aload_n 0, 1) := dk_42 (dk_at dksX10_redo_1 3 rfl rfl)
theorem dX10_redo_28 : decode cX10_redo 28 = .ok (.getfield 18, 3) := dk_180 0 18 (dk_at dksX10_redo_1 4 rfl rfl)
theorem dX10_redo_31 : decode cX10_redo 31 = .ok (.aload_n 0, 1) := dk_42 (dk_at dksX10_redo_1 7 rfl rfl)
theorem dX10_redo_32 : decode cX10_redo 32 = .ok (.getfield 181, 3) := dk_180 0 181 (dk_at dksX10_redo_1 8 rfl rfl)
theorem dX10_redo_35 : decode cX10_redo 35 = .ok (.aaload, 1) := dk_50 (dk_at dksX10_redo_1 11 rfl rfl)
theorem dX10_redo_36 : decode cX10_redo 36 = .ok (.aload_n 0, 1) := dk_42 (dk_at dksX10_redo_1 12 rfl rfl)
theorem dX10_redo_37 : decode cX10_redo 37 = .ok (.getfield 13, 3) := dk_180 0 13 (dk_at dksX10_redo_1 13 rfl rfl)
theorem dX10_redo_40 : decode cX10_redo 40 = .ok (.invokestatic 188, 3) := dk_184 0 188 (dk_at dksX10_redo_1 16 rfl rfl)
theorem dX10_redo_43 : decode cX10_redo 43 = .ok (.aload_n 0, 1) := dk_42 (dk_at dksX10_redo_1 19 rfl rfl)
theorem dX10_redo_44 : decode cX10_redo 44 = .ok (.getfield 181, 3) := dk_180 0 181 (dk_at dksX10_redo_1 20 rfl rfl)
theorem dX10_redo_47 : decode cX10_redo 47 = .ok (.ireturn, 1) := dk_172 (dk_at dksX10_redo_1 23 rfl rfl)
abbrev cX10_trail : ByteArray := prog_26_method_35_code
def yX10_trail : MethodName := ⟨RX10, "trail", "(II)I"⟩
def dkwX10_trail_2 : List UInt8 := [167, 0, 8, 42, 5, 182, 0, 204, 172]
abbrev dktX10_trail_2 : List UInt8 := dkwX10_trail_2 ++ []
def dkwX10_trail_1 : List UInt8 := [180, 0, 181, 4, 100, 133, 184, 0, 102, 153, 0, 17, 42, 180, 0, 21, 16, 6, 27, 104, 28, 96, 46]
abbrev dktX10_trail_1 : List UInt8 := dkwX10_trail_1 ++ dktX10_trail_2
def dkwX10_trail_0 : List UInt8 := [28, 133, 9, 20, 0, 211, 184, 0, 102, 154, 0, 9, 42, 4, 182, 0, 204, 172, 27, 133, 9, 42]
abbrev dktX10_trail_0 : List UInt8 := dkwX10_trail_0 ++ dktX10_trail_1
theorem dksX10_trail_0 : cX10_trail.data.toList.drop 0 = dktX10_trail_0 := by decide +kernel
theorem dksX10_trail_1 : cX10_trail.data.toList.drop 22 = dktX10_trail_1 := dk_seg dksX10_trail_0 22 rfl rfl
theorem dksX10_trail_2 : cX10_trail.data.toList.drop 45 = dktX10_trail_2 := dk_seg dksX10_trail_1 23 rfl rfl
theorem dX10_trail_0 : decode cX10_trail 0 = .ok (.iload_n 2, 1) := dk_28 (dk_at dksX10_trail_0 0 rfl rfl)
theorem dX10_trail_1 : decode cX10_trail 1 = .ok (.i2l, 1) := dk_133 (dk_at dksX10_trail_0 1 rfl rfl)
theorem dX10_trail_2 : decode cX10_trail 2 = .ok (.lconst 0, 1) := dk_9 (dk_at dksX10_trail_0 2 rfl rfl)
theorem dX10_trail_3 : decode cX10_trail 3 = .ok (.ldc2_w 211, 3) := dk_20 0 211 (dk_at dksX10_trail_0 3 rfl rfl)
theorem dX10_trail_6 : decode cX10_trail 6 = .ok (.invokestatic 102, 3) := dk_184 0 102 (dk_at dksX10_trail_0 6 rfl rfl)
theorem dX10_trail_9 : decode cX10_trail 9 = .ok (.ifCond .ne 9, 3) := dk_154 0 9 (dk_at dksX10_trail_0 9 rfl rfl)
theorem dX10_trail_12 : decode cX10_trail 12 = .ok (.aload_n 0, 1) := dk_42 (dk_at dksX10_trail_0 12 rfl rfl)
theorem dX10_trail_13 : decode cX10_trail 13 = .ok (.iconst 1, 1) := dk_4 (dk_at dksX10_trail_0 13 rfl rfl)
theorem dX10_trail_14 : decode cX10_trail 14 = .ok (.invokevirtual 204, 3) := dk_182 0 204 (dk_at dksX10_trail_0 14 rfl rfl)
theorem dX10_trail_17 : decode cX10_trail 17 = .ok (.ireturn, 1) := dk_172 (dk_at dksX10_trail_0 17 rfl rfl)
theorem dX10_trail_18 : decode cX10_trail 18 = .ok (.iload_n 1, 1) := dk_27 (dk_at dksX10_trail_0 18 rfl rfl)
theorem dX10_trail_19 : decode cX10_trail 19 = .ok (.i2l, 1) := dk_133 (dk_at dksX10_trail_0 19 rfl rfl)
theorem dX10_trail_20 : decode cX10_trail 20 = .ok (.lconst 0, 1) := dk_9 (dk_at dksX10_trail_0 20 rfl rfl)
theorem dX10_trail_21 : decode cX10_trail 21 = .ok (.aload_n 0, 1) := dk_42 (dk_at dksX10_trail_0 21 rfl rfl)
theorem dX10_trail_22 : decode cX10_trail 22 = .ok (.getfield 181, 3) := dk_180 0 181 (dk_at dksX10_trail_1 0 rfl rfl)
theorem dX10_trail_25 : decode cX10_trail 25 = .ok (.iconst 1, 1) := dk_4 (dk_at dksX10_trail_1 3 rfl rfl)
theorem dX10_trail_26 : decode cX10_trail 26 = .ok (.isub, 1) := dk_100 (dk_at dksX10_trail_1 4 rfl rfl)
theorem dX10_trail_27 : decode cX10_trail 27 = .ok (.i2l, 1) := dk_133 (dk_at dksX10_trail_1 5 rfl rfl)
theorem dX10_trail_28 : decode cX10_trail 28 = .ok (.invokestatic 102, 3) := dk_184 0 102 (dk_at dksX10_trail_1 6 rfl rfl)
theorem dX10_trail_31 : decode cX10_trail 31 = .ok (.ifCond .eq 17, 3) := dk_153 0 17 (dk_at dksX10_trail_1 9 rfl rfl)
theorem dX10_trail_34 : decode cX10_trail 34 = .ok (.aload_n 0, 1) := dk_42 (dk_at dksX10_trail_1 12 rfl rfl)
theorem dX10_trail_35 : decode cX10_trail 35 = .ok (.getfield 21, 3) := dk_180 0 21 (dk_at dksX10_trail_1 13 rfl rfl)
theorem dX10_trail_38 : decode cX10_trail 38 = .ok (.bipush 6, 2) := dk_16 6 (dk_at dksX10_trail_1 16 rfl rfl)
theorem dX10_trail_40 : decode cX10_trail 40 = .ok (.iload_n 1, 1) := dk_27 (dk_at dksX10_trail_1 18 rfl rfl)
theorem dX10_trail_41 : decode cX10_trail 41 = .ok (.imul, 1) := dk_104 (dk_at dksX10_trail_1 19 rfl rfl)
theorem dX10_trail_42 : decode cX10_trail 42 = .ok (.iload_n 2, 1) := dk_28 (dk_at dksX10_trail_1 20 rfl rfl)
theorem dX10_trail_43 : decode cX10_trail 43 = .ok (.iadd, 1) := dk_96 (dk_at dksX10_trail_1 21 rfl rfl)
theorem dX10_trail_44 : decode cX10_trail 44 = .ok (.iaload, 1) := dk_46 (dk_at dksX10_trail_1 22 rfl rfl)
theorem dX10_trail_45 : decode cX10_trail 45 = .ok (.goto 8, 3) := dk_167 0 8 (dk_at dksX10_trail_2 0 rfl rfl)
theorem dX10_trail_48 : decode cX10_trail 48 = .ok (.aload_n 0, 1) := dk_42 (dk_at dksX10_trail_2 3 rfl rfl)
theorem dX10_trail_49 : decode cX10_trail 49 = .ok (.iconst 2, 1) := dk_5 (dk_at dksX10_trail_2 4 rfl rfl)
theorem dX10_trail_50 : decode cX10_trail 50 = .ok (.invokevirtual 204, 3) := dk_182 0 204 (dk_at dksX10_trail_2 5 rfl rfl)
theorem dX10_trail_53 : decode cX10_trail 53 = .ok (.ireturn, 1) := dk_172 (dk_at dksX10_trail_2 8 rfl rfl)
abbrev cX10_factor : ByteArray := prog_26_method_36_code
def yX10_factor : MethodName := ⟨RX10, "factor", "()I"⟩
def dkwX10_factor_1 : List UInt8 := [104, 60, 132, 2, 1, 167, 255, 231, 27, 172]
abbrev dktX10_factor_1 : List UInt8 := dkwX10_factor_1 ++ []
def dkwX10_factor_0 : List UInt8 := [4, 60, 3, 61, 28, 42, 180, 0, 181, 162, 0, 23, 27, 42, 180, 0, 21, 16, 6, 28, 104, 8, 96, 46]
abbrev dktX10_factor_0 : List UInt8 := dkwX10_factor_0 ++ dktX10_factor_1
theorem dksX10_factor_0 : cX10_factor.data.toList.drop 0 = dktX10_factor_0 := by decide +kernel
theorem dksX10_factor_1 : cX10_factor.data.toList.drop 24 = dktX10_factor_1 := dk_seg dksX10_factor_0 24 rfl rfl
theorem dX10_factor_0 : decode cX10_factor 0 = .ok (.iconst 1, 1) := dk_4 (dk_at dksX10_factor_0 0 rfl rfl)
theorem dX10_factor_1 : decode cX10_factor 1 = .ok (.istore_n 1, 1) := dk_60 (dk_at dksX10_factor_0 1 rfl rfl)
theorem dX10_factor_2 : decode cX10_factor 2 = .ok (.iconst 0, 1) := dk_3 (dk_at dksX10_factor_0 2 rfl rfl)
theorem dX10_factor_3 : decode cX10_factor 3 = .ok (.istore_n 2, 1) := dk_61 (dk_at dksX10_factor_0 3 rfl rfl)
theorem dX10_factor_4 : decode cX10_factor 4 = .ok (.iload_n 2, 1) := dk_28 (dk_at dksX10_factor_0 4 rfl rfl)
theorem dX10_factor_5 : decode cX10_factor 5 = .ok (.aload_n 0, 1) := dk_42 (dk_at dksX10_factor_0 5 rfl rfl)
theorem dX10_factor_6 : decode cX10_factor 6 = .ok (.getfield 181, 3) := dk_180 0 181 (dk_at dksX10_factor_0 6 rfl rfl)
theorem dX10_factor_9 : decode cX10_factor 9 = .ok (.if_icmp .ge 23, 3) := dk_162 0 23 (dk_at dksX10_factor_0 9 rfl rfl)
theorem dX10_factor_12 : decode cX10_factor 12 = .ok (.iload_n 1, 1) := dk_27 (dk_at dksX10_factor_0 12 rfl rfl)
theorem dX10_factor_13 : decode cX10_factor 13 = .ok (.aload_n 0, 1) := dk_42 (dk_at dksX10_factor_0 13 rfl rfl)
theorem dX10_factor_14 : decode cX10_factor 14 = .ok (.getfield 21, 3) := dk_180 0 21 (dk_at dksX10_factor_0 14 rfl rfl)
theorem dX10_factor_17 : decode cX10_factor 17 = .ok (.bipush 6, 2) := dk_16 6 (dk_at dksX10_factor_0 17 rfl rfl)
theorem dX10_factor_19 : decode cX10_factor 19 = .ok (.iload_n 2, 1) := dk_28 (dk_at dksX10_factor_0 19 rfl rfl)
theorem dX10_factor_20 : decode cX10_factor 20 = .ok (.imul, 1) := dk_104 (dk_at dksX10_factor_0 20 rfl rfl)
theorem dX10_factor_21 : decode cX10_factor 21 = .ok (.iconst 5, 1) := dk_8 (dk_at dksX10_factor_0 21 rfl rfl)
theorem dX10_factor_22 : decode cX10_factor 22 = .ok (.iadd, 1) := dk_96 (dk_at dksX10_factor_0 22 rfl rfl)
theorem dX10_factor_23 : decode cX10_factor 23 = .ok (.iaload, 1) := dk_46 (dk_at dksX10_factor_0 23 rfl rfl)
theorem dX10_factor_24 : decode cX10_factor 24 = .ok (.imul, 1) := dk_104 (dk_at dksX10_factor_1 0 rfl rfl)
theorem dX10_factor_25 : decode cX10_factor 25 = .ok (.istore_n 1, 1) := dk_60 (dk_at dksX10_factor_1 1 rfl rfl)
theorem dX10_factor_26 : decode cX10_factor 26 = .ok (.iinc 2 1, 3) := dk_132 2 1 (dk_at dksX10_factor_1 2 rfl rfl)
theorem dX10_factor_29 : decode cX10_factor 29 = .ok (.goto (-25), 3) := dk_167 255 231 (dk_at dksX10_factor_1 5 rfl rfl)
theorem dX10_factor_32 : decode cX10_factor 32 = .ok (.iload_n 1, 1) := dk_27 (dk_at dksX10_factor_1 8 rfl rfl)
theorem dX10_factor_33 : decode cX10_factor 33 = .ok (.ireturn, 1) := dk_172 (dk_at dksX10_factor_1 9 rfl rfl)
abbrev cX10_vertex : ByteArray := prog_26_method_37_code
def yX10_vertex : MethodName := ⟨RX10, "vertex", "(I)I"⟩
def dkwX10_vertex_1 : List UInt8 := [160, 0, 9, 42, 7, 182, 0, 204, 172, 42, 182, 0, 213, 42, 180, 0, 13, 27, 184, 0, 165, 172]
abbrev dktX10_vertex_1 : List UInt8 := dkwX10_vertex_1 ++ []
def dkwX10_vertex_0 : List UInt8 := [27, 184, 0, 126, 154, 0, 9, 42, 4, 182, 0, 204, 172, 42, 180, 0, 13, 3, 46, 184, 0, 130, 16, 12]
abbrev dktX10_vertex_0 : List UInt8 := dkwX10_vertex_0 ++ dktX10_vertex_1
theorem dksX10_vertex_0 : cX10_vertex.data.toList.drop 0 = dktX10_vertex_0 := by decide +kernel
theorem dksX10_vertex_1 : cX10_vertex.data.toList.drop 24 = dktX10_vertex_1 := dk_seg dksX10_vertex_0 24 rfl rfl
theorem dX10_vertex_0 : decode cX10_vertex 0 = .ok (.iload_n 1, 1) := dk_27 (dk_at dksX10_vertex_0 0 rfl rfl)
theorem dX10_vertex_1 : decode cX10_vertex 1 = .ok (.invokestatic 126, 3) := dk_184 0 126 (dk_at dksX10_vertex_0 1 rfl rfl)
theorem dX10_vertex_4 : decode cX10_vertex 4 = .ok (.ifCond .ne 9, 3) := dk_154 0 9 (dk_at dksX10_vertex_0 4 rfl rfl)
theorem dX10_vertex_7 : decode cX10_vertex 7 = .ok (.aload_n 0, 1) := dk_42 (dk_at dksX10_vertex_0 7 rfl rfl)
theorem dX10_vertex_8 : decode cX10_vertex 8 = .ok (.iconst 1, 1) := dk_4 (dk_at dksX10_vertex_0 8 rfl rfl)
theorem dX10_vertex_9 : decode cX10_vertex 9 = .ok (.invokevirtual 204, 3) := dk_182 0 204 (dk_at dksX10_vertex_0 9 rfl rfl)
theorem dX10_vertex_12 : decode cX10_vertex 12 = .ok (.ireturn, 1) := dk_172 (dk_at dksX10_vertex_0 12 rfl rfl)
theorem dX10_vertex_13 : decode cX10_vertex 13 = .ok (.aload_n 0, 1) := dk_42 (dk_at dksX10_vertex_0 13 rfl rfl)
theorem dX10_vertex_14 : decode cX10_vertex 14 = .ok (.getfield 13, 3) := dk_180 0 13 (dk_at dksX10_vertex_0 14 rfl rfl)
theorem dX10_vertex_17 : decode cX10_vertex 17 = .ok (.iconst 0, 1) := dk_3 (dk_at dksX10_vertex_0 17 rfl rfl)
theorem dX10_vertex_18 : decode cX10_vertex 18 = .ok (.iaload, 1) := dk_46 (dk_at dksX10_vertex_0 18 rfl rfl)
theorem dX10_vertex_19 : decode cX10_vertex 19 = .ok (.invokestatic 130, 3) := dk_184 0 130 (dk_at dksX10_vertex_0 19 rfl rfl)
theorem dX10_vertex_22 : decode cX10_vertex 22 = .ok (.bipush 12, 2) := dk_16 12 (dk_at dksX10_vertex_0 22 rfl rfl)
theorem dX10_vertex_24 : decode cX10_vertex 24 = .ok (.if_icmp .ne 9, 3) := dk_160 0 9 (dk_at dksX10_vertex_1 0 rfl rfl)
theorem dX10_vertex_27 : decode cX10_vertex 27 = .ok (.aload_n 0, 1) := dk_42 (dk_at dksX10_vertex_1 3 rfl rfl)
theorem dX10_vertex_28 : decode cX10_vertex 28 = .ok (.iconst 4, 1) := dk_7 (dk_at dksX10_vertex_1 4 rfl rfl)
theorem dX10_vertex_29 : decode cX10_vertex 29 = .ok (.invokevirtual 204, 3) := dk_182 0 204 (dk_at dksX10_vertex_1 5 rfl rfl)
theorem dX10_vertex_32 : decode cX10_vertex 32 = .ok (.ireturn, 1) := dk_172 (dk_at dksX10_vertex_1 8 rfl rfl)
theorem dX10_vertex_33 : decode cX10_vertex 33 = .ok (.aload_n 0, 1) := dk_42 (dk_at dksX10_vertex_1 9 rfl rfl)
theorem dX10_vertex_34 : decode cX10_vertex 34 = .ok (.invokevirtual 213, 3) := dk_182 0 213 (dk_at dksX10_vertex_1 10 rfl rfl)
theorem dX10_vertex_37 : decode cX10_vertex 37 = .ok (.aload_n 0, 1) := dk_42 (dk_at dksX10_vertex_1 13 rfl rfl)
theorem dX10_vertex_38 : decode cX10_vertex 38 = .ok (.getfield 13, 3) := dk_180 0 13 (dk_at dksX10_vertex_1 14 rfl rfl)
theorem dX10_vertex_41 : decode cX10_vertex 41 = .ok (.iload_n 1, 1) := dk_27 (dk_at dksX10_vertex_1 17 rfl rfl)
theorem dX10_vertex_42 : decode cX10_vertex 42 = .ok (.invokestatic 165, 3) := dk_184 0 165 (dk_at dksX10_vertex_1 18 rfl rfl)
theorem dX10_vertex_45 : decode cX10_vertex 45 = .ok (.ireturn, 1) := dk_172 (dk_at dksX10_vertex_1 21 rfl rfl)
abbrev cX10_byHand : ByteArray := prog_26_method_30_code
def yX10_byHand : MethodName := ⟨RX10, "byHand", "()V"⟩
def dkwX10_byHand_0 : List UInt8 := [42, 3, 181, 0, 181, 42, 3, 181, 0, 185, 177]
abbrev dktX10_byHand_0 : List UInt8 := dkwX10_byHand_0 ++ []
theorem dksX10_byHand_0 : cX10_byHand.data.toList.drop 0 = dktX10_byHand_0 := by decide +kernel
theorem dX10_byHand_0 : decode cX10_byHand 0 = .ok (.aload_n 0, 1) := dk_42 (dk_at dksX10_byHand_0 0 rfl rfl)
theorem dX10_byHand_1 : decode cX10_byHand 1 = .ok (.iconst 0, 1) := dk_3 (dk_at dksX10_byHand_0 1 rfl rfl)
theorem dX10_byHand_2 : decode cX10_byHand 2 = .ok (.putfield 181, 3) := dk_181 0 181 (dk_at dksX10_byHand_0 2 rfl rfl)
theorem dX10_byHand_5 : decode cX10_byHand 5 = .ok (.aload_n 0, 1) := dk_42 (dk_at dksX10_byHand_0 5 rfl rfl)
theorem dX10_byHand_6 : decode cX10_byHand 6 = .ok (.iconst 0, 1) := dk_3 (dk_at dksX10_byHand_0 6 rfl rfl)
theorem dX10_byHand_7 : decode cX10_byHand 7 = .ok (.putfield 185, 3) := dk_181 0 185 (dk_at dksX10_byHand_0 7 rfl rfl)
theorem dX10_byHand_10 : decode cX10_byHand 10 = .ok (.return_, 1) := dk_177 (dk_at dksX10_byHand_0 10 rfl rfl)
abbrev cX10_weigh : ByteArray := prog_26_method_38_code
def yX10_weigh : MethodName := ⟨RX10, "weigh", "(II)I"⟩
def dkwX10_weigh_1 : List UInt8 := [182, 0, 213, 42, 180, 0, 13, 4, 27, 96, 46, 62, 42, 180, 0, 13, 4, 27, 96, 28, 79, 29, 172]
abbrev dktX10_weigh_1 : List UInt8 := dkwX10_weigh_1 ++ []
def dkwX10_weigh_0 : List UInt8 := [42, 27, 182, 0, 216, 153, 0, 10, 28, 184, 0, 126, 154, 0, 9, 42, 4, 182, 0, 204, 172, 42]
abbrev dktX10_weigh_0 : List UInt8 := dkwX10_weigh_0 ++ dktX10_weigh_1
theorem dksX10_weigh_0 : cX10_weigh.data.toList.drop 0 = dktX10_weigh_0 := by decide +kernel
theorem dksX10_weigh_1 : cX10_weigh.data.toList.drop 22 = dktX10_weigh_1 := dk_seg dksX10_weigh_0 22 rfl rfl
theorem dX10_weigh_0 : decode cX10_weigh 0 = .ok (.aload_n 0, 1) := dk_42 (dk_at dksX10_weigh_0 0 rfl rfl)
theorem dX10_weigh_1 : decode cX10_weigh 1 = .ok (.iload_n 1, 1) := dk_27 (dk_at dksX10_weigh_0 1 rfl rfl)
theorem dX10_weigh_2 : decode cX10_weigh 2 = .ok (.invokevirtual 216, 3) := dk_182 0 216 (dk_at dksX10_weigh_0 2 rfl rfl)
theorem dX10_weigh_5 : decode cX10_weigh 5 = .ok (.ifCond .eq 10, 3) := dk_153 0 10 (dk_at dksX10_weigh_0 5 rfl rfl)
theorem dX10_weigh_8 : decode cX10_weigh 8 = .ok (.iload_n 2, 1) := dk_28 (dk_at dksX10_weigh_0 8 rfl rfl)
theorem dX10_weigh_9 : decode cX10_weigh 9 = .ok (.invokestatic 126, 3) := dk_184 0 126 (dk_at dksX10_weigh_0 9 rfl rfl)
theorem dX10_weigh_12 : decode cX10_weigh 12 = .ok (.ifCond .ne 9, 3) := dk_154 0 9 (dk_at dksX10_weigh_0 12 rfl rfl)
theorem dX10_weigh_15 : decode cX10_weigh 15 = .ok (.aload_n 0, 1) := dk_42 (dk_at dksX10_weigh_0 15 rfl rfl)
theorem dX10_weigh_16 : decode cX10_weigh 16 = .ok (.iconst 1, 1) := dk_4 (dk_at dksX10_weigh_0 16 rfl rfl)
theorem dX10_weigh_17 : decode cX10_weigh 17 = .ok (.invokevirtual 204, 3) := dk_182 0 204 (dk_at dksX10_weigh_0 17 rfl rfl)
theorem dX10_weigh_20 : decode cX10_weigh 20 = .ok (.ireturn, 1) := dk_172 (dk_at dksX10_weigh_0 20 rfl rfl)
theorem dX10_weigh_21 : decode cX10_weigh 21 = .ok (.aload_n 0, 1) := dk_42 (dk_at dksX10_weigh_0 21 rfl rfl)
theorem dX10_weigh_22 : decode cX10_weigh 22 = .ok (.invokevirtual 213, 3) := dk_182 0 213 (dk_at dksX10_weigh_1 0 rfl rfl)
theorem dX10_weigh_25 : decode cX10_weigh 25 = .ok (.aload_n 0, 1) := dk_42 (dk_at dksX10_weigh_1 3 rfl rfl)
theorem dX10_weigh_26 : decode cX10_weigh 26 = .ok (.getfield 13, 3) := dk_180 0 13 (dk_at dksX10_weigh_1 4 rfl rfl)
theorem dX10_weigh_29 : decode cX10_weigh 29 = .ok (.iconst 1, 1) := dk_4 (dk_at dksX10_weigh_1 7 rfl rfl)
theorem dX10_weigh_30 : decode cX10_weigh 30 = .ok (.iload_n 1, 1) := dk_27 (dk_at dksX10_weigh_1 8 rfl rfl)
theorem dX10_weigh_31 : decode cX10_weigh 31 = .ok (.iadd, 1) := dk_96 (dk_at dksX10_weigh_1 9 rfl rfl)
theorem dX10_weigh_32 : decode cX10_weigh 32 = .ok (.iaload, 1) := dk_46 (dk_at dksX10_weigh_1 10 rfl rfl)
theorem dX10_weigh_33 : decode cX10_weigh 33 = .ok (.istore_n 3, 1) := dk_62 (dk_at dksX10_weigh_1 11 rfl rfl)
theorem dX10_weigh_34 : decode cX10_weigh 34 = .ok (.aload_n 0, 1) := dk_42 (dk_at dksX10_weigh_1 12 rfl rfl)
theorem dX10_weigh_35 : decode cX10_weigh 35 = .ok (.getfield 13, 3) := dk_180 0 13 (dk_at dksX10_weigh_1 13 rfl rfl)
theorem dX10_weigh_38 : decode cX10_weigh 38 = .ok (.iconst 1, 1) := dk_4 (dk_at dksX10_weigh_1 16 rfl rfl)
theorem dX10_weigh_39 : decode cX10_weigh 39 = .ok (.iload_n 1, 1) := dk_27 (dk_at dksX10_weigh_1 17 rfl rfl)
theorem dX10_weigh_40 : decode cX10_weigh 40 = .ok (.iadd, 1) := dk_96 (dk_at dksX10_weigh_1 18 rfl rfl)
theorem dX10_weigh_41 : decode cX10_weigh 41 = .ok (.iload_n 2, 1) := dk_28 (dk_at dksX10_weigh_1 19 rfl rfl)
theorem dX10_weigh_42 : decode cX10_weigh 42 = .ok (.iastore, 1) := dk_79 (dk_at dksX10_weigh_1 20 rfl rfl)
theorem dX10_weigh_43 : decode cX10_weigh 43 = .ok (.iload_n 3, 1) := dk_29 (dk_at dksX10_weigh_1 21 rfl rfl)
theorem dX10_weigh_44 : decode cX10_weigh 44 = .ok (.ireturn, 1) := dk_172 (dk_at dksX10_weigh_1 22 rfl rfl)
abbrev cX10_isVertex : ByteArray := prog_26_method_9_code
def yX10_isVertex : MethodName := ⟨RX10, "isVertex", "(I)Z"⟩
def dkwX10_isVertex_0 : List UInt8 := [42, 180, 0, 13, 27, 184, 0, 106, 172]
abbrev dktX10_isVertex_0 : List UInt8 := dkwX10_isVertex_0 ++ []
theorem dksX10_isVertex_0 : cX10_isVertex.data.toList.drop 0 = dktX10_isVertex_0 := by decide +kernel
theorem dX10_isVertex_0 : decode cX10_isVertex 0 = .ok (.aload_n 0, 1) := dk_42 (dk_at dksX10_isVertex_0 0 rfl rfl)
theorem dX10_isVertex_1 : decode cX10_isVertex 1 = .ok (.getfield 13, 3) := dk_180 0 13 (dk_at dksX10_isVertex_0 1 rfl rfl)
theorem dX10_isVertex_4 : decode cX10_isVertex 4 = .ok (.iload_n 1, 1) := dk_27 (dk_at dksX10_isVertex_0 4 rfl rfl)
theorem dX10_isVertex_5 : decode cX10_isVertex 5 = .ok (.invokestatic 106, 3) := dk_184 0 106 (dk_at dksX10_isVertex_0 5 rfl rfl)
theorem dX10_isVertex_8 : decode cX10_isVertex 8 = .ok (.ireturn, 1) := dk_172 (dk_at dksX10_isVertex_0 8 rfl rfl)
abbrev cX10_tie : ByteArray := prog_26_method_39_code
def yX10_tie : MethodName := ⟨RX10, "tie", "(II)I"⟩
def dkwX10_tie_2 : List UInt8 := [42, 180, 0, 13, 27, 28, 184, 0, 158, 42, 180, 0, 13, 184, 0, 219, 172]
abbrev dktX10_tie_2 : List UInt8 := dkwX10_tie_2 ++ []
def dkwX10_tie_1 : List UInt8 := [180, 0, 13, 27, 184, 0, 118, 28, 184, 0, 96, 153, 0, 9, 42, 6, 182, 0, 204, 172, 42, 182, 0, 213]
abbrev dktX10_tie_1 : List UInt8 := dkwX10_tie_1 ++ dktX10_tie_2
def dkwX10_tie_0 : List UInt8 := [42, 27, 182, 0, 216, 153, 0, 11, 42, 28, 182, 0, 216, 154, 0, 9, 42, 4, 182, 0, 204, 172, 42]
abbrev dktX10_tie_0 : List UInt8 := dkwX10_tie_0 ++ dktX10_tie_1
theorem dksX10_tie_0 : cX10_tie.data.toList.drop 0 = dktX10_tie_0 := by decide +kernel
theorem dksX10_tie_1 : cX10_tie.data.toList.drop 23 = dktX10_tie_1 := dk_seg dksX10_tie_0 23 rfl rfl
theorem dksX10_tie_2 : cX10_tie.data.toList.drop 47 = dktX10_tie_2 := dk_seg dksX10_tie_1 24 rfl rfl
theorem dX10_tie_0 : decode cX10_tie 0 = .ok (.aload_n 0, 1) := dk_42 (dk_at dksX10_tie_0 0 rfl rfl)
theorem dX10_tie_1 : decode cX10_tie 1 = .ok (.iload_n 1, 1) := dk_27 (dk_at dksX10_tie_0 1 rfl rfl)
theorem dX10_tie_2 : decode cX10_tie 2 = .ok (.invokevirtual 216, 3) := dk_182 0 216 (dk_at dksX10_tie_0 2 rfl rfl)
theorem dX10_tie_5 : decode cX10_tie 5 = .ok (.ifCond .eq 11, 3) := dk_153 0 11 (dk_at dksX10_tie_0 5 rfl rfl)
theorem dX10_tie_8 : decode cX10_tie 8 = .ok (.aload_n 0, 1) := dk_42 (dk_at dksX10_tie_0 8 rfl rfl)
theorem dX10_tie_9 : decode cX10_tie 9 = .ok (.iload_n 2, 1) := dk_28 (dk_at dksX10_tie_0 9 rfl rfl)
theorem dX10_tie_10 : decode cX10_tie 10 = .ok (.invokevirtual 216, 3) := dk_182 0 216 (dk_at dksX10_tie_0 10 rfl rfl)
theorem dX10_tie_13 : decode cX10_tie 13 = .ok (.ifCond .ne 9, 3) := dk_154 0 9 (dk_at dksX10_tie_0 13 rfl rfl)
theorem dX10_tie_16 : decode cX10_tie 16 = .ok (.aload_n 0, 1) := dk_42 (dk_at dksX10_tie_0 16 rfl rfl)
theorem dX10_tie_17 : decode cX10_tie 17 = .ok (.iconst 1, 1) := dk_4 (dk_at dksX10_tie_0 17 rfl rfl)
theorem dX10_tie_18 : decode cX10_tie 18 = .ok (.invokevirtual 204, 3) := dk_182 0 204 (dk_at dksX10_tie_0 18 rfl rfl)
theorem dX10_tie_21 : decode cX10_tie 21 = .ok (.ireturn, 1) := dk_172 (dk_at dksX10_tie_0 21 rfl rfl)
theorem dX10_tie_22 : decode cX10_tie 22 = .ok (.aload_n 0, 1) := dk_42 (dk_at dksX10_tie_0 22 rfl rfl)
theorem dX10_tie_23 : decode cX10_tie 23 = .ok (.getfield 13, 3) := dk_180 0 13 (dk_at dksX10_tie_1 0 rfl rfl)
theorem dX10_tie_26 : decode cX10_tie 26 = .ok (.iload_n 1, 1) := dk_27 (dk_at dksX10_tie_1 3 rfl rfl)
theorem dX10_tie_27 : decode cX10_tie 27 = .ok (.invokestatic 118, 3) := dk_184 0 118 (dk_at dksX10_tie_1 4 rfl rfl)
theorem dX10_tie_30 : decode cX10_tie 30 = .ok (.iload_n 2, 1) := dk_28 (dk_at dksX10_tie_1 7 rfl rfl)
theorem dX10_tie_31 : decode cX10_tie 31 = .ok (.invokestatic 96, 3) := dk_184 0 96 (dk_at dksX10_tie_1 8 rfl rfl)
theorem dX10_tie_34 : decode cX10_tie 34 = .ok (.ifCond .eq 9, 3) := dk_153 0 9 (dk_at dksX10_tie_1 11 rfl rfl)
theorem dX10_tie_37 : decode cX10_tie 37 = .ok (.aload_n 0, 1) := dk_42 (dk_at dksX10_tie_1 14 rfl rfl)
theorem dX10_tie_38 : decode cX10_tie 38 = .ok (.iconst 3, 1) := dk_6 (dk_at dksX10_tie_1 15 rfl rfl)
theorem dX10_tie_39 : decode cX10_tie 39 = .ok (.invokevirtual 204, 3) := dk_182 0 204 (dk_at dksX10_tie_1 16 rfl rfl)
theorem dX10_tie_42 : decode cX10_tie 42 = .ok (.ireturn, 1) := dk_172 (dk_at dksX10_tie_1 19 rfl rfl)
theorem dX10_tie_43 : decode cX10_tie 43 = .ok (.aload_n 0, 1) := dk_42 (dk_at dksX10_tie_1 20 rfl rfl)
theorem dX10_tie_44 : decode cX10_tie 44 = .ok (.invokevirtual 213, 3) := dk_182 0 213 (dk_at dksX10_tie_1 21 rfl rfl)
theorem dX10_tie_47 : decode cX10_tie 47 = .ok (.aload_n 0, 1) := dk_42 (dk_at dksX10_tie_2 0 rfl rfl)
theorem dX10_tie_48 : decode cX10_tie 48 = .ok (.getfield 13, 3) := dk_180 0 13 (dk_at dksX10_tie_2 1 rfl rfl)
theorem dX10_tie_51 : decode cX10_tie 51 = .ok (.iload_n 1, 1) := dk_27 (dk_at dksX10_tie_2 4 rfl rfl)
theorem dX10_tie_52 : decode cX10_tie 52 = .ok (.iload_n 2, 1) := dk_28 (dk_at dksX10_tie_2 5 rfl rfl)
theorem dX10_tie_53 : decode cX10_tie 53 = .ok (.invokestatic 158, 3) := dk_184 0 158 (dk_at dksX10_tie_2 6 rfl rfl)
theorem dX10_tie_56 : decode cX10_tie 56 = .ok (.aload_n 0, 1) := dk_42 (dk_at dksX10_tie_2 9 rfl rfl)
theorem dX10_tie_57 : decode cX10_tie 57 = .ok (.getfield 13, 3) := dk_180 0 13 (dk_at dksX10_tie_2 10 rfl rfl)
theorem dX10_tie_60 : decode cX10_tie 60 = .ok (.invokestatic 219, 3) := dk_184 0 219 (dk_at dksX10_tie_2 13 rfl rfl)
theorem dX10_tie_63 : decode cX10_tie 63 = .ok (.ireturn, 1) := dk_172 (dk_at dksX10_tie_2 16 rfl rfl)
abbrev cX10_treeOf : ByteArray := prog_26_method_15_code
def yX10_treeOf : MethodName := ⟨RX10, "treeOf", "([II)I"⟩
def dkwX10_treeOf_2 : List UInt8 := [132, 4, 1, 167, 255, 223, 167, 255, 210, 28, 172]
abbrev dktX10_treeOf_2 : List UInt8 := dkwX10_treeOf_2 ++ []
def dkwX10_treeOf_1 : List UInt8 := [28, 21, 4, 184, 0, 96, 153, 0, 13, 42, 16, 13, 21, 4, 96, 46, 167, 0, 4, 3, 128, 61]
abbrev dktX10_treeOf_1 : List UInt8 := dkwX10_treeOf_1 ++ dktX10_treeOf_2
def dkwX10_treeOf_0 : List UInt8 := [4, 27, 120, 61, 3, 62, 29, 28, 159, 0, 47, 28, 62, 3, 54, 4, 21, 4, 16, 12, 162, 0, 32, 28]
abbrev dktX10_treeOf_0 : List UInt8 := dkwX10_treeOf_0 ++ dktX10_treeOf_1
theorem dksX10_treeOf_0 : cX10_treeOf.data.toList.drop 0 = dktX10_treeOf_0 := by decide +kernel
theorem dksX10_treeOf_1 : cX10_treeOf.data.toList.drop 24 = dktX10_treeOf_1 := dk_seg dksX10_treeOf_0 24 rfl rfl
theorem dksX10_treeOf_2 : cX10_treeOf.data.toList.drop 46 = dktX10_treeOf_2 := dk_seg dksX10_treeOf_1 22 rfl rfl
theorem dX10_treeOf_0 : decode cX10_treeOf 0 = .ok (.iconst 1, 1) := dk_4 (dk_at dksX10_treeOf_0 0 rfl rfl)
theorem dX10_treeOf_1 : decode cX10_treeOf 1 = .ok (.iload_n 1, 1) := dk_27 (dk_at dksX10_treeOf_0 1 rfl rfl)
theorem dX10_treeOf_2 : decode cX10_treeOf 2 = .ok (.ishl, 1) := dk_120 (dk_at dksX10_treeOf_0 2 rfl rfl)
theorem dX10_treeOf_3 : decode cX10_treeOf 3 = .ok (.istore_n 2, 1) := dk_61 (dk_at dksX10_treeOf_0 3 rfl rfl)
theorem dX10_treeOf_4 : decode cX10_treeOf 4 = .ok (.iconst 0, 1) := dk_3 (dk_at dksX10_treeOf_0 4 rfl rfl)
theorem dX10_treeOf_5 : decode cX10_treeOf 5 = .ok (.istore_n 3, 1) := dk_62 (dk_at dksX10_treeOf_0 5 rfl rfl)
theorem dX10_treeOf_6 : decode cX10_treeOf 6 = .ok (.iload_n 3, 1) := dk_29 (dk_at dksX10_treeOf_0 6 rfl rfl)
theorem dX10_treeOf_7 : decode cX10_treeOf 7 = .ok (.iload_n 2, 1) := dk_28 (dk_at dksX10_treeOf_0 7 rfl rfl)
theorem dX10_treeOf_8 : decode cX10_treeOf 8 = .ok (.if_icmp .eq 47, 3) := dk_159 0 47 (dk_at dksX10_treeOf_0 8 rfl rfl)
theorem dX10_treeOf_11 : decode cX10_treeOf 11 = .ok (.iload_n 2, 1) := dk_28 (dk_at dksX10_treeOf_0 11 rfl rfl)
theorem dX10_treeOf_12 : decode cX10_treeOf 12 = .ok (.istore_n 3, 1) := dk_62 (dk_at dksX10_treeOf_0 12 rfl rfl)
theorem dX10_treeOf_13 : decode cX10_treeOf 13 = .ok (.iconst 0, 1) := dk_3 (dk_at dksX10_treeOf_0 13 rfl rfl)
theorem dX10_treeOf_14 : decode cX10_treeOf 14 = .ok (.istore 4, 2) := dk_54 4 (dk_at dksX10_treeOf_0 14 rfl rfl)
theorem dX10_treeOf_16 : decode cX10_treeOf 16 = .ok (.iload 4, 2) := dk_21 4 (dk_at dksX10_treeOf_0 16 rfl rfl)
theorem dX10_treeOf_18 : decode cX10_treeOf 18 = .ok (.bipush 12, 2) := dk_16 12 (dk_at dksX10_treeOf_0 18 rfl rfl)
theorem dX10_treeOf_20 : decode cX10_treeOf 20 = .ok (.if_icmp .ge 32, 3) := dk_162 0 32 (dk_at dksX10_treeOf_0 20 rfl rfl)
theorem dX10_treeOf_23 : decode cX10_treeOf 23 = .ok (.iload_n 2, 1) := dk_28 (dk_at dksX10_treeOf_0 23 rfl rfl)
theorem dX10_treeOf_24 : decode cX10_treeOf 24 = .ok (.iload_n 2, 1) := dk_28 (dk_at dksX10_treeOf_1 0 rfl rfl)
theorem dX10_treeOf_25 : decode cX10_treeOf 25 = .ok (.iload 4, 2) := dk_21 4 (dk_at dksX10_treeOf_1 1 rfl rfl)
theorem dX10_treeOf_27 : decode cX10_treeOf 27 = .ok (.invokestatic 96, 3) := dk_184 0 96 (dk_at dksX10_treeOf_1 3 rfl rfl)
theorem dX10_treeOf_30 : decode cX10_treeOf 30 = .ok (.ifCond .eq 13, 3) := dk_153 0 13 (dk_at dksX10_treeOf_1 6 rfl rfl)
theorem dX10_treeOf_33 : decode cX10_treeOf 33 = .ok (.aload_n 0, 1) := dk_42 (dk_at dksX10_treeOf_1 9 rfl rfl)
theorem dX10_treeOf_34 : decode cX10_treeOf 34 = .ok (.bipush 13, 2) := dk_16 13 (dk_at dksX10_treeOf_1 10 rfl rfl)
theorem dX10_treeOf_36 : decode cX10_treeOf 36 = .ok (.iload 4, 2) := dk_21 4 (dk_at dksX10_treeOf_1 12 rfl rfl)
theorem dX10_treeOf_38 : decode cX10_treeOf 38 = .ok (.iadd, 1) := dk_96 (dk_at dksX10_treeOf_1 14 rfl rfl)
theorem dX10_treeOf_39 : decode cX10_treeOf 39 = .ok (.iaload, 1) := dk_46 (dk_at dksX10_treeOf_1 15 rfl rfl)
theorem dX10_treeOf_40 : decode cX10_treeOf 40 = .ok (.goto 4, 3) := dk_167 0 4 (dk_at dksX10_treeOf_1 16 rfl rfl)
theorem dX10_treeOf_43 : decode cX10_treeOf 43 = .ok (.iconst 0, 1) := dk_3 (dk_at dksX10_treeOf_1 19 rfl rfl)
theorem dX10_treeOf_44 : decode cX10_treeOf 44 = .ok (.ior, 1) := dk_128 (dk_at dksX10_treeOf_1 20 rfl rfl)
theorem dX10_treeOf_45 : decode cX10_treeOf 45 = .ok (.istore_n 2, 1) := dk_61 (dk_at dksX10_treeOf_1 21 rfl rfl)
theorem dX10_treeOf_46 : decode cX10_treeOf 46 = .ok (.iinc 4 1, 3) := dk_132 4 1 (dk_at dksX10_treeOf_2 0 rfl rfl)
theorem dX10_treeOf_49 : decode cX10_treeOf 49 = .ok (.goto (-33), 3) := dk_167 255 223 (dk_at dksX10_treeOf_2 3 rfl rfl)
theorem dX10_treeOf_52 : decode cX10_treeOf 52 = .ok (.goto (-46), 3) := dk_167 255 210 (dk_at dksX10_treeOf_2 6 rfl rfl)
theorem dX10_treeOf_55 : decode cX10_treeOf 55 = .ok (.iload_n 2, 1) := dk_28 (dk_at dksX10_treeOf_2 9 rfl rfl)
theorem dX10_treeOf_56 : decode cX10_treeOf 56 = .ok (.ireturn, 1) := dk_172 (dk_at dksX10_treeOf_2 10 rfl rfl)
abbrev cX10_trees : ByteArray := prog_26_method_16_code
def yX10_trees : MethodName := ⟨RX10, "trees", "([I)I"⟩
def dkwX10_trees_2 : List UInt8 := [172]
abbrev dktX10_trees_2 : List UInt8 := dkwX10_trees_2 ++ []
def dkwX10_trees_1 : List UInt8 := [184, 0, 118, 184, 0, 114, 28, 160, 0, 7, 4, 167, 0, 4, 3, 96, 60, 132, 2, 1, 167, 255, 217, 27]
abbrev dktX10_trees_1 : List UInt8 := dkwX10_trees_1 ++ dktX10_trees_2
def dkwX10_trees_0 : List UInt8 := [3, 60, 3, 61, 28, 16, 12, 162, 0, 39, 27, 42, 3, 46, 28, 184, 0, 96, 153, 0, 19, 42, 28]
abbrev dktX10_trees_0 : List UInt8 := dkwX10_trees_0 ++ dktX10_trees_1
theorem dksX10_trees_0 : cX10_trees.data.toList.drop 0 = dktX10_trees_0 := by decide +kernel
theorem dksX10_trees_1 : cX10_trees.data.toList.drop 23 = dktX10_trees_1 := dk_seg dksX10_trees_0 23 rfl rfl
theorem dksX10_trees_2 : cX10_trees.data.toList.drop 47 = dktX10_trees_2 := dk_seg dksX10_trees_1 24 rfl rfl
theorem dX10_trees_0 : decode cX10_trees 0 = .ok (.iconst 0, 1) := dk_3 (dk_at dksX10_trees_0 0 rfl rfl)
theorem dX10_trees_1 : decode cX10_trees 1 = .ok (.istore_n 1, 1) := dk_60 (dk_at dksX10_trees_0 1 rfl rfl)
theorem dX10_trees_2 : decode cX10_trees 2 = .ok (.iconst 0, 1) := dk_3 (dk_at dksX10_trees_0 2 rfl rfl)
theorem dX10_trees_3 : decode cX10_trees 3 = .ok (.istore_n 2, 1) := dk_61 (dk_at dksX10_trees_0 3 rfl rfl)
theorem dX10_trees_4 : decode cX10_trees 4 = .ok (.iload_n 2, 1) := dk_28 (dk_at dksX10_trees_0 4 rfl rfl)
theorem dX10_trees_5 : decode cX10_trees 5 = .ok (.bipush 12, 2) := dk_16 12 (dk_at dksX10_trees_0 5 rfl rfl)
theorem dX10_trees_7 : decode cX10_trees 7 = .ok (.if_icmp .ge 39, 3) := dk_162 0 39 (dk_at dksX10_trees_0 7 rfl rfl)
theorem dX10_trees_10 : decode cX10_trees 10 = .ok (.iload_n 1, 1) := dk_27 (dk_at dksX10_trees_0 10 rfl rfl)
theorem dX10_trees_11 : decode cX10_trees 11 = .ok (.aload_n 0, 1) := dk_42 (dk_at dksX10_trees_0 11 rfl rfl)
theorem dX10_trees_12 : decode cX10_trees 12 = .ok (.iconst 0, 1) := dk_3 (dk_at dksX10_trees_0 12 rfl rfl)
theorem dX10_trees_13 : decode cX10_trees 13 = .ok (.iaload, 1) := dk_46 (dk_at dksX10_trees_0 13 rfl rfl)
theorem dX10_trees_14 : decode cX10_trees 14 = .ok (.iload_n 2, 1) := dk_28 (dk_at dksX10_trees_0 14 rfl rfl)
theorem dX10_trees_15 : decode cX10_trees 15 = .ok (.invokestatic 96, 3) := dk_184 0 96 (dk_at dksX10_trees_0 15 rfl rfl)
theorem dX10_trees_18 : decode cX10_trees 18 = .ok (.ifCond .eq 19, 3) := dk_153 0 19 (dk_at dksX10_trees_0 18 rfl rfl)
theorem dX10_trees_21 : decode cX10_trees 21 = .ok (.aload_n 0, 1) := dk_42 (dk_at dksX10_trees_0 21 rfl rfl)
theorem dX10_trees_22 : decode cX10_trees 22 = .ok (.iload_n 2, 1) := dk_28 (dk_at dksX10_trees_0 22 rfl rfl)
theorem dX10_trees_23 : decode cX10_trees 23 = .ok (.invokestatic 118, 3) := dk_184 0 118 (dk_at dksX10_trees_1 0 rfl rfl)
theorem dX10_trees_26 : decode cX10_trees 26 = .ok (.invokestatic 114, 3) := dk_184 0 114 (dk_at dksX10_trees_1 3 rfl rfl)
theorem dX10_trees_29 : decode cX10_trees 29 = .ok (.iload_n 2, 1) := dk_28 (dk_at dksX10_trees_1 6 rfl rfl)
theorem dX10_trees_30 : decode cX10_trees 30 = .ok (.if_icmp .ne 7, 3) := dk_160 0 7 (dk_at dksX10_trees_1 7 rfl rfl)
theorem dX10_trees_33 : decode cX10_trees 33 = .ok (.iconst 1, 1) := dk_4 (dk_at dksX10_trees_1 10 rfl rfl)
theorem dX10_trees_34 : decode cX10_trees 34 = .ok (.goto 4, 3) := dk_167 0 4 (dk_at dksX10_trees_1 11 rfl rfl)
theorem dX10_trees_37 : decode cX10_trees 37 = .ok (.iconst 0, 1) := dk_3 (dk_at dksX10_trees_1 14 rfl rfl)
theorem dX10_trees_38 : decode cX10_trees 38 = .ok (.iadd, 1) := dk_96 (dk_at dksX10_trees_1 15 rfl rfl)
theorem dX10_trees_39 : decode cX10_trees 39 = .ok (.istore_n 1, 1) := dk_60 (dk_at dksX10_trees_1 16 rfl rfl)
theorem dX10_trees_40 : decode cX10_trees 40 = .ok (.iinc 2 1, 3) := dk_132 2 1 (dk_at dksX10_trees_1 17 rfl rfl)
theorem dX10_trees_43 : decode cX10_trees 43 = .ok (.goto (-39), 3) := dk_167 255 217 (dk_at dksX10_trees_1 20 rfl rfl)
theorem dX10_trees_46 : decode cX10_trees 46 = .ok (.iload_n 1, 1) := dk_27 (dk_at dksX10_trees_1 23 rfl rfl)
theorem dX10_trees_47 : decode cX10_trees 47 = .ok (.ireturn, 1) := dk_172 (dk_at dksX10_trees_2 0 rfl rfl)
abbrev cX10_cut : ByteArray := prog_26_method_40_code
def yX10_cut : MethodName := ⟨RX10, "cut", "(II)I"⟩
def dkwX10_cut_2 : List UInt8 := [182, 0, 213, 42, 180, 0, 13, 27, 28, 184, 0, 162, 42, 180, 0, 13, 184, 0, 219, 172]
abbrev dktX10_cut_2 : List UInt8 := dkwX10_cut_2 ++ []
def dkwX10_cut_1 : List UInt8 := [180, 0, 13, 16, 13, 27, 96, 46, 28, 184, 0, 96, 154, 0, 9, 42, 5, 182, 0, 204, 172, 42]
abbrev dktX10_cut_1 : List UInt8 := dkwX10_cut_1 ++ dktX10_cut_2
def dkwX10_cut_0 : List UInt8 := [42, 27, 182, 0, 216, 153, 0, 11, 42, 28, 182, 0, 216, 154, 0, 9, 42, 4, 182, 0, 204, 172, 42]
abbrev dktX10_cut_0 : List UInt8 := dkwX10_cut_0 ++ dktX10_cut_1
theorem dksX10_cut_0 : cX10_cut.data.toList.drop 0 = dktX10_cut_0 := by decide +kernel
theorem dksX10_cut_1 : cX10_cut.data.toList.drop 23 = dktX10_cut_1 := dk_seg dksX10_cut_0 23 rfl rfl
theorem dksX10_cut_2 : cX10_cut.data.toList.drop 45 = dktX10_cut_2 := dk_seg dksX10_cut_1 22 rfl rfl
theorem dX10_cut_0 : decode cX10_cut 0 = .ok (.aload_n 0, 1) := dk_42 (dk_at dksX10_cut_0 0 rfl rfl)
theorem dX10_cut_1 : decode cX10_cut 1 = .ok (.iload_n 1, 1) := dk_27 (dk_at dksX10_cut_0 1 rfl rfl)
theorem dX10_cut_2 : decode cX10_cut 2 = .ok (.invokevirtual 216, 3) := dk_182 0 216 (dk_at dksX10_cut_0 2 rfl rfl)
theorem dX10_cut_5 : decode cX10_cut 5 = .ok (.ifCond .eq 11, 3) := dk_153 0 11 (dk_at dksX10_cut_0 5 rfl rfl)
theorem dX10_cut_8 : decode cX10_cut 8 = .ok (.aload_n 0, 1) := dk_42 (dk_at dksX10_cut_0 8 rfl rfl)
theorem dX10_cut_9 : decode cX10_cut 9 = .ok (.iload_n 2, 1) := dk_28 (dk_at dksX10_cut_0 9 rfl rfl)
theorem dX10_cut_10 : decode cX10_cut 10 = .ok (.invokevirtual 216, 3) := dk_182 0 216 (dk_at dksX10_cut_0 10 rfl rfl)
theorem dX10_cut_13 : decode cX10_cut 13 = .ok (.ifCond .ne 9, 3) := dk_154 0 9 (dk_at dksX10_cut_0 13 rfl rfl)
theorem dX10_cut_16 : decode cX10_cut 16 = .ok (.aload_n 0, 1) := dk_42 (dk_at dksX10_cut_0 16 rfl rfl)
theorem dX10_cut_17 : decode cX10_cut 17 = .ok (.iconst 1, 1) := dk_4 (dk_at dksX10_cut_0 17 rfl rfl)
theorem dX10_cut_18 : decode cX10_cut 18 = .ok (.invokevirtual 204, 3) := dk_182 0 204 (dk_at dksX10_cut_0 18 rfl rfl)
theorem dX10_cut_21 : decode cX10_cut 21 = .ok (.ireturn, 1) := dk_172 (dk_at dksX10_cut_0 21 rfl rfl)
theorem dX10_cut_22 : decode cX10_cut 22 = .ok (.aload_n 0, 1) := dk_42 (dk_at dksX10_cut_0 22 rfl rfl)
theorem dX10_cut_23 : decode cX10_cut 23 = .ok (.getfield 13, 3) := dk_180 0 13 (dk_at dksX10_cut_1 0 rfl rfl)
theorem dX10_cut_26 : decode cX10_cut 26 = .ok (.bipush 13, 2) := dk_16 13 (dk_at dksX10_cut_1 3 rfl rfl)
theorem dX10_cut_28 : decode cX10_cut 28 = .ok (.iload_n 1, 1) := dk_27 (dk_at dksX10_cut_1 5 rfl rfl)
theorem dX10_cut_29 : decode cX10_cut 29 = .ok (.iadd, 1) := dk_96 (dk_at dksX10_cut_1 6 rfl rfl)
theorem dX10_cut_30 : decode cX10_cut 30 = .ok (.iaload, 1) := dk_46 (dk_at dksX10_cut_1 7 rfl rfl)
theorem dX10_cut_31 : decode cX10_cut 31 = .ok (.iload_n 2, 1) := dk_28 (dk_at dksX10_cut_1 8 rfl rfl)
theorem dX10_cut_32 : decode cX10_cut 32 = .ok (.invokestatic 96, 3) := dk_184 0 96 (dk_at dksX10_cut_1 9 rfl rfl)
theorem dX10_cut_35 : decode cX10_cut 35 = .ok (.ifCond .ne 9, 3) := dk_154 0 9 (dk_at dksX10_cut_1 12 rfl rfl)
theorem dX10_cut_38 : decode cX10_cut 38 = .ok (.aload_n 0, 1) := dk_42 (dk_at dksX10_cut_1 15 rfl rfl)
theorem dX10_cut_39 : decode cX10_cut 39 = .ok (.iconst 2, 1) := dk_5 (dk_at dksX10_cut_1 16 rfl rfl)
theorem dX10_cut_40 : decode cX10_cut 40 = .ok (.invokevirtual 204, 3) := dk_182 0 204 (dk_at dksX10_cut_1 17 rfl rfl)
theorem dX10_cut_43 : decode cX10_cut 43 = .ok (.ireturn, 1) := dk_172 (dk_at dksX10_cut_1 20 rfl rfl)
theorem dX10_cut_44 : decode cX10_cut 44 = .ok (.aload_n 0, 1) := dk_42 (dk_at dksX10_cut_1 21 rfl rfl)
theorem dX10_cut_45 : decode cX10_cut 45 = .ok (.invokevirtual 213, 3) := dk_182 0 213 (dk_at dksX10_cut_2 0 rfl rfl)
theorem dX10_cut_48 : decode cX10_cut 48 = .ok (.aload_n 0, 1) := dk_42 (dk_at dksX10_cut_2 3 rfl rfl)
theorem dX10_cut_49 : decode cX10_cut 49 = .ok (.getfield 13, 3) := dk_180 0 13 (dk_at dksX10_cut_2 4 rfl rfl)
theorem dX10_cut_52 : decode cX10_cut 52 = .ok (.iload_n 1, 1) := dk_27 (dk_at dksX10_cut_2 7 rfl rfl)
theorem dX10_cut_53 : decode cX10_cut 53 = .ok (.iload_n 2, 1) := dk_28 (dk_at dksX10_cut_2 8 rfl rfl)
theorem dX10_cut_54 : decode cX10_cut 54 = .ok (.invokestatic 162, 3) := dk_184 0 162 (dk_at dksX10_cut_2 9 rfl rfl)
theorem dX10_cut_57 : decode cX10_cut 57 = .ok (.aload_n 0, 1) := dk_42 (dk_at dksX10_cut_2 12 rfl rfl)
theorem dX10_cut_58 : decode cX10_cut 58 = .ok (.getfield 13, 3) := dk_180 0 13 (dk_at dksX10_cut_2 13 rfl rfl)
theorem dX10_cut_61 : decode cX10_cut 61 = .ok (.invokestatic 219, 3) := dk_184 0 219 (dk_at dksX10_cut_2 16 rfl rfl)
theorem dX10_cut_64 : decode cX10_cut 64 = .ok (.ireturn, 1) := dk_172 (dk_at dksX10_cut_2 19 rfl rfl)
abbrev cX10_take : ByteArray := prog_26_method_41_code
def yX10_take : MethodName := ⟨RX10, "take", "(I)I"⟩
def dkwX10_take_1 : List UInt8 := [96, 46, 61, 42, 180, 0, 13, 27, 184, 0, 154, 28, 172]
abbrev dktX10_take_1 : List UInt8 := dkwX10_take_1 ++ []
def dkwX10_take_0 : List UInt8 := [42, 27, 182, 0, 216, 154, 0, 9, 42, 4, 182, 0, 204, 172, 42, 182, 0, 213, 42, 180, 0, 13, 4, 27]
abbrev dktX10_take_0 : List UInt8 := dkwX10_take_0 ++ dktX10_take_1
theorem dksX10_take_0 : cX10_take.data.toList.drop 0 = dktX10_take_0 := by decide +kernel
theorem dksX10_take_1 : cX10_take.data.toList.drop 24 = dktX10_take_1 := dk_seg dksX10_take_0 24 rfl rfl
theorem dX10_take_0 : decode cX10_take 0 = .ok (.aload_n 0, 1) := dk_42 (dk_at dksX10_take_0 0 rfl rfl)
theorem dX10_take_1 : decode cX10_take 1 = .ok (.iload_n 1, 1) := dk_27 (dk_at dksX10_take_0 1 rfl rfl)
theorem dX10_take_2 : decode cX10_take 2 = .ok (.invokevirtual 216, 3) := dk_182 0 216 (dk_at dksX10_take_0 2 rfl rfl)
theorem dX10_take_5 : decode cX10_take 5 = .ok (.ifCond .ne 9, 3) := dk_154 0 9 (dk_at dksX10_take_0 5 rfl rfl)
theorem dX10_take_8 : decode cX10_take 8 = .ok (.aload_n 0, 1) := dk_42 (dk_at dksX10_take_0 8 rfl rfl)
theorem dX10_take_9 : decode cX10_take 9 = .ok (.iconst 1, 1) := dk_4 (dk_at dksX10_take_0 9 rfl rfl)
theorem dX10_take_10 : decode cX10_take 10 = .ok (.invokevirtual 204, 3) := dk_182 0 204 (dk_at dksX10_take_0 10 rfl rfl)
theorem dX10_take_13 : decode cX10_take 13 = .ok (.ireturn, 1) := dk_172 (dk_at dksX10_take_0 13 rfl rfl)
theorem dX10_take_14 : decode cX10_take 14 = .ok (.aload_n 0, 1) := dk_42 (dk_at dksX10_take_0 14 rfl rfl)
theorem dX10_take_15 : decode cX10_take 15 = .ok (.invokevirtual 213, 3) := dk_182 0 213 (dk_at dksX10_take_0 15 rfl rfl)
theorem dX10_take_18 : decode cX10_take 18 = .ok (.aload_n 0, 1) := dk_42 (dk_at dksX10_take_0 18 rfl rfl)
theorem dX10_take_19 : decode cX10_take 19 = .ok (.getfield 13, 3) := dk_180 0 13 (dk_at dksX10_take_0 19 rfl rfl)
theorem dX10_take_22 : decode cX10_take 22 = .ok (.iconst 1, 1) := dk_4 (dk_at dksX10_take_0 22 rfl rfl)
theorem dX10_take_23 : decode cX10_take 23 = .ok (.iload_n 1, 1) := dk_27 (dk_at dksX10_take_0 23 rfl rfl)
theorem dX10_take_24 : decode cX10_take 24 = .ok (.iadd, 1) := dk_96 (dk_at dksX10_take_1 0 rfl rfl)
theorem dX10_take_25 : decode cX10_take 25 = .ok (.iaload, 1) := dk_46 (dk_at dksX10_take_1 1 rfl rfl)
theorem dX10_take_26 : decode cX10_take 26 = .ok (.istore_n 2, 1) := dk_61 (dk_at dksX10_take_1 2 rfl rfl)
theorem dX10_take_27 : decode cX10_take 27 = .ok (.aload_n 0, 1) := dk_42 (dk_at dksX10_take_1 3 rfl rfl)
theorem dX10_take_28 : decode cX10_take 28 = .ok (.getfield 13, 3) := dk_180 0 13 (dk_at dksX10_take_1 4 rfl rfl)
theorem dX10_take_31 : decode cX10_take 31 = .ok (.iload_n 1, 1) := dk_27 (dk_at dksX10_take_1 7 rfl rfl)
theorem dX10_take_32 : decode cX10_take 32 = .ok (.invokestatic 154, 3) := dk_184 0 154 (dk_at dksX10_take_1 8 rfl rfl)
theorem dX10_take_35 : decode cX10_take 35 = .ok (.iload_n 2, 1) := dk_28 (dk_at dksX10_take_1 11 rfl rfl)
theorem dX10_take_36 : decode cX10_take 36 = .ok (.ireturn, 1) := dk_172 (dk_at dksX10_take_1 12 rfl rfl)
abbrev cX10_at : ByteArray := prog_26_method_44_code
def yX10_at : MethodName := ⟨RX10, "at", "(II)I"⟩
def dkwX10_at_5 : List UInt8 := [42, 27, 182, 0, 228, 172]
abbrev dktX10_at_5 : List UInt8 := dkwX10_at_5 ++ []
def dkwX10_at_4 : List UInt8 := [180, 0, 13, 16, 13, 27, 96, 46, 172, 42, 180, 0, 13, 27, 184, 0, 118, 172, 42, 27, 182, 0, 225, 172]
abbrev dktX10_at_4 : List UInt8 := dkwX10_at_4 ++ dktX10_at_5
def dkwX10_at_3 : List UInt8 := [42, 180, 0, 13, 4, 27, 96, 46, 172, 42, 180, 0, 13, 16, 13, 27, 96, 46, 184, 0, 130, 172, 42]
abbrev dktX10_at_3 : List UInt8 := dkwX10_at_3 ++ dktX10_at_4
def dkwX10_at_2 : List UInt8 := [170, 0, 0, 0, 80, 0, 0, 0, 0, 0, 0, 0, 4, 0, 0, 0, 33, 0, 0, 0, 42, 0, 0, 0, 55, 0, 0, 0, 65, 0, 0, 0, 74]
abbrev dktX10_at_2 : List UInt8 := dkwX10_at_2 ++ dktX10_at_3
def dkwX10_at_1 : List UInt8 := [182, 0, 204, 172, 28]
abbrev dktX10_at_1 : List UInt8 := dkwX10_at_1 ++ dktX10_at_2
def dkwX10_at_0 : List UInt8 := [42, 27, 182, 0, 216, 153, 0, 15, 28, 133, 9, 20, 0, 223, 184, 0, 102, 154, 0, 9, 42, 4]
abbrev dktX10_at_0 : List UInt8 := dkwX10_at_0 ++ dktX10_at_1
theorem dksX10_at_0 : cX10_at.data.toList.drop 0 = dktX10_at_0 := by decide +kernel
theorem dksX10_at_1 : cX10_at.data.toList.drop 22 = dktX10_at_1 := dk_seg dksX10_at_0 22 rfl rfl
theorem dksX10_at_2 : cX10_at.data.toList.drop 27 = dktX10_at_2 := dk_seg dksX10_at_1 5 rfl rfl
theorem dksX10_at_3 : cX10_at.data.toList.drop 60 = dktX10_at_3 := dk_seg dksX10_at_2 33 rfl rfl
theorem dksX10_at_4 : cX10_at.data.toList.drop 83 = dktX10_at_4 := dk_seg dksX10_at_3 23 rfl rfl
theorem dksX10_at_5 : cX10_at.data.toList.drop 107 = dktX10_at_5 := dk_seg dksX10_at_4 24 rfl rfl
theorem dX10_at_0 : decode cX10_at 0 = .ok (.aload_n 0, 1) := dk_42 (dk_at dksX10_at_0 0 rfl rfl)
theorem dX10_at_1 : decode cX10_at 1 = .ok (.iload_n 1, 1) := dk_27 (dk_at dksX10_at_0 1 rfl rfl)
theorem dX10_at_2 : decode cX10_at 2 = .ok (.invokevirtual 216, 3) := dk_182 0 216 (dk_at dksX10_at_0 2 rfl rfl)
theorem dX10_at_5 : decode cX10_at 5 = .ok (.ifCond .eq 15, 3) := dk_153 0 15 (dk_at dksX10_at_0 5 rfl rfl)
theorem dX10_at_8 : decode cX10_at 8 = .ok (.iload_n 2, 1) := dk_28 (dk_at dksX10_at_0 8 rfl rfl)
theorem dX10_at_9 : decode cX10_at 9 = .ok (.i2l, 1) := dk_133 (dk_at dksX10_at_0 9 rfl rfl)
theorem dX10_at_10 : decode cX10_at 10 = .ok (.lconst 0, 1) := dk_9 (dk_at dksX10_at_0 10 rfl rfl)
theorem dX10_at_11 : decode cX10_at 11 = .ok (.ldc2_w 223, 3) := dk_20 0 223 (dk_at dksX10_at_0 11 rfl rfl)
theorem dX10_at_14 : decode cX10_at 14 = .ok (.invokestatic 102, 3) := dk_184 0 102 (dk_at dksX10_at_0 14 rfl rfl)
theorem dX10_at_17 : decode cX10_at 17 = .ok (.ifCond .ne 9, 3) := dk_154 0 9 (dk_at dksX10_at_0 17 rfl rfl)
theorem dX10_at_20 : decode cX10_at 20 = .ok (.aload_n 0, 1) := dk_42 (dk_at dksX10_at_0 20 rfl rfl)
theorem dX10_at_21 : decode cX10_at 21 = .ok (.iconst 1, 1) := dk_4 (dk_at dksX10_at_0 21 rfl rfl)
theorem dX10_at_22 : decode cX10_at 22 = .ok (.invokevirtual 204, 3) := dk_182 0 204 (dk_at dksX10_at_1 0 rfl rfl)
theorem dX10_at_25 : decode cX10_at 25 = .ok (.ireturn, 1) := dk_172 (dk_at dksX10_at_1 3 rfl rfl)
theorem dX10_at_26 : decode cX10_at 26 = .ok (.iload_n 2, 1) := dk_28 (dk_at dksX10_at_1 4 rfl rfl)
theorem dX10_at_27 : decode cX10_at 27 = .ok (.tableswitch 80 0 4 #[33, 42, 55, 65, 74], 33) := by decide +kernel
theorem dX10_at_60 : decode cX10_at 60 = .ok (.aload_n 0, 1) := dk_42 (dk_at dksX10_at_3 0 rfl rfl)
theorem dX10_at_61 : decode cX10_at 61 = .ok (.getfield 13, 3) := dk_180 0 13 (dk_at dksX10_at_3 1 rfl rfl)
theorem dX10_at_64 : decode cX10_at 64 = .ok (.iconst 1, 1) := dk_4 (dk_at dksX10_at_3 4 rfl rfl)
theorem dX10_at_65 : decode cX10_at 65 = .ok (.iload_n 1, 1) := dk_27 (dk_at dksX10_at_3 5 rfl rfl)
theorem dX10_at_66 : decode cX10_at 66 = .ok (.iadd, 1) := dk_96 (dk_at dksX10_at_3 6 rfl rfl)
theorem dX10_at_67 : decode cX10_at 67 = .ok (.iaload, 1) := dk_46 (dk_at dksX10_at_3 7 rfl rfl)
theorem dX10_at_68 : decode cX10_at 68 = .ok (.ireturn, 1) := dk_172 (dk_at dksX10_at_3 8 rfl rfl)
theorem dX10_at_69 : decode cX10_at 69 = .ok (.aload_n 0, 1) := dk_42 (dk_at dksX10_at_3 9 rfl rfl)
theorem dX10_at_70 : decode cX10_at 70 = .ok (.getfield 13, 3) := dk_180 0 13 (dk_at dksX10_at_3 10 rfl rfl)
theorem dX10_at_73 : decode cX10_at 73 = .ok (.bipush 13, 2) := dk_16 13 (dk_at dksX10_at_3 13 rfl rfl)
theorem dX10_at_75 : decode cX10_at 75 = .ok (.iload_n 1, 1) := dk_27 (dk_at dksX10_at_3 15 rfl rfl)
theorem dX10_at_76 : decode cX10_at 76 = .ok (.iadd, 1) := dk_96 (dk_at dksX10_at_3 16 rfl rfl)
theorem dX10_at_77 : decode cX10_at 77 = .ok (.iaload, 1) := dk_46 (dk_at dksX10_at_3 17 rfl rfl)
theorem dX10_at_78 : decode cX10_at 78 = .ok (.invokestatic 130, 3) := dk_184 0 130 (dk_at dksX10_at_3 18 rfl rfl)
theorem dX10_at_81 : decode cX10_at 81 = .ok (.ireturn, 1) := dk_172 (dk_at dksX10_at_3 21 rfl rfl)
theorem dX10_at_82 : decode cX10_at 82 = .ok (.aload_n 0, 1) := dk_42 (dk_at dksX10_at_3 22 rfl rfl)
theorem dX10_at_83 : decode cX10_at 83 = .ok (.getfield 13, 3) := dk_180 0 13 (dk_at dksX10_at_4 0 rfl rfl)
theorem dX10_at_86 : decode cX10_at 86 = .ok (.bipush 13, 2) := dk_16 13 (dk_at dksX10_at_4 3 rfl rfl)
theorem dX10_at_88 : decode cX10_at 88 = .ok (.iload_n 1, 1) := dk_27 (dk_at dksX10_at_4 5 rfl rfl)
theorem dX10_at_89 : decode cX10_at 89 = .ok (.iadd, 1) := dk_96 (dk_at dksX10_at_4 6 rfl rfl)
theorem dX10_at_90 : decode cX10_at 90 = .ok (.iaload, 1) := dk_46 (dk_at dksX10_at_4 7 rfl rfl)
theorem dX10_at_91 : decode cX10_at 91 = .ok (.ireturn, 1) := dk_172 (dk_at dksX10_at_4 8 rfl rfl)
theorem dX10_at_92 : decode cX10_at 92 = .ok (.aload_n 0, 1) := dk_42 (dk_at dksX10_at_4 9 rfl rfl)
theorem dX10_at_93 : decode cX10_at 93 = .ok (.getfield 13, 3) := dk_180 0 13 (dk_at dksX10_at_4 10 rfl rfl)
theorem dX10_at_96 : decode cX10_at 96 = .ok (.iload_n 1, 1) := dk_27 (dk_at dksX10_at_4 13 rfl rfl)
theorem dX10_at_97 : decode cX10_at 97 = .ok (.invokestatic 118, 3) := dk_184 0 118 (dk_at dksX10_at_4 14 rfl rfl)
theorem dX10_at_100 : decode cX10_at 100 = .ok (.ireturn, 1) := dk_172 (dk_at dksX10_at_4 17 rfl rfl)
theorem dX10_at_101 : decode cX10_at 101 = .ok (.aload_n 0, 1) := dk_42 (dk_at dksX10_at_4 18 rfl rfl)
theorem dX10_at_102 : decode cX10_at 102 = .ok (.iload_n 1, 1) := dk_27 (dk_at dksX10_at_4 19 rfl rfl)
theorem dX10_at_103 : decode cX10_at 103 = .ok (.invokevirtual 225, 3) := dk_182 0 225 (dk_at dksX10_at_4 20 rfl rfl)
theorem dX10_at_106 : decode cX10_at 106 = .ok (.ireturn, 1) := dk_172 (dk_at dksX10_at_4 23 rfl rfl)
theorem dX10_at_107 : decode cX10_at 107 = .ok (.aload_n 0, 1) := dk_42 (dk_at dksX10_at_5 0 rfl rfl)
theorem dX10_at_108 : decode cX10_at 108 = .ok (.iload_n 1, 1) := dk_27 (dk_at dksX10_at_5 1 rfl rfl)
theorem dX10_at_109 : decode cX10_at 109 = .ok (.invokevirtual 228, 3) := dk_182 0 228 (dk_at dksX10_at_5 2 rfl rfl)
theorem dX10_at_112 : decode cX10_at 112 = .ok (.ireturn, 1) := dk_172 (dk_at dksX10_at_5 5 rfl rfl)
abbrev cX10_possible : ByteArray := prog_26_method_42_code
def yX10_possible : MethodName := ⟨RX10, "possible", "(I)I"⟩
def dkwX10_possible_2 : List UInt8 := [184, 0, 200, 154, 0, 7, 8, 167, 0, 4, 2, 172]
abbrev dktX10_possible_2 : List UInt8 := dkwX10_possible_2 ++ []
def dkwX10_possible_1 : List UInt8 := [27, 3, 3, 3, 184, 0, 200, 154, 0, 7, 7, 167, 0, 23, 42, 180, 0, 13, 8, 27, 3, 3, 3]
abbrev dktX10_possible_1 : List UInt8 := dkwX10_possible_1 ++ dktX10_possible_2
def dkwX10_possible_0 : List UInt8 := [42, 180, 0, 13, 3, 27, 3, 3, 3, 184, 0, 200, 154, 0, 7, 3, 167, 0, 42, 42, 180, 0, 13, 7]
abbrev dktX10_possible_0 : List UInt8 := dkwX10_possible_0 ++ dktX10_possible_1
theorem dksX10_possible_0 : cX10_possible.data.toList.drop 0 = dktX10_possible_0 := by decide +kernel
theorem dksX10_possible_1 : cX10_possible.data.toList.drop 24 = dktX10_possible_1 := dk_seg dksX10_possible_0 24 rfl rfl
theorem dksX10_possible_2 : cX10_possible.data.toList.drop 47 = dktX10_possible_2 := dk_seg dksX10_possible_1 23 rfl rfl
theorem dX10_possible_0 : decode cX10_possible 0 = .ok (.aload_n 0, 1) := dk_42 (dk_at dksX10_possible_0 0 rfl rfl)
theorem dX10_possible_1 : decode cX10_possible 1 = .ok (.getfield 13, 3) := dk_180 0 13 (dk_at dksX10_possible_0 1 rfl rfl)
theorem dX10_possible_4 : decode cX10_possible 4 = .ok (.iconst 0, 1) := dk_3 (dk_at dksX10_possible_0 4 rfl rfl)
theorem dX10_possible_5 : decode cX10_possible 5 = .ok (.iload_n 1, 1) := dk_27 (dk_at dksX10_possible_0 5 rfl rfl)
theorem dX10_possible_6 : decode cX10_possible 6 = .ok (.iconst 0, 1) := dk_3 (dk_at dksX10_possible_0 6 rfl rfl)
theorem dX10_possible_7 : decode cX10_possible 7 = .ok (.iconst 0, 1) := dk_3 (dk_at dksX10_possible_0 7 rfl rfl)
theorem dX10_possible_8 : decode cX10_possible 8 = .ok (.iconst 0, 1) := dk_3 (dk_at dksX10_possible_0 8 rfl rfl)
theorem dX10_possible_9 : decode cX10_possible 9 = .ok (.invokestatic 200, 3) := dk_184 0 200 (dk_at dksX10_possible_0 9 rfl rfl)
theorem dX10_possible_12 : decode cX10_possible 12 = .ok (.ifCond .ne 7, 3) := dk_154 0 7 (dk_at dksX10_possible_0 12 rfl rfl)
theorem dX10_possible_15 : decode cX10_possible 15 = .ok (.iconst 0, 1) := dk_3 (dk_at dksX10_possible_0 15 rfl rfl)
theorem dX10_possible_16 : decode cX10_possible 16 = .ok (.goto 42, 3) := dk_167 0 42 (dk_at dksX10_possible_0 16 rfl rfl)
theorem dX10_possible_19 : decode cX10_possible 19 = .ok (.aload_n 0, 1) := dk_42 (dk_at dksX10_possible_0 19 rfl rfl)
theorem dX10_possible_20 : decode cX10_possible 20 = .ok (.getfield 13, 3) := dk_180 0 13 (dk_at dksX10_possible_0 20 rfl rfl)
theorem dX10_possible_23 : decode cX10_possible 23 = .ok (.iconst 4, 1) := dk_7 (dk_at dksX10_possible_0 23 rfl rfl)
theorem dX10_possible_24 : decode cX10_possible 24 = .ok (.iload_n 1, 1) := dk_27 (dk_at dksX10_possible_1 0 rfl rfl)
theorem dX10_possible_25 : decode cX10_possible 25 = .ok (.iconst 0, 1) := dk_3 (dk_at dksX10_possible_1 1 rfl rfl)
theorem dX10_possible_26 : decode cX10_possible 26 = .ok (.iconst 0, 1) := dk_3 (dk_at dksX10_possible_1 2 rfl rfl)
theorem dX10_possible_27 : decode cX10_possible 27 = .ok (.iconst 0, 1) := dk_3 (dk_at dksX10_possible_1 3 rfl rfl)
theorem dX10_possible_28 : decode cX10_possible 28 = .ok (.invokestatic 200, 3) := dk_184 0 200 (dk_at dksX10_possible_1 4 rfl rfl)
theorem dX10_possible_31 : decode cX10_possible 31 = .ok (.ifCond .ne 7, 3) := dk_154 0 7 (dk_at dksX10_possible_1 7 rfl rfl)
theorem dX10_possible_34 : decode cX10_possible 34 = .ok (.iconst 4, 1) := dk_7 (dk_at dksX10_possible_1 10 rfl rfl)
theorem dX10_possible_35 : decode cX10_possible 35 = .ok (.goto 23, 3) := dk_167 0 23 (dk_at dksX10_possible_1 11 rfl rfl)
theorem dX10_possible_38 : decode cX10_possible 38 = .ok (.aload_n 0, 1) := dk_42 (dk_at dksX10_possible_1 14 rfl rfl)
theorem dX10_possible_39 : decode cX10_possible 39 = .ok (.getfield 13, 3) := dk_180 0 13 (dk_at dksX10_possible_1 15 rfl rfl)
theorem dX10_possible_42 : decode cX10_possible 42 = .ok (.iconst 5, 1) := dk_8 (dk_at dksX10_possible_1 18 rfl rfl)
theorem dX10_possible_43 : decode cX10_possible 43 = .ok (.iload_n 1, 1) := dk_27 (dk_at dksX10_possible_1 19 rfl rfl)
theorem dX10_possible_44 : decode cX10_possible 44 = .ok (.iconst 0, 1) := dk_3 (dk_at dksX10_possible_1 20 rfl rfl)
theorem dX10_possible_45 : decode cX10_possible 45 = .ok (.iconst 0, 1) := dk_3 (dk_at dksX10_possible_1 21 rfl rfl)
theorem dX10_possible_46 : decode cX10_possible 46 = .ok (.iconst 0, 1) := dk_3 (dk_at dksX10_possible_1 22 rfl rfl)
theorem dX10_possible_47 : decode cX10_possible 47 = .ok (.invokestatic 200, 3) := dk_184 0 200 (dk_at dksX10_possible_2 0 rfl rfl)
theorem dX10_possible_50 : decode cX10_possible 50 = .ok (.ifCond .ne 7, 3) := dk_154 0 7 (dk_at dksX10_possible_2 3 rfl rfl)
theorem dX10_possible_53 : decode cX10_possible 53 = .ok (.iconst 5, 1) := dk_8 (dk_at dksX10_possible_2 6 rfl rfl)
theorem dX10_possible_54 : decode cX10_possible 54 = .ok (.goto 4, 3) := dk_167 0 4 (dk_at dksX10_possible_2 7 rfl rfl)
theorem dX10_possible_57 : decode cX10_possible 57 = .ok (.iconst (-1), 1) := dk_2 (dk_at dksX10_possible_2 10 rfl rfl)
theorem dX10_possible_58 : decode cX10_possible 58 = .ok (.ireturn, 1) := dk_172 (dk_at dksX10_possible_2 11 rfl rfl)
abbrev cX10_farthest : ByteArray := prog_26_method_43_code
def yX10_farthest : MethodName := ⟨RX10, "farthest", "(I)I"⟩
def dkwX10_farthest_3 : List UInt8 := [61, 167, 255, 194, 29, 172]
abbrev dktX10_farthest_3 : List UInt8 := dkwX10_farthest_3 ++ []
def dkwX10_farthest_2 : List UInt8 := [180, 0, 13, 16, 13, 21, 6, 96, 46, 167, 0, 4, 3, 128, 54, 5, 132, 6, 1, 167, 255, 218, 21, 5]
abbrev dktX10_farthest_2 : List UInt8 := dkwX10_farthest_2 ++ dktX10_farthest_3
def dkwX10_farthest_1 : List UInt8 := [3, 54, 6, 21, 6, 16, 12, 162, 0, 37, 21, 5, 28, 21, 6, 184, 0, 96, 153, 0, 16, 42]
abbrev dktX10_farthest_1 : List UInt8 := dkwX10_farthest_1 ++ dktX10_farthest_2
def dkwX10_farthest_0 : List UInt8 := [4, 27, 120, 61, 2, 62, 3, 54, 4, 21, 4, 28, 159, 0, 62, 28, 54, 4, 132, 3, 1, 28, 54, 5]
abbrev dktX10_farthest_0 : List UInt8 := dkwX10_farthest_0 ++ dktX10_farthest_1
theorem dksX10_farthest_0 : cX10_farthest.data.toList.drop 0 = dktX10_farthest_0 := by decide +kernel
theorem dksX10_farthest_1 : cX10_farthest.data.toList.drop 24 = dktX10_farthest_1 := dk_seg dksX10_farthest_0 24 rfl rfl
theorem dksX10_farthest_2 : cX10_farthest.data.toList.drop 46 = dktX10_farthest_2 := dk_seg dksX10_farthest_1 22 rfl rfl
theorem dksX10_farthest_3 : cX10_farthest.data.toList.drop 70 = dktX10_farthest_3 := dk_seg dksX10_farthest_2 24 rfl rfl
theorem dX10_farthest_0 : decode cX10_farthest 0 = .ok (.iconst 1, 1) := dk_4 (dk_at dksX10_farthest_0 0 rfl rfl)
theorem dX10_farthest_1 : decode cX10_farthest 1 = .ok (.iload_n 1, 1) := dk_27 (dk_at dksX10_farthest_0 1 rfl rfl)
theorem dX10_farthest_2 : decode cX10_farthest 2 = .ok (.ishl, 1) := dk_120 (dk_at dksX10_farthest_0 2 rfl rfl)
theorem dX10_farthest_3 : decode cX10_farthest 3 = .ok (.istore_n 2, 1) := dk_61 (dk_at dksX10_farthest_0 3 rfl rfl)
theorem dX10_farthest_4 : decode cX10_farthest 4 = .ok (.iconst (-1), 1) := dk_2 (dk_at dksX10_farthest_0 4 rfl rfl)
theorem dX10_farthest_5 : decode cX10_farthest 5 = .ok (.istore_n 3, 1) := dk_62 (dk_at dksX10_farthest_0 5 rfl rfl)
theorem dX10_farthest_6 : decode cX10_farthest 6 = .ok (.iconst 0, 1) := dk_3 (dk_at dksX10_farthest_0 6 rfl rfl)
theorem dX10_farthest_7 : decode cX10_farthest 7 = .ok (.istore 4, 2) := dk_54 4 (dk_at dksX10_farthest_0 7 rfl rfl)
theorem dX10_farthest_9 : decode cX10_farthest 9 = .ok (.iload 4, 2) := dk_21 4 (dk_at dksX10_farthest_0 9 rfl rfl)
theorem dX10_farthest_11 : decode cX10_farthest 11 = .ok (.iload_n 2, 1) := dk_28 (dk_at dksX10_farthest_0 11 rfl rfl)
theorem dX10_farthest_12 : decode cX10_farthest 12 = .ok (.if_icmp .eq 62, 3) := dk_159 0 62 (dk_at dksX10_farthest_0 12 rfl rfl)
theorem dX10_farthest_15 : decode cX10_farthest 15 = .ok (.iload_n 2, 1) := dk_28 (dk_at dksX10_farthest_0 15 rfl rfl)
theorem dX10_farthest_16 : decode cX10_farthest 16 = .ok (.istore 4, 2) := dk_54 4 (dk_at dksX10_farthest_0 16 rfl rfl)
theorem dX10_farthest_18 : decode cX10_farthest 18 = .ok (.iinc 3 1, 3) := dk_132 3 1 (dk_at dksX10_farthest_0 18 rfl rfl)
theorem dX10_farthest_21 : decode cX10_farthest 21 = .ok (.iload_n 2, 1) := dk_28 (dk_at dksX10_farthest_0 21 rfl rfl)
theorem dX10_farthest_22 : decode cX10_farthest 22 = .ok (.istore 5, 2) := dk_54 5 (dk_at dksX10_farthest_0 22 rfl rfl)
theorem dX10_farthest_24 : decode cX10_farthest 24 = .ok (.iconst 0, 1) := dk_3 (dk_at dksX10_farthest_1 0 rfl rfl)
theorem dX10_farthest_25 : decode cX10_farthest 25 = .ok (.istore 6, 2) := dk_54 6 (dk_at dksX10_farthest_1 1 rfl rfl)
theorem dX10_farthest_27 : decode cX10_farthest 27 = .ok (.iload 6, 2) := dk_21 6 (dk_at dksX10_farthest_1 3 rfl rfl)
theorem dX10_farthest_29 : decode cX10_farthest 29 = .ok (.bipush 12, 2) := dk_16 12 (dk_at dksX10_farthest_1 5 rfl rfl)
theorem dX10_farthest_31 : decode cX10_farthest 31 = .ok (.if_icmp .ge 37, 3) := dk_162 0 37 (dk_at dksX10_farthest_1 7 rfl rfl)
theorem dX10_farthest_34 : decode cX10_farthest 34 = .ok (.iload 5, 2) := dk_21 5 (dk_at dksX10_farthest_1 10 rfl rfl)
theorem dX10_farthest_36 : decode cX10_farthest 36 = .ok (.iload_n 2, 1) := dk_28 (dk_at dksX10_farthest_1 12 rfl rfl)
theorem dX10_farthest_37 : decode cX10_farthest 37 = .ok (.iload 6, 2) := dk_21 6 (dk_at dksX10_farthest_1 13 rfl rfl)
theorem dX10_farthest_39 : decode cX10_farthest 39 = .ok (.invokestatic 96, 3) := dk_184 0 96 (dk_at dksX10_farthest_1 15 rfl rfl)
theorem dX10_farthest_42 : decode cX10_farthest 42 = .ok (.ifCond .eq 16, 3) := dk_153 0 16 (dk_at dksX10_farthest_1 18 rfl rfl)
theorem dX10_farthest_45 : decode cX10_farthest 45 = .ok (.aload_n 0, 1) := dk_42 (dk_at dksX10_farthest_1 21 rfl rfl)
theorem dX10_farthest_46 : decode cX10_farthest 46 = .ok (.getfield 13, 3) := dk_180 0 13 (dk_at dksX10_farthest_2 0 rfl rfl)
theorem dX10_farthest_49 : decode cX10_farthest 49 = .ok (.bipush 13, 2) := dk_16 13 (dk_at dksX10_farthest_2 3 rfl rfl)
theorem dX10_farthest_51 : decode cX10_farthest 51 = .ok (.iload 6, 2) := dk_21 6 (dk_at dksX10_farthest_2 5 rfl rfl)
theorem dX10_farthest_53 : decode cX10_farthest 53 = .ok (.iadd, 1) := dk_96 (dk_at dksX10_farthest_2 7 rfl rfl)
theorem dX10_farthest_54 : decode cX10_farthest 54 = .ok (.iaload, 1) := dk_46 (dk_at dksX10_farthest_2 8 rfl rfl)
theorem dX10_farthest_55 : decode cX10_farthest 55 = .ok (.goto 4, 3) := dk_167 0 4 (dk_at dksX10_farthest_2 9 rfl rfl)
theorem dX10_farthest_58 : decode cX10_farthest 58 = .ok (.iconst 0, 1) := dk_3 (dk_at dksX10_farthest_2 12 rfl rfl)
theorem dX10_farthest_59 : decode cX10_farthest 59 = .ok (.ior, 1) := dk_128 (dk_at dksX10_farthest_2 13 rfl rfl)
theorem dX10_farthest_60 : decode cX10_farthest 60 = .ok (.istore 5, 2) := dk_54 5 (dk_at dksX10_farthest_2 14 rfl rfl)
theorem dX10_farthest_62 : decode cX10_farthest 62 = .ok (.iinc 6 1, 3) := dk_132 6 1 (dk_at dksX10_farthest_2 16 rfl rfl)
theorem dX10_farthest_65 : decode cX10_farthest 65 = .ok (.goto (-38), 3) := dk_167 255 218 (dk_at dksX10_farthest_2 19 rfl rfl)
theorem dX10_farthest_68 : decode cX10_farthest 68 = .ok (.iload 5, 2) := dk_21 5 (dk_at dksX10_farthest_2 22 rfl rfl)
theorem dX10_farthest_70 : decode cX10_farthest 70 = .ok (.istore_n 2, 1) := dk_61 (dk_at dksX10_farthest_3 0 rfl rfl)
theorem dX10_farthest_71 : decode cX10_farthest 71 = .ok (.goto (-62), 3) := dk_167 255 194 (dk_at dksX10_farthest_3 1 rfl rfl)
theorem dX10_farthest_74 : decode cX10_farthest 74 = .ok (.iload_n 3, 1) := dk_29 (dk_at dksX10_farthest_3 4 rfl rfl)
theorem dX10_farthest_75 : decode cX10_farthest 75 = .ok (.ireturn, 1) := dk_172 (dk_at dksX10_farthest_3 5 rfl rfl)
abbrev cX10_table : ByteArray := prog_26_method_46_code
def yX10_table : MethodName := ⟨RX10, "table", "(II)I"⟩
def dkwX10_table_1 : List UInt8 := [167, 0, 8, 42, 4, 182, 0, 204, 172]
abbrev dktX10_table_1 : List UInt8 := dkwX10_table_1 ++ []
def dkwX10_table_0 : List UInt8 := [42, 27, 182, 0, 216, 153, 0, 20, 42, 28, 182, 0, 216, 153, 0, 12, 42, 27, 28, 182, 0, 231]
abbrev dktX10_table_0 : List UInt8 := dkwX10_table_0 ++ dktX10_table_1
theorem dksX10_table_0 : cX10_table.data.toList.drop 0 = dktX10_table_0 := by decide +kernel
theorem dksX10_table_1 : cX10_table.data.toList.drop 22 = dktX10_table_1 := dk_seg dksX10_table_0 22 rfl rfl
theorem dX10_table_0 : decode cX10_table 0 = .ok (.aload_n 0, 1) := dk_42 (dk_at dksX10_table_0 0 rfl rfl)
theorem dX10_table_1 : decode cX10_table 1 = .ok (.iload_n 1, 1) := dk_27 (dk_at dksX10_table_0 1 rfl rfl)
theorem dX10_table_2 : decode cX10_table 2 = .ok (.invokevirtual 216, 3) := dk_182 0 216 (dk_at dksX10_table_0 2 rfl rfl)
theorem dX10_table_5 : decode cX10_table 5 = .ok (.ifCond .eq 20, 3) := dk_153 0 20 (dk_at dksX10_table_0 5 rfl rfl)
theorem dX10_table_8 : decode cX10_table 8 = .ok (.aload_n 0, 1) := dk_42 (dk_at dksX10_table_0 8 rfl rfl)
theorem dX10_table_9 : decode cX10_table 9 = .ok (.iload_n 2, 1) := dk_28 (dk_at dksX10_table_0 9 rfl rfl)
theorem dX10_table_10 : decode cX10_table 10 = .ok (.invokevirtual 216, 3) := dk_182 0 216 (dk_at dksX10_table_0 10 rfl rfl)
theorem dX10_table_13 : decode cX10_table 13 = .ok (.ifCond .eq 12, 3) := dk_153 0 12 (dk_at dksX10_table_0 13 rfl rfl)
theorem dX10_table_16 : decode cX10_table 16 = .ok (.aload_n 0, 1) := dk_42 (dk_at dksX10_table_0 16 rfl rfl)
theorem dX10_table_17 : decode cX10_table 17 = .ok (.iload_n 1, 1) := dk_27 (dk_at dksX10_table_0 17 rfl rfl)
theorem dX10_table_18 : decode cX10_table 18 = .ok (.iload_n 2, 1) := dk_28 (dk_at dksX10_table_0 18 rfl rfl)
theorem dX10_table_19 : decode cX10_table 19 = .ok (.invokevirtual 231, 3) := dk_182 0 231 (dk_at dksX10_table_0 19 rfl rfl)
theorem dX10_table_22 : decode cX10_table 22 = .ok (.goto 8, 3) := dk_167 0 8 (dk_at dksX10_table_1 0 rfl rfl)
theorem dX10_table_25 : decode cX10_table 25 = .ok (.aload_n 0, 1) := dk_42 (dk_at dksX10_table_1 3 rfl rfl)
theorem dX10_table_26 : decode cX10_table 26 = .ok (.iconst 1, 1) := dk_4 (dk_at dksX10_table_1 4 rfl rfl)
theorem dX10_table_27 : decode cX10_table 27 = .ok (.invokevirtual 204, 3) := dk_182 0 204 (dk_at dksX10_table_1 5 rfl rfl)
theorem dX10_table_30 : decode cX10_table 30 = .ok (.ireturn, 1) := dk_172 (dk_at dksX10_table_1 8 rfl rfl)
abbrev cX10_pair : ByteArray := prog_26_method_45_code
def yX10_pair : MethodName := ⟨RX10, "pair", "(II)I"⟩
def dkwX10_pair_1 : List UInt8 := [46, 28, 122, 4, 126, 172]
abbrev dktX10_pair_1 : List UInt8 := dkwX10_pair_1 ++ []
def dkwX10_pair_0 : List UInt8 := [27, 28, 160, 0, 14, 42, 180, 0, 13, 4, 27, 96, 46, 167, 0, 16, 42, 180, 0, 13, 16, 13, 27, 96]
abbrev dktX10_pair_0 : List UInt8 := dkwX10_pair_0 ++ dktX10_pair_1
theorem dksX10_pair_0 : cX10_pair.data.toList.drop 0 = dktX10_pair_0 := by decide +kernel
theorem dksX10_pair_1 : cX10_pair.data.toList.drop 24 = dktX10_pair_1 := dk_seg dksX10_pair_0 24 rfl rfl
theorem dX10_pair_0 : decode cX10_pair 0 = .ok (.iload_n 1, 1) := dk_27 (dk_at dksX10_pair_0 0 rfl rfl)
theorem dX10_pair_1 : decode cX10_pair 1 = .ok (.iload_n 2, 1) := dk_28 (dk_at dksX10_pair_0 1 rfl rfl)
theorem dX10_pair_2 : decode cX10_pair 2 = .ok (.if_icmp .ne 14, 3) := dk_160 0 14 (dk_at dksX10_pair_0 2 rfl rfl)
theorem dX10_pair_5 : decode cX10_pair 5 = .ok (.aload_n 0, 1) := dk_42 (dk_at dksX10_pair_0 5 rfl rfl)
theorem dX10_pair_6 : decode cX10_pair 6 = .ok (.getfield 13, 3) := dk_180 0 13 (dk_at dksX10_pair_0 6 rfl rfl)
theorem dX10_pair_9 : decode cX10_pair 9 = .ok (.iconst 1, 1) := dk_4 (dk_at dksX10_pair_0 9 rfl rfl)
theorem dX10_pair_10 : decode cX10_pair 10 = .ok (.iload_n 1, 1) := dk_27 (dk_at dksX10_pair_0 10 rfl rfl)
theorem dX10_pair_11 : decode cX10_pair 11 = .ok (.iadd, 1) := dk_96 (dk_at dksX10_pair_0 11 rfl rfl)
theorem dX10_pair_12 : decode cX10_pair 12 = .ok (.iaload, 1) := dk_46 (dk_at dksX10_pair_0 12 rfl rfl)
theorem dX10_pair_13 : decode cX10_pair 13 = .ok (.goto 16, 3) := dk_167 0 16 (dk_at dksX10_pair_0 13 rfl rfl)
theorem dX10_pair_16 : decode cX10_pair 16 = .ok (.aload_n 0, 1) := dk_42 (dk_at dksX10_pair_0 16 rfl rfl)
theorem dX10_pair_17 : decode cX10_pair 17 = .ok (.getfield 13, 3) := dk_180 0 13 (dk_at dksX10_pair_0 17 rfl rfl)
theorem dX10_pair_20 : decode cX10_pair 20 = .ok (.bipush 13, 2) := dk_16 13 (dk_at dksX10_pair_0 20 rfl rfl)
theorem dX10_pair_22 : decode cX10_pair 22 = .ok (.iload_n 1, 1) := dk_27 (dk_at dksX10_pair_0 22 rfl rfl)
theorem dX10_pair_23 : decode cX10_pair 23 = .ok (.iadd, 1) := dk_96 (dk_at dksX10_pair_0 23 rfl rfl)
theorem dX10_pair_24 : decode cX10_pair 24 = .ok (.iaload, 1) := dk_46 (dk_at dksX10_pair_1 0 rfl rfl)
theorem dX10_pair_25 : decode cX10_pair 25 = .ok (.iload_n 2, 1) := dk_28 (dk_at dksX10_pair_1 1 rfl rfl)
theorem dX10_pair_26 : decode cX10_pair 26 = .ok (.ishr, 1) := dk_122 (dk_at dksX10_pair_1 2 rfl rfl)
theorem dX10_pair_27 : decode cX10_pair 27 = .ok (.iconst 1, 1) := dk_4 (dk_at dksX10_pair_1 3 rfl rfl)
theorem dX10_pair_28 : decode cX10_pair 28 = .ok (.iand, 1) := dk_126 (dk_at dksX10_pair_1 4 rfl rfl)
theorem dX10_pair_29 : decode cX10_pair 29 = .ok (.ireturn, 1) := dk_172 (dk_at dksX10_pair_1 5 rfl rfl)
abbrev cX10_minor : ByteArray := prog_26_method_50_code
def yX10_minor : MethodName := ⟨RX10, "minor", "(I)I"⟩
def dkwX10_minor_1 : List UInt8 := [154, 0, 15, 42, 42, 27, 182, 0, 244, 182, 0, 248, 167, 0, 8, 42, 4, 182, 0, 204, 172]
abbrev dktX10_minor_1 : List UInt8 := dkwX10_minor_1 ++ []
def dkwX10_minor_0 : List UInt8 := [27, 133, 9, 20, 0, 242, 184, 0, 102, 153, 0, 28, 27, 42, 180, 0, 13, 3, 46, 2, 130, 126]
abbrev dktX10_minor_0 : List UInt8 := dkwX10_minor_0 ++ dktX10_minor_1
theorem dksX10_minor_0 : cX10_minor.data.toList.drop 0 = dktX10_minor_0 := by decide +kernel
theorem dksX10_minor_1 : cX10_minor.data.toList.drop 22 = dktX10_minor_1 := dk_seg dksX10_minor_0 22 rfl rfl
theorem dX10_minor_0 : decode cX10_minor 0 = .ok (.iload_n 1, 1) := dk_27 (dk_at dksX10_minor_0 0 rfl rfl)
theorem dX10_minor_1 : decode cX10_minor 1 = .ok (.i2l, 1) := dk_133 (dk_at dksX10_minor_0 1 rfl rfl)
theorem dX10_minor_2 : decode cX10_minor 2 = .ok (.lconst 0, 1) := dk_9 (dk_at dksX10_minor_0 2 rfl rfl)
theorem dX10_minor_3 : decode cX10_minor 3 = .ok (.ldc2_w 242, 3) := dk_20 0 242 (dk_at dksX10_minor_0 3 rfl rfl)
theorem dX10_minor_6 : decode cX10_minor 6 = .ok (.invokestatic 102, 3) := dk_184 0 102 (dk_at dksX10_minor_0 6 rfl rfl)
theorem dX10_minor_9 : decode cX10_minor 9 = .ok (.ifCond .eq 28, 3) := dk_153 0 28 (dk_at dksX10_minor_0 9 rfl rfl)
theorem dX10_minor_12 : decode cX10_minor 12 = .ok (.iload_n 1, 1) := dk_27 (dk_at dksX10_minor_0 12 rfl rfl)
theorem dX10_minor_13 : decode cX10_minor 13 = .ok (.aload_n 0, 1) := dk_42 (dk_at dksX10_minor_0 13 rfl rfl)
theorem dX10_minor_14 : decode cX10_minor 14 = .ok (.getfield 13, 3) := dk_180 0 13 (dk_at dksX10_minor_0 14 rfl rfl)
theorem dX10_minor_17 : decode cX10_minor 17 = .ok (.iconst 0, 1) := dk_3 (dk_at dksX10_minor_0 17 rfl rfl)
theorem dX10_minor_18 : decode cX10_minor 18 = .ok (.iaload, 1) := dk_46 (dk_at dksX10_minor_0 18 rfl rfl)
theorem dX10_minor_19 : decode cX10_minor 19 = .ok (.iconst (-1), 1) := dk_2 (dk_at dksX10_minor_0 19 rfl rfl)
theorem dX10_minor_20 : decode cX10_minor 20 = .ok (.ixor, 1) := dk_130 (dk_at dksX10_minor_0 20 rfl rfl)
theorem dX10_minor_21 : decode cX10_minor 21 = .ok (.iand, 1) := dk_126 (dk_at dksX10_minor_0 21 rfl rfl)
theorem dX10_minor_22 : decode cX10_minor 22 = .ok (.ifCond .ne 15, 3) := dk_154 0 15 (dk_at dksX10_minor_1 0 rfl rfl)
theorem dX10_minor_25 : decode cX10_minor 25 = .ok (.aload_n 0, 1) := dk_42 (dk_at dksX10_minor_1 3 rfl rfl)
theorem dX10_minor_26 : decode cX10_minor 26 = .ok (.aload_n 0, 1) := dk_42 (dk_at dksX10_minor_1 4 rfl rfl)
theorem dX10_minor_27 : decode cX10_minor 27 = .ok (.iload_n 1, 1) := dk_27 (dk_at dksX10_minor_1 5 rfl rfl)
theorem dX10_minor_28 : decode cX10_minor 28 = .ok (.invokevirtual 244, 3) := dk_182 0 244 (dk_at dksX10_minor_1 6 rfl rfl)
theorem dX10_minor_31 : decode cX10_minor 31 = .ok (.invokevirtual 248, 3) := dk_182 0 248 (dk_at dksX10_minor_1 9 rfl rfl)
theorem dX10_minor_34 : decode cX10_minor 34 = .ok (.goto 8, 3) := dk_167 0 8 (dk_at dksX10_minor_1 12 rfl rfl)
theorem dX10_minor_37 : decode cX10_minor 37 = .ok (.aload_n 0, 1) := dk_42 (dk_at dksX10_minor_1 15 rfl rfl)
theorem dX10_minor_38 : decode cX10_minor 38 = .ok (.iconst 1, 1) := dk_4 (dk_at dksX10_minor_1 16 rfl rfl)
theorem dX10_minor_39 : decode cX10_minor 39 = .ok (.invokevirtual 204, 3) := dk_182 0 204 (dk_at dksX10_minor_1 17 rfl rfl)
theorem dX10_minor_42 : decode cX10_minor 42 = .ok (.ireturn, 1) := dk_172 (dk_at dksX10_minor_1 20 rfl rfl)
abbrev cX10_minorOf : ByteArray := prog_26_method_48_code
def yX10_minorOf : MethodName := ⟨RX10, "minorOf", "(I)J"⟩
def dkwX10_minorOf_0 : List UInt8 := [42, 182, 0, 235, 42, 180, 0, 24, 27, 47, 173]
abbrev dktX10_minorOf_0 : List UInt8 := dkwX10_minorOf_0 ++ []
theorem dksX10_minorOf_0 : cX10_minorOf.data.toList.drop 0 = dktX10_minorOf_0 := by decide +kernel
theorem dX10_minorOf_0 : decode cX10_minorOf 0 = .ok (.aload_n 0, 1) := dk_42 (dk_at dksX10_minorOf_0 0 rfl rfl)
theorem dX10_minorOf_1 : decode cX10_minorOf 1 = .ok (.invokevirtual 235, 3) := dk_182 0 235 (dk_at dksX10_minorOf_0 1 rfl rfl)
theorem dX10_minorOf_4 : decode cX10_minorOf 4 = .ok (.aload_n 0, 1) := dk_42 (dk_at dksX10_minorOf_0 4 rfl rfl)
theorem dX10_minorOf_5 : decode cX10_minorOf 5 = .ok (.getfield 24, 3) := dk_180 0 24 (dk_at dksX10_minorOf_0 5 rfl rfl)
theorem dX10_minorOf_8 : decode cX10_minorOf 8 = .ok (.iload_n 1, 1) := dk_27 (dk_at dksX10_minorOf_0 8 rfl rfl)
theorem dX10_minorOf_9 : decode cX10_minorOf 9 = .ok (.laload, 1) := dk_47 (dk_at dksX10_minorOf_0 9 rfl rfl)
theorem dX10_minorOf_10 : decode cX10_minorOf 10 = .ok (.lreturn, 1) := dk_173 (dk_at dksX10_minorOf_0 10 rfl rfl)
abbrev cX10_layMinors : ByteArray := prog_26_method_47_code
def yX10_layMinors : MethodName := ⟨RX10, "layMinors", "()V"⟩
def dkwX10_layMinors_5 : List UInt8 := [132, 6, 1, 167, 255, 205, 42, 180, 0, 24, 27, 22, 4, 80, 132, 1, 1, 167, 255, 132, 177]
abbrev dktX10_layMinors_5 : List UInt8 := dkwX10_layMinors_5 ++ []
def dkwX10_layMinors_4 : List UInt8 := [153, 0, 19, 42, 180, 0, 24, 29, 4, 21, 6, 120, 2, 130, 126, 47, 167, 0, 4, 9, 101, 55, 4]
abbrev dktX10_layMinors_4 : List UInt8 := dkwX10_layMinors_4 ++ dktX10_layMinors_5
def dkwX10_layMinors_3 : List UInt8 := [16, 12, 162, 0, 50, 22, 4, 29, 42, 180, 0, 13, 16, 13, 28, 96, 46, 126, 21, 6, 184, 0, 96]
abbrev dktX10_layMinors_3 : List UInt8 := dkwX10_layMinors_3 ++ dktX10_layMinors_4
def dkwX10_layMinors_2 : List UInt8 := [180, 0, 13, 4, 28, 96, 46, 133, 42, 180, 0, 24, 29, 47, 105, 55, 4, 28, 4, 96, 54, 6, 21, 6]
abbrev dktX10_layMinors_2 : List UInt8 := dkwX10_layMinors_2 ++ dktX10_layMinors_3
def dkwX10_layMinors_1 : List UInt8 := [130, 126, 153, 0, 6, 167, 0, 101, 27, 184, 0, 114, 61, 27, 4, 28, 120, 2, 130, 126, 62, 42]
abbrev dktX10_layMinors_1 : List UInt8 := dkwX10_layMinors_1 ++ dktX10_layMinors_2
def dkwX10_layMinors_0 : List UInt8 := [42, 180, 0, 24, 3, 10, 80, 4, 60, 27, 17, 16, 0, 162, 0, 123, 27, 42, 180, 0, 13, 3, 46, 2]
abbrev dktX10_layMinors_0 : List UInt8 := dkwX10_layMinors_0 ++ dktX10_layMinors_1
theorem dksX10_layMinors_0 : cX10_layMinors.data.toList.drop 0 = dktX10_layMinors_0 := by decide +kernel
theorem dksX10_layMinors_1 : cX10_layMinors.data.toList.drop 24 = dktX10_layMinors_1 := dk_seg dksX10_layMinors_0 24 rfl rfl
theorem dksX10_layMinors_2 : cX10_layMinors.data.toList.drop 46 = dktX10_layMinors_2 := dk_seg dksX10_layMinors_1 22 rfl rfl
theorem dksX10_layMinors_3 : cX10_layMinors.data.toList.drop 70 = dktX10_layMinors_3 := dk_seg dksX10_layMinors_2 24 rfl rfl
theorem dksX10_layMinors_4 : cX10_layMinors.data.toList.drop 93 = dktX10_layMinors_4 := dk_seg dksX10_layMinors_3 23 rfl rfl
theorem dksX10_layMinors_5 : cX10_layMinors.data.toList.drop 116 = dktX10_layMinors_5 := dk_seg dksX10_layMinors_4 23 rfl rfl
theorem dX10_layMinors_0 : decode cX10_layMinors 0 = .ok (.aload_n 0, 1) := dk_42 (dk_at dksX10_layMinors_0 0 rfl rfl)
theorem dX10_layMinors_1 : decode cX10_layMinors 1 = .ok (.getfield 24, 3) := dk_180 0 24 (dk_at dksX10_layMinors_0 1 rfl rfl)
theorem dX10_layMinors_4 : decode cX10_layMinors 4 = .ok (.iconst 0, 1) := dk_3 (dk_at dksX10_layMinors_0 4 rfl rfl)
theorem dX10_layMinors_5 : decode cX10_layMinors 5 = .ok (.lconst 1, 1) := dk_10 (dk_at dksX10_layMinors_0 5 rfl rfl)
theorem dX10_layMinors_6 : decode cX10_layMinors 6 = .ok (.lastore, 1) := dk_80 (dk_at dksX10_layMinors_0 6 rfl rfl)
theorem dX10_layMinors_7 : decode cX10_layMinors 7 = .ok (.iconst 1, 1) := dk_4 (dk_at dksX10_layMinors_0 7 rfl rfl)
theorem dX10_layMinors_8 : decode cX10_layMinors 8 = .ok (.istore_n 1, 1) := dk_60 (dk_at dksX10_layMinors_0 8 rfl rfl)
theorem dX10_layMinors_9 : decode cX10_layMinors 9 = .ok (.iload_n 1, 1) := dk_27 (dk_at dksX10_layMinors_0 9 rfl rfl)
theorem dX10_layMinors_10 : decode cX10_layMinors 10 = .ok (.sipush 4096, 3) := dk_17 16 0 (dk_at dksX10_layMinors_0 10 rfl rfl)
theorem dX10_layMinors_13 : decode cX10_layMinors 13 = .ok (.if_icmp .ge 123, 3) := dk_162 0 123 (dk_at dksX10_layMinors_0 13 rfl rfl)
theorem dX10_layMinors_16 : decode cX10_layMinors 16 = .ok (.iload_n 1, 1) := dk_27 (dk_at dksX10_layMinors_0 16 rfl rfl)
theorem dX10_layMinors_17 : decode cX10_layMinors 17 = .ok (.aload_n 0, 1) := dk_42 (dk_at dksX10_layMinors_0 17 rfl rfl)
theorem dX10_layMinors_18 : decode cX10_layMinors 18 = .ok (.getfield 13, 3) := dk_180 0 13 (dk_at dksX10_layMinors_0 18 rfl rfl)
theorem dX10_layMinors_21 : decode cX10_layMinors 21 = .ok (.iconst 0, 1) := dk_3 (dk_at dksX10_layMinors_0 21 rfl rfl)
theorem dX10_layMinors_22 : decode cX10_layMinors 22 = .ok (.iaload, 1) := dk_46 (dk_at dksX10_layMinors_0 22 rfl rfl)
theorem dX10_layMinors_23 : decode cX10_layMinors 23 = .ok (.iconst (-1), 1) := dk_2 (dk_at dksX10_layMinors_0 23 rfl rfl)
theorem dX10_layMinors_24 : decode cX10_layMinors 24 = .ok (.ixor, 1) := dk_130 (dk_at dksX10_layMinors_1 0 rfl rfl)
theorem dX10_layMinors_25 : decode cX10_layMinors 25 = .ok (.iand, 1) := dk_126 (dk_at dksX10_layMinors_1 1 rfl rfl)
theorem dX10_layMinors_26 : decode cX10_layMinors 26 = .ok (.ifCond .eq 6, 3) := dk_153 0 6 (dk_at dksX10_layMinors_1 2 rfl rfl)
theorem dX10_layMinors_29 : decode cX10_layMinors 29 = .ok (.goto 101, 3) := dk_167 0 101 (dk_at dksX10_layMinors_1 5 rfl rfl)
theorem dX10_layMinors_32 : decode cX10_layMinors 32 = .ok (.iload_n 1, 1) := dk_27 (dk_at dksX10_layMinors_1 8 rfl rfl)
theorem dX10_layMinors_33 : decode cX10_layMinors 33 = .ok (.invokestatic 114, 3) := dk_184 0 114 (dk_at dksX10_layMinors_1 9 rfl rfl)
theorem dX10_layMinors_36 : decode cX10_layMinors 36 = .ok (.istore_n 2, 1) := dk_61 (dk_at dksX10_layMinors_1 12 rfl rfl)
theorem dX10_layMinors_37 : decode cX10_layMinors 37 = .ok (.iload_n 1, 1) := dk_27 (dk_at dksX10_layMinors_1 13 rfl rfl)
theorem dX10_layMinors_38 : decode cX10_layMinors 38 = .ok (.iconst 1, 1) := dk_4 (dk_at dksX10_layMinors_1 14 rfl rfl)
theorem dX10_layMinors_39 : decode cX10_layMinors 39 = .ok (.iload_n 2, 1) := dk_28 (dk_at dksX10_layMinors_1 15 rfl rfl)
theorem dX10_layMinors_40 : decode cX10_layMinors 40 = .ok (.ishl, 1) := dk_120 (dk_at dksX10_layMinors_1 16 rfl rfl)
theorem dX10_layMinors_41 : decode cX10_layMinors 41 = .ok (.iconst (-1), 1) := dk_2 (dk_at dksX10_layMinors_1 17 rfl rfl)
theorem dX10_layMinors_42 : decode cX10_layMinors 42 = .ok (.ixor, 1) := dk_130 (dk_at dksX10_layMinors_1 18 rfl rfl)
theorem dX10_layMinors_43 : decode cX10_layMinors 43 = .ok (.iand, 1) := dk_126 (dk_at dksX10_layMinors_1 19 rfl rfl)
theorem dX10_layMinors_44 : decode cX10_layMinors 44 = .ok (.istore_n 3, 1) := dk_62 (dk_at dksX10_layMinors_1 20 rfl rfl)
theorem dX10_layMinors_45 : decode cX10_layMinors 45 = .ok (.aload_n 0, 1) := dk_42 (dk_at dksX10_layMinors_1 21 rfl rfl)
theorem dX10_layMinors_46 : decode cX10_layMinors 46 = .ok (.getfield 13, 3) := dk_180 0 13 (dk_at dksX10_layMinors_2 0 rfl rfl)
theorem dX10_layMinors_49 : decode cX10_layMinors 49 = .ok (.iconst 1, 1) := dk_4 (dk_at dksX10_layMinors_2 3 rfl rfl)
theorem dX10_layMinors_50 : decode cX10_layMinors 50 = .ok (.iload_n 2, 1) := dk_28 (dk_at dksX10_layMinors_2 4 rfl rfl)
theorem dX10_layMinors_51 : decode cX10_layMinors 51 = .ok (.iadd, 1) := dk_96 (dk_at dksX10_layMinors_2 5 rfl rfl)
theorem dX10_layMinors_52 : decode cX10_layMinors 52 = .ok (.iaload, 1) := dk_46 (dk_at dksX10_layMinors_2 6 rfl rfl)
theorem dX10_layMinors_53 : decode cX10_layMinors 53 = .ok (.i2l, 1) := dk_133 (dk_at dksX10_layMinors_2 7 rfl rfl)
theorem dX10_layMinors_54 : decode cX10_layMinors 54 = .ok (.aload_n 0, 1) := dk_42 (dk_at dksX10_layMinors_2 8 rfl rfl)
theorem dX10_layMinors_55 : decode cX10_layMinors 55 = .ok (.getfield 24, 3) := dk_180 0 24 (dk_at dksX10_layMinors_2 9 rfl rfl)
theorem dX10_layMinors_58 : decode cX10_layMinors 58 = .ok (.iload_n 3, 1) := dk_29 (dk_at dksX10_layMinors_2 12 rfl rfl)
theorem dX10_layMinors_59 : decode cX10_layMinors 59 = .ok (.laload, 1) := dk_47 (dk_at dksX10_layMinors_2 13 rfl rfl)
theorem dX10_layMinors_60 : decode cX10_layMinors 60 = .ok (.lmul, 1) := dk_105 (dk_at dksX10_layMinors_2 14 rfl rfl)
theorem dX10_layMinors_61 : decode cX10_layMinors 61 = .ok (.lstore 4, 2) := dk_55 4 (dk_at dksX10_layMinors_2 15 rfl rfl)
theorem dX10_layMinors_63 : decode cX10_layMinors 63 = .ok (.iload_n 2, 1) := dk_28 (dk_at dksX10_layMinors_2 17 rfl rfl)
theorem dX10_layMinors_64 : decode cX10_layMinors 64 = .ok (.iconst 1, 1) := dk_4 (dk_at dksX10_layMinors_2 18 rfl rfl)
theorem dX10_layMinors_65 : decode cX10_layMinors 65 = .ok (.iadd, 1) := dk_96 (dk_at dksX10_layMinors_2 19 rfl rfl)
theorem dX10_layMinors_66 : decode cX10_layMinors 66 = .ok (.istore 6, 2) := dk_54 6 (dk_at dksX10_layMinors_2 20 rfl rfl)
theorem dX10_layMinors_68 : decode cX10_layMinors 68 = .ok (.iload 6, 2) := dk_21 6 (dk_at dksX10_layMinors_2 22 rfl rfl)
theorem dX10_layMinors_70 : decode cX10_layMinors 70 = .ok (.bipush 12, 2) := dk_16 12 (dk_at dksX10_layMinors_3 0 rfl rfl)
theorem dX10_layMinors_72 : decode cX10_layMinors 72 = .ok (.if_icmp .ge 50, 3) := dk_162 0 50 (dk_at dksX10_layMinors_3 2 rfl rfl)
theorem dX10_layMinors_75 : decode cX10_layMinors 75 = .ok (.lload 4, 2) := dk_22 4 (dk_at dksX10_layMinors_3 5 rfl rfl)
theorem dX10_layMinors_77 : decode cX10_layMinors 77 = .ok (.iload_n 3, 1) := dk_29 (dk_at dksX10_layMinors_3 7 rfl rfl)
theorem dX10_layMinors_78 : decode cX10_layMinors 78 = .ok (.aload_n 0, 1) := dk_42 (dk_at dksX10_layMinors_3 8 rfl rfl)
theorem dX10_layMinors_79 : decode cX10_layMinors 79 = .ok (.getfield 13, 3) := dk_180 0 13 (dk_at dksX10_layMinors_3 9 rfl rfl)
theorem dX10_layMinors_82 : decode cX10_layMinors 82 = .ok (.bipush 13, 2) := dk_16 13 (dk_at dksX10_layMinors_3 12 rfl rfl)
theorem dX10_layMinors_84 : decode cX10_layMinors 84 = .ok (.iload_n 2, 1) := dk_28 (dk_at dksX10_layMinors_3 14 rfl rfl)
theorem dX10_layMinors_85 : decode cX10_layMinors 85 = .ok (.iadd, 1) := dk_96 (dk_at dksX10_layMinors_3 15 rfl rfl)
theorem dX10_layMinors_86 : decode cX10_layMinors 86 = .ok (.iaload, 1) := dk_46 (dk_at dksX10_layMinors_3 16 rfl rfl)
theorem dX10_layMinors_87 : decode cX10_layMinors 87 = .ok (.iand, 1) := dk_126 (dk_at dksX10_layMinors_3 17 rfl rfl)
theorem dX10_layMinors_88 : decode cX10_layMinors 88 = .ok (.iload 6, 2) := dk_21 6 (dk_at dksX10_layMinors_3 18 rfl rfl)
theorem dX10_layMinors_90 : decode cX10_layMinors 90 = .ok (.invokestatic 96, 3) := dk_184 0 96 (dk_at dksX10_layMinors_3 20 rfl rfl)
theorem dX10_layMinors_93 : decode cX10_layMinors 93 = .ok (.ifCond .eq 19, 3) := dk_153 0 19 (dk_at dksX10_layMinors_4 0 rfl rfl)
theorem dX10_layMinors_96 : decode cX10_layMinors 96 = .ok (.aload_n 0, 1) := dk_42 (dk_at dksX10_layMinors_4 3 rfl rfl)
theorem dX10_layMinors_97 : decode cX10_layMinors 97 = .ok (.getfield 24, 3) := dk_180 0 24 (dk_at dksX10_layMinors_4 4 rfl rfl)
theorem dX10_layMinors_100 : decode cX10_layMinors 100 = .ok (.iload_n 3, 1) := dk_29 (dk_at dksX10_layMinors_4 7 rfl rfl)
theorem dX10_layMinors_101 : decode cX10_layMinors 101 = .ok (.iconst 1, 1) := dk_4 (dk_at dksX10_layMinors_4 8 rfl rfl)
theorem dX10_layMinors_102 : decode cX10_layMinors 102 = .ok (.iload 6, 2) := dk_21 6 (dk_at dksX10_layMinors_4 9 rfl rfl)
theorem dX10_layMinors_104 : decode cX10_layMinors 104 = .ok (.ishl, 1) := dk_120 (dk_at dksX10_layMinors_4 11 rfl rfl)
theorem dX10_layMinors_105 : decode cX10_layMinors 105 = .ok (.iconst (-1), 1) := dk_2 (dk_at dksX10_layMinors_4 12 rfl rfl)
theorem dX10_layMinors_106 : decode cX10_layMinors 106 = .ok (.ixor, 1) := dk_130 (dk_at dksX10_layMinors_4 13 rfl rfl)
theorem dX10_layMinors_107 : decode cX10_layMinors 107 = .ok (.iand, 1) := dk_126 (dk_at dksX10_layMinors_4 14 rfl rfl)
theorem dX10_layMinors_108 : decode cX10_layMinors 108 = .ok (.laload, 1) := dk_47 (dk_at dksX10_layMinors_4 15 rfl rfl)
theorem dX10_layMinors_109 : decode cX10_layMinors 109 = .ok (.goto 4, 3) := dk_167 0 4 (dk_at dksX10_layMinors_4 16 rfl rfl)
theorem dX10_layMinors_112 : decode cX10_layMinors 112 = .ok (.lconst 0, 1) := dk_9 (dk_at dksX10_layMinors_4 19 rfl rfl)
theorem dX10_layMinors_113 : decode cX10_layMinors 113 = .ok (.lsub, 1) := dk_101 (dk_at dksX10_layMinors_4 20 rfl rfl)
theorem dX10_layMinors_114 : decode cX10_layMinors 114 = .ok (.lstore 4, 2) := dk_55 4 (dk_at dksX10_layMinors_4 21 rfl rfl)
theorem dX10_layMinors_116 : decode cX10_layMinors 116 = .ok (.iinc 6 1, 3) := dk_132 6 1 (dk_at dksX10_layMinors_5 0 rfl rfl)
theorem dX10_layMinors_119 : decode cX10_layMinors 119 = .ok (.goto (-51), 3) := dk_167 255 205 (dk_at dksX10_layMinors_5 3 rfl rfl)
theorem dX10_layMinors_122 : decode cX10_layMinors 122 = .ok (.aload_n 0, 1) := dk_42 (dk_at dksX10_layMinors_5 6 rfl rfl)
theorem dX10_layMinors_123 : decode cX10_layMinors 123 = .ok (.getfield 24, 3) := dk_180 0 24 (dk_at dksX10_layMinors_5 7 rfl rfl)
theorem dX10_layMinors_126 : decode cX10_layMinors 126 = .ok (.iload_n 1, 1) := dk_27 (dk_at dksX10_layMinors_5 10 rfl rfl)
theorem dX10_layMinors_127 : decode cX10_layMinors 127 = .ok (.lload 4, 2) := dk_22 4 (dk_at dksX10_layMinors_5 11 rfl rfl)
theorem dX10_layMinors_129 : decode cX10_layMinors 129 = .ok (.lastore, 1) := dk_80 (dk_at dksX10_layMinors_5 13 rfl rfl)
theorem dX10_layMinors_130 : decode cX10_layMinors 130 = .ok (.iinc 1 1, 3) := dk_132 1 1 (dk_at dksX10_layMinors_5 14 rfl rfl)
theorem dX10_layMinors_133 : decode cX10_layMinors 133 = .ok (.goto (-124), 3) := dk_167 255 132 (dk_at dksX10_layMinors_5 17 rfl rfl)
theorem dX10_layMinors_136 : decode cX10_layMinors 136 = .ok (.return_, 1) := dk_177 (dk_at dksX10_layMinors_5 20 rfl rfl)
abbrev cX10_orOver : ByteArray := prog_26_method_49_code
def yX10_orOver : MethodName := ⟨RX10, "orOver", "(J)I"⟩
def dkwX10_orOver_0 : List UInt8 := [31, 20, 0, 238, 20, 0, 240, 184, 0, 102, 153, 0, 8, 31, 136, 167, 0, 8, 42, 8, 182, 0, 204, 172]
abbrev dktX10_orOver_0 : List UInt8 := dkwX10_orOver_0 ++ []
theorem dksX10_orOver_0 : cX10_orOver.data.toList.drop 0 = dktX10_orOver_0 := by decide +kernel
theorem dX10_orOver_0 : decode cX10_orOver 0 = .ok (.lload_n 1, 1) := dk_31 (dk_at dksX10_orOver_0 0 rfl rfl)
theorem dX10_orOver_1 : decode cX10_orOver 1 = .ok (.ldc2_w 238, 3) := dk_20 0 238 (dk_at dksX10_orOver_0 1 rfl rfl)
theorem dX10_orOver_4 : decode cX10_orOver 4 = .ok (.ldc2_w 240, 3) := dk_20 0 240 (dk_at dksX10_orOver_0 4 rfl rfl)
theorem dX10_orOver_7 : decode cX10_orOver 7 = .ok (.invokestatic 102, 3) := dk_184 0 102 (dk_at dksX10_orOver_0 7 rfl rfl)
theorem dX10_orOver_10 : decode cX10_orOver 10 = .ok (.ifCond .eq 8, 3) := dk_153 0 8 (dk_at dksX10_orOver_0 10 rfl rfl)
theorem dX10_orOver_13 : decode cX10_orOver 13 = .ok (.lload_n 1, 1) := dk_31 (dk_at dksX10_orOver_0 13 rfl rfl)
theorem dX10_orOver_14 : decode cX10_orOver 14 = .ok (.l2i, 1) := dk_136 (dk_at dksX10_orOver_0 14 rfl rfl)
theorem dX10_orOver_15 : decode cX10_orOver 15 = .ok (.goto 8, 3) := dk_167 0 8 (dk_at dksX10_orOver_0 15 rfl rfl)
theorem dX10_orOver_18 : decode cX10_orOver 18 = .ok (.aload_n 0, 1) := dk_42 (dk_at dksX10_orOver_0 18 rfl rfl)
theorem dX10_orOver_19 : decode cX10_orOver 19 = .ok (.iconst 5, 1) := dk_8 (dk_at dksX10_orOver_0 19 rfl rfl)
theorem dX10_orOver_20 : decode cX10_orOver 20 = .ok (.invokevirtual 204, 3) := dk_182 0 204 (dk_at dksX10_orOver_0 20 rfl rfl)
theorem dX10_orOver_23 : decode cX10_orOver 23 = .ok (.ireturn, 1) := dk_172 (dk_at dksX10_orOver_0 23 rfl rfl)
abbrev cX10_det : ByteArray := prog_26_method_51_code
def yX10_det : MethodName := ⟨RX10, "det", "()I"⟩
def dkwX10_det_0 : List UInt8 := [42, 42, 42, 180, 0, 13, 3, 46, 182, 0, 244, 182, 0, 248, 172]
abbrev dktX10_det_0 : List UInt8 := dkwX10_det_0 ++ []
theorem dksX10_det_0 : cX10_det.data.toList.drop 0 = dktX10_det_0 := by decide +kernel
theorem dX10_det_0 : decode cX10_det 0 = .ok (.aload_n 0, 1) := dk_42 (dk_at dksX10_det_0 0 rfl rfl)
theorem dX10_det_1 : decode cX10_det 1 = .ok (.aload_n 0, 1) := dk_42 (dk_at dksX10_det_0 1 rfl rfl)
theorem dX10_det_2 : decode cX10_det 2 = .ok (.aload_n 0, 1) := dk_42 (dk_at dksX10_det_0 2 rfl rfl)
theorem dX10_det_3 : decode cX10_det 3 = .ok (.getfield 13, 3) := dk_180 0 13 (dk_at dksX10_det_0 3 rfl rfl)
theorem dX10_det_6 : decode cX10_det 6 = .ok (.iconst 0, 1) := dk_3 (dk_at dksX10_det_0 6 rfl rfl)
theorem dX10_det_7 : decode cX10_det 7 = .ok (.iaload, 1) := dk_46 (dk_at dksX10_det_0 7 rfl rfl)
theorem dX10_det_8 : decode cX10_det 8 = .ok (.invokevirtual 244, 3) := dk_182 0 244 (dk_at dksX10_det_0 8 rfl rfl)
theorem dX10_det_11 : decode cX10_det 11 = .ok (.invokevirtual 248, 3) := dk_182 0 248 (dk_at dksX10_det_0 11 rfl rfl)
theorem dX10_det_14 : decode cX10_det 14 = .ok (.ireturn, 1) := dk_172 (dk_at dksX10_det_0 14 rfl rfl)
abbrev cX10_link : ByteArray := prog_26_method_56_code
def yX10_link : MethodName := ⟨RX10, "link", "(III)I"⟩
def dkwX10_link_6 : List UInt8 := [22, 4, 22, 8, 109, 182, 0, 248, 172]
abbrev dktX10_link_6 : List UInt8 := dkwX10_link_6 ++ []
def dkwX10_link_5 : List UInt8 := [55, 4, 22, 6, 22, 4, 184, 1, 6, 55, 8, 42, 29, 154, 0, 11, 22, 6, 22, 8, 109, 167, 0, 8]
abbrev dktX10_link_5 : List UInt8 := dkwX10_link_5 ++ dktX10_link_6
def dkwX10_link_4 : List UInt8 := [167, 0, 6, 22, 6, 117, 55, 6, 22, 4, 9, 148, 156, 0, 13, 22, 6, 117, 55, 6, 22, 4, 117]
abbrev dktX10_link_4 : List UInt8 := dkwX10_link_4 ++ dktX10_link_5
def dkwX10_link_3 : List UInt8 := [27, 184, 1, 3, 42, 180, 0, 13, 3, 46, 28, 184, 1, 3, 96, 5, 112, 154, 0, 8, 22, 6]
abbrev dktX10_link_3 : List UInt8 := dkwX10_link_3 ++ dktX10_link_4
def dkwX10_link_2 : List UInt8 := [148, 154, 0, 9, 42, 6, 182, 0, 204, 172, 42, 27, 28, 182, 0, 255, 55, 6, 42, 180, 0, 13, 3, 46]
abbrev dktX10_link_2 : List UInt8 := dkwX10_link_2 ++ dktX10_link_3
def dkwX10_link_1 : List UInt8 := [154, 0, 9, 42, 4, 182, 0, 204, 172, 42, 42, 180, 0, 13, 3, 46, 182, 0, 244, 55, 4, 22, 4, 9]
abbrev dktX10_link_1 : List UInt8 := dkwX10_link_1 ++ dktX10_link_2
def dkwX10_link_0 : List UInt8 := [42, 27, 182, 0, 216, 153, 0, 21, 42, 28, 182, 0, 216, 153, 0, 13, 29, 133, 9, 10, 184, 0, 102]
abbrev dktX10_link_0 : List UInt8 := dkwX10_link_0 ++ dktX10_link_1
theorem dksX10_link_0 : cX10_link.data.toList.drop 0 = dktX10_link_0 := by decide +kernel
theorem dksX10_link_1 : cX10_link.data.toList.drop 23 = dktX10_link_1 := dk_seg dksX10_link_0 23 rfl rfl
theorem dksX10_link_2 : cX10_link.data.toList.drop 47 = dktX10_link_2 := dk_seg dksX10_link_1 24 rfl rfl
theorem dksX10_link_3 : cX10_link.data.toList.drop 71 = dktX10_link_3 := dk_seg dksX10_link_2 24 rfl rfl
theorem dksX10_link_4 : cX10_link.data.toList.drop 93 = dktX10_link_4 := dk_seg dksX10_link_3 22 rfl rfl
theorem dksX10_link_5 : cX10_link.data.toList.drop 116 = dktX10_link_5 := dk_seg dksX10_link_4 23 rfl rfl
theorem dksX10_link_6 : cX10_link.data.toList.drop 140 = dktX10_link_6 := dk_seg dksX10_link_5 24 rfl rfl
theorem dX10_link_0 : decode cX10_link 0 = .ok (.aload_n 0, 1) := dk_42 (dk_at dksX10_link_0 0 rfl rfl)
theorem dX10_link_1 : decode cX10_link 1 = .ok (.iload_n 1, 1) := dk_27 (dk_at dksX10_link_0 1 rfl rfl)
theorem dX10_link_2 : decode cX10_link 2 = .ok (.invokevirtual 216, 3) := dk_182 0 216 (dk_at dksX10_link_0 2 rfl rfl)
theorem dX10_link_5 : decode cX10_link 5 = .ok (.ifCond .eq 21, 3) := dk_153 0 21 (dk_at dksX10_link_0 5 rfl rfl)
theorem dX10_link_8 : decode cX10_link 8 = .ok (.aload_n 0, 1) := dk_42 (dk_at dksX10_link_0 8 rfl rfl)
theorem dX10_link_9 : decode cX10_link 9 = .ok (.iload_n 2, 1) := dk_28 (dk_at dksX10_link_0 9 rfl rfl)
theorem dX10_link_10 : decode cX10_link 10 = .ok (.invokevirtual 216, 3) := dk_182 0 216 (dk_at dksX10_link_0 10 rfl rfl)
theorem dX10_link_13 : decode cX10_link 13 = .ok (.ifCond .eq 13, 3) := dk_153 0 13 (dk_at dksX10_link_0 13 rfl rfl)
theorem dX10_link_16 : decode cX10_link 16 = .ok (.iload_n 3, 1) := dk_29 (dk_at dksX10_link_0 16 rfl rfl)
theorem dX10_link_17 : decode cX10_link 17 = .ok (.i2l, 1) := dk_133 (dk_at dksX10_link_0 17 rfl rfl)
theorem dX10_link_18 : decode cX10_link 18 = .ok (.lconst 0, 1) := dk_9 (dk_at dksX10_link_0 18 rfl rfl)
theorem dX10_link_19 : decode cX10_link 19 = .ok (.lconst 1, 1) := dk_10 (dk_at dksX10_link_0 19 rfl rfl)
theorem dX10_link_20 : decode cX10_link 20 = .ok (.invokestatic 102, 3) := dk_184 0 102 (dk_at dksX10_link_0 20 rfl rfl)
theorem dX10_link_23 : decode cX10_link 23 = .ok (.ifCond .ne 9, 3) := dk_154 0 9 (dk_at dksX10_link_1 0 rfl rfl)
theorem dX10_link_26 : decode cX10_link 26 = .ok (.aload_n 0, 1) := dk_42 (dk_at dksX10_link_1 3 rfl rfl)
theorem dX10_link_27 : decode cX10_link 27 = .ok (.iconst 1, 1) := dk_4 (dk_at dksX10_link_1 4 rfl rfl)
theorem dX10_link_28 : decode cX10_link 28 = .ok (.invokevirtual 204, 3) := dk_182 0 204 (dk_at dksX10_link_1 5 rfl rfl)
theorem dX10_link_31 : decode cX10_link 31 = .ok (.ireturn, 1) := dk_172 (dk_at dksX10_link_1 8 rfl rfl)
theorem dX10_link_32 : decode cX10_link 32 = .ok (.aload_n 0, 1) := dk_42 (dk_at dksX10_link_1 9 rfl rfl)
theorem dX10_link_33 : decode cX10_link 33 = .ok (.aload_n 0, 1) := dk_42 (dk_at dksX10_link_1 10 rfl rfl)
theorem dX10_link_34 : decode cX10_link 34 = .ok (.getfield 13, 3) := dk_180 0 13 (dk_at dksX10_link_1 11 rfl rfl)
theorem dX10_link_37 : decode cX10_link 37 = .ok (.iconst 0, 1) := dk_3 (dk_at dksX10_link_1 14 rfl rfl)
theorem dX10_link_38 : decode cX10_link 38 = .ok (.iaload, 1) := dk_46 (dk_at dksX10_link_1 15 rfl rfl)
theorem dX10_link_39 : decode cX10_link 39 = .ok (.invokevirtual 244, 3) := dk_182 0 244 (dk_at dksX10_link_1 16 rfl rfl)
theorem dX10_link_42 : decode cX10_link 42 = .ok (.lstore 4, 2) := dk_55 4 (dk_at dksX10_link_1 19 rfl rfl)
theorem dX10_link_44 : decode cX10_link 44 = .ok (.lload 4, 2) := dk_22 4 (dk_at dksX10_link_1 21 rfl rfl)
theorem dX10_link_46 : decode cX10_link 46 = .ok (.lconst 0, 1) := dk_9 (dk_at dksX10_link_1 23 rfl rfl)
theorem dX10_link_47 : decode cX10_link 47 = .ok (.lcmp, 1) := dk_148 (dk_at dksX10_link_2 0 rfl rfl)
theorem dX10_link_48 : decode cX10_link 48 = .ok (.ifCond .ne 9, 3) := dk_154 0 9 (dk_at dksX10_link_2 1 rfl rfl)
theorem dX10_link_51 : decode cX10_link 51 = .ok (.aload_n 0, 1) := dk_42 (dk_at dksX10_link_2 4 rfl rfl)
theorem dX10_link_52 : decode cX10_link 52 = .ok (.iconst 3, 1) := dk_6 (dk_at dksX10_link_2 5 rfl rfl)
theorem dX10_link_53 : decode cX10_link 53 = .ok (.invokevirtual 204, 3) := dk_182 0 204 (dk_at dksX10_link_2 6 rfl rfl)
theorem dX10_link_56 : decode cX10_link 56 = .ok (.ireturn, 1) := dk_172 (dk_at dksX10_link_2 9 rfl rfl)
theorem dX10_link_57 : decode cX10_link 57 = .ok (.aload_n 0, 1) := dk_42 (dk_at dksX10_link_2 10 rfl rfl)
theorem dX10_link_58 : decode cX10_link 58 = .ok (.iload_n 1, 1) := dk_27 (dk_at dksX10_link_2 11 rfl rfl)
theorem dX10_link_59 : decode cX10_link 59 = .ok (.iload_n 2, 1) := dk_28 (dk_at dksX10_link_2 12 rfl rfl)
theorem dX10_link_60 : decode cX10_link 60 = .ok (.invokevirtual 255, 3) := dk_182 0 255 (dk_at dksX10_link_2 13 rfl rfl)
theorem dX10_link_63 : decode cX10_link 63 = .ok (.lstore 6, 2) := dk_55 6 (dk_at dksX10_link_2 16 rfl rfl)
theorem dX10_link_65 : decode cX10_link 65 = .ok (.aload_n 0, 1) := dk_42 (dk_at dksX10_link_2 18 rfl rfl)
theorem dX10_link_66 : decode cX10_link 66 = .ok (.getfield 13, 3) := dk_180 0 13 (dk_at dksX10_link_2 19 rfl rfl)
theorem dX10_link_69 : decode cX10_link 69 = .ok (.iconst 0, 1) := dk_3 (dk_at dksX10_link_2 22 rfl rfl)
theorem dX10_link_70 : decode cX10_link 70 = .ok (.iaload, 1) := dk_46 (dk_at dksX10_link_2 23 rfl rfl)
theorem dX10_link_71 : decode cX10_link 71 = .ok (.iload_n 1, 1) := dk_27 (dk_at dksX10_link_3 0 rfl rfl)
theorem dX10_link_72 : decode cX10_link 72 = .ok (.invokestatic 259, 3) := dk_184 1 3 (dk_at dksX10_link_3 1 rfl rfl)
theorem dX10_link_75 : decode cX10_link 75 = .ok (.aload_n 0, 1) := dk_42 (dk_at dksX10_link_3 4 rfl rfl)
theorem dX10_link_76 : decode cX10_link 76 = .ok (.getfield 13, 3) := dk_180 0 13 (dk_at dksX10_link_3 5 rfl rfl)
theorem dX10_link_79 : decode cX10_link 79 = .ok (.iconst 0, 1) := dk_3 (dk_at dksX10_link_3 8 rfl rfl)
theorem dX10_link_80 : decode cX10_link 80 = .ok (.iaload, 1) := dk_46 (dk_at dksX10_link_3 9 rfl rfl)
theorem dX10_link_81 : decode cX10_link 81 = .ok (.iload_n 2, 1) := dk_28 (dk_at dksX10_link_3 10 rfl rfl)
theorem dX10_link_82 : decode cX10_link 82 = .ok (.invokestatic 259, 3) := dk_184 1 3 (dk_at dksX10_link_3 11 rfl rfl)
theorem dX10_link_85 : decode cX10_link 85 = .ok (.iadd, 1) := dk_96 (dk_at dksX10_link_3 14 rfl rfl)
theorem dX10_link_86 : decode cX10_link 86 = .ok (.iconst 2, 1) := dk_5 (dk_at dksX10_link_3 15 rfl rfl)
theorem dX10_link_87 : decode cX10_link 87 = .ok (.irem, 1) := dk_112 (dk_at dksX10_link_3 16 rfl rfl)
theorem dX10_link_88 : decode cX10_link 88 = .ok (.ifCond .ne 8, 3) := dk_154 0 8 (dk_at dksX10_link_3 17 rfl rfl)
theorem dX10_link_91 : decode cX10_link 91 = .ok (.lload 6, 2) := dk_22 6 (dk_at dksX10_link_3 20 rfl rfl)
theorem dX10_link_93 : decode cX10_link 93 = .ok (.goto 6, 3) := dk_167 0 6 (dk_at dksX10_link_4 0 rfl rfl)
theorem dX10_link_96 : decode cX10_link 96 = .ok (.lload 6, 2) := dk_22 6 (dk_at dksX10_link_4 3 rfl rfl)
theorem dX10_link_98 : decode cX10_link 98 = .ok (.lneg, 1) := dk_117 (dk_at dksX10_link_4 5 rfl rfl)
theorem dX10_link_99 : decode cX10_link 99 = .ok (.lstore 6, 2) := dk_55 6 (dk_at dksX10_link_4 6 rfl rfl)
theorem dX10_link_101 : decode cX10_link 101 = .ok (.lload 4, 2) := dk_22 4 (dk_at dksX10_link_4 8 rfl rfl)
theorem dX10_link_103 : decode cX10_link 103 = .ok (.lconst 0, 1) := dk_9 (dk_at dksX10_link_4 10 rfl rfl)
theorem dX10_link_104 : decode cX10_link 104 = .ok (.lcmp, 1) := dk_148 (dk_at dksX10_link_4 11 rfl rfl)
theorem dX10_link_105 : decode cX10_link 105 = .ok (.ifCond .ge 13, 3) := dk_156 0 13 (dk_at dksX10_link_4 12 rfl rfl)
theorem dX10_link_108 : decode cX10_link 108 = .ok (.lload 6, 2) := dk_22 6 (dk_at dksX10_link_4 15 rfl rfl)
theorem dX10_link_110 : decode cX10_link 110 = .ok (.lneg, 1) := dk_117 (dk_at dksX10_link_4 17 rfl rfl)
theorem dX10_link_111 : decode cX10_link 111 = .ok (.lstore 6, 2) := dk_55 6 (dk_at dksX10_link_4 18 rfl rfl)
theorem dX10_link_113 : decode cX10_link 113 = .ok (.lload 4, 2) := dk_22 4 (dk_at dksX10_link_4 20 rfl rfl)
theorem dX10_link_115 : decode cX10_link 115 = .ok (.lneg, 1) := dk_117 (dk_at dksX10_link_4 22 rfl rfl)
theorem dX10_link_116 : decode cX10_link 116 = .ok (.lstore 4, 2) := dk_55 4 (dk_at dksX10_link_5 0 rfl rfl)
theorem dX10_link_118 : decode cX10_link 118 = .ok (.lload 6, 2) := dk_22 6 (dk_at dksX10_link_5 2 rfl rfl)
theorem dX10_link_120 : decode cX10_link 120 = .ok (.lload 4, 2) := dk_22 4 (dk_at dksX10_link_5 4 rfl rfl)
theorem dX10_link_122 : decode cX10_link 122 = .ok (.invokestatic 262, 3) := dk_184 1 6 (dk_at dksX10_link_5 6 rfl rfl)
theorem dX10_link_125 : decode cX10_link 125 = .ok (.lstore 8, 2) := dk_55 8 (dk_at dksX10_link_5 9 rfl rfl)
theorem dX10_link_127 : decode cX10_link 127 = .ok (.aload_n 0, 1) := dk_42 (dk_at dksX10_link_5 11 rfl rfl)
theorem dX10_link_128 : decode cX10_link 128 = .ok (.iload_n 3, 1) := dk_29 (dk_at dksX10_link_5 12 rfl rfl)
theorem dX10_link_129 : decode cX10_link 129 = .ok (.ifCond .ne 11, 3) := dk_154 0 11 (dk_at dksX10_link_5 13 rfl rfl)
theorem dX10_link_132 : decode cX10_link 132 = .ok (.lload 6, 2) := dk_22 6 (dk_at dksX10_link_5 16 rfl rfl)
theorem dX10_link_134 : decode cX10_link 134 = .ok (.lload 8, 2) := dk_22 8 (dk_at dksX10_link_5 18 rfl rfl)
theorem dX10_link_136 : decode cX10_link 136 = .ok (.ldiv, 1) := dk_109 (dk_at dksX10_link_5 20 rfl rfl)
theorem dX10_link_137 : decode cX10_link 137 = .ok (.goto 8, 3) := dk_167 0 8 (dk_at dksX10_link_5 21 rfl rfl)
theorem dX10_link_140 : decode cX10_link 140 = .ok (.lload 4, 2) := dk_22 4 (dk_at dksX10_link_6 0 rfl rfl)
theorem dX10_link_142 : decode cX10_link 142 = .ok (.lload 8, 2) := dk_22 8 (dk_at dksX10_link_6 2 rfl rfl)
theorem dX10_link_144 : decode cX10_link 144 = .ok (.ldiv, 1) := dk_109 (dk_at dksX10_link_6 4 rfl rfl)
theorem dX10_link_145 : decode cX10_link 145 = .ok (.invokevirtual 248, 3) := dk_182 0 248 (dk_at dksX10_link_6 5 rfl rfl)
theorem dX10_link_148 : decode cX10_link 148 = .ok (.ireturn, 1) := dk_172 (dk_at dksX10_link_6 8 rfl rfl)
abbrev cX10_without : ByteArray := prog_26_method_52_code
def yX10_without : MethodName := ⟨RX10, "without", "(II)J"⟩
def dkwX10_without_8 : List UInt8 := [42, 180, 0, 28, 21, 4, 47, 173]
abbrev dktX10_without_8 : List UInt8 := dkwX10_without_8 ++ []
def dkwX10_without_7 : List UInt8 := [132, 9, 1, 132, 10, 255, 167, 255, 189, 42, 180, 0, 28, 21, 5, 22, 7, 80, 132, 5, 1, 167, 255, 130]
abbrev dktX10_without_7 : List UInt8 := dkwX10_without_7 ++ dktX10_without_8
def dkwX10_without_6 : List UInt8 := [55, 11, 22, 7, 21, 9, 5, 112, 154, 0, 8, 22, 11, 167, 0, 6, 22, 11, 117, 97, 55, 7]
abbrev dktX10_without_6 : List UInt8 := dkwX10_without_6 ++ dktX10_without_7
def dkwX10_without_5 : List UInt8 := [42, 21, 6, 21, 10, 182, 0, 231, 133, 42, 180, 0, 28, 21, 5, 4, 21, 10, 120, 2, 130, 126, 47, 105]
abbrev dktX10_without_5 : List UInt8 := dkwX10_without_5 ++ dktX10_without_6
def dkwX10_without_4 : List UInt8 := [55, 7, 3, 54, 9, 16, 11, 54, 10, 21, 10, 155, 0, 68, 21, 5, 21, 10, 184, 0, 96, 153, 0, 52]
abbrev dktX10_without_4 : List UInt8 := dkwX10_without_4 ++ dktX10_without_5
def dkwX10_without_3 : List UInt8 := [2, 130, 126, 153, 0, 6, 167, 0, 105, 29, 21, 5, 184, 0, 130, 4, 100, 184, 0, 252, 54, 6, 9]
abbrev dktX10_without_3 : List UInt8 := dkwX10_without_3 ++ dktX10_without_4
def dkwX10_without_2 : List UInt8 := [46, 4, 28, 120, 2, 130, 126, 54, 4, 4, 54, 5, 21, 5, 17, 16, 0, 162, 0, 124, 21, 5, 21, 4]
abbrev dktX10_without_2 : List UInt8 := dkwX10_without_2 ++ dktX10_without_3
def dkwX10_without_1 : List UInt8 := [132, 3, 1, 167, 255, 231, 42, 180, 0, 13, 3, 46, 4, 27, 120, 2, 130, 126, 62, 42, 180, 0, 13, 3]
abbrev dktX10_without_1 : List UInt8 := dkwX10_without_1 ++ dktX10_without_2
def dkwX10_without_0 : List UInt8 := [3, 62, 29, 17, 16, 0, 162, 0, 24, 42, 180, 0, 28, 29, 29, 154, 0, 7, 10, 167, 0, 4, 9, 80]
abbrev dktX10_without_0 : List UInt8 := dkwX10_without_0 ++ dktX10_without_1
theorem dksX10_without_0 : cX10_without.data.toList.drop 0 = dktX10_without_0 := by decide +kernel
theorem dksX10_without_1 : cX10_without.data.toList.drop 24 = dktX10_without_1 := dk_seg dksX10_without_0 24 rfl rfl
theorem dksX10_without_2 : cX10_without.data.toList.drop 48 = dktX10_without_2 := dk_seg dksX10_without_1 24 rfl rfl
theorem dksX10_without_3 : cX10_without.data.toList.drop 72 = dktX10_without_3 := dk_seg dksX10_without_2 24 rfl rfl
theorem dksX10_without_4 : cX10_without.data.toList.drop 95 = dktX10_without_4 := dk_seg dksX10_without_3 23 rfl rfl
theorem dksX10_without_5 : cX10_without.data.toList.drop 119 = dktX10_without_5 := dk_seg dksX10_without_4 24 rfl rfl
theorem dksX10_without_6 : cX10_without.data.toList.drop 143 = dktX10_without_6 := dk_seg dksX10_without_5 24 rfl rfl
theorem dksX10_without_7 : cX10_without.data.toList.drop 165 = dktX10_without_7 := dk_seg dksX10_without_6 22 rfl rfl
theorem dksX10_without_8 : cX10_without.data.toList.drop 189 = dktX10_without_8 := dk_seg dksX10_without_7 24 rfl rfl
theorem dX10_without_0 : decode cX10_without 0 = .ok (.iconst 0, 1) := dk_3 (dk_at dksX10_without_0 0 rfl rfl)
theorem dX10_without_1 : decode cX10_without 1 = .ok (.istore_n 3, 1) := dk_62 (dk_at dksX10_without_0 1 rfl rfl)
theorem dX10_without_2 : decode cX10_without 2 = .ok (.iload_n 3, 1) := dk_29 (dk_at dksX10_without_0 2 rfl rfl)
theorem dX10_without_3 : decode cX10_without 3 = .ok (.sipush 4096, 3) := dk_17 16 0 (dk_at dksX10_without_0 3 rfl rfl)
theorem dX10_without_6 : decode cX10_without 6 = .ok (.if_icmp .ge 24, 3) := dk_162 0 24 (dk_at dksX10_without_0 6 rfl rfl)
theorem dX10_without_9 : decode cX10_without 9 = .ok (.aload_n 0, 1) := dk_42 (dk_at dksX10_without_0 9 rfl rfl)
theorem dX10_without_10 : decode cX10_without 10 = .ok (.getfield 28, 3) := dk_180 0 28 (dk_at dksX10_without_0 10 rfl rfl)
theorem dX10_without_13 : decode cX10_without 13 = .ok (.iload_n 3, 1) := dk_29 (dk_at dksX10_without_0 13 rfl rfl)
theorem dX10_without_14 : decode cX10_without 14 = .ok (.iload_n 3, 1) := dk_29 (dk_at dksX10_without_0 14 rfl rfl)
theorem dX10_without_15 : decode cX10_without 15 = .ok (.ifCond .ne 7, 3) := dk_154 0 7 (dk_at dksX10_without_0 15 rfl rfl)
theorem dX10_without_18 : decode cX10_without 18 = .ok (.lconst 1, 1) := dk_10 (dk_at dksX10_without_0 18 rfl rfl)
theorem dX10_without_19 : decode cX10_without 19 = .ok (.goto 4, 3) := dk_167 0 4 (dk_at dksX10_without_0 19 rfl rfl)
theorem dX10_without_22 : decode cX10_without 22 = .ok (.lconst 0, 1) := dk_9 (dk_at dksX10_without_0 22 rfl rfl)
theorem dX10_without_23 : decode cX10_without 23 = .ok (.lastore, 1) := dk_80 (dk_at dksX10_without_0 23 rfl rfl)
theorem dX10_without_24 : decode cX10_without 24 = .ok (.iinc 3 1, 3) := dk_132 3 1 (dk_at dksX10_without_1 0 rfl rfl)
theorem dX10_without_27 : decode cX10_without 27 = .ok (.goto (-25), 3) := dk_167 255 231 (dk_at dksX10_without_1 3 rfl rfl)
theorem dX10_without_30 : decode cX10_without 30 = .ok (.aload_n 0, 1) := dk_42 (dk_at dksX10_without_1 6 rfl rfl)
theorem dX10_without_31 : decode cX10_without 31 = .ok (.getfield 13, 3) := dk_180 0 13 (dk_at dksX10_without_1 7 rfl rfl)
theorem dX10_without_34 : decode cX10_without 34 = .ok (.iconst 0, 1) := dk_3 (dk_at dksX10_without_1 10 rfl rfl)
theorem dX10_without_35 : decode cX10_without 35 = .ok (.iaload, 1) := dk_46 (dk_at dksX10_without_1 11 rfl rfl)
theorem dX10_without_36 : decode cX10_without 36 = .ok (.iconst 1, 1) := dk_4 (dk_at dksX10_without_1 12 rfl rfl)
theorem dX10_without_37 : decode cX10_without 37 = .ok (.iload_n 1, 1) := dk_27 (dk_at dksX10_without_1 13 rfl rfl)
theorem dX10_without_38 : decode cX10_without 38 = .ok (.ishl, 1) := dk_120 (dk_at dksX10_without_1 14 rfl rfl)
theorem dX10_without_39 : decode cX10_without 39 = .ok (.iconst (-1), 1) := dk_2 (dk_at dksX10_without_1 15 rfl rfl)
theorem dX10_without_40 : decode cX10_without 40 = .ok (.ixor, 1) := dk_130 (dk_at dksX10_without_1 16 rfl rfl)
theorem dX10_without_41 : decode cX10_without 41 = .ok (.iand, 1) := dk_126 (dk_at dksX10_without_1 17 rfl rfl)
theorem dX10_without_42 : decode cX10_without 42 = .ok (.istore_n 3, 1) := dk_62 (dk_at dksX10_without_1 18 rfl rfl)
theorem dX10_without_43 : decode cX10_without 43 = .ok (.aload_n 0, 1) := dk_42 (dk_at dksX10_without_1 19 rfl rfl)
theorem dX10_without_44 : decode cX10_without 44 = .ok (.getfield 13, 3) := dk_180 0 13 (dk_at dksX10_without_1 20 rfl rfl)
theorem dX10_without_47 : decode cX10_without 47 = .ok (.iconst 0, 1) := dk_3 (dk_at dksX10_without_1 23 rfl rfl)
theorem dX10_without_48 : decode cX10_without 48 = .ok (.iaload, 1) := dk_46 (dk_at dksX10_without_2 0 rfl rfl)
theorem dX10_without_49 : decode cX10_without 49 = .ok (.iconst 1, 1) := dk_4 (dk_at dksX10_without_2 1 rfl rfl)
theorem dX10_without_50 : decode cX10_without 50 = .ok (.iload_n 2, 1) := dk_28 (dk_at dksX10_without_2 2 rfl rfl)
theorem dX10_without_51 : decode cX10_without 51 = .ok (.ishl, 1) := dk_120 (dk_at dksX10_without_2 3 rfl rfl)
theorem dX10_without_52 : decode cX10_without 52 = .ok (.iconst (-1), 1) := dk_2 (dk_at dksX10_without_2 4 rfl rfl)
theorem dX10_without_53 : decode cX10_without 53 = .ok (.ixor, 1) := dk_130 (dk_at dksX10_without_2 5 rfl rfl)
theorem dX10_without_54 : decode cX10_without 54 = .ok (.iand, 1) := dk_126 (dk_at dksX10_without_2 6 rfl rfl)
theorem dX10_without_55 : decode cX10_without 55 = .ok (.istore 4, 2) := dk_54 4 (dk_at dksX10_without_2 7 rfl rfl)
theorem dX10_without_57 : decode cX10_without 57 = .ok (.iconst 1, 1) := dk_4 (dk_at dksX10_without_2 9 rfl rfl)
theorem dX10_without_58 : decode cX10_without 58 = .ok (.istore 5, 2) := dk_54 5 (dk_at dksX10_without_2 10 rfl rfl)
theorem dX10_without_60 : decode cX10_without 60 = .ok (.iload 5, 2) := dk_21 5 (dk_at dksX10_without_2 12 rfl rfl)
theorem dX10_without_62 : decode cX10_without 62 = .ok (.sipush 4096, 3) := dk_17 16 0 (dk_at dksX10_without_2 14 rfl rfl)
theorem dX10_without_65 : decode cX10_without 65 = .ok (.if_icmp .ge 124, 3) := dk_162 0 124 (dk_at dksX10_without_2 17 rfl rfl)
theorem dX10_without_68 : decode cX10_without 68 = .ok (.iload 5, 2) := dk_21 5 (dk_at dksX10_without_2 20 rfl rfl)
theorem dX10_without_70 : decode cX10_without 70 = .ok (.iload 4, 2) := dk_21 4 (dk_at dksX10_without_2 22 rfl rfl)
theorem dX10_without_72 : decode cX10_without 72 = .ok (.iconst (-1), 1) := dk_2 (dk_at dksX10_without_3 0 rfl rfl)
theorem dX10_without_73 : decode cX10_without 73 = .ok (.ixor, 1) := dk_130 (dk_at dksX10_without_3 1 rfl rfl)
theorem dX10_without_74 : decode cX10_without 74 = .ok (.iand, 1) := dk_126 (dk_at dksX10_without_3 2 rfl rfl)
theorem dX10_without_75 : decode cX10_without 75 = .ok (.ifCond .eq 6, 3) := dk_153 0 6 (dk_at dksX10_without_3 3 rfl rfl)
theorem dX10_without_78 : decode cX10_without 78 = .ok (.goto 105, 3) := dk_167 0 105 (dk_at dksX10_without_3 6 rfl rfl)
theorem dX10_without_81 : decode cX10_without 81 = .ok (.iload_n 3, 1) := dk_29 (dk_at dksX10_without_3 9 rfl rfl)
theorem dX10_without_82 : decode cX10_without 82 = .ok (.iload 5, 2) := dk_21 5 (dk_at dksX10_without_3 10 rfl rfl)
theorem dX10_without_84 : decode cX10_without 84 = .ok (.invokestatic 130, 3) := dk_184 0 130 (dk_at dksX10_without_3 12 rfl rfl)
theorem dX10_without_87 : decode cX10_without 87 = .ok (.iconst 1, 1) := dk_4 (dk_at dksX10_without_3 15 rfl rfl)
theorem dX10_without_88 : decode cX10_without 88 = .ok (.isub, 1) := dk_100 (dk_at dksX10_without_3 16 rfl rfl)
theorem dX10_without_89 : decode cX10_without 89 = .ok (.invokestatic 252, 3) := dk_184 0 252 (dk_at dksX10_without_3 17 rfl rfl)
theorem dX10_without_92 : decode cX10_without 92 = .ok (.istore 6, 2) := dk_54 6 (dk_at dksX10_without_3 20 rfl rfl)
theorem dX10_without_94 : decode cX10_without 94 = .ok (.lconst 0, 1) := dk_9 (dk_at dksX10_without_3 22 rfl rfl)
theorem dX10_without_95 : decode cX10_without 95 = .ok (.lstore 7, 2) := dk_55 7 (dk_at dksX10_without_4 0 rfl rfl)
theorem dX10_without_97 : decode cX10_without 97 = .ok (.iconst 0, 1) := dk_3 (dk_at dksX10_without_4 2 rfl rfl)
theorem dX10_without_98 : decode cX10_without 98 = .ok (.istore 9, 2) := dk_54 9 (dk_at dksX10_without_4 3 rfl rfl)
theorem dX10_without_100 : decode cX10_without 100 = .ok (.bipush 11, 2) := dk_16 11 (dk_at dksX10_without_4 5 rfl rfl)
theorem dX10_without_102 : decode cX10_without 102 = .ok (.istore 10, 2) := dk_54 10 (dk_at dksX10_without_4 7 rfl rfl)
theorem dX10_without_104 : decode cX10_without 104 = .ok (.iload 10, 2) := dk_21 10 (dk_at dksX10_without_4 9 rfl rfl)
theorem dX10_without_106 : decode cX10_without 106 = .ok (.ifCond .lt 68, 3) := dk_155 0 68 (dk_at dksX10_without_4 11 rfl rfl)
theorem dX10_without_109 : decode cX10_without 109 = .ok (.iload 5, 2) := dk_21 5 (dk_at dksX10_without_4 14 rfl rfl)
theorem dX10_without_111 : decode cX10_without 111 = .ok (.iload 10, 2) := dk_21 10 (dk_at dksX10_without_4 16 rfl rfl)
theorem dX10_without_113 : decode cX10_without 113 = .ok (.invokestatic 96, 3) := dk_184 0 96 (dk_at dksX10_without_4 18 rfl rfl)
theorem dX10_without_116 : decode cX10_without 116 = .ok (.ifCond .eq 52, 3) := dk_153 0 52 (dk_at dksX10_without_4 21 rfl rfl)
theorem dX10_without_119 : decode cX10_without 119 = .ok (.aload_n 0, 1) := dk_42 (dk_at dksX10_without_5 0 rfl rfl)
theorem dX10_without_120 : decode cX10_without 120 = .ok (.iload 6, 2) := dk_21 6 (dk_at dksX10_without_5 1 rfl rfl)
theorem dX10_without_122 : decode cX10_without 122 = .ok (.iload 10, 2) := dk_21 10 (dk_at dksX10_without_5 3 rfl rfl)
theorem dX10_without_124 : decode cX10_without 124 = .ok (.invokevirtual 231, 3) := dk_182 0 231 (dk_at dksX10_without_5 5 rfl rfl)
theorem dX10_without_127 : decode cX10_without 127 = .ok (.i2l, 1) := dk_133 (dk_at dksX10_without_5 8 rfl rfl)
theorem dX10_without_128 : decode cX10_without 128 = .ok (.aload_n 0, 1) := dk_42 (dk_at dksX10_without_5 9 rfl rfl)
theorem dX10_without_129 : decode cX10_without 129 = .ok (.getfield 28, 3) := dk_180 0 28 (dk_at dksX10_without_5 10 rfl rfl)
theorem dX10_without_132 : decode cX10_without 132 = .ok (.iload 5, 2) := dk_21 5 (dk_at dksX10_without_5 13 rfl rfl)
theorem dX10_without_134 : decode cX10_without 134 = .ok (.iconst 1, 1) := dk_4 (dk_at dksX10_without_5 15 rfl rfl)
theorem dX10_without_135 : decode cX10_without 135 = .ok (.iload 10, 2) := dk_21 10 (dk_at dksX10_without_5 16 rfl rfl)
theorem dX10_without_137 : decode cX10_without 137 = .ok (.ishl, 1) := dk_120 (dk_at dksX10_without_5 18 rfl rfl)
theorem dX10_without_138 : decode cX10_without 138 = .ok (.iconst (-1), 1) := dk_2 (dk_at dksX10_without_5 19 rfl rfl)
theorem dX10_without_139 : decode cX10_without 139 = .ok (.ixor, 1) := dk_130 (dk_at dksX10_without_5 20 rfl rfl)
theorem dX10_without_140 : decode cX10_without 140 = .ok (.iand, 1) := dk_126 (dk_at dksX10_without_5 21 rfl rfl)
theorem dX10_without_141 : decode cX10_without 141 = .ok (.laload, 1) := dk_47 (dk_at dksX10_without_5 22 rfl rfl)
theorem dX10_without_142 : decode cX10_without 142 = .ok (.lmul, 1) := dk_105 (dk_at dksX10_without_5 23 rfl rfl)
theorem dX10_without_143 : decode cX10_without 143 = .ok (.lstore 11, 2) := dk_55 11 (dk_at dksX10_without_6 0 rfl rfl)
theorem dX10_without_145 : decode cX10_without 145 = .ok (.lload 7, 2) := dk_22 7 (dk_at dksX10_without_6 2 rfl rfl)
theorem dX10_without_147 : decode cX10_without 147 = .ok (.iload 9, 2) := dk_21 9 (dk_at dksX10_without_6 4 rfl rfl)
theorem dX10_without_149 : decode cX10_without 149 = .ok (.iconst 2, 1) := dk_5 (dk_at dksX10_without_6 6 rfl rfl)
theorem dX10_without_150 : decode cX10_without 150 = .ok (.irem, 1) := dk_112 (dk_at dksX10_without_6 7 rfl rfl)
theorem dX10_without_151 : decode cX10_without 151 = .ok (.ifCond .ne 8, 3) := dk_154 0 8 (dk_at dksX10_without_6 8 rfl rfl)
theorem dX10_without_154 : decode cX10_without 154 = .ok (.lload 11, 2) := dk_22 11 (dk_at dksX10_without_6 11 rfl rfl)
theorem dX10_without_156 : decode cX10_without 156 = .ok (.goto 6, 3) := dk_167 0 6 (dk_at dksX10_without_6 13 rfl rfl)
theorem dX10_without_159 : decode cX10_without 159 = .ok (.lload 11, 2) := dk_22 11 (dk_at dksX10_without_6 16 rfl rfl)
theorem dX10_without_161 : decode cX10_without 161 = .ok (.lneg, 1) := dk_117 (dk_at dksX10_without_6 18 rfl rfl)
theorem dX10_without_162 : decode cX10_without 162 = .ok (.ladd, 1) := dk_97 (dk_at dksX10_without_6 19 rfl rfl)
theorem dX10_without_163 : decode cX10_without 163 = .ok (.lstore 7, 2) := dk_55 7 (dk_at dksX10_without_6 20 rfl rfl)
theorem dX10_without_165 : decode cX10_without 165 = .ok (.iinc 9 1, 3) := dk_132 9 1 (dk_at dksX10_without_7 0 rfl rfl)
theorem dX10_without_168 : decode cX10_without 168 = .ok (.iinc 10 (-1), 3) := dk_132 10 255 (dk_at dksX10_without_7 3 rfl rfl)
theorem dX10_without_171 : decode cX10_without 171 = .ok (.goto (-67), 3) := dk_167 255 189 (dk_at dksX10_without_7 6 rfl rfl)
theorem dX10_without_174 : decode cX10_without 174 = .ok (.aload_n 0, 1) := dk_42 (dk_at dksX10_without_7 9 rfl rfl)
theorem dX10_without_175 : decode cX10_without 175 = .ok (.getfield 28, 3) := dk_180 0 28 (dk_at dksX10_without_7 10 rfl rfl)
theorem dX10_without_178 : decode cX10_without 178 = .ok (.iload 5, 2) := dk_21 5 (dk_at dksX10_without_7 13 rfl rfl)
theorem dX10_without_180 : decode cX10_without 180 = .ok (.lload 7, 2) := dk_22 7 (dk_at dksX10_without_7 15 rfl rfl)
theorem dX10_without_182 : decode cX10_without 182 = .ok (.lastore, 1) := dk_80 (dk_at dksX10_without_7 17 rfl rfl)
theorem dX10_without_183 : decode cX10_without 183 = .ok (.iinc 5 1, 3) := dk_132 5 1 (dk_at dksX10_without_7 18 rfl rfl)
theorem dX10_without_186 : decode cX10_without 186 = .ok (.goto (-126), 3) := dk_167 255 130 (dk_at dksX10_without_7 21 rfl rfl)
theorem dX10_without_189 : decode cX10_without 189 = .ok (.aload_n 0, 1) := dk_42 (dk_at dksX10_without_8 0 rfl rfl)
theorem dX10_without_190 : decode cX10_without 190 = .ok (.getfield 28, 3) := dk_180 0 28 (dk_at dksX10_without_8 1 rfl rfl)
theorem dX10_without_193 : decode cX10_without 193 = .ok (.iload 4, 2) := dk_21 4 (dk_at dksX10_without_8 4 rfl rfl)
theorem dX10_without_195 : decode cX10_without 195 = .ok (.laload, 1) := dk_47 (dk_at dksX10_without_8 6 rfl rfl)
theorem dX10_without_196 : decode cX10_without 196 = .ok (.lreturn, 1) := dk_173 (dk_at dksX10_without_8 7 rfl rfl)
abbrev cX10_place : ByteArray := prog_26_method_53_code
def yX10_place : MethodName := ⟨RX10, "place", "(II)I"⟩
def dkwX10_place_1 : List UInt8 := [184, 0, 114, 172]
abbrev dktX10_place_1 : List UInt8 := dkwX10_place_1 ++ []
def dkwX10_place_0 : List UInt8 := [26, 61, 3, 62, 29, 27, 162, 0, 15, 28, 28, 4, 100, 126, 61, 132, 3, 1, 167, 255, 242, 28]
abbrev dktX10_place_0 : List UInt8 := dkwX10_place_0 ++ dktX10_place_1
theorem dksX10_place_0 : cX10_place.data.toList.drop 0 = dktX10_place_0 := by decide +kernel
theorem dksX10_place_1 : cX10_place.data.toList.drop 22 = dktX10_place_1 := dk_seg dksX10_place_0 22 rfl rfl
theorem dX10_place_0 : decode cX10_place 0 = .ok (.iload_n 0, 1) := dk_26 (dk_at dksX10_place_0 0 rfl rfl)
theorem dX10_place_1 : decode cX10_place 1 = .ok (.istore_n 2, 1) := dk_61 (dk_at dksX10_place_0 1 rfl rfl)
theorem dX10_place_2 : decode cX10_place 2 = .ok (.iconst 0, 1) := dk_3 (dk_at dksX10_place_0 2 rfl rfl)
theorem dX10_place_3 : decode cX10_place 3 = .ok (.istore_n 3, 1) := dk_62 (dk_at dksX10_place_0 3 rfl rfl)
theorem dX10_place_4 : decode cX10_place 4 = .ok (.iload_n 3, 1) := dk_29 (dk_at dksX10_place_0 4 rfl rfl)
theorem dX10_place_5 : decode cX10_place 5 = .ok (.iload_n 1, 1) := dk_27 (dk_at dksX10_place_0 5 rfl rfl)
theorem dX10_place_6 : decode cX10_place 6 = .ok (.if_icmp .ge 15, 3) := dk_162 0 15 (dk_at dksX10_place_0 6 rfl rfl)
theorem dX10_place_9 : decode cX10_place 9 = .ok (.iload_n 2, 1) := dk_28 (dk_at dksX10_place_0 9 rfl rfl)
theorem dX10_place_10 : decode cX10_place 10 = .ok (.iload_n 2, 1) := dk_28 (dk_at dksX10_place_0 10 rfl rfl)
theorem dX10_place_11 : decode cX10_place 11 = .ok (.iconst 1, 1) := dk_4 (dk_at dksX10_place_0 11 rfl rfl)
theorem dX10_place_12 : decode cX10_place 12 = .ok (.isub, 1) := dk_100 (dk_at dksX10_place_0 12 rfl rfl)
theorem dX10_place_13 : decode cX10_place 13 = .ok (.iand, 1) := dk_126 (dk_at dksX10_place_0 13 rfl rfl)
theorem dX10_place_14 : decode cX10_place 14 = .ok (.istore_n 2, 1) := dk_61 (dk_at dksX10_place_0 14 rfl rfl)
theorem dX10_place_15 : decode cX10_place 15 = .ok (.iinc 3 1, 3) := dk_132 3 1 (dk_at dksX10_place_0 15 rfl rfl)
theorem dX10_place_18 : decode cX10_place 18 = .ok (.goto (-14), 3) := dk_167 255 242 (dk_at dksX10_place_0 18 rfl rfl)
theorem dX10_place_21 : decode cX10_place 21 = .ok (.iload_n 2, 1) := dk_28 (dk_at dksX10_place_0 21 rfl rfl)
theorem dX10_place_22 : decode cX10_place 22 = .ok (.invokestatic 114, 3) := dk_184 0 114 (dk_at dksX10_place_1 0 rfl rfl)
theorem dX10_place_25 : decode cX10_place 25 = .ok (.ireturn, 1) := dk_172 (dk_at dksX10_place_1 3 rfl rfl)
abbrev cX10_behind : ByteArray := prog_26_method_54_code
def yX10_behind : MethodName := ⟨RX10, "behind", "(II)I"⟩
def dkwX10_behind_0 : List UInt8 := [26, 4, 27, 120, 4, 100, 126, 184, 0, 130, 172]
abbrev dktX10_behind_0 : List UInt8 := dkwX10_behind_0 ++ []
theorem dksX10_behind_0 : cX10_behind.data.toList.drop 0 = dktX10_behind_0 := by decide +kernel
theorem dX10_behind_0 : decode cX10_behind 0 = .ok (.iload_n 0, 1) := dk_26 (dk_at dksX10_behind_0 0 rfl rfl)
theorem dX10_behind_1 : decode cX10_behind 1 = .ok (.iconst 1, 1) := dk_4 (dk_at dksX10_behind_0 1 rfl rfl)
theorem dX10_behind_2 : decode cX10_behind 2 = .ok (.iload_n 1, 1) := dk_27 (dk_at dksX10_behind_0 2 rfl rfl)
theorem dX10_behind_3 : decode cX10_behind 3 = .ok (.ishl, 1) := dk_120 (dk_at dksX10_behind_0 3 rfl rfl)
theorem dX10_behind_4 : decode cX10_behind 4 = .ok (.iconst 1, 1) := dk_4 (dk_at dksX10_behind_0 4 rfl rfl)
theorem dX10_behind_5 : decode cX10_behind 5 = .ok (.isub, 1) := dk_100 (dk_at dksX10_behind_0 5 rfl rfl)
theorem dX10_behind_6 : decode cX10_behind 6 = .ok (.iand, 1) := dk_126 (dk_at dksX10_behind_0 6 rfl rfl)
theorem dX10_behind_7 : decode cX10_behind 7 = .ok (.invokestatic 130, 3) := dk_184 0 130 (dk_at dksX10_behind_0 7 rfl rfl)
theorem dX10_behind_10 : decode cX10_behind 10 = .ok (.ireturn, 1) := dk_172 (dk_at dksX10_behind_0 10 rfl rfl)
abbrev cX10_divisor : ByteArray := prog_26_method_55_code
def yX10_divisor : MethodName := ⟨RX10, "divisor", "(JJ)J"⟩
def dkwX10_divisor_2 : List UInt8 := [22, 8, 55, 6, 167, 255, 234, 22, 4, 173]
abbrev dktX10_divisor_2 : List UInt8 := dkwX10_divisor_2 ++ []
def dkwX10_divisor_1 : List UInt8 := [167, 0, 4, 32, 55, 6, 22, 6, 9, 148, 153, 0, 21, 22, 4, 22, 6, 113, 55, 8, 22, 6, 55, 4]
abbrev dktX10_divisor_1 : List UInt8 := dkwX10_divisor_1 ++ dktX10_divisor_2
def dkwX10_divisor_0 : List UInt8 := [30, 9, 148, 156, 0, 8, 30, 117, 167, 0, 4, 30, 55, 4, 32, 9, 148, 156, 0, 8, 32, 117]
abbrev dktX10_divisor_0 : List UInt8 := dkwX10_divisor_0 ++ dktX10_divisor_1
theorem dksX10_divisor_0 : cX10_divisor.data.toList.drop 0 = dktX10_divisor_0 := by decide +kernel
theorem dksX10_divisor_1 : cX10_divisor.data.toList.drop 22 = dktX10_divisor_1 := dk_seg dksX10_divisor_0 22 rfl rfl
theorem dksX10_divisor_2 : cX10_divisor.data.toList.drop 46 = dktX10_divisor_2 := dk_seg dksX10_divisor_1 24 rfl rfl
theorem dX10_divisor_0 : decode cX10_divisor 0 = .ok (.lload_n 0, 1) := dk_30 (dk_at dksX10_divisor_0 0 rfl rfl)
theorem dX10_divisor_1 : decode cX10_divisor 1 = .ok (.lconst 0, 1) := dk_9 (dk_at dksX10_divisor_0 1 rfl rfl)
theorem dX10_divisor_2 : decode cX10_divisor 2 = .ok (.lcmp, 1) := dk_148 (dk_at dksX10_divisor_0 2 rfl rfl)
theorem dX10_divisor_3 : decode cX10_divisor 3 = .ok (.ifCond .ge 8, 3) := dk_156 0 8 (dk_at dksX10_divisor_0 3 rfl rfl)
theorem dX10_divisor_6 : decode cX10_divisor 6 = .ok (.lload_n 0, 1) := dk_30 (dk_at dksX10_divisor_0 6 rfl rfl)
theorem dX10_divisor_7 : decode cX10_divisor 7 = .ok (.lneg, 1) := dk_117 (dk_at dksX10_divisor_0 7 rfl rfl)
theorem dX10_divisor_8 : decode cX10_divisor 8 = .ok (.goto 4, 3) := dk_167 0 4 (dk_at dksX10_divisor_0 8 rfl rfl)
theorem dX10_divisor_11 : decode cX10_divisor 11 = .ok (.lload_n 0, 1) := dk_30 (dk_at dksX10_divisor_0 11 rfl rfl)
theorem dX10_divisor_12 : decode cX10_divisor 12 = .ok (.lstore 4, 2) := dk_55 4 (dk_at dksX10_divisor_0 12 rfl rfl)
theorem dX10_divisor_14 : decode cX10_divisor 14 = .ok (.lload_n 2, 1) := dk_32 (dk_at dksX10_divisor_0 14 rfl rfl)
theorem dX10_divisor_15 : decode cX10_divisor 15 = .ok (.lconst 0, 1) := dk_9 (dk_at dksX10_divisor_0 15 rfl rfl)
theorem dX10_divisor_16 : decode cX10_divisor 16 = .ok (.lcmp, 1) := dk_148 (dk_at dksX10_divisor_0 16 rfl rfl)
theorem dX10_divisor_17 : decode cX10_divisor 17 = .ok (.ifCond .ge 8, 3) := dk_156 0 8 (dk_at dksX10_divisor_0 17 rfl rfl)
theorem dX10_divisor_20 : decode cX10_divisor 20 = .ok (.lload_n 2, 1) := dk_32 (dk_at dksX10_divisor_0 20 rfl rfl)
theorem dX10_divisor_21 : decode cX10_divisor 21 = .ok (.lneg, 1) := dk_117 (dk_at dksX10_divisor_0 21 rfl rfl)
theorem dX10_divisor_22 : decode cX10_divisor 22 = .ok (.goto 4, 3) := dk_167 0 4 (dk_at dksX10_divisor_1 0 rfl rfl)
theorem dX10_divisor_25 : decode cX10_divisor 25 = .ok (.lload_n 2, 1) := dk_32 (dk_at dksX10_divisor_1 3 rfl rfl)
theorem dX10_divisor_26 : decode cX10_divisor 26 = .ok (.lstore 6, 2) := dk_55 6 (dk_at dksX10_divisor_1 4 rfl rfl)
theorem dX10_divisor_28 : decode cX10_divisor 28 = .ok (.lload 6, 2) := dk_22 6 (dk_at dksX10_divisor_1 6 rfl rfl)
theorem dX10_divisor_30 : decode cX10_divisor 30 = .ok (.lconst 0, 1) := dk_9 (dk_at dksX10_divisor_1 8 rfl rfl)
theorem dX10_divisor_31 : decode cX10_divisor 31 = .ok (.lcmp, 1) := dk_148 (dk_at dksX10_divisor_1 9 rfl rfl)
theorem dX10_divisor_32 : decode cX10_divisor 32 = .ok (.ifCond .eq 21, 3) := dk_153 0 21 (dk_at dksX10_divisor_1 10 rfl rfl)
theorem dX10_divisor_35 : decode cX10_divisor 35 = .ok (.lload 4, 2) := dk_22 4 (dk_at dksX10_divisor_1 13 rfl rfl)
theorem dX10_divisor_37 : decode cX10_divisor 37 = .ok (.lload 6, 2) := dk_22 6 (dk_at dksX10_divisor_1 15 rfl rfl)
theorem dX10_divisor_39 : decode cX10_divisor 39 = .ok (.lrem, 1) := dk_113 (dk_at dksX10_divisor_1 17 rfl rfl)
theorem dX10_divisor_40 : decode cX10_divisor 40 = .ok (.lstore 8, 2) := dk_55 8 (dk_at dksX10_divisor_1 18 rfl rfl)
theorem dX10_divisor_42 : decode cX10_divisor 42 = .ok (.lload 6, 2) := dk_22 6 (dk_at dksX10_divisor_1 20 rfl rfl)
theorem dX10_divisor_44 : decode cX10_divisor 44 = .ok (.lstore 4, 2) := dk_55 4 (dk_at dksX10_divisor_1 22 rfl rfl)
theorem dX10_divisor_46 : decode cX10_divisor 46 = .ok (.lload 8, 2) := dk_22 8 (dk_at dksX10_divisor_2 0 rfl rfl)
theorem dX10_divisor_48 : decode cX10_divisor 48 = .ok (.lstore 6, 2) := dk_55 6 (dk_at dksX10_divisor_2 2 rfl rfl)
theorem dX10_divisor_50 : decode cX10_divisor 50 = .ok (.goto (-22), 3) := dk_167 255 234 (dk_at dksX10_divisor_2 4 rfl rfl)
theorem dX10_divisor_53 : decode cX10_divisor 53 = .ok (.lload 4, 2) := dk_22 4 (dk_at dksX10_divisor_2 7 rfl rfl)
theorem dX10_divisor_55 : decode cX10_divisor 55 = .ok (.lreturn, 1) := dk_173 (dk_at dksX10_divisor_2 9 rfl rfl)
abbrev cX10_inertia : ByteArray := prog_26_method_61_code
def yX10_inertia : MethodName := ⟨RX10, "inertia", "(I)I"⟩
def dkwX10_inertia_1 : List UInt8 := [182, 0, 204, 172]
abbrev dktX10_inertia_1 : List UInt8 := dkwX10_inertia_1 ++ []
def dkwX10_inertia_0 : List UInt8 := [27, 133, 9, 20, 1, 20, 184, 0, 102, 153, 0, 11, 42, 27, 182, 1, 22, 167, 0, 8, 42, 4]
abbrev dktX10_inertia_0 : List UInt8 := dkwX10_inertia_0 ++ dktX10_inertia_1
theorem dksX10_inertia_0 : cX10_inertia.data.toList.drop 0 = dktX10_inertia_0 := by decide +kernel
theorem dksX10_inertia_1 : cX10_inertia.data.toList.drop 22 = dktX10_inertia_1 := dk_seg dksX10_inertia_0 22 rfl rfl
theorem dX10_inertia_0 : decode cX10_inertia 0 = .ok (.iload_n 1, 1) := dk_27 (dk_at dksX10_inertia_0 0 rfl rfl)
theorem dX10_inertia_1 : decode cX10_inertia 1 = .ok (.i2l, 1) := dk_133 (dk_at dksX10_inertia_0 1 rfl rfl)
theorem dX10_inertia_2 : decode cX10_inertia 2 = .ok (.lconst 0, 1) := dk_9 (dk_at dksX10_inertia_0 2 rfl rfl)
theorem dX10_inertia_3 : decode cX10_inertia 3 = .ok (.ldc2_w 276, 3) := dk_20 1 20 (dk_at dksX10_inertia_0 3 rfl rfl)
theorem dX10_inertia_6 : decode cX10_inertia 6 = .ok (.invokestatic 102, 3) := dk_184 0 102 (dk_at dksX10_inertia_0 6 rfl rfl)
theorem dX10_inertia_9 : decode cX10_inertia 9 = .ok (.ifCond .eq 11, 3) := dk_153 0 11 (dk_at dksX10_inertia_0 9 rfl rfl)
theorem dX10_inertia_12 : decode cX10_inertia 12 = .ok (.aload_n 0, 1) := dk_42 (dk_at dksX10_inertia_0 12 rfl rfl)
theorem dX10_inertia_13 : decode cX10_inertia 13 = .ok (.iload_n 1, 1) := dk_27 (dk_at dksX10_inertia_0 13 rfl rfl)
theorem dX10_inertia_14 : decode cX10_inertia 14 = .ok (.invokevirtual 278, 3) := dk_182 1 22 (dk_at dksX10_inertia_0 14 rfl rfl)
theorem dX10_inertia_17 : decode cX10_inertia 17 = .ok (.goto 8, 3) := dk_167 0 8 (dk_at dksX10_inertia_0 17 rfl rfl)
theorem dX10_inertia_20 : decode cX10_inertia 20 = .ok (.aload_n 0, 1) := dk_42 (dk_at dksX10_inertia_0 20 rfl rfl)
theorem dX10_inertia_21 : decode cX10_inertia 21 = .ok (.iconst 1, 1) := dk_4 (dk_at dksX10_inertia_0 21 rfl rfl)
theorem dX10_inertia_22 : decode cX10_inertia 22 = .ok (.invokevirtual 204, 3) := dk_182 0 204 (dk_at dksX10_inertia_1 0 rfl rfl)
theorem dX10_inertia_25 : decode cX10_inertia 25 = .ok (.ireturn, 1) := dk_172 (dk_at dksX10_inertia_1 3 rfl rfl)
abbrev cX10_inertiaOf : ByteArray := prog_26_method_60_code
def yX10_inertiaOf : MethodName := ⟨RX10, "inertiaOf", "(I)I"⟩
def dkwX10_inertiaOf_1 : List UInt8 := [167, 0, 16, 42, 180, 0, 13, 3, 46, 184, 0, 130, 28, 100, 29, 100, 172]
abbrev dktX10_inertiaOf_1 : List UInt8 := dkwX10_inertiaOf_1 ++ []
def dkwX10_inertiaOf_0 : List UInt8 := [42, 182, 1, 13, 61, 42, 182, 1, 17, 62, 27, 154, 0, 7, 28, 167, 0, 25, 27, 5, 160, 0, 7, 29]
abbrev dktX10_inertiaOf_0 : List UInt8 := dkwX10_inertiaOf_0 ++ dktX10_inertiaOf_1
theorem dksX10_inertiaOf_0 : cX10_inertiaOf.data.toList.drop 0 = dktX10_inertiaOf_0 := by decide +kernel
theorem dksX10_inertiaOf_1 : cX10_inertiaOf.data.toList.drop 24 = dktX10_inertiaOf_1 := dk_seg dksX10_inertiaOf_0 24 rfl rfl
theorem dX10_inertiaOf_0 : decode cX10_inertiaOf 0 = .ok (.aload_n 0, 1) := dk_42 (dk_at dksX10_inertiaOf_0 0 rfl rfl)
theorem dX10_inertiaOf_1 : decode cX10_inertiaOf 1 = .ok (.invokevirtual 269, 3) := dk_182 1 13 (dk_at dksX10_inertiaOf_0 1 rfl rfl)
theorem dX10_inertiaOf_4 : decode cX10_inertiaOf 4 = .ok (.istore_n 2, 1) := dk_61 (dk_at dksX10_inertiaOf_0 4 rfl rfl)
theorem dX10_inertiaOf_5 : decode cX10_inertiaOf 5 = .ok (.aload_n 0, 1) := dk_42 (dk_at dksX10_inertiaOf_0 5 rfl rfl)
theorem dX10_inertiaOf_6 : decode cX10_inertiaOf 6 = .ok (.invokevirtual 273, 3) := dk_182 1 17 (dk_at dksX10_inertiaOf_0 6 rfl rfl)
theorem dX10_inertiaOf_9 : decode cX10_inertiaOf 9 = .ok (.istore_n 3, 1) := dk_62 (dk_at dksX10_inertiaOf_0 9 rfl rfl)
theorem dX10_inertiaOf_10 : decode cX10_inertiaOf 10 = .ok (.iload_n 1, 1) := dk_27 (dk_at dksX10_inertiaOf_0 10 rfl rfl)
theorem dX10_inertiaOf_11 : decode cX10_inertiaOf 11 = .ok (.ifCond .ne 7, 3) := dk_154 0 7 (dk_at dksX10_inertiaOf_0 11 rfl rfl)
theorem dX10_inertiaOf_14 : decode cX10_inertiaOf 14 = .ok (.iload_n 2, 1) := dk_28 (dk_at dksX10_inertiaOf_0 14 rfl rfl)
theorem dX10_inertiaOf_15 : decode cX10_inertiaOf 15 = .ok (.goto 25, 3) := dk_167 0 25 (dk_at dksX10_inertiaOf_0 15 rfl rfl)
theorem dX10_inertiaOf_18 : decode cX10_inertiaOf 18 = .ok (.iload_n 1, 1) := dk_27 (dk_at dksX10_inertiaOf_0 18 rfl rfl)
theorem dX10_inertiaOf_19 : decode cX10_inertiaOf 19 = .ok (.iconst 2, 1) := dk_5 (dk_at dksX10_inertiaOf_0 19 rfl rfl)
theorem dX10_inertiaOf_20 : decode cX10_inertiaOf 20 = .ok (.if_icmp .ne 7, 3) := dk_160 0 7 (dk_at dksX10_inertiaOf_0 20 rfl rfl)
theorem dX10_inertiaOf_23 : decode cX10_inertiaOf 23 = .ok (.iload_n 3, 1) := dk_29 (dk_at dksX10_inertiaOf_0 23 rfl rfl)
theorem dX10_inertiaOf_24 : decode cX10_inertiaOf 24 = .ok (.goto 16, 3) := dk_167 0 16 (dk_at dksX10_inertiaOf_1 0 rfl rfl)
theorem dX10_inertiaOf_27 : decode cX10_inertiaOf 27 = .ok (.aload_n 0, 1) := dk_42 (dk_at dksX10_inertiaOf_1 3 rfl rfl)
theorem dX10_inertiaOf_28 : decode cX10_inertiaOf 28 = .ok (.getfield 13, 3) := dk_180 0 13 (dk_at dksX10_inertiaOf_1 4 rfl rfl)
theorem dX10_inertiaOf_31 : decode cX10_inertiaOf 31 = .ok (.iconst 0, 1) := dk_3 (dk_at dksX10_inertiaOf_1 7 rfl rfl)
theorem dX10_inertiaOf_32 : decode cX10_inertiaOf 32 = .ok (.iaload, 1) := dk_46 (dk_at dksX10_inertiaOf_1 8 rfl rfl)
theorem dX10_inertiaOf_33 : decode cX10_inertiaOf 33 = .ok (.invokestatic 130, 3) := dk_184 0 130 (dk_at dksX10_inertiaOf_1 9 rfl rfl)
theorem dX10_inertiaOf_36 : decode cX10_inertiaOf 36 = .ok (.iload_n 2, 1) := dk_28 (dk_at dksX10_inertiaOf_1 12 rfl rfl)
theorem dX10_inertiaOf_37 : decode cX10_inertiaOf 37 = .ok (.isub, 1) := dk_100 (dk_at dksX10_inertiaOf_1 13 rfl rfl)
theorem dX10_inertiaOf_38 : decode cX10_inertiaOf 38 = .ok (.iload_n 3, 1) := dk_29 (dk_at dksX10_inertiaOf_1 14 rfl rfl)
theorem dX10_inertiaOf_39 : decode cX10_inertiaOf 39 = .ok (.isub, 1) := dk_100 (dk_at dksX10_inertiaOf_1 15 rfl rfl)
theorem dX10_inertiaOf_40 : decode cX10_inertiaOf 40 = .ok (.ireturn, 1) := dk_172 (dk_at dksX10_inertiaOf_1 16 rfl rfl)
abbrev cX10_above : ByteArray := prog_26_method_58_code
def yX10_above : MethodName := ⟨RX10, "above", "()I"⟩
def dkwX10_above_4 : List UInt8 := [154, 0, 7, 28, 167, 0, 5, 21, 6, 61, 132, 3, 1, 167, 255, 160, 27, 172]
abbrev dktX10_above_4 : List UInt8 := dkwX10_above_4 ++ []
def dkwX10_above_3 : List UInt8 := [54, 6, 27, 21, 6, 153, 0, 13, 21, 6, 28, 159, 0, 7, 4, 167, 0, 4, 3, 96, 60, 21, 6]
abbrev dktX10_above_3 : List UInt8 := dkwX10_above_3 ++ dktX10_above_4
def dkwX10_above_2 : List UInt8 := [22, 4, 9, 148, 158, 0, 7, 4, 167, 0, 15, 22, 4, 9, 148, 156, 0, 7, 2, 167, 0, 4, 3]
abbrev dktX10_above_2 : List UInt8 := dkwX10_above_2 ++ dktX10_above_3
def dkwX10_above_1 : List UInt8 := [5, 112, 154, 0, 12, 42, 180, 0, 31, 29, 47, 167, 0, 10, 42, 180, 0, 31, 29, 47, 117, 55, 4]
abbrev dktX10_above_1 : List UInt8 := dkwX10_above_1 ++ dktX10_above_2
def dkwX10_above_0 : List UInt8 := [42, 182, 1, 10, 3, 60, 4, 61, 4, 62, 29, 42, 180, 0, 13, 3, 46, 184, 0, 130, 163, 0, 89, 29]
abbrev dktX10_above_0 : List UInt8 := dkwX10_above_0 ++ dktX10_above_1
theorem dksX10_above_0 : cX10_above.data.toList.drop 0 = dktX10_above_0 := by decide +kernel
theorem dksX10_above_1 : cX10_above.data.toList.drop 24 = dktX10_above_1 := dk_seg dksX10_above_0 24 rfl rfl
theorem dksX10_above_2 : cX10_above.data.toList.drop 47 = dktX10_above_2 := dk_seg dksX10_above_1 23 rfl rfl
theorem dksX10_above_3 : cX10_above.data.toList.drop 70 = dktX10_above_3 := dk_seg dksX10_above_2 23 rfl rfl
theorem dksX10_above_4 : cX10_above.data.toList.drop 93 = dktX10_above_4 := dk_seg dksX10_above_3 23 rfl rfl
theorem dX10_above_0 : decode cX10_above 0 = .ok (.aload_n 0, 1) := dk_42 (dk_at dksX10_above_0 0 rfl rfl)
theorem dX10_above_1 : decode cX10_above 1 = .ok (.invokevirtual 266, 3) := dk_182 1 10 (dk_at dksX10_above_0 1 rfl rfl)
theorem dX10_above_4 : decode cX10_above 4 = .ok (.iconst 0, 1) := dk_3 (dk_at dksX10_above_0 4 rfl rfl)
theorem dX10_above_5 : decode cX10_above 5 = .ok (.istore_n 1, 1) := dk_60 (dk_at dksX10_above_0 5 rfl rfl)
theorem dX10_above_6 : decode cX10_above 6 = .ok (.iconst 1, 1) := dk_4 (dk_at dksX10_above_0 6 rfl rfl)
theorem dX10_above_7 : decode cX10_above 7 = .ok (.istore_n 2, 1) := dk_61 (dk_at dksX10_above_0 7 rfl rfl)
theorem dX10_above_8 : decode cX10_above 8 = .ok (.iconst 1, 1) := dk_4 (dk_at dksX10_above_0 8 rfl rfl)
theorem dX10_above_9 : decode cX10_above 9 = .ok (.istore_n 3, 1) := dk_62 (dk_at dksX10_above_0 9 rfl rfl)
theorem dX10_above_10 : decode cX10_above 10 = .ok (.iload_n 3, 1) := dk_29 (dk_at dksX10_above_0 10 rfl rfl)
theorem dX10_above_11 : decode cX10_above 11 = .ok (.aload_n 0, 1) := dk_42 (dk_at dksX10_above_0 11 rfl rfl)
theorem dX10_above_12 : decode cX10_above 12 = .ok (.getfield 13, 3) := dk_180 0 13 (dk_at dksX10_above_0 12 rfl rfl)
theorem dX10_above_15 : decode cX10_above 15 = .ok (.iconst 0, 1) := dk_3 (dk_at dksX10_above_0 15 rfl rfl)
theorem dX10_above_16 : decode cX10_above 16 = .ok (.iaload, 1) := dk_46 (dk_at dksX10_above_0 16 rfl rfl)
theorem dX10_above_17 : decode cX10_above 17 = .ok (.invokestatic 130, 3) := dk_184 0 130 (dk_at dksX10_above_0 17 rfl rfl)
theorem dX10_above_20 : decode cX10_above 20 = .ok (.if_icmp .gt 89, 3) := dk_163 0 89 (dk_at dksX10_above_0 20 rfl rfl)
theorem dX10_above_23 : decode cX10_above 23 = .ok (.iload_n 3, 1) := dk_29 (dk_at dksX10_above_0 23 rfl rfl)
theorem dX10_above_24 : decode cX10_above 24 = .ok (.iconst 2, 1) := dk_5 (dk_at dksX10_above_1 0 rfl rfl)
theorem dX10_above_25 : decode cX10_above 25 = .ok (.irem, 1) := dk_112 (dk_at dksX10_above_1 1 rfl rfl)
theorem dX10_above_26 : decode cX10_above 26 = .ok (.ifCond .ne 12, 3) := dk_154 0 12 (dk_at dksX10_above_1 2 rfl rfl)
theorem dX10_above_29 : decode cX10_above 29 = .ok (.aload_n 0, 1) := dk_42 (dk_at dksX10_above_1 5 rfl rfl)
theorem dX10_above_30 : decode cX10_above 30 = .ok (.getfield 31, 3) := dk_180 0 31 (dk_at dksX10_above_1 6 rfl rfl)
theorem dX10_above_33 : decode cX10_above 33 = .ok (.iload_n 3, 1) := dk_29 (dk_at dksX10_above_1 9 rfl rfl)
theorem dX10_above_34 : decode cX10_above 34 = .ok (.laload, 1) := dk_47 (dk_at dksX10_above_1 10 rfl rfl)
theorem dX10_above_35 : decode cX10_above 35 = .ok (.goto 10, 3) := dk_167 0 10 (dk_at dksX10_above_1 11 rfl rfl)
theorem dX10_above_38 : decode cX10_above 38 = .ok (.aload_n 0, 1) := dk_42 (dk_at dksX10_above_1 14 rfl rfl)
theorem dX10_above_39 : decode cX10_above 39 = .ok (.getfield 31, 3) := dk_180 0 31 (dk_at dksX10_above_1 15 rfl rfl)
theorem dX10_above_42 : decode cX10_above 42 = .ok (.iload_n 3, 1) := dk_29 (dk_at dksX10_above_1 18 rfl rfl)
theorem dX10_above_43 : decode cX10_above 43 = .ok (.laload, 1) := dk_47 (dk_at dksX10_above_1 19 rfl rfl)
theorem dX10_above_44 : decode cX10_above 44 = .ok (.lneg, 1) := dk_117 (dk_at dksX10_above_1 20 rfl rfl)
theorem dX10_above_45 : decode cX10_above 45 = .ok (.lstore 4, 2) := dk_55 4 (dk_at dksX10_above_1 21 rfl rfl)
theorem dX10_above_47 : decode cX10_above 47 = .ok (.lload 4, 2) := dk_22 4 (dk_at dksX10_above_2 0 rfl rfl)
theorem dX10_above_49 : decode cX10_above 49 = .ok (.lconst 0, 1) := dk_9 (dk_at dksX10_above_2 2 rfl rfl)
theorem dX10_above_50 : decode cX10_above 50 = .ok (.lcmp, 1) := dk_148 (dk_at dksX10_above_2 3 rfl rfl)
theorem dX10_above_51 : decode cX10_above 51 = .ok (.ifCond .le 7, 3) := dk_158 0 7 (dk_at dksX10_above_2 4 rfl rfl)
theorem dX10_above_54 : decode cX10_above 54 = .ok (.iconst 1, 1) := dk_4 (dk_at dksX10_above_2 7 rfl rfl)
theorem dX10_above_55 : decode cX10_above 55 = .ok (.goto 15, 3) := dk_167 0 15 (dk_at dksX10_above_2 8 rfl rfl)
theorem dX10_above_58 : decode cX10_above 58 = .ok (.lload 4, 2) := dk_22 4 (dk_at dksX10_above_2 11 rfl rfl)
theorem dX10_above_60 : decode cX10_above 60 = .ok (.lconst 0, 1) := dk_9 (dk_at dksX10_above_2 13 rfl rfl)
theorem dX10_above_61 : decode cX10_above 61 = .ok (.lcmp, 1) := dk_148 (dk_at dksX10_above_2 14 rfl rfl)
theorem dX10_above_62 : decode cX10_above 62 = .ok (.ifCond .ge 7, 3) := dk_156 0 7 (dk_at dksX10_above_2 15 rfl rfl)
theorem dX10_above_65 : decode cX10_above 65 = .ok (.iconst (-1), 1) := dk_2 (dk_at dksX10_above_2 18 rfl rfl)
theorem dX10_above_66 : decode cX10_above 66 = .ok (.goto 4, 3) := dk_167 0 4 (dk_at dksX10_above_2 19 rfl rfl)
theorem dX10_above_69 : decode cX10_above 69 = .ok (.iconst 0, 1) := dk_3 (dk_at dksX10_above_2 22 rfl rfl)
theorem dX10_above_70 : decode cX10_above 70 = .ok (.istore 6, 2) := dk_54 6 (dk_at dksX10_above_3 0 rfl rfl)
theorem dX10_above_72 : decode cX10_above 72 = .ok (.iload_n 1, 1) := dk_27 (dk_at dksX10_above_3 2 rfl rfl)
theorem dX10_above_73 : decode cX10_above 73 = .ok (.iload 6, 2) := dk_21 6 (dk_at dksX10_above_3 3 rfl rfl)
theorem dX10_above_75 : decode cX10_above 75 = .ok (.ifCond .eq 13, 3) := dk_153 0 13 (dk_at dksX10_above_3 5 rfl rfl)
theorem dX10_above_78 : decode cX10_above 78 = .ok (.iload 6, 2) := dk_21 6 (dk_at dksX10_above_3 8 rfl rfl)
theorem dX10_above_80 : decode cX10_above 80 = .ok (.iload_n 2, 1) := dk_28 (dk_at dksX10_above_3 10 rfl rfl)
theorem dX10_above_81 : decode cX10_above 81 = .ok (.if_icmp .eq 7, 3) := dk_159 0 7 (dk_at dksX10_above_3 11 rfl rfl)
theorem dX10_above_84 : decode cX10_above 84 = .ok (.iconst 1, 1) := dk_4 (dk_at dksX10_above_3 14 rfl rfl)
theorem dX10_above_85 : decode cX10_above 85 = .ok (.goto 4, 3) := dk_167 0 4 (dk_at dksX10_above_3 15 rfl rfl)
theorem dX10_above_88 : decode cX10_above 88 = .ok (.iconst 0, 1) := dk_3 (dk_at dksX10_above_3 18 rfl rfl)
theorem dX10_above_89 : decode cX10_above 89 = .ok (.iadd, 1) := dk_96 (dk_at dksX10_above_3 19 rfl rfl)
theorem dX10_above_90 : decode cX10_above 90 = .ok (.istore_n 1, 1) := dk_60 (dk_at dksX10_above_3 20 rfl rfl)
theorem dX10_above_91 : decode cX10_above 91 = .ok (.iload 6, 2) := dk_21 6 (dk_at dksX10_above_3 21 rfl rfl)
theorem dX10_above_93 : decode cX10_above 93 = .ok (.ifCond .ne 7, 3) := dk_154 0 7 (dk_at dksX10_above_4 0 rfl rfl)
theorem dX10_above_96 : decode cX10_above 96 = .ok (.iload_n 2, 1) := dk_28 (dk_at dksX10_above_4 3 rfl rfl)
theorem dX10_above_97 : decode cX10_above 97 = .ok (.goto 5, 3) := dk_167 0 5 (dk_at dksX10_above_4 4 rfl rfl)
theorem dX10_above_100 : decode cX10_above 100 = .ok (.iload 6, 2) := dk_21 6 (dk_at dksX10_above_4 7 rfl rfl)
theorem dX10_above_102 : decode cX10_above 102 = .ok (.istore_n 2, 1) := dk_61 (dk_at dksX10_above_4 9 rfl rfl)
theorem dX10_above_103 : decode cX10_above 103 = .ok (.iinc 3 1, 3) := dk_132 3 1 (dk_at dksX10_above_4 10 rfl rfl)
theorem dX10_above_106 : decode cX10_above 106 = .ok (.goto (-96), 3) := dk_167 255 160 (dk_at dksX10_above_4 13 rfl rfl)
theorem dX10_above_109 : decode cX10_above 109 = .ok (.iload_n 1, 1) := dk_27 (dk_at dksX10_above_4 16 rfl rfl)
theorem dX10_above_110 : decode cX10_above 110 = .ok (.ireturn, 1) := dk_172 (dk_at dksX10_above_4 17 rfl rfl)
abbrev cX10_layTerms : ByteArray := prog_26_method_57_code
def yX10_layTerms : MethodName := ⟨RX10, "layTerms", "()V"⟩
def dkwX10_layTerms_3 : List UInt8 := [167, 255, 215, 177]
abbrev dktX10_layTerms_3 : List UInt8 := dkwX10_layTerms_3 ++ []
def dkwX10_layTerms_2 : List UInt8 := [154, 0, 21, 42, 180, 0, 31, 27, 184, 0, 130, 92, 47, 42, 180, 0, 24, 27, 47, 97, 80, 132, 1, 1]
abbrev dktX10_layTerms_2 : List UInt8 := dkwX10_layTerms_2 ++ dktX10_layTerms_3
def dkwX10_layTerms_1 : List UInt8 := [167, 255, 240, 3, 60, 27, 17, 16, 0, 162, 0, 40, 27, 42, 180, 0, 13, 3, 46, 2, 130, 126]
abbrev dktX10_layTerms_1 : List UInt8 := dkwX10_layTerms_1 ++ dktX10_layTerms_2
def dkwX10_layTerms_0 : List UInt8 := [42, 182, 0, 235, 3, 60, 27, 16, 12, 163, 0, 16, 42, 180, 0, 31, 27, 9, 80, 132, 1, 1]
abbrev dktX10_layTerms_0 : List UInt8 := dkwX10_layTerms_0 ++ dktX10_layTerms_1
theorem dksX10_layTerms_0 : cX10_layTerms.data.toList.drop 0 = dktX10_layTerms_0 := by decide +kernel
theorem dksX10_layTerms_1 : cX10_layTerms.data.toList.drop 22 = dktX10_layTerms_1 := dk_seg dksX10_layTerms_0 22 rfl rfl
theorem dksX10_layTerms_2 : cX10_layTerms.data.toList.drop 44 = dktX10_layTerms_2 := dk_seg dksX10_layTerms_1 22 rfl rfl
theorem dksX10_layTerms_3 : cX10_layTerms.data.toList.drop 68 = dktX10_layTerms_3 := dk_seg dksX10_layTerms_2 24 rfl rfl
theorem dX10_layTerms_0 : decode cX10_layTerms 0 = .ok (.aload_n 0, 1) := dk_42 (dk_at dksX10_layTerms_0 0 rfl rfl)
theorem dX10_layTerms_1 : decode cX10_layTerms 1 = .ok (.invokevirtual 235, 3) := dk_182 0 235 (dk_at dksX10_layTerms_0 1 rfl rfl)
theorem dX10_layTerms_4 : decode cX10_layTerms 4 = .ok (.iconst 0, 1) := dk_3 (dk_at dksX10_layTerms_0 4 rfl rfl)
theorem dX10_layTerms_5 : decode cX10_layTerms 5 = .ok (.istore_n 1, 1) := dk_60 (dk_at dksX10_layTerms_0 5 rfl rfl)
theorem dX10_layTerms_6 : decode cX10_layTerms 6 = .ok (.iload_n 1, 1) := dk_27 (dk_at dksX10_layTerms_0 6 rfl rfl)
theorem dX10_layTerms_7 : decode cX10_layTerms 7 = .ok (.bipush 12, 2) := dk_16 12 (dk_at dksX10_layTerms_0 7 rfl rfl)
theorem dX10_layTerms_9 : decode cX10_layTerms 9 = .ok (.if_icmp .gt 16, 3) := dk_163 0 16 (dk_at dksX10_layTerms_0 9 rfl rfl)
theorem dX10_layTerms_12 : decode cX10_layTerms 12 = .ok (.aload_n 0, 1) := dk_42 (dk_at dksX10_layTerms_0 12 rfl rfl)
theorem dX10_layTerms_13 : decode cX10_layTerms 13 = .ok (.getfield 31, 3) := dk_180 0 31 (dk_at dksX10_layTerms_0 13 rfl rfl)
theorem dX10_layTerms_16 : decode cX10_layTerms 16 = .ok (.iload_n 1, 1) := dk_27 (dk_at dksX10_layTerms_0 16 rfl rfl)
theorem dX10_layTerms_17 : decode cX10_layTerms 17 = .ok (.lconst 0, 1) := dk_9 (dk_at dksX10_layTerms_0 17 rfl rfl)
theorem dX10_layTerms_18 : decode cX10_layTerms 18 = .ok (.lastore, 1) := dk_80 (dk_at dksX10_layTerms_0 18 rfl rfl)
theorem dX10_layTerms_19 : decode cX10_layTerms 19 = .ok (.iinc 1 1, 3) := dk_132 1 1 (dk_at dksX10_layTerms_0 19 rfl rfl)
theorem dX10_layTerms_22 : decode cX10_layTerms 22 = .ok (.goto (-16), 3) := dk_167 255 240 (dk_at dksX10_layTerms_1 0 rfl rfl)
theorem dX10_layTerms_25 : decode cX10_layTerms 25 = .ok (.iconst 0, 1) := dk_3 (dk_at dksX10_layTerms_1 3 rfl rfl)
theorem dX10_layTerms_26 : decode cX10_layTerms 26 = .ok (.istore_n 1, 1) := dk_60 (dk_at dksX10_layTerms_1 4 rfl rfl)
theorem dX10_layTerms_27 : decode cX10_layTerms 27 = .ok (.iload_n 1, 1) := dk_27 (dk_at dksX10_layTerms_1 5 rfl rfl)
theorem dX10_layTerms_28 : decode cX10_layTerms 28 = .ok (.sipush 4096, 3) := dk_17 16 0 (dk_at dksX10_layTerms_1 6 rfl rfl)
theorem dX10_layTerms_31 : decode cX10_layTerms 31 = .ok (.if_icmp .ge 40, 3) := dk_162 0 40 (dk_at dksX10_layTerms_1 9 rfl rfl)
theorem dX10_layTerms_34 : decode cX10_layTerms 34 = .ok (.iload_n 1, 1) := dk_27 (dk_at dksX10_layTerms_1 12 rfl rfl)
theorem dX10_layTerms_35 : decode cX10_layTerms 35 = .ok (.aload_n 0, 1) := dk_42 (dk_at dksX10_layTerms_1 13 rfl rfl)
theorem dX10_layTerms_36 : decode cX10_layTerms 36 = .ok (.getfield 13, 3) := dk_180 0 13 (dk_at dksX10_layTerms_1 14 rfl rfl)
theorem dX10_layTerms_39 : decode cX10_layTerms 39 = .ok (.iconst 0, 1) := dk_3 (dk_at dksX10_layTerms_1 17 rfl rfl)
theorem dX10_layTerms_40 : decode cX10_layTerms 40 = .ok (.iaload, 1) := dk_46 (dk_at dksX10_layTerms_1 18 rfl rfl)
theorem dX10_layTerms_41 : decode cX10_layTerms 41 = .ok (.iconst (-1), 1) := dk_2 (dk_at dksX10_layTerms_1 19 rfl rfl)
theorem dX10_layTerms_42 : decode cX10_layTerms 42 = .ok (.ixor, 1) := dk_130 (dk_at dksX10_layTerms_1 20 rfl rfl)
theorem dX10_layTerms_43 : decode cX10_layTerms 43 = .ok (.iand, 1) := dk_126 (dk_at dksX10_layTerms_1 21 rfl rfl)
theorem dX10_layTerms_44 : decode cX10_layTerms 44 = .ok (.ifCond .ne 21, 3) := dk_154 0 21 (dk_at dksX10_layTerms_2 0 rfl rfl)
theorem dX10_layTerms_47 : decode cX10_layTerms 47 = .ok (.aload_n 0, 1) := dk_42 (dk_at dksX10_layTerms_2 3 rfl rfl)
theorem dX10_layTerms_48 : decode cX10_layTerms 48 = .ok (.getfield 31, 3) := dk_180 0 31 (dk_at dksX10_layTerms_2 4 rfl rfl)
theorem dX10_layTerms_51 : decode cX10_layTerms 51 = .ok (.iload_n 1, 1) := dk_27 (dk_at dksX10_layTerms_2 7 rfl rfl)
theorem dX10_layTerms_52 : decode cX10_layTerms 52 = .ok (.invokestatic 130, 3) := dk_184 0 130 (dk_at dksX10_layTerms_2 8 rfl rfl)
theorem dX10_layTerms_55 : decode cX10_layTerms 55 = .ok (.dup2, 1) := dk_92 (dk_at dksX10_layTerms_2 11 rfl rfl)
theorem dX10_layTerms_56 : decode cX10_layTerms 56 = .ok (.laload, 1) := dk_47 (dk_at dksX10_layTerms_2 12 rfl rfl)
theorem dX10_layTerms_57 : decode cX10_layTerms 57 = .ok (.aload_n 0, 1) := dk_42 (dk_at dksX10_layTerms_2 13 rfl rfl)
theorem dX10_layTerms_58 : decode cX10_layTerms 58 = .ok (.getfield 24, 3) := dk_180 0 24 (dk_at dksX10_layTerms_2 14 rfl rfl)
theorem dX10_layTerms_61 : decode cX10_layTerms 61 = .ok (.iload_n 1, 1) := dk_27 (dk_at dksX10_layTerms_2 17 rfl rfl)
theorem dX10_layTerms_62 : decode cX10_layTerms 62 = .ok (.laload, 1) := dk_47 (dk_at dksX10_layTerms_2 18 rfl rfl)
theorem dX10_layTerms_63 : decode cX10_layTerms 63 = .ok (.ladd, 1) := dk_97 (dk_at dksX10_layTerms_2 19 rfl rfl)
theorem dX10_layTerms_64 : decode cX10_layTerms 64 = .ok (.lastore, 1) := dk_80 (dk_at dksX10_layTerms_2 20 rfl rfl)
theorem dX10_layTerms_65 : decode cX10_layTerms 65 = .ok (.iinc 1 1, 3) := dk_132 1 1 (dk_at dksX10_layTerms_2 21 rfl rfl)
theorem dX10_layTerms_68 : decode cX10_layTerms 68 = .ok (.goto (-41), 3) := dk_167 255 215 (dk_at dksX10_layTerms_3 0 rfl rfl)
theorem dX10_layTerms_71 : decode cX10_layTerms 71 = .ok (.return_, 1) := dk_177 (dk_at dksX10_layTerms_3 3 rfl rfl)
abbrev cX10_noughts : ByteArray := prog_26_method_59_code
def yX10_noughts : MethodName := ⟨RX10, "noughts", "()I"⟩
def dkwX10_noughts_1 : List UInt8 := [180, 0, 13, 3, 46, 184, 0, 130, 27, 100, 47, 9, 148, 154, 0, 9, 132, 1, 1, 167, 255, 219, 27, 172]
abbrev dktX10_noughts_1 : List UInt8 := dkwX10_noughts_1 ++ []
def dkwX10_noughts_0 : List UInt8 := [42, 182, 1, 10, 3, 60, 27, 42, 180, 0, 13, 3, 46, 184, 0, 130, 162, 0, 30, 42, 180, 0, 31, 42]
abbrev dktX10_noughts_0 : List UInt8 := dkwX10_noughts_0 ++ dktX10_noughts_1
theorem dksX10_noughts_0 : cX10_noughts.data.toList.drop 0 = dktX10_noughts_0 := by decide +kernel
theorem dksX10_noughts_1 : cX10_noughts.data.toList.drop 24 = dktX10_noughts_1 := dk_seg dksX10_noughts_0 24 rfl rfl
theorem dX10_noughts_0 : decode cX10_noughts 0 = .ok (.aload_n 0, 1) := dk_42 (dk_at dksX10_noughts_0 0 rfl rfl)
theorem dX10_noughts_1 : decode cX10_noughts 1 = .ok (.invokevirtual 266, 3) := dk_182 1 10 (dk_at dksX10_noughts_0 1 rfl rfl)
theorem dX10_noughts_4 : decode cX10_noughts 4 = .ok (.iconst 0, 1) := dk_3 (dk_at dksX10_noughts_0 4 rfl rfl)
theorem dX10_noughts_5 : decode cX10_noughts 5 = .ok (.istore_n 1, 1) := dk_60 (dk_at dksX10_noughts_0 5 rfl rfl)
theorem dX10_noughts_6 : decode cX10_noughts 6 = .ok (.iload_n 1, 1) := dk_27 (dk_at dksX10_noughts_0 6 rfl rfl)
theorem dX10_noughts_7 : decode cX10_noughts 7 = .ok (.aload_n 0, 1) := dk_42 (dk_at dksX10_noughts_0 7 rfl rfl)
theorem dX10_noughts_8 : decode cX10_noughts 8 = .ok (.getfield 13, 3) := dk_180 0 13 (dk_at dksX10_noughts_0 8 rfl rfl)
theorem dX10_noughts_11 : decode cX10_noughts 11 = .ok (.iconst 0, 1) := dk_3 (dk_at dksX10_noughts_0 11 rfl rfl)
theorem dX10_noughts_12 : decode cX10_noughts 12 = .ok (.iaload, 1) := dk_46 (dk_at dksX10_noughts_0 12 rfl rfl)
theorem dX10_noughts_13 : decode cX10_noughts 13 = .ok (.invokestatic 130, 3) := dk_184 0 130 (dk_at dksX10_noughts_0 13 rfl rfl)
theorem dX10_noughts_16 : decode cX10_noughts 16 = .ok (.if_icmp .ge 30, 3) := dk_162 0 30 (dk_at dksX10_noughts_0 16 rfl rfl)
theorem dX10_noughts_19 : decode cX10_noughts 19 = .ok (.aload_n 0, 1) := dk_42 (dk_at dksX10_noughts_0 19 rfl rfl)
theorem dX10_noughts_20 : decode cX10_noughts 20 = .ok (.getfield 31, 3) := dk_180 0 31 (dk_at dksX10_noughts_0 20 rfl rfl)
theorem dX10_noughts_23 : decode cX10_noughts 23 = .ok (.aload_n 0, 1) := dk_42 (dk_at dksX10_noughts_0 23 rfl rfl)
theorem dX10_noughts_24 : decode cX10_noughts 24 = .ok (.getfield 13, 3) := dk_180 0 13 (dk_at dksX10_noughts_1 0 rfl rfl)
theorem dX10_noughts_27 : decode cX10_noughts 27 = .ok (.iconst 0, 1) := dk_3 (dk_at dksX10_noughts_1 3 rfl rfl)
theorem dX10_noughts_28 : decode cX10_noughts 28 = .ok (.iaload, 1) := dk_46 (dk_at dksX10_noughts_1 4 rfl rfl)
theorem dX10_noughts_29 : decode cX10_noughts 29 = .ok (.invokestatic 130, 3) := dk_184 0 130 (dk_at dksX10_noughts_1 5 rfl rfl)
theorem dX10_noughts_32 : decode cX10_noughts 32 = .ok (.iload_n 1, 1) := dk_27 (dk_at dksX10_noughts_1 8 rfl rfl)
theorem dX10_noughts_33 : decode cX10_noughts 33 = .ok (.isub, 1) := dk_100 (dk_at dksX10_noughts_1 9 rfl rfl)
theorem dX10_noughts_34 : decode cX10_noughts 34 = .ok (.laload, 1) := dk_47 (dk_at dksX10_noughts_1 10 rfl rfl)
theorem dX10_noughts_35 : decode cX10_noughts 35 = .ok (.lconst 0, 1) := dk_9 (dk_at dksX10_noughts_1 11 rfl rfl)
theorem dX10_noughts_36 : decode cX10_noughts 36 = .ok (.lcmp, 1) := dk_148 (dk_at dksX10_noughts_1 12 rfl rfl)
theorem dX10_noughts_37 : decode cX10_noughts 37 = .ok (.ifCond .ne 9, 3) := dk_154 0 9 (dk_at dksX10_noughts_1 13 rfl rfl)
theorem dX10_noughts_40 : decode cX10_noughts 40 = .ok (.iinc 1 1, 3) := dk_132 1 1 (dk_at dksX10_noughts_1 16 rfl rfl)
theorem dX10_noughts_43 : decode cX10_noughts 43 = .ok (.goto (-37), 3) := dk_167 255 219 (dk_at dksX10_noughts_1 19 rfl rfl)
theorem dX10_noughts_46 : decode cX10_noughts 46 = .ok (.iload_n 1, 1) := dk_27 (dk_at dksX10_noughts_1 22 rfl rfl)
theorem dX10_noughts_47 : decode cX10_noughts 47 = .ok (.ireturn, 1) := dk_172 (dk_at dksX10_noughts_1 23 rfl rfl)
abbrev cX10_kernel : ByteArray := prog_26_method_66_code
def yX10_kernel : MethodName := ⟨RX10, "kernel", "(I)I"⟩
def dkwX10_kernel_2 : List UInt8 := [167, 0, 8, 42, 4, 182, 0, 204, 172]
abbrev dktX10_kernel_2 : List UInt8 := dkwX10_kernel_2 ++ []
def dkwX10_kernel_1 : List UInt8 := [159, 0, 9, 27, 16, 13, 160, 0, 7, 4, 167, 0, 4, 3, 61, 28, 153, 0, 11, 42, 27, 182, 1, 35]
abbrev dktX10_kernel_1 : List UInt8 := dkwX10_kernel_1 ++ dktX10_kernel_2
def dkwX10_kernel_0 : List UInt8 := [27, 5, 159, 0, 31, 27, 6, 159, 0, 26, 27, 8, 159, 0, 21, 27, 16, 7, 159, 0, 15, 27, 16, 11]
abbrev dktX10_kernel_0 : List UInt8 := dkwX10_kernel_0 ++ dktX10_kernel_1
theorem dksX10_kernel_0 : cX10_kernel.data.toList.drop 0 = dktX10_kernel_0 := by decide +kernel
theorem dksX10_kernel_1 : cX10_kernel.data.toList.drop 24 = dktX10_kernel_1 := dk_seg dksX10_kernel_0 24 rfl rfl
theorem dksX10_kernel_2 : cX10_kernel.data.toList.drop 48 = dktX10_kernel_2 := dk_seg dksX10_kernel_1 24 rfl rfl
theorem dX10_kernel_0 : decode cX10_kernel 0 = .ok (.iload_n 1, 1) := dk_27 (dk_at dksX10_kernel_0 0 rfl rfl)
theorem dX10_kernel_1 : decode cX10_kernel 1 = .ok (.iconst 2, 1) := dk_5 (dk_at dksX10_kernel_0 1 rfl rfl)
theorem dX10_kernel_2 : decode cX10_kernel 2 = .ok (.if_icmp .eq 31, 3) := dk_159 0 31 (dk_at dksX10_kernel_0 2 rfl rfl)
theorem dX10_kernel_5 : decode cX10_kernel 5 = .ok (.iload_n 1, 1) := dk_27 (dk_at dksX10_kernel_0 5 rfl rfl)
theorem dX10_kernel_6 : decode cX10_kernel 6 = .ok (.iconst 3, 1) := dk_6 (dk_at dksX10_kernel_0 6 rfl rfl)
theorem dX10_kernel_7 : decode cX10_kernel 7 = .ok (.if_icmp .eq 26, 3) := dk_159 0 26 (dk_at dksX10_kernel_0 7 rfl rfl)
theorem dX10_kernel_10 : decode cX10_kernel 10 = .ok (.iload_n 1, 1) := dk_27 (dk_at dksX10_kernel_0 10 rfl rfl)
theorem dX10_kernel_11 : decode cX10_kernel 11 = .ok (.iconst 5, 1) := dk_8 (dk_at dksX10_kernel_0 11 rfl rfl)
theorem dX10_kernel_12 : decode cX10_kernel 12 = .ok (.if_icmp .eq 21, 3) := dk_159 0 21 (dk_at dksX10_kernel_0 12 rfl rfl)
theorem dX10_kernel_15 : decode cX10_kernel 15 = .ok (.iload_n 1, 1) := dk_27 (dk_at dksX10_kernel_0 15 rfl rfl)
theorem dX10_kernel_16 : decode cX10_kernel 16 = .ok (.bipush 7, 2) := dk_16 7 (dk_at dksX10_kernel_0 16 rfl rfl)
theorem dX10_kernel_18 : decode cX10_kernel 18 = .ok (.if_icmp .eq 15, 3) := dk_159 0 15 (dk_at dksX10_kernel_0 18 rfl rfl)
theorem dX10_kernel_21 : decode cX10_kernel 21 = .ok (.iload_n 1, 1) := dk_27 (dk_at dksX10_kernel_0 21 rfl rfl)
theorem dX10_kernel_22 : decode cX10_kernel 22 = .ok (.bipush 11, 2) := dk_16 11 (dk_at dksX10_kernel_0 22 rfl rfl)
theorem dX10_kernel_24 : decode cX10_kernel 24 = .ok (.if_icmp .eq 9, 3) := dk_159 0 9 (dk_at dksX10_kernel_1 0 rfl rfl)
theorem dX10_kernel_27 : decode cX10_kernel 27 = .ok (.iload_n 1, 1) := dk_27 (dk_at dksX10_kernel_1 3 rfl rfl)
theorem dX10_kernel_28 : decode cX10_kernel 28 = .ok (.bipush 13, 2) := dk_16 13 (dk_at dksX10_kernel_1 4 rfl rfl)
theorem dX10_kernel_30 : decode cX10_kernel 30 = .ok (.if_icmp .ne 7, 3) := dk_160 0 7 (dk_at dksX10_kernel_1 6 rfl rfl)
theorem dX10_kernel_33 : decode cX10_kernel 33 = .ok (.iconst 1, 1) := dk_4 (dk_at dksX10_kernel_1 9 rfl rfl)
theorem dX10_kernel_34 : decode cX10_kernel 34 = .ok (.goto 4, 3) := dk_167 0 4 (dk_at dksX10_kernel_1 10 rfl rfl)
theorem dX10_kernel_37 : decode cX10_kernel 37 = .ok (.iconst 0, 1) := dk_3 (dk_at dksX10_kernel_1 13 rfl rfl)
theorem dX10_kernel_38 : decode cX10_kernel 38 = .ok (.istore_n 2, 1) := dk_61 (dk_at dksX10_kernel_1 14 rfl rfl)
theorem dX10_kernel_39 : decode cX10_kernel 39 = .ok (.iload_n 2, 1) := dk_28 (dk_at dksX10_kernel_1 15 rfl rfl)
theorem dX10_kernel_40 : decode cX10_kernel 40 = .ok (.ifCond .eq 11, 3) := dk_153 0 11 (dk_at dksX10_kernel_1 16 rfl rfl)
theorem dX10_kernel_43 : decode cX10_kernel 43 = .ok (.aload_n 0, 1) := dk_42 (dk_at dksX10_kernel_1 19 rfl rfl)
theorem dX10_kernel_44 : decode cX10_kernel 44 = .ok (.iload_n 1, 1) := dk_27 (dk_at dksX10_kernel_1 20 rfl rfl)
theorem dX10_kernel_45 : decode cX10_kernel 45 = .ok (.invokevirtual 291, 3) := dk_182 1 35 (dk_at dksX10_kernel_1 21 rfl rfl)
theorem dX10_kernel_48 : decode cX10_kernel 48 = .ok (.goto 8, 3) := dk_167 0 8 (dk_at dksX10_kernel_2 0 rfl rfl)
theorem dX10_kernel_51 : decode cX10_kernel 51 = .ok (.aload_n 0, 1) := dk_42 (dk_at dksX10_kernel_2 3 rfl rfl)
theorem dX10_kernel_52 : decode cX10_kernel 52 = .ok (.iconst 1, 1) := dk_4 (dk_at dksX10_kernel_2 4 rfl rfl)
theorem dX10_kernel_53 : decode cX10_kernel 53 = .ok (.invokevirtual 204, 3) := dk_182 0 204 (dk_at dksX10_kernel_2 5 rfl rfl)
theorem dX10_kernel_56 : decode cX10_kernel 56 = .ok (.ireturn, 1) := dk_172 (dk_at dksX10_kernel_2 8 rfl rfl)
abbrev cX10_kernelOf : ByteArray := prog_26_method_65_code
def yX10_kernelOf : MethodName := ⟨RX10, "kernelOf", "(I)I"⟩
def dkwX10_kernelOf_9 : List UInt8 := [28, 184, 0, 130, 100, 172]
abbrev dktX10_kernelOf_9 : List UInt8 := dkwX10_kernelOf_9 ++ []
def dkwX10_kernelOf_8 : List UInt8 := [167, 255, 208, 132, 6, 1, 167, 255, 165, 132, 3, 1, 167, 255, 66, 42, 180, 0, 13, 3, 46, 184, 0, 130]
abbrev dktX10_kernelOf_8 : List UInt8 := dkwX10_kernelOf_8 ++ dktX10_kernelOf_9
def dkwX10_kernelOf_7 : List UInt8 := [21, 7, 42, 180, 0, 34, 21, 4, 50, 21, 8, 46, 104, 100, 27, 184, 1, 25, 79, 132, 8, 1]
abbrev dktX10_kernelOf_7 : List UInt8 := dkwX10_kernelOf_7 ++ dktX10_kernelOf_8
def dkwX10_kernelOf_6 : List UInt8 := [16, 12, 162, 0, 47, 42, 180, 0, 34, 21, 6, 50, 21, 8, 42, 180, 0, 34, 21, 6, 50, 21, 8, 46]
abbrev dktX10_kernelOf_6 : List UInt8 := dkwX10_kernelOf_6 ++ dktX10_kernelOf_7
def dkwX10_kernelOf_5 : List UInt8 := [167, 0, 17, 42, 180, 0, 34, 21, 6, 50, 29, 46, 21, 5, 104, 27, 112, 54, 7, 3, 54, 8, 21, 8]
abbrev dktX10_kernelOf_5 : List UInt8 := dkwX10_kernelOf_5 ++ dktX10_kernelOf_6
def dkwX10_kernelOf_4 : List UInt8 := [27, 184, 1, 32, 54, 5, 3, 54, 6, 21, 6, 16, 12, 162, 0, 90, 21, 6, 21, 4, 160, 0, 7, 3]
abbrev dktX10_kernelOf_4 : List UInt8 := dkwX10_kernelOf_4 ++ dktX10_kernelOf_5
def dkwX10_kernelOf_3 : List UInt8 := [21, 4, 156, 0, 6, 167, 0, 122, 28, 4, 21, 4, 120, 128, 61, 42, 180, 0, 34, 21, 4, 50, 29, 46]
abbrev dktX10_kernelOf_3 : List UInt8 := dkwX10_kernelOf_3 ++ dktX10_kernelOf_4
def dkwX10_kernelOf_2 : List UInt8 := [21, 5, 50, 29, 46, 153, 0, 8, 21, 5, 167, 0, 5, 21, 4, 54, 4, 132, 5, 1, 167, 255, 211]
abbrev dktX10_kernelOf_2 : List UInt8 := dkwX10_kernelOf_2 ++ dktX10_kernelOf_3
def dkwX10_kernelOf_1 : List UInt8 := [16, 12, 162, 0, 44, 21, 4, 156, 0, 29, 28, 21, 5, 184, 0, 96, 154, 0, 20, 42, 180, 0, 34]
abbrev dktX10_kernelOf_1 : List UInt8 := dkwX10_kernelOf_1 ++ dktX10_kernelOf_2
def dkwX10_kernelOf_0 : List UInt8 := [42, 27, 182, 1, 28, 3, 61, 3, 62, 29, 16, 12, 162, 0, 190, 2, 54, 4, 3, 54, 5, 21, 5]
abbrev dktX10_kernelOf_0 : List UInt8 := dkwX10_kernelOf_0 ++ dktX10_kernelOf_1
theorem dksX10_kernelOf_0 : cX10_kernelOf.data.toList.drop 0 = dktX10_kernelOf_0 := by decide +kernel
theorem dksX10_kernelOf_1 : cX10_kernelOf.data.toList.drop 23 = dktX10_kernelOf_1 := dk_seg dksX10_kernelOf_0 23 rfl rfl
theorem dksX10_kernelOf_2 : cX10_kernelOf.data.toList.drop 46 = dktX10_kernelOf_2 := dk_seg dksX10_kernelOf_1 23 rfl rfl
theorem dksX10_kernelOf_3 : cX10_kernelOf.data.toList.drop 69 = dktX10_kernelOf_3 := dk_seg dksX10_kernelOf_2 23 rfl rfl
theorem dksX10_kernelOf_4 : cX10_kernelOf.data.toList.drop 93 = dktX10_kernelOf_4 := dk_seg dksX10_kernelOf_3 24 rfl rfl
theorem dksX10_kernelOf_5 : cX10_kernelOf.data.toList.drop 117 = dktX10_kernelOf_5 := dk_seg dksX10_kernelOf_4 24 rfl rfl
theorem dksX10_kernelOf_6 : cX10_kernelOf.data.toList.drop 141 = dktX10_kernelOf_6 := dk_seg dksX10_kernelOf_5 24 rfl rfl
theorem dksX10_kernelOf_7 : cX10_kernelOf.data.toList.drop 165 = dktX10_kernelOf_7 := dk_seg dksX10_kernelOf_6 24 rfl rfl
theorem dksX10_kernelOf_8 : cX10_kernelOf.data.toList.drop 187 = dktX10_kernelOf_8 := dk_seg dksX10_kernelOf_7 22 rfl rfl
theorem dksX10_kernelOf_9 : cX10_kernelOf.data.toList.drop 211 = dktX10_kernelOf_9 := dk_seg dksX10_kernelOf_8 24 rfl rfl
theorem dX10_kernelOf_0 : decode cX10_kernelOf 0 = .ok (.aload_n 0, 1) := dk_42 (dk_at dksX10_kernelOf_0 0 rfl rfl)
theorem dX10_kernelOf_1 : decode cX10_kernelOf 1 = .ok (.iload_n 1, 1) := dk_27 (dk_at dksX10_kernelOf_0 1 rfl rfl)
theorem dX10_kernelOf_2 : decode cX10_kernelOf 2 = .ok (.invokevirtual 284, 3) := dk_182 1 28 (dk_at dksX10_kernelOf_0 2 rfl rfl)
theorem dX10_kernelOf_5 : decode cX10_kernelOf 5 = .ok (.iconst 0, 1) := dk_3 (dk_at dksX10_kernelOf_0 5 rfl rfl)
theorem dX10_kernelOf_6 : decode cX10_kernelOf 6 = .ok (.istore_n 2, 1) := dk_61 (dk_at dksX10_kernelOf_0 6 rfl rfl)
theorem dX10_kernelOf_7 : decode cX10_kernelOf 7 = .ok (.iconst 0, 1) := dk_3 (dk_at dksX10_kernelOf_0 7 rfl rfl)
theorem dX10_kernelOf_8 : decode cX10_kernelOf 8 = .ok (.istore_n 3, 1) := dk_62 (dk_at dksX10_kernelOf_0 8 rfl rfl)
theorem dX10_kernelOf_9 : decode cX10_kernelOf 9 = .ok (.iload_n 3, 1) := dk_29 (dk_at dksX10_kernelOf_0 9 rfl rfl)
theorem dX10_kernelOf_10 : decode cX10_kernelOf 10 = .ok (.bipush 12, 2) := dk_16 12 (dk_at dksX10_kernelOf_0 10 rfl rfl)
theorem dX10_kernelOf_12 : decode cX10_kernelOf 12 = .ok (.if_icmp .ge 190, 3) := dk_162 0 190 (dk_at dksX10_kernelOf_0 12 rfl rfl)
theorem dX10_kernelOf_15 : decode cX10_kernelOf 15 = .ok (.iconst (-1), 1) := dk_2 (dk_at dksX10_kernelOf_0 15 rfl rfl)
theorem dX10_kernelOf_16 : decode cX10_kernelOf 16 = .ok (.istore 4, 2) := dk_54 4 (dk_at dksX10_kernelOf_0 16 rfl rfl)
theorem dX10_kernelOf_18 : decode cX10_kernelOf 18 = .ok (.iconst 0, 1) := dk_3 (dk_at dksX10_kernelOf_0 18 rfl rfl)
theorem dX10_kernelOf_19 : decode cX10_kernelOf 19 = .ok (.istore 5, 2) := dk_54 5 (dk_at dksX10_kernelOf_0 19 rfl rfl)
theorem dX10_kernelOf_21 : decode cX10_kernelOf 21 = .ok (.iload 5, 2) := dk_21 5 (dk_at dksX10_kernelOf_0 21 rfl rfl)
theorem dX10_kernelOf_23 : decode cX10_kernelOf 23 = .ok (.bipush 12, 2) := dk_16 12 (dk_at dksX10_kernelOf_1 0 rfl rfl)
theorem dX10_kernelOf_25 : decode cX10_kernelOf 25 = .ok (.if_icmp .ge 44, 3) := dk_162 0 44 (dk_at dksX10_kernelOf_1 2 rfl rfl)
theorem dX10_kernelOf_28 : decode cX10_kernelOf 28 = .ok (.iload 4, 2) := dk_21 4 (dk_at dksX10_kernelOf_1 5 rfl rfl)
theorem dX10_kernelOf_30 : decode cX10_kernelOf 30 = .ok (.ifCond .ge 29, 3) := dk_156 0 29 (dk_at dksX10_kernelOf_1 7 rfl rfl)
theorem dX10_kernelOf_33 : decode cX10_kernelOf 33 = .ok (.iload_n 2, 1) := dk_28 (dk_at dksX10_kernelOf_1 10 rfl rfl)
theorem dX10_kernelOf_34 : decode cX10_kernelOf 34 = .ok (.iload 5, 2) := dk_21 5 (dk_at dksX10_kernelOf_1 11 rfl rfl)
theorem dX10_kernelOf_36 : decode cX10_kernelOf 36 = .ok (.invokestatic 96, 3) := dk_184 0 96 (dk_at dksX10_kernelOf_1 13 rfl rfl)
theorem dX10_kernelOf_39 : decode cX10_kernelOf 39 = .ok (.ifCond .ne 20, 3) := dk_154 0 20 (dk_at dksX10_kernelOf_1 16 rfl rfl)
theorem dX10_kernelOf_42 : decode cX10_kernelOf 42 = .ok (.aload_n 0, 1) := dk_42 (dk_at dksX10_kernelOf_1 19 rfl rfl)
theorem dX10_kernelOf_43 : decode cX10_kernelOf 43 = .ok (.getfield 34, 3) := dk_180 0 34 (dk_at dksX10_kernelOf_1 20 rfl rfl)
theorem dX10_kernelOf_46 : decode cX10_kernelOf 46 = .ok (.iload 5, 2) := dk_21 5 (dk_at dksX10_kernelOf_2 0 rfl rfl)
theorem dX10_kernelOf_48 : decode cX10_kernelOf 48 = .ok (.aaload, 1) := dk_50 (dk_at dksX10_kernelOf_2 2 rfl rfl)
theorem dX10_kernelOf_49 : decode cX10_kernelOf 49 = .ok (.iload_n 3, 1) := dk_29 (dk_at dksX10_kernelOf_2 3 rfl rfl)
theorem dX10_kernelOf_50 : decode cX10_kernelOf 50 = .ok (.iaload, 1) := dk_46 (dk_at dksX10_kernelOf_2 4 rfl rfl)
theorem dX10_kernelOf_51 : decode cX10_kernelOf 51 = .ok (.ifCond .eq 8, 3) := dk_153 0 8 (dk_at dksX10_kernelOf_2 5 rfl rfl)
theorem dX10_kernelOf_54 : decode cX10_kernelOf 54 = .ok (.iload 5, 2) := dk_21 5 (dk_at dksX10_kernelOf_2 8 rfl rfl)
theorem dX10_kernelOf_56 : decode cX10_kernelOf 56 = .ok (.goto 5, 3) := dk_167 0 5 (dk_at dksX10_kernelOf_2 10 rfl rfl)
theorem dX10_kernelOf_59 : decode cX10_kernelOf 59 = .ok (.iload 4, 2) := dk_21 4 (dk_at dksX10_kernelOf_2 13 rfl rfl)
theorem dX10_kernelOf_61 : decode cX10_kernelOf 61 = .ok (.istore 4, 2) := dk_54 4 (dk_at dksX10_kernelOf_2 15 rfl rfl)
theorem dX10_kernelOf_63 : decode cX10_kernelOf 63 = .ok (.iinc 5 1, 3) := dk_132 5 1 (dk_at dksX10_kernelOf_2 17 rfl rfl)
theorem dX10_kernelOf_66 : decode cX10_kernelOf 66 = .ok (.goto (-45), 3) := dk_167 255 211 (dk_at dksX10_kernelOf_2 20 rfl rfl)
theorem dX10_kernelOf_69 : decode cX10_kernelOf 69 = .ok (.iload 4, 2) := dk_21 4 (dk_at dksX10_kernelOf_3 0 rfl rfl)
theorem dX10_kernelOf_71 : decode cX10_kernelOf 71 = .ok (.ifCond .ge 6, 3) := dk_156 0 6 (dk_at dksX10_kernelOf_3 2 rfl rfl)
theorem dX10_kernelOf_74 : decode cX10_kernelOf 74 = .ok (.goto 122, 3) := dk_167 0 122 (dk_at dksX10_kernelOf_3 5 rfl rfl)
theorem dX10_kernelOf_77 : decode cX10_kernelOf 77 = .ok (.iload_n 2, 1) := dk_28 (dk_at dksX10_kernelOf_3 8 rfl rfl)
theorem dX10_kernelOf_78 : decode cX10_kernelOf 78 = .ok (.iconst 1, 1) := dk_4 (dk_at dksX10_kernelOf_3 9 rfl rfl)
theorem dX10_kernelOf_79 : decode cX10_kernelOf 79 = .ok (.iload 4, 2) := dk_21 4 (dk_at dksX10_kernelOf_3 10 rfl rfl)
theorem dX10_kernelOf_81 : decode cX10_kernelOf 81 = .ok (.ishl, 1) := dk_120 (dk_at dksX10_kernelOf_3 12 rfl rfl)
theorem dX10_kernelOf_82 : decode cX10_kernelOf 82 = .ok (.ior, 1) := dk_128 (dk_at dksX10_kernelOf_3 13 rfl rfl)
theorem dX10_kernelOf_83 : decode cX10_kernelOf 83 = .ok (.istore_n 2, 1) := dk_61 (dk_at dksX10_kernelOf_3 14 rfl rfl)
theorem dX10_kernelOf_84 : decode cX10_kernelOf 84 = .ok (.aload_n 0, 1) := dk_42 (dk_at dksX10_kernelOf_3 15 rfl rfl)
theorem dX10_kernelOf_85 : decode cX10_kernelOf 85 = .ok (.getfield 34, 3) := dk_180 0 34 (dk_at dksX10_kernelOf_3 16 rfl rfl)
theorem dX10_kernelOf_88 : decode cX10_kernelOf 88 = .ok (.iload 4, 2) := dk_21 4 (dk_at dksX10_kernelOf_3 19 rfl rfl)
theorem dX10_kernelOf_90 : decode cX10_kernelOf 90 = .ok (.aaload, 1) := dk_50 (dk_at dksX10_kernelOf_3 21 rfl rfl)
theorem dX10_kernelOf_91 : decode cX10_kernelOf 91 = .ok (.iload_n 3, 1) := dk_29 (dk_at dksX10_kernelOf_3 22 rfl rfl)
theorem dX10_kernelOf_92 : decode cX10_kernelOf 92 = .ok (.iaload, 1) := dk_46 (dk_at dksX10_kernelOf_3 23 rfl rfl)
theorem dX10_kernelOf_93 : decode cX10_kernelOf 93 = .ok (.iload_n 1, 1) := dk_27 (dk_at dksX10_kernelOf_4 0 rfl rfl)
theorem dX10_kernelOf_94 : decode cX10_kernelOf 94 = .ok (.invokestatic 288, 3) := dk_184 1 32 (dk_at dksX10_kernelOf_4 1 rfl rfl)
theorem dX10_kernelOf_97 : decode cX10_kernelOf 97 = .ok (.istore 5, 2) := dk_54 5 (dk_at dksX10_kernelOf_4 4 rfl rfl)
theorem dX10_kernelOf_99 : decode cX10_kernelOf 99 = .ok (.iconst 0, 1) := dk_3 (dk_at dksX10_kernelOf_4 6 rfl rfl)
theorem dX10_kernelOf_100 : decode cX10_kernelOf 100 = .ok (.istore 6, 2) := dk_54 6 (dk_at dksX10_kernelOf_4 7 rfl rfl)
theorem dX10_kernelOf_102 : decode cX10_kernelOf 102 = .ok (.iload 6, 2) := dk_21 6 (dk_at dksX10_kernelOf_4 9 rfl rfl)
theorem dX10_kernelOf_104 : decode cX10_kernelOf 104 = .ok (.bipush 12, 2) := dk_16 12 (dk_at dksX10_kernelOf_4 11 rfl rfl)
theorem dX10_kernelOf_106 : decode cX10_kernelOf 106 = .ok (.if_icmp .ge 90, 3) := dk_162 0 90 (dk_at dksX10_kernelOf_4 13 rfl rfl)
theorem dX10_kernelOf_109 : decode cX10_kernelOf 109 = .ok (.iload 6, 2) := dk_21 6 (dk_at dksX10_kernelOf_4 16 rfl rfl)
theorem dX10_kernelOf_111 : decode cX10_kernelOf 111 = .ok (.iload 4, 2) := dk_21 4 (dk_at dksX10_kernelOf_4 18 rfl rfl)
theorem dX10_kernelOf_113 : decode cX10_kernelOf 113 = .ok (.if_icmp .ne 7, 3) := dk_160 0 7 (dk_at dksX10_kernelOf_4 20 rfl rfl)
theorem dX10_kernelOf_116 : decode cX10_kernelOf 116 = .ok (.iconst 0, 1) := dk_3 (dk_at dksX10_kernelOf_4 23 rfl rfl)
theorem dX10_kernelOf_117 : decode cX10_kernelOf 117 = .ok (.goto 17, 3) := dk_167 0 17 (dk_at dksX10_kernelOf_5 0 rfl rfl)
theorem dX10_kernelOf_120 : decode cX10_kernelOf 120 = .ok (.aload_n 0, 1) := dk_42 (dk_at dksX10_kernelOf_5 3 rfl rfl)
theorem dX10_kernelOf_121 : decode cX10_kernelOf 121 = .ok (.getfield 34, 3) := dk_180 0 34 (dk_at dksX10_kernelOf_5 4 rfl rfl)
theorem dX10_kernelOf_124 : decode cX10_kernelOf 124 = .ok (.iload 6, 2) := dk_21 6 (dk_at dksX10_kernelOf_5 7 rfl rfl)
theorem dX10_kernelOf_126 : decode cX10_kernelOf 126 = .ok (.aaload, 1) := dk_50 (dk_at dksX10_kernelOf_5 9 rfl rfl)
theorem dX10_kernelOf_127 : decode cX10_kernelOf 127 = .ok (.iload_n 3, 1) := dk_29 (dk_at dksX10_kernelOf_5 10 rfl rfl)
theorem dX10_kernelOf_128 : decode cX10_kernelOf 128 = .ok (.iaload, 1) := dk_46 (dk_at dksX10_kernelOf_5 11 rfl rfl)
theorem dX10_kernelOf_129 : decode cX10_kernelOf 129 = .ok (.iload 5, 2) := dk_21 5 (dk_at dksX10_kernelOf_5 12 rfl rfl)
theorem dX10_kernelOf_131 : decode cX10_kernelOf 131 = .ok (.imul, 1) := dk_104 (dk_at dksX10_kernelOf_5 14 rfl rfl)
theorem dX10_kernelOf_132 : decode cX10_kernelOf 132 = .ok (.iload_n 1, 1) := dk_27 (dk_at dksX10_kernelOf_5 15 rfl rfl)
theorem dX10_kernelOf_133 : decode cX10_kernelOf 133 = .ok (.irem, 1) := dk_112 (dk_at dksX10_kernelOf_5 16 rfl rfl)
theorem dX10_kernelOf_134 : decode cX10_kernelOf 134 = .ok (.istore 7, 2) := dk_54 7 (dk_at dksX10_kernelOf_5 17 rfl rfl)
theorem dX10_kernelOf_136 : decode cX10_kernelOf 136 = .ok (.iconst 0, 1) := dk_3 (dk_at dksX10_kernelOf_5 19 rfl rfl)
theorem dX10_kernelOf_137 : decode cX10_kernelOf 137 = .ok (.istore 8, 2) := dk_54 8 (dk_at dksX10_kernelOf_5 20 rfl rfl)
theorem dX10_kernelOf_139 : decode cX10_kernelOf 139 = .ok (.iload 8, 2) := dk_21 8 (dk_at dksX10_kernelOf_5 22 rfl rfl)
theorem dX10_kernelOf_141 : decode cX10_kernelOf 141 = .ok (.bipush 12, 2) := dk_16 12 (dk_at dksX10_kernelOf_6 0 rfl rfl)
theorem dX10_kernelOf_143 : decode cX10_kernelOf 143 = .ok (.if_icmp .ge 47, 3) := dk_162 0 47 (dk_at dksX10_kernelOf_6 2 rfl rfl)
theorem dX10_kernelOf_146 : decode cX10_kernelOf 146 = .ok (.aload_n 0, 1) := dk_42 (dk_at dksX10_kernelOf_6 5 rfl rfl)
theorem dX10_kernelOf_147 : decode cX10_kernelOf 147 = .ok (.getfield 34, 3) := dk_180 0 34 (dk_at dksX10_kernelOf_6 6 rfl rfl)
theorem dX10_kernelOf_150 : decode cX10_kernelOf 150 = .ok (.iload 6, 2) := dk_21 6 (dk_at dksX10_kernelOf_6 9 rfl rfl)
theorem dX10_kernelOf_152 : decode cX10_kernelOf 152 = .ok (.aaload, 1) := dk_50 (dk_at dksX10_kernelOf_6 11 rfl rfl)
theorem dX10_kernelOf_153 : decode cX10_kernelOf 153 = .ok (.iload 8, 2) := dk_21 8 (dk_at dksX10_kernelOf_6 12 rfl rfl)
theorem dX10_kernelOf_155 : decode cX10_kernelOf 155 = .ok (.aload_n 0, 1) := dk_42 (dk_at dksX10_kernelOf_6 14 rfl rfl)
theorem dX10_kernelOf_156 : decode cX10_kernelOf 156 = .ok (.getfield 34, 3) := dk_180 0 34 (dk_at dksX10_kernelOf_6 15 rfl rfl)
theorem dX10_kernelOf_159 : decode cX10_kernelOf 159 = .ok (.iload 6, 2) := dk_21 6 (dk_at dksX10_kernelOf_6 18 rfl rfl)
theorem dX10_kernelOf_161 : decode cX10_kernelOf 161 = .ok (.aaload, 1) := dk_50 (dk_at dksX10_kernelOf_6 20 rfl rfl)
theorem dX10_kernelOf_162 : decode cX10_kernelOf 162 = .ok (.iload 8, 2) := dk_21 8 (dk_at dksX10_kernelOf_6 21 rfl rfl)
theorem dX10_kernelOf_164 : decode cX10_kernelOf 164 = .ok (.iaload, 1) := dk_46 (dk_at dksX10_kernelOf_6 23 rfl rfl)
theorem dX10_kernelOf_165 : decode cX10_kernelOf 165 = .ok (.iload 7, 2) := dk_21 7 (dk_at dksX10_kernelOf_7 0 rfl rfl)
theorem dX10_kernelOf_167 : decode cX10_kernelOf 167 = .ok (.aload_n 0, 1) := dk_42 (dk_at dksX10_kernelOf_7 2 rfl rfl)
theorem dX10_kernelOf_168 : decode cX10_kernelOf 168 = .ok (.getfield 34, 3) := dk_180 0 34 (dk_at dksX10_kernelOf_7 3 rfl rfl)
theorem dX10_kernelOf_171 : decode cX10_kernelOf 171 = .ok (.iload 4, 2) := dk_21 4 (dk_at dksX10_kernelOf_7 6 rfl rfl)
theorem dX10_kernelOf_173 : decode cX10_kernelOf 173 = .ok (.aaload, 1) := dk_50 (dk_at dksX10_kernelOf_7 8 rfl rfl)
theorem dX10_kernelOf_174 : decode cX10_kernelOf 174 = .ok (.iload 8, 2) := dk_21 8 (dk_at dksX10_kernelOf_7 9 rfl rfl)
theorem dX10_kernelOf_176 : decode cX10_kernelOf 176 = .ok (.iaload, 1) := dk_46 (dk_at dksX10_kernelOf_7 11 rfl rfl)
theorem dX10_kernelOf_177 : decode cX10_kernelOf 177 = .ok (.imul, 1) := dk_104 (dk_at dksX10_kernelOf_7 12 rfl rfl)
theorem dX10_kernelOf_178 : decode cX10_kernelOf 178 = .ok (.isub, 1) := dk_100 (dk_at dksX10_kernelOf_7 13 rfl rfl)
theorem dX10_kernelOf_179 : decode cX10_kernelOf 179 = .ok (.iload_n 1, 1) := dk_27 (dk_at dksX10_kernelOf_7 14 rfl rfl)
theorem dX10_kernelOf_180 : decode cX10_kernelOf 180 = .ok (.invokestatic 281, 3) := dk_184 1 25 (dk_at dksX10_kernelOf_7 15 rfl rfl)
theorem dX10_kernelOf_183 : decode cX10_kernelOf 183 = .ok (.iastore, 1) := dk_79 (dk_at dksX10_kernelOf_7 18 rfl rfl)
theorem dX10_kernelOf_184 : decode cX10_kernelOf 184 = .ok (.iinc 8 1, 3) := dk_132 8 1 (dk_at dksX10_kernelOf_7 19 rfl rfl)
theorem dX10_kernelOf_187 : decode cX10_kernelOf 187 = .ok (.goto (-48), 3) := dk_167 255 208 (dk_at dksX10_kernelOf_8 0 rfl rfl)
theorem dX10_kernelOf_190 : decode cX10_kernelOf 190 = .ok (.iinc 6 1, 3) := dk_132 6 1 (dk_at dksX10_kernelOf_8 3 rfl rfl)
theorem dX10_kernelOf_193 : decode cX10_kernelOf 193 = .ok (.goto (-91), 3) := dk_167 255 165 (dk_at dksX10_kernelOf_8 6 rfl rfl)
theorem dX10_kernelOf_196 : decode cX10_kernelOf 196 = .ok (.iinc 3 1, 3) := dk_132 3 1 (dk_at dksX10_kernelOf_8 9 rfl rfl)
theorem dX10_kernelOf_199 : decode cX10_kernelOf 199 = .ok (.goto (-190), 3) := dk_167 255 66 (dk_at dksX10_kernelOf_8 12 rfl rfl)
theorem dX10_kernelOf_202 : decode cX10_kernelOf 202 = .ok (.aload_n 0, 1) := dk_42 (dk_at dksX10_kernelOf_8 15 rfl rfl)
theorem dX10_kernelOf_203 : decode cX10_kernelOf 203 = .ok (.getfield 13, 3) := dk_180 0 13 (dk_at dksX10_kernelOf_8 16 rfl rfl)
theorem dX10_kernelOf_206 : decode cX10_kernelOf 206 = .ok (.iconst 0, 1) := dk_3 (dk_at dksX10_kernelOf_8 19 rfl rfl)
theorem dX10_kernelOf_207 : decode cX10_kernelOf 207 = .ok (.iaload, 1) := dk_46 (dk_at dksX10_kernelOf_8 20 rfl rfl)
theorem dX10_kernelOf_208 : decode cX10_kernelOf 208 = .ok (.invokestatic 130, 3) := dk_184 0 130 (dk_at dksX10_kernelOf_8 21 rfl rfl)
theorem dX10_kernelOf_211 : decode cX10_kernelOf 211 = .ok (.iload_n 2, 1) := dk_28 (dk_at dksX10_kernelOf_9 0 rfl rfl)
theorem dX10_kernelOf_212 : decode cX10_kernelOf 212 = .ok (.invokestatic 130, 3) := dk_184 0 130 (dk_at dksX10_kernelOf_9 1 rfl rfl)
theorem dX10_kernelOf_215 : decode cX10_kernelOf 215 = .ok (.isub, 1) := dk_100 (dk_at dksX10_kernelOf_9 4 rfl rfl)
theorem dX10_kernelOf_216 : decode cX10_kernelOf 216 = .ok (.ireturn, 1) := dk_172 (dk_at dksX10_kernelOf_9 5 rfl rfl)
abbrev cX10_layRows : ByteArray := prog_26_method_64_code
def yX10_layRows : MethodName := ⟨RX10, "layRows", "(I)V"⟩
def dkwX10_layRows_3 : List UInt8 := [132, 2, 1, 167, 255, 185, 177]
abbrev dktX10_layRows_3 : List UInt8 := dkwX10_layRows_3 ++ []
def dkwX10_layRows_2 : List UInt8 := [153, 0, 16, 42, 28, 29, 182, 0, 231, 27, 184, 1, 25, 167, 0, 4, 3, 79, 132, 3, 1, 167, 255, 199]
abbrev dktX10_layRows_2 : List UInt8 := dkwX10_layRows_2 ++ dktX10_layRows_3
def dkwX10_layRows_1 : List UInt8 := [180, 0, 13, 3, 46, 28, 184, 0, 96, 153, 0, 29, 42, 180, 0, 13, 3, 46, 29, 184, 0, 96]
abbrev dktX10_layRows_1 : List UInt8 := dkwX10_layRows_1 ++ dktX10_layRows_2
def dkwX10_layRows_0 : List UInt8 := [3, 61, 28, 16, 12, 162, 0, 71, 3, 62, 29, 16, 12, 162, 0, 57, 42, 180, 0, 34, 28, 50, 29, 42]
abbrev dktX10_layRows_0 : List UInt8 := dkwX10_layRows_0 ++ dktX10_layRows_1
theorem dksX10_layRows_0 : cX10_layRows.data.toList.drop 0 = dktX10_layRows_0 := by decide +kernel
theorem dksX10_layRows_1 : cX10_layRows.data.toList.drop 24 = dktX10_layRows_1 := dk_seg dksX10_layRows_0 24 rfl rfl
theorem dksX10_layRows_2 : cX10_layRows.data.toList.drop 46 = dktX10_layRows_2 := dk_seg dksX10_layRows_1 22 rfl rfl
theorem dksX10_layRows_3 : cX10_layRows.data.toList.drop 70 = dktX10_layRows_3 := dk_seg dksX10_layRows_2 24 rfl rfl
theorem dX10_layRows_0 : decode cX10_layRows 0 = .ok (.iconst 0, 1) := dk_3 (dk_at dksX10_layRows_0 0 rfl rfl)
theorem dX10_layRows_1 : decode cX10_layRows 1 = .ok (.istore_n 2, 1) := dk_61 (dk_at dksX10_layRows_0 1 rfl rfl)
theorem dX10_layRows_2 : decode cX10_layRows 2 = .ok (.iload_n 2, 1) := dk_28 (dk_at dksX10_layRows_0 2 rfl rfl)
theorem dX10_layRows_3 : decode cX10_layRows 3 = .ok (.bipush 12, 2) := dk_16 12 (dk_at dksX10_layRows_0 3 rfl rfl)
theorem dX10_layRows_5 : decode cX10_layRows 5 = .ok (.if_icmp .ge 71, 3) := dk_162 0 71 (dk_at dksX10_layRows_0 5 rfl rfl)
theorem dX10_layRows_8 : decode cX10_layRows 8 = .ok (.iconst 0, 1) := dk_3 (dk_at dksX10_layRows_0 8 rfl rfl)
theorem dX10_layRows_9 : decode cX10_layRows 9 = .ok (.istore_n 3, 1) := dk_62 (dk_at dksX10_layRows_0 9 rfl rfl)
theorem dX10_layRows_10 : decode cX10_layRows 10 = .ok (.iload_n 3, 1) := dk_29 (dk_at dksX10_layRows_0 10 rfl rfl)
theorem dX10_layRows_11 : decode cX10_layRows 11 = .ok (.bipush 12, 2) := dk_16 12 (dk_at dksX10_layRows_0 11 rfl rfl)
theorem dX10_layRows_13 : decode cX10_layRows 13 = .ok (.if_icmp .ge 57, 3) := dk_162 0 57 (dk_at dksX10_layRows_0 13 rfl rfl)
theorem dX10_layRows_16 : decode cX10_layRows 16 = .ok (.aload_n 0, 1) := dk_42 (dk_at dksX10_layRows_0 16 rfl rfl)
theorem dX10_layRows_17 : decode cX10_layRows 17 = .ok (.getfield 34, 3) := dk_180 0 34 (dk_at dksX10_layRows_0 17 rfl rfl)
theorem dX10_layRows_20 : decode cX10_layRows 20 = .ok (.iload_n 2, 1) := dk_28 (dk_at dksX10_layRows_0 20 rfl rfl)
theorem dX10_layRows_21 : decode cX10_layRows 21 = .ok (.aaload, 1) := dk_50 (dk_at dksX10_layRows_0 21 rfl rfl)
theorem dX10_layRows_22 : decode cX10_layRows 22 = .ok (.iload_n 3, 1) := dk_29 (dk_at dksX10_layRows_0 22 rfl rfl)
theorem dX10_layRows_23 : decode cX10_layRows 23 = .ok (.aload_n 0, 1) := dk_42 (dk_at dksX10_layRows_0 23 rfl rfl)
theorem dX10_layRows_24 : decode cX10_layRows 24 = .ok (.getfield 13, 3) := dk_180 0 13 (dk_at dksX10_layRows_1 0 rfl rfl)
theorem dX10_layRows_27 : decode cX10_layRows 27 = .ok (.iconst 0, 1) := dk_3 (dk_at dksX10_layRows_1 3 rfl rfl)
theorem dX10_layRows_28 : decode cX10_layRows 28 = .ok (.iaload, 1) := dk_46 (dk_at dksX10_layRows_1 4 rfl rfl)
theorem dX10_layRows_29 : decode cX10_layRows 29 = .ok (.iload_n 2, 1) := dk_28 (dk_at dksX10_layRows_1 5 rfl rfl)
theorem dX10_layRows_30 : decode cX10_layRows 30 = .ok (.invokestatic 96, 3) := dk_184 0 96 (dk_at dksX10_layRows_1 6 rfl rfl)
theorem dX10_layRows_33 : decode cX10_layRows 33 = .ok (.ifCond .eq 29, 3) := dk_153 0 29 (dk_at dksX10_layRows_1 9 rfl rfl)
theorem dX10_layRows_36 : decode cX10_layRows 36 = .ok (.aload_n 0, 1) := dk_42 (dk_at dksX10_layRows_1 12 rfl rfl)
theorem dX10_layRows_37 : decode cX10_layRows 37 = .ok (.getfield 13, 3) := dk_180 0 13 (dk_at dksX10_layRows_1 13 rfl rfl)
theorem dX10_layRows_40 : decode cX10_layRows 40 = .ok (.iconst 0, 1) := dk_3 (dk_at dksX10_layRows_1 16 rfl rfl)
theorem dX10_layRows_41 : decode cX10_layRows 41 = .ok (.iaload, 1) := dk_46 (dk_at dksX10_layRows_1 17 rfl rfl)
theorem dX10_layRows_42 : decode cX10_layRows 42 = .ok (.iload_n 3, 1) := dk_29 (dk_at dksX10_layRows_1 18 rfl rfl)
theorem dX10_layRows_43 : decode cX10_layRows 43 = .ok (.invokestatic 96, 3) := dk_184 0 96 (dk_at dksX10_layRows_1 19 rfl rfl)
theorem dX10_layRows_46 : decode cX10_layRows 46 = .ok (.ifCond .eq 16, 3) := dk_153 0 16 (dk_at dksX10_layRows_2 0 rfl rfl)
theorem dX10_layRows_49 : decode cX10_layRows 49 = .ok (.aload_n 0, 1) := dk_42 (dk_at dksX10_layRows_2 3 rfl rfl)
theorem dX10_layRows_50 : decode cX10_layRows 50 = .ok (.iload_n 2, 1) := dk_28 (dk_at dksX10_layRows_2 4 rfl rfl)
theorem dX10_layRows_51 : decode cX10_layRows 51 = .ok (.iload_n 3, 1) := dk_29 (dk_at dksX10_layRows_2 5 rfl rfl)
theorem dX10_layRows_52 : decode cX10_layRows 52 = .ok (.invokevirtual 231, 3) := dk_182 0 231 (dk_at dksX10_layRows_2 6 rfl rfl)
theorem dX10_layRows_55 : decode cX10_layRows 55 = .ok (.iload_n 1, 1) := dk_27 (dk_at dksX10_layRows_2 9 rfl rfl)
theorem dX10_layRows_56 : decode cX10_layRows 56 = .ok (.invokestatic 281, 3) := dk_184 1 25 (dk_at dksX10_layRows_2 10 rfl rfl)
theorem dX10_layRows_59 : decode cX10_layRows 59 = .ok (.goto 4, 3) := dk_167 0 4 (dk_at dksX10_layRows_2 13 rfl rfl)
theorem dX10_layRows_62 : decode cX10_layRows 62 = .ok (.iconst 0, 1) := dk_3 (dk_at dksX10_layRows_2 16 rfl rfl)
theorem dX10_layRows_63 : decode cX10_layRows 63 = .ok (.iastore, 1) := dk_79 (dk_at dksX10_layRows_2 17 rfl rfl)
theorem dX10_layRows_64 : decode cX10_layRows 64 = .ok (.iinc 3 1, 3) := dk_132 3 1 (dk_at dksX10_layRows_2 18 rfl rfl)
theorem dX10_layRows_67 : decode cX10_layRows 67 = .ok (.goto (-57), 3) := dk_167 255 199 (dk_at dksX10_layRows_2 21 rfl rfl)
theorem dX10_layRows_70 : decode cX10_layRows 70 = .ok (.iinc 2 1, 3) := dk_132 2 1 (dk_at dksX10_layRows_3 0 rfl rfl)
theorem dX10_layRows_73 : decode cX10_layRows 73 = .ok (.goto (-71), 3) := dk_167 255 185 (dk_at dksX10_layRows_3 3 rfl rfl)
theorem dX10_layRows_76 : decode cX10_layRows 76 = .ok (.return_, 1) := dk_177 (dk_at dksX10_layRows_3 6 rfl rfl)
abbrev cX10_mod : ByteArray := prog_26_method_63_code
def yX10_mod : MethodName := ⟨RX10, "mod", "(II)I"⟩
def dkwX10_mod_0 : List UInt8 := [26, 27, 112, 61, 28, 156, 0, 9, 28, 27, 96, 167, 0, 4, 28, 172]
abbrev dktX10_mod_0 : List UInt8 := dkwX10_mod_0 ++ []
theorem dksX10_mod_0 : cX10_mod.data.toList.drop 0 = dktX10_mod_0 := by decide +kernel
theorem dX10_mod_0 : decode cX10_mod 0 = .ok (.iload_n 0, 1) := dk_26 (dk_at dksX10_mod_0 0 rfl rfl)
theorem dX10_mod_1 : decode cX10_mod 1 = .ok (.iload_n 1, 1) := dk_27 (dk_at dksX10_mod_0 1 rfl rfl)
theorem dX10_mod_2 : decode cX10_mod 2 = .ok (.irem, 1) := dk_112 (dk_at dksX10_mod_0 2 rfl rfl)
theorem dX10_mod_3 : decode cX10_mod 3 = .ok (.istore_n 2, 1) := dk_61 (dk_at dksX10_mod_0 3 rfl rfl)
theorem dX10_mod_4 : decode cX10_mod 4 = .ok (.iload_n 2, 1) := dk_28 (dk_at dksX10_mod_0 4 rfl rfl)
theorem dX10_mod_5 : decode cX10_mod 5 = .ok (.ifCond .ge 9, 3) := dk_156 0 9 (dk_at dksX10_mod_0 5 rfl rfl)
theorem dX10_mod_8 : decode cX10_mod 8 = .ok (.iload_n 2, 1) := dk_28 (dk_at dksX10_mod_0 8 rfl rfl)
theorem dX10_mod_9 : decode cX10_mod 9 = .ok (.iload_n 1, 1) := dk_27 (dk_at dksX10_mod_0 9 rfl rfl)
theorem dX10_mod_10 : decode cX10_mod 10 = .ok (.iadd, 1) := dk_96 (dk_at dksX10_mod_0 10 rfl rfl)
theorem dX10_mod_11 : decode cX10_mod 11 = .ok (.goto 4, 3) := dk_167 0 4 (dk_at dksX10_mod_0 11 rfl rfl)
theorem dX10_mod_14 : decode cX10_mod 14 = .ok (.iload_n 2, 1) := dk_28 (dk_at dksX10_mod_0 14 rfl rfl)
theorem dX10_mod_15 : decode cX10_mod 15 = .ok (.ireturn, 1) := dk_172 (dk_at dksX10_mod_0 15 rfl rfl)
abbrev cX10_inverse : ByteArray := prog_26_method_62_code
def yX10_inverse : MethodName := ⟨RX10, "inverse", "(II)I"⟩
def dkwX10_inverse_0 : List UInt8 := [4, 61, 28, 26, 104, 27, 112, 4, 159, 0, 9, 132, 2, 1, 167, 255, 244, 28, 172]
abbrev dktX10_inverse_0 : List UInt8 := dkwX10_inverse_0 ++ []
theorem dksX10_inverse_0 : cX10_inverse.data.toList.drop 0 = dktX10_inverse_0 := by decide +kernel
theorem dX10_inverse_0 : decode cX10_inverse 0 = .ok (.iconst 1, 1) := dk_4 (dk_at dksX10_inverse_0 0 rfl rfl)
theorem dX10_inverse_1 : decode cX10_inverse 1 = .ok (.istore_n 2, 1) := dk_61 (dk_at dksX10_inverse_0 1 rfl rfl)
theorem dX10_inverse_2 : decode cX10_inverse 2 = .ok (.iload_n 2, 1) := dk_28 (dk_at dksX10_inverse_0 2 rfl rfl)
theorem dX10_inverse_3 : decode cX10_inverse 3 = .ok (.iload_n 0, 1) := dk_26 (dk_at dksX10_inverse_0 3 rfl rfl)
theorem dX10_inverse_4 : decode cX10_inverse 4 = .ok (.imul, 1) := dk_104 (dk_at dksX10_inverse_0 4 rfl rfl)
theorem dX10_inverse_5 : decode cX10_inverse 5 = .ok (.iload_n 1, 1) := dk_27 (dk_at dksX10_inverse_0 5 rfl rfl)
theorem dX10_inverse_6 : decode cX10_inverse 6 = .ok (.irem, 1) := dk_112 (dk_at dksX10_inverse_0 6 rfl rfl)
theorem dX10_inverse_7 : decode cX10_inverse 7 = .ok (.iconst 1, 1) := dk_4 (dk_at dksX10_inverse_0 7 rfl rfl)
theorem dX10_inverse_8 : decode cX10_inverse 8 = .ok (.if_icmp .eq 9, 3) := dk_159 0 9 (dk_at dksX10_inverse_0 8 rfl rfl)
theorem dX10_inverse_11 : decode cX10_inverse 11 = .ok (.iinc 2 1, 3) := dk_132 2 1 (dk_at dksX10_inverse_0 11 rfl rfl)
theorem dX10_inverse_14 : decode cX10_inverse 14 = .ok (.goto (-12), 3) := dk_167 255 244 (dk_at dksX10_inverse_0 14 rfl rfl)
theorem dX10_inverse_17 : decode cX10_inverse 17 = .ok (.iload_n 2, 1) := dk_28 (dk_at dksX10_inverse_0 17 rfl rfl)
theorem dX10_inverse_18 : decode cX10_inverse 18 = .ok (.ireturn, 1) := dk_172 (dk_at dksX10_inverse_0 18 rfl rfl)
abbrev cX10_wu : ByteArray := prog_26_method_70_code
def yX10_wu : MethodName := ⟨RX10, "wu", "(I)I"⟩
def dkwX10_wu_1 : List UInt8 := [4, 182, 0, 204, 172]
abbrev dktX10_wu_1 : List UInt8 := dkwX10_wu_1 ++ []
def dkwX10_wu_0 : List UInt8 := [27, 154, 0, 10, 42, 182, 1, 41, 167, 0, 20, 27, 4, 160, 0, 10, 42, 182, 1, 44, 167, 0, 8, 42]
abbrev dktX10_wu_0 : List UInt8 := dkwX10_wu_0 ++ dktX10_wu_1
theorem dksX10_wu_0 : cX10_wu.data.toList.drop 0 = dktX10_wu_0 := by decide +kernel
theorem dksX10_wu_1 : cX10_wu.data.toList.drop 24 = dktX10_wu_1 := dk_seg dksX10_wu_0 24 rfl rfl
theorem dX10_wu_0 : decode cX10_wu 0 = .ok (.iload_n 1, 1) := dk_27 (dk_at dksX10_wu_0 0 rfl rfl)
theorem dX10_wu_1 : decode cX10_wu 1 = .ok (.ifCond .ne 10, 3) := dk_154 0 10 (dk_at dksX10_wu_0 1 rfl rfl)
theorem dX10_wu_4 : decode cX10_wu 4 = .ok (.aload_n 0, 1) := dk_42 (dk_at dksX10_wu_0 4 rfl rfl)
theorem dX10_wu_5 : decode cX10_wu 5 = .ok (.invokevirtual 297, 3) := dk_182 1 41 (dk_at dksX10_wu_0 5 rfl rfl)
theorem dX10_wu_8 : decode cX10_wu 8 = .ok (.goto 20, 3) := dk_167 0 20 (dk_at dksX10_wu_0 8 rfl rfl)
theorem dX10_wu_11 : decode cX10_wu 11 = .ok (.iload_n 1, 1) := dk_27 (dk_at dksX10_wu_0 11 rfl rfl)
theorem dX10_wu_12 : decode cX10_wu 12 = .ok (.iconst 1, 1) := dk_4 (dk_at dksX10_wu_0 12 rfl rfl)
theorem dX10_wu_13 : decode cX10_wu 13 = .ok (.if_icmp .ne 10, 3) := dk_160 0 10 (dk_at dksX10_wu_0 13 rfl rfl)
theorem dX10_wu_16 : decode cX10_wu 16 = .ok (.aload_n 0, 1) := dk_42 (dk_at dksX10_wu_0 16 rfl rfl)
theorem dX10_wu_17 : decode cX10_wu 17 = .ok (.invokevirtual 300, 3) := dk_182 1 44 (dk_at dksX10_wu_0 17 rfl rfl)
theorem dX10_wu_20 : decode cX10_wu 20 = .ok (.goto 8, 3) := dk_167 0 8 (dk_at dksX10_wu_0 20 rfl rfl)
theorem dX10_wu_23 : decode cX10_wu 23 = .ok (.aload_n 0, 1) := dk_42 (dk_at dksX10_wu_0 23 rfl rfl)
theorem dX10_wu_24 : decode cX10_wu 24 = .ok (.iconst 1, 1) := dk_4 (dk_at dksX10_wu_1 0 rfl rfl)
theorem dX10_wu_25 : decode cX10_wu 25 = .ok (.invokevirtual 204, 3) := dk_182 0 204 (dk_at dksX10_wu_1 1 rfl rfl)
theorem dX10_wu_28 : decode cX10_wu 28 = .ok (.ireturn, 1) := dk_172 (dk_at dksX10_wu_1 4 rfl rfl)
abbrev cX10_manyWu : ByteArray := prog_26_method_69_code
def yX10_manyWu : MethodName := ⟨RX10, "manyWu", "()I"⟩
def dkwX10_manyWu_2 : List UInt8 := [27, 172]
abbrev dktX10_manyWu_2 : List UInt8 := dkwX10_manyWu_2 ++ []
def dkwX10_manyWu_1 : List UInt8 := [154, 0, 15, 42, 28, 182, 1, 38, 153, 0, 7, 4, 167, 0, 4, 3, 96, 60, 132, 2, 1, 167, 255, 217]
abbrev dktX10_manyWu_1 : List UInt8 := dkwX10_manyWu_1 ++ dktX10_manyWu_2
def dkwX10_manyWu_0 : List UInt8 := [3, 60, 3, 61, 28, 17, 16, 0, 162, 0, 38, 27, 28, 42, 180, 0, 13, 3, 46, 2, 130, 126]
abbrev dktX10_manyWu_0 : List UInt8 := dkwX10_manyWu_0 ++ dktX10_manyWu_1
theorem dksX10_manyWu_0 : cX10_manyWu.data.toList.drop 0 = dktX10_manyWu_0 := by decide +kernel
theorem dksX10_manyWu_1 : cX10_manyWu.data.toList.drop 22 = dktX10_manyWu_1 := dk_seg dksX10_manyWu_0 22 rfl rfl
theorem dksX10_manyWu_2 : cX10_manyWu.data.toList.drop 46 = dktX10_manyWu_2 := dk_seg dksX10_manyWu_1 24 rfl rfl
theorem dX10_manyWu_0 : decode cX10_manyWu 0 = .ok (.iconst 0, 1) := dk_3 (dk_at dksX10_manyWu_0 0 rfl rfl)
theorem dX10_manyWu_1 : decode cX10_manyWu 1 = .ok (.istore_n 1, 1) := dk_60 (dk_at dksX10_manyWu_0 1 rfl rfl)
theorem dX10_manyWu_2 : decode cX10_manyWu 2 = .ok (.iconst 0, 1) := dk_3 (dk_at dksX10_manyWu_0 2 rfl rfl)
theorem dX10_manyWu_3 : decode cX10_manyWu 3 = .ok (.istore_n 2, 1) := dk_61 (dk_at dksX10_manyWu_0 3 rfl rfl)
theorem dX10_manyWu_4 : decode cX10_manyWu 4 = .ok (.iload_n 2, 1) := dk_28 (dk_at dksX10_manyWu_0 4 rfl rfl)
theorem dX10_manyWu_5 : decode cX10_manyWu 5 = .ok (.sipush 4096, 3) := dk_17 16 0 (dk_at dksX10_manyWu_0 5 rfl rfl)
theorem dX10_manyWu_8 : decode cX10_manyWu 8 = .ok (.if_icmp .ge 38, 3) := dk_162 0 38 (dk_at dksX10_manyWu_0 8 rfl rfl)
theorem dX10_manyWu_11 : decode cX10_manyWu 11 = .ok (.iload_n 1, 1) := dk_27 (dk_at dksX10_manyWu_0 11 rfl rfl)
theorem dX10_manyWu_12 : decode cX10_manyWu 12 = .ok (.iload_n 2, 1) := dk_28 (dk_at dksX10_manyWu_0 12 rfl rfl)
theorem dX10_manyWu_13 : decode cX10_manyWu 13 = .ok (.aload_n 0, 1) := dk_42 (dk_at dksX10_manyWu_0 13 rfl rfl)
theorem dX10_manyWu_14 : decode cX10_manyWu 14 = .ok (.getfield 13, 3) := dk_180 0 13 (dk_at dksX10_manyWu_0 14 rfl rfl)
theorem dX10_manyWu_17 : decode cX10_manyWu 17 = .ok (.iconst 0, 1) := dk_3 (dk_at dksX10_manyWu_0 17 rfl rfl)
theorem dX10_manyWu_18 : decode cX10_manyWu 18 = .ok (.iaload, 1) := dk_46 (dk_at dksX10_manyWu_0 18 rfl rfl)
theorem dX10_manyWu_19 : decode cX10_manyWu 19 = .ok (.iconst (-1), 1) := dk_2 (dk_at dksX10_manyWu_0 19 rfl rfl)
theorem dX10_manyWu_20 : decode cX10_manyWu 20 = .ok (.ixor, 1) := dk_130 (dk_at dksX10_manyWu_0 20 rfl rfl)
theorem dX10_manyWu_21 : decode cX10_manyWu 21 = .ok (.iand, 1) := dk_126 (dk_at dksX10_manyWu_0 21 rfl rfl)
theorem dX10_manyWu_22 : decode cX10_manyWu 22 = .ok (.ifCond .ne 15, 3) := dk_154 0 15 (dk_at dksX10_manyWu_1 0 rfl rfl)
theorem dX10_manyWu_25 : decode cX10_manyWu 25 = .ok (.aload_n 0, 1) := dk_42 (dk_at dksX10_manyWu_1 3 rfl rfl)
theorem dX10_manyWu_26 : decode cX10_manyWu 26 = .ok (.iload_n 2, 1) := dk_28 (dk_at dksX10_manyWu_1 4 rfl rfl)
theorem dX10_manyWu_27 : decode cX10_manyWu 27 = .ok (.invokevirtual 294, 3) := dk_182 1 38 (dk_at dksX10_manyWu_1 5 rfl rfl)
theorem dX10_manyWu_30 : decode cX10_manyWu 30 = .ok (.ifCond .eq 7, 3) := dk_153 0 7 (dk_at dksX10_manyWu_1 8 rfl rfl)
theorem dX10_manyWu_33 : decode cX10_manyWu 33 = .ok (.iconst 1, 1) := dk_4 (dk_at dksX10_manyWu_1 11 rfl rfl)
theorem dX10_manyWu_34 : decode cX10_manyWu 34 = .ok (.goto 4, 3) := dk_167 0 4 (dk_at dksX10_manyWu_1 12 rfl rfl)
theorem dX10_manyWu_37 : decode cX10_manyWu 37 = .ok (.iconst 0, 1) := dk_3 (dk_at dksX10_manyWu_1 15 rfl rfl)
theorem dX10_manyWu_38 : decode cX10_manyWu 38 = .ok (.iadd, 1) := dk_96 (dk_at dksX10_manyWu_1 16 rfl rfl)
theorem dX10_manyWu_39 : decode cX10_manyWu 39 = .ok (.istore_n 1, 1) := dk_60 (dk_at dksX10_manyWu_1 17 rfl rfl)
theorem dX10_manyWu_40 : decode cX10_manyWu 40 = .ok (.iinc 2 1, 3) := dk_132 2 1 (dk_at dksX10_manyWu_1 18 rfl rfl)
theorem dX10_manyWu_43 : decode cX10_manyWu 43 = .ok (.goto (-39), 3) := dk_167 255 217 (dk_at dksX10_manyWu_1 21 rfl rfl)
theorem dX10_manyWu_46 : decode cX10_manyWu 46 = .ok (.iload_n 1, 1) := dk_27 (dk_at dksX10_manyWu_2 0 rfl rfl)
theorem dX10_manyWu_47 : decode cX10_manyWu 47 = .ok (.ireturn, 1) := dk_172 (dk_at dksX10_manyWu_2 1 rfl rfl)
abbrev cX10_isWu : ByteArray := prog_26_method_67_code
def yX10_isWu : MethodName := ⟨RX10, "isWu", "(I)Z"⟩
def dkwX10_isWu_3 : List UInt8 := [126, 153, 0, 5, 3, 172, 132, 2, 1, 167, 255, 181, 4, 172]
abbrev dktX10_isWu_3 : List UInt8 := dkwX10_isWu_3 ++ []
def dkwX10_isWu_2 : List UInt8 := [180, 0, 13, 4, 28, 96, 46, 167, 0, 4, 3, 96, 62, 29, 42, 180, 0, 13, 4, 28, 96, 46, 100, 4]
abbrev dktX10_isWu_2 : List UInt8 := dkwX10_isWu_2 ++ dktX10_isWu_3
def dkwX10_isWu_1 : List UInt8 := [180, 0, 13, 16, 13, 28, 96, 46, 27, 126, 184, 0, 130, 27, 28, 184, 0, 96, 153, 0, 14, 42]
abbrev dktX10_isWu_1 : List UInt8 := dkwX10_isWu_1 ++ dktX10_isWu_2
def dkwX10_isWu_0 : List UInt8 := [3, 61, 28, 16, 12, 162, 0, 75, 42, 180, 0, 13, 3, 46, 28, 184, 0, 96, 153, 0, 56, 42]
abbrev dktX10_isWu_0 : List UInt8 := dkwX10_isWu_0 ++ dktX10_isWu_1
theorem dksX10_isWu_0 : cX10_isWu.data.toList.drop 0 = dktX10_isWu_0 := by decide +kernel
theorem dksX10_isWu_1 : cX10_isWu.data.toList.drop 22 = dktX10_isWu_1 := dk_seg dksX10_isWu_0 22 rfl rfl
theorem dksX10_isWu_2 : cX10_isWu.data.toList.drop 44 = dktX10_isWu_2 := dk_seg dksX10_isWu_1 22 rfl rfl
theorem dksX10_isWu_3 : cX10_isWu.data.toList.drop 68 = dktX10_isWu_3 := dk_seg dksX10_isWu_2 24 rfl rfl
theorem dX10_isWu_0 : decode cX10_isWu 0 = .ok (.iconst 0, 1) := dk_3 (dk_at dksX10_isWu_0 0 rfl rfl)
theorem dX10_isWu_1 : decode cX10_isWu 1 = .ok (.istore_n 2, 1) := dk_61 (dk_at dksX10_isWu_0 1 rfl rfl)
theorem dX10_isWu_2 : decode cX10_isWu 2 = .ok (.iload_n 2, 1) := dk_28 (dk_at dksX10_isWu_0 2 rfl rfl)
theorem dX10_isWu_3 : decode cX10_isWu 3 = .ok (.bipush 12, 2) := dk_16 12 (dk_at dksX10_isWu_0 3 rfl rfl)
theorem dX10_isWu_5 : decode cX10_isWu 5 = .ok (.if_icmp .ge 75, 3) := dk_162 0 75 (dk_at dksX10_isWu_0 5 rfl rfl)
theorem dX10_isWu_8 : decode cX10_isWu 8 = .ok (.aload_n 0, 1) := dk_42 (dk_at dksX10_isWu_0 8 rfl rfl)
theorem dX10_isWu_9 : decode cX10_isWu 9 = .ok (.getfield 13, 3) := dk_180 0 13 (dk_at dksX10_isWu_0 9 rfl rfl)
theorem dX10_isWu_12 : decode cX10_isWu 12 = .ok (.iconst 0, 1) := dk_3 (dk_at dksX10_isWu_0 12 rfl rfl)
theorem dX10_isWu_13 : decode cX10_isWu 13 = .ok (.iaload, 1) := dk_46 (dk_at dksX10_isWu_0 13 rfl rfl)
theorem dX10_isWu_14 : decode cX10_isWu 14 = .ok (.iload_n 2, 1) := dk_28 (dk_at dksX10_isWu_0 14 rfl rfl)
theorem dX10_isWu_15 : decode cX10_isWu 15 = .ok (.invokestatic 96, 3) := dk_184 0 96 (dk_at dksX10_isWu_0 15 rfl rfl)
theorem dX10_isWu_18 : decode cX10_isWu 18 = .ok (.ifCond .eq 56, 3) := dk_153 0 56 (dk_at dksX10_isWu_0 18 rfl rfl)
theorem dX10_isWu_21 : decode cX10_isWu 21 = .ok (.aload_n 0, 1) := dk_42 (dk_at dksX10_isWu_0 21 rfl rfl)
theorem dX10_isWu_22 : decode cX10_isWu 22 = .ok (.getfield 13, 3) := dk_180 0 13 (dk_at dksX10_isWu_1 0 rfl rfl)
theorem dX10_isWu_25 : decode cX10_isWu 25 = .ok (.bipush 13, 2) := dk_16 13 (dk_at dksX10_isWu_1 3 rfl rfl)
theorem dX10_isWu_27 : decode cX10_isWu 27 = .ok (.iload_n 2, 1) := dk_28 (dk_at dksX10_isWu_1 5 rfl rfl)
theorem dX10_isWu_28 : decode cX10_isWu 28 = .ok (.iadd, 1) := dk_96 (dk_at dksX10_isWu_1 6 rfl rfl)
theorem dX10_isWu_29 : decode cX10_isWu 29 = .ok (.iaload, 1) := dk_46 (dk_at dksX10_isWu_1 7 rfl rfl)
theorem dX10_isWu_30 : decode cX10_isWu 30 = .ok (.iload_n 1, 1) := dk_27 (dk_at dksX10_isWu_1 8 rfl rfl)
theorem dX10_isWu_31 : decode cX10_isWu 31 = .ok (.iand, 1) := dk_126 (dk_at dksX10_isWu_1 9 rfl rfl)
theorem dX10_isWu_32 : decode cX10_isWu 32 = .ok (.invokestatic 130, 3) := dk_184 0 130 (dk_at dksX10_isWu_1 10 rfl rfl)
theorem dX10_isWu_35 : decode cX10_isWu 35 = .ok (.iload_n 1, 1) := dk_27 (dk_at dksX10_isWu_1 13 rfl rfl)
theorem dX10_isWu_36 : decode cX10_isWu 36 = .ok (.iload_n 2, 1) := dk_28 (dk_at dksX10_isWu_1 14 rfl rfl)
theorem dX10_isWu_37 : decode cX10_isWu 37 = .ok (.invokestatic 96, 3) := dk_184 0 96 (dk_at dksX10_isWu_1 15 rfl rfl)
theorem dX10_isWu_40 : decode cX10_isWu 40 = .ok (.ifCond .eq 14, 3) := dk_153 0 14 (dk_at dksX10_isWu_1 18 rfl rfl)
theorem dX10_isWu_43 : decode cX10_isWu 43 = .ok (.aload_n 0, 1) := dk_42 (dk_at dksX10_isWu_1 21 rfl rfl)
theorem dX10_isWu_44 : decode cX10_isWu 44 = .ok (.getfield 13, 3) := dk_180 0 13 (dk_at dksX10_isWu_2 0 rfl rfl)
theorem dX10_isWu_47 : decode cX10_isWu 47 = .ok (.iconst 1, 1) := dk_4 (dk_at dksX10_isWu_2 3 rfl rfl)
theorem dX10_isWu_48 : decode cX10_isWu 48 = .ok (.iload_n 2, 1) := dk_28 (dk_at dksX10_isWu_2 4 rfl rfl)
theorem dX10_isWu_49 : decode cX10_isWu 49 = .ok (.iadd, 1) := dk_96 (dk_at dksX10_isWu_2 5 rfl rfl)
theorem dX10_isWu_50 : decode cX10_isWu 50 = .ok (.iaload, 1) := dk_46 (dk_at dksX10_isWu_2 6 rfl rfl)
theorem dX10_isWu_51 : decode cX10_isWu 51 = .ok (.goto 4, 3) := dk_167 0 4 (dk_at dksX10_isWu_2 7 rfl rfl)
theorem dX10_isWu_54 : decode cX10_isWu 54 = .ok (.iconst 0, 1) := dk_3 (dk_at dksX10_isWu_2 10 rfl rfl)
theorem dX10_isWu_55 : decode cX10_isWu 55 = .ok (.iadd, 1) := dk_96 (dk_at dksX10_isWu_2 11 rfl rfl)
theorem dX10_isWu_56 : decode cX10_isWu 56 = .ok (.istore_n 3, 1) := dk_62 (dk_at dksX10_isWu_2 12 rfl rfl)
theorem dX10_isWu_57 : decode cX10_isWu 57 = .ok (.iload_n 3, 1) := dk_29 (dk_at dksX10_isWu_2 13 rfl rfl)
theorem dX10_isWu_58 : decode cX10_isWu 58 = .ok (.aload_n 0, 1) := dk_42 (dk_at dksX10_isWu_2 14 rfl rfl)
theorem dX10_isWu_59 : decode cX10_isWu 59 = .ok (.getfield 13, 3) := dk_180 0 13 (dk_at dksX10_isWu_2 15 rfl rfl)
theorem dX10_isWu_62 : decode cX10_isWu 62 = .ok (.iconst 1, 1) := dk_4 (dk_at dksX10_isWu_2 18 rfl rfl)
theorem dX10_isWu_63 : decode cX10_isWu 63 = .ok (.iload_n 2, 1) := dk_28 (dk_at dksX10_isWu_2 19 rfl rfl)
theorem dX10_isWu_64 : decode cX10_isWu 64 = .ok (.iadd, 1) := dk_96 (dk_at dksX10_isWu_2 20 rfl rfl)
theorem dX10_isWu_65 : decode cX10_isWu 65 = .ok (.iaload, 1) := dk_46 (dk_at dksX10_isWu_2 21 rfl rfl)
theorem dX10_isWu_66 : decode cX10_isWu 66 = .ok (.isub, 1) := dk_100 (dk_at dksX10_isWu_2 22 rfl rfl)
theorem dX10_isWu_67 : decode cX10_isWu 67 = .ok (.iconst 1, 1) := dk_4 (dk_at dksX10_isWu_2 23 rfl rfl)
theorem dX10_isWu_68 : decode cX10_isWu 68 = .ok (.iand, 1) := dk_126 (dk_at dksX10_isWu_3 0 rfl rfl)
theorem dX10_isWu_69 : decode cX10_isWu 69 = .ok (.ifCond .eq 5, 3) := dk_153 0 5 (dk_at dksX10_isWu_3 1 rfl rfl)
theorem dX10_isWu_72 : decode cX10_isWu 72 = .ok (.iconst 0, 1) := dk_3 (dk_at dksX10_isWu_3 4 rfl rfl)
theorem dX10_isWu_73 : decode cX10_isWu 73 = .ok (.ireturn, 1) := dk_172 (dk_at dksX10_isWu_3 5 rfl rfl)
theorem dX10_isWu_74 : decode cX10_isWu 74 = .ok (.iinc 2 1, 3) := dk_132 2 1 (dk_at dksX10_isWu_3 6 rfl rfl)
theorem dX10_isWu_77 : decode cX10_isWu 77 = .ok (.goto (-75), 3) := dk_167 255 181 (dk_at dksX10_isWu_3 9 rfl rfl)
theorem dX10_isWu_80 : decode cX10_isWu 80 = .ok (.iconst 1, 1) := dk_4 (dk_at dksX10_isWu_3 12 rfl rfl)
theorem dX10_isWu_81 : decode cX10_isWu 81 = .ok (.ireturn, 1) := dk_172 (dk_at dksX10_isWu_3 13 rfl rfl)
abbrev cX10_leastWu : ByteArray := prog_26_method_68_code
def yX10_leastWu : MethodName := ⟨RX10, "leastWu", "()I"⟩
def dkwX10_leastWu_1 : List UInt8 := [132, 1, 1, 167, 255, 232, 27, 172]
abbrev dktX10_leastWu_1 : List UInt8 := dkwX10_leastWu_1 ++ []
def dkwX10_leastWu_0 : List UInt8 := [3, 60, 27, 42, 180, 0, 13, 3, 46, 2, 130, 126, 154, 0, 11, 42, 27, 182, 1, 38, 154, 0, 9]
abbrev dktX10_leastWu_0 : List UInt8 := dkwX10_leastWu_0 ++ dktX10_leastWu_1
theorem dksX10_leastWu_0 : cX10_leastWu.data.toList.drop 0 = dktX10_leastWu_0 := by decide +kernel
theorem dksX10_leastWu_1 : cX10_leastWu.data.toList.drop 23 = dktX10_leastWu_1 := dk_seg dksX10_leastWu_0 23 rfl rfl
theorem dX10_leastWu_0 : decode cX10_leastWu 0 = .ok (.iconst 0, 1) := dk_3 (dk_at dksX10_leastWu_0 0 rfl rfl)
theorem dX10_leastWu_1 : decode cX10_leastWu 1 = .ok (.istore_n 1, 1) := dk_60 (dk_at dksX10_leastWu_0 1 rfl rfl)
theorem dX10_leastWu_2 : decode cX10_leastWu 2 = .ok (.iload_n 1, 1) := dk_27 (dk_at dksX10_leastWu_0 2 rfl rfl)
theorem dX10_leastWu_3 : decode cX10_leastWu 3 = .ok (.aload_n 0, 1) := dk_42 (dk_at dksX10_leastWu_0 3 rfl rfl)
theorem dX10_leastWu_4 : decode cX10_leastWu 4 = .ok (.getfield 13, 3) := dk_180 0 13 (dk_at dksX10_leastWu_0 4 rfl rfl)
theorem dX10_leastWu_7 : decode cX10_leastWu 7 = .ok (.iconst 0, 1) := dk_3 (dk_at dksX10_leastWu_0 7 rfl rfl)
theorem dX10_leastWu_8 : decode cX10_leastWu 8 = .ok (.iaload, 1) := dk_46 (dk_at dksX10_leastWu_0 8 rfl rfl)
theorem dX10_leastWu_9 : decode cX10_leastWu 9 = .ok (.iconst (-1), 1) := dk_2 (dk_at dksX10_leastWu_0 9 rfl rfl)
theorem dX10_leastWu_10 : decode cX10_leastWu 10 = .ok (.ixor, 1) := dk_130 (dk_at dksX10_leastWu_0 10 rfl rfl)
theorem dX10_leastWu_11 : decode cX10_leastWu 11 = .ok (.iand, 1) := dk_126 (dk_at dksX10_leastWu_0 11 rfl rfl)
theorem dX10_leastWu_12 : decode cX10_leastWu 12 = .ok (.ifCond .ne 11, 3) := dk_154 0 11 (dk_at dksX10_leastWu_0 12 rfl rfl)
theorem dX10_leastWu_15 : decode cX10_leastWu 15 = .ok (.aload_n 0, 1) := dk_42 (dk_at dksX10_leastWu_0 15 rfl rfl)
theorem dX10_leastWu_16 : decode cX10_leastWu 16 = .ok (.iload_n 1, 1) := dk_27 (dk_at dksX10_leastWu_0 16 rfl rfl)
theorem dX10_leastWu_17 : decode cX10_leastWu 17 = .ok (.invokevirtual 294, 3) := dk_182 1 38 (dk_at dksX10_leastWu_0 17 rfl rfl)
theorem dX10_leastWu_20 : decode cX10_leastWu 20 = .ok (.ifCond .ne 9, 3) := dk_154 0 9 (dk_at dksX10_leastWu_0 20 rfl rfl)
theorem dX10_leastWu_23 : decode cX10_leastWu 23 = .ok (.iinc 1 1, 3) := dk_132 1 1 (dk_at dksX10_leastWu_1 0 rfl rfl)
theorem dX10_leastWu_26 : decode cX10_leastWu 26 = .ok (.goto (-24), 3) := dk_167 255 232 (dk_at dksX10_leastWu_1 3 rfl rfl)
theorem dX10_leastWu_29 : decode cX10_leastWu 29 = .ok (.iload_n 1, 1) := dk_27 (dk_at dksX10_leastWu_1 6 rfl rfl)
theorem dX10_leastWu_30 : decode cX10_leastWu 30 = .ok (.ireturn, 1) := dk_172 (dk_at dksX10_leastWu_1 7 rfl rfl)
abbrev cX10_mu : ByteArray := prog_26_method_71_code
def yX10_mu : MethodName := ⟨RX10, "mu", "()I"⟩
def dkwX10_mu_4 : List UInt8 := [3, 182, 1, 22, 42, 4, 182, 1, 22, 100, 28, 100, 172]
abbrev dktX10_mu_4 : List UInt8 := dkwX10_mu_4 ++ []
def dkwX10_mu_3 : List UInt8 := [21, 4, 182, 0, 231, 167, 0, 4, 3, 96, 61, 132, 4, 1, 167, 255, 215, 132, 3, 1, 167, 255, 200, 42]
abbrev dktX10_mu_3 : List UInt8 := dkwX10_mu_3 ++ dktX10_mu_4
def dkwX10_mu_2 : List UInt8 := [162, 0, 40, 28, 27, 29, 184, 0, 96, 153, 0, 22, 27, 21, 4, 184, 0, 96, 153, 0, 13, 42, 29]
abbrev dktX10_mu_2 : List UInt8 := dkwX10_mu_2 ++ dktX10_mu_3
def dkwX10_mu_1 : List UInt8 := [172, 42, 182, 1, 44, 60, 3, 61, 3, 62, 29, 16, 12, 162, 0, 56, 3, 54, 4, 21, 4, 16, 12]
abbrev dktX10_mu_1 : List UInt8 := dkwX10_mu_1 ++ dktX10_mu_2
def dkwX10_mu_0 : List UInt8 := [42, 42, 180, 0, 13, 3, 46, 182, 0, 244, 20, 1, 20, 113, 9, 148, 154, 0, 9, 42, 6, 182, 0, 204]
abbrev dktX10_mu_0 : List UInt8 := dkwX10_mu_0 ++ dktX10_mu_1
theorem dksX10_mu_0 : cX10_mu.data.toList.drop 0 = dktX10_mu_0 := by decide +kernel
theorem dksX10_mu_1 : cX10_mu.data.toList.drop 24 = dktX10_mu_1 := dk_seg dksX10_mu_0 24 rfl rfl
theorem dksX10_mu_2 : cX10_mu.data.toList.drop 47 = dktX10_mu_2 := dk_seg dksX10_mu_1 23 rfl rfl
theorem dksX10_mu_3 : cX10_mu.data.toList.drop 70 = dktX10_mu_3 := dk_seg dksX10_mu_2 23 rfl rfl
theorem dksX10_mu_4 : cX10_mu.data.toList.drop 94 = dktX10_mu_4 := dk_seg dksX10_mu_3 24 rfl rfl
theorem dX10_mu_0 : decode cX10_mu 0 = .ok (.aload_n 0, 1) := dk_42 (dk_at dksX10_mu_0 0 rfl rfl)
theorem dX10_mu_1 : decode cX10_mu 1 = .ok (.aload_n 0, 1) := dk_42 (dk_at dksX10_mu_0 1 rfl rfl)
theorem dX10_mu_2 : decode cX10_mu 2 = .ok (.getfield 13, 3) := dk_180 0 13 (dk_at dksX10_mu_0 2 rfl rfl)
theorem dX10_mu_5 : decode cX10_mu 5 = .ok (.iconst 0, 1) := dk_3 (dk_at dksX10_mu_0 5 rfl rfl)
theorem dX10_mu_6 : decode cX10_mu 6 = .ok (.iaload, 1) := dk_46 (dk_at dksX10_mu_0 6 rfl rfl)
theorem dX10_mu_7 : decode cX10_mu 7 = .ok (.invokevirtual 244, 3) := dk_182 0 244 (dk_at dksX10_mu_0 7 rfl rfl)
theorem dX10_mu_10 : decode cX10_mu 10 = .ok (.ldc2_w 276, 3) := dk_20 1 20 (dk_at dksX10_mu_0 10 rfl rfl)
theorem dX10_mu_13 : decode cX10_mu 13 = .ok (.lrem, 1) := dk_113 (dk_at dksX10_mu_0 13 rfl rfl)
theorem dX10_mu_14 : decode cX10_mu 14 = .ok (.lconst 0, 1) := dk_9 (dk_at dksX10_mu_0 14 rfl rfl)
theorem dX10_mu_15 : decode cX10_mu 15 = .ok (.lcmp, 1) := dk_148 (dk_at dksX10_mu_0 15 rfl rfl)
theorem dX10_mu_16 : decode cX10_mu 16 = .ok (.ifCond .ne 9, 3) := dk_154 0 9 (dk_at dksX10_mu_0 16 rfl rfl)
theorem dX10_mu_19 : decode cX10_mu 19 = .ok (.aload_n 0, 1) := dk_42 (dk_at dksX10_mu_0 19 rfl rfl)
theorem dX10_mu_20 : decode cX10_mu 20 = .ok (.iconst 3, 1) := dk_6 (dk_at dksX10_mu_0 20 rfl rfl)
theorem dX10_mu_21 : decode cX10_mu 21 = .ok (.invokevirtual 204, 3) := dk_182 0 204 (dk_at dksX10_mu_0 21 rfl rfl)
theorem dX10_mu_24 : decode cX10_mu 24 = .ok (.ireturn, 1) := dk_172 (dk_at dksX10_mu_1 0 rfl rfl)
theorem dX10_mu_25 : decode cX10_mu 25 = .ok (.aload_n 0, 1) := dk_42 (dk_at dksX10_mu_1 1 rfl rfl)
theorem dX10_mu_26 : decode cX10_mu 26 = .ok (.invokevirtual 300, 3) := dk_182 1 44 (dk_at dksX10_mu_1 2 rfl rfl)
theorem dX10_mu_29 : decode cX10_mu 29 = .ok (.istore_n 1, 1) := dk_60 (dk_at dksX10_mu_1 5 rfl rfl)
theorem dX10_mu_30 : decode cX10_mu 30 = .ok (.iconst 0, 1) := dk_3 (dk_at dksX10_mu_1 6 rfl rfl)
theorem dX10_mu_31 : decode cX10_mu 31 = .ok (.istore_n 2, 1) := dk_61 (dk_at dksX10_mu_1 7 rfl rfl)
theorem dX10_mu_32 : decode cX10_mu 32 = .ok (.iconst 0, 1) := dk_3 (dk_at dksX10_mu_1 8 rfl rfl)
theorem dX10_mu_33 : decode cX10_mu 33 = .ok (.istore_n 3, 1) := dk_62 (dk_at dksX10_mu_1 9 rfl rfl)
theorem dX10_mu_34 : decode cX10_mu 34 = .ok (.iload_n 3, 1) := dk_29 (dk_at dksX10_mu_1 10 rfl rfl)
theorem dX10_mu_35 : decode cX10_mu 35 = .ok (.bipush 12, 2) := dk_16 12 (dk_at dksX10_mu_1 11 rfl rfl)
theorem dX10_mu_37 : decode cX10_mu 37 = .ok (.if_icmp .ge 56, 3) := dk_162 0 56 (dk_at dksX10_mu_1 13 rfl rfl)
theorem dX10_mu_40 : decode cX10_mu 40 = .ok (.iconst 0, 1) := dk_3 (dk_at dksX10_mu_1 16 rfl rfl)
theorem dX10_mu_41 : decode cX10_mu 41 = .ok (.istore 4, 2) := dk_54 4 (dk_at dksX10_mu_1 17 rfl rfl)
theorem dX10_mu_43 : decode cX10_mu 43 = .ok (.iload 4, 2) := dk_21 4 (dk_at dksX10_mu_1 19 rfl rfl)
theorem dX10_mu_45 : decode cX10_mu 45 = .ok (.bipush 12, 2) := dk_16 12 (dk_at dksX10_mu_1 21 rfl rfl)
theorem dX10_mu_47 : decode cX10_mu 47 = .ok (.if_icmp .ge 40, 3) := dk_162 0 40 (dk_at dksX10_mu_2 0 rfl rfl)
theorem dX10_mu_50 : decode cX10_mu 50 = .ok (.iload_n 2, 1) := dk_28 (dk_at dksX10_mu_2 3 rfl rfl)
theorem dX10_mu_51 : decode cX10_mu 51 = .ok (.iload_n 1, 1) := dk_27 (dk_at dksX10_mu_2 4 rfl rfl)
theorem dX10_mu_52 : decode cX10_mu 52 = .ok (.iload_n 3, 1) := dk_29 (dk_at dksX10_mu_2 5 rfl rfl)
theorem dX10_mu_53 : decode cX10_mu 53 = .ok (.invokestatic 96, 3) := dk_184 0 96 (dk_at dksX10_mu_2 6 rfl rfl)
theorem dX10_mu_56 : decode cX10_mu 56 = .ok (.ifCond .eq 22, 3) := dk_153 0 22 (dk_at dksX10_mu_2 9 rfl rfl)
theorem dX10_mu_59 : decode cX10_mu 59 = .ok (.iload_n 1, 1) := dk_27 (dk_at dksX10_mu_2 12 rfl rfl)
theorem dX10_mu_60 : decode cX10_mu 60 = .ok (.iload 4, 2) := dk_21 4 (dk_at dksX10_mu_2 13 rfl rfl)
theorem dX10_mu_62 : decode cX10_mu 62 = .ok (.invokestatic 96, 3) := dk_184 0 96 (dk_at dksX10_mu_2 15 rfl rfl)
theorem dX10_mu_65 : decode cX10_mu 65 = .ok (.ifCond .eq 13, 3) := dk_153 0 13 (dk_at dksX10_mu_2 18 rfl rfl)
theorem dX10_mu_68 : decode cX10_mu 68 = .ok (.aload_n 0, 1) := dk_42 (dk_at dksX10_mu_2 21 rfl rfl)
theorem dX10_mu_69 : decode cX10_mu 69 = .ok (.iload_n 3, 1) := dk_29 (dk_at dksX10_mu_2 22 rfl rfl)
theorem dX10_mu_70 : decode cX10_mu 70 = .ok (.iload 4, 2) := dk_21 4 (dk_at dksX10_mu_3 0 rfl rfl)
theorem dX10_mu_72 : decode cX10_mu 72 = .ok (.invokevirtual 231, 3) := dk_182 0 231 (dk_at dksX10_mu_3 2 rfl rfl)
theorem dX10_mu_75 : decode cX10_mu 75 = .ok (.goto 4, 3) := dk_167 0 4 (dk_at dksX10_mu_3 5 rfl rfl)
theorem dX10_mu_78 : decode cX10_mu 78 = .ok (.iconst 0, 1) := dk_3 (dk_at dksX10_mu_3 8 rfl rfl)
theorem dX10_mu_79 : decode cX10_mu 79 = .ok (.iadd, 1) := dk_96 (dk_at dksX10_mu_3 9 rfl rfl)
theorem dX10_mu_80 : decode cX10_mu 80 = .ok (.istore_n 2, 1) := dk_61 (dk_at dksX10_mu_3 10 rfl rfl)
theorem dX10_mu_81 : decode cX10_mu 81 = .ok (.iinc 4 1, 3) := dk_132 4 1 (dk_at dksX10_mu_3 11 rfl rfl)
theorem dX10_mu_84 : decode cX10_mu 84 = .ok (.goto (-41), 3) := dk_167 255 215 (dk_at dksX10_mu_3 14 rfl rfl)
theorem dX10_mu_87 : decode cX10_mu 87 = .ok (.iinc 3 1, 3) := dk_132 3 1 (dk_at dksX10_mu_3 17 rfl rfl)
theorem dX10_mu_90 : decode cX10_mu 90 = .ok (.goto (-56), 3) := dk_167 255 200 (dk_at dksX10_mu_3 20 rfl rfl)
theorem dX10_mu_93 : decode cX10_mu 93 = .ok (.aload_n 0, 1) := dk_42 (dk_at dksX10_mu_3 23 rfl rfl)
theorem dX10_mu_94 : decode cX10_mu 94 = .ok (.iconst 0, 1) := dk_3 (dk_at dksX10_mu_4 0 rfl rfl)
theorem dX10_mu_95 : decode cX10_mu 95 = .ok (.invokevirtual 278, 3) := dk_182 1 22 (dk_at dksX10_mu_4 1 rfl rfl)
theorem dX10_mu_98 : decode cX10_mu 98 = .ok (.aload_n 0, 1) := dk_42 (dk_at dksX10_mu_4 4 rfl rfl)
theorem dX10_mu_99 : decode cX10_mu 99 = .ok (.iconst 1, 1) := dk_4 (dk_at dksX10_mu_4 5 rfl rfl)
theorem dX10_mu_100 : decode cX10_mu 100 = .ok (.invokevirtual 278, 3) := dk_182 1 22 (dk_at dksX10_mu_4 6 rfl rfl)
theorem dX10_mu_103 : decode cX10_mu 103 = .ok (.isub, 1) := dk_100 (dk_at dksX10_mu_4 9 rfl rfl)
theorem dX10_mu_104 : decode cX10_mu 104 = .ok (.iload_n 2, 1) := dk_28 (dk_at dksX10_mu_4 10 rfl rfl)
theorem dX10_mu_105 : decode cX10_mu 105 = .ok (.isub, 1) := dk_100 (dk_at dksX10_mu_4 11 rfl rfl)
theorem dX10_mu_106 : decode cX10_mu 106 = .ok (.ireturn, 1) := dk_172 (dk_at dksX10_mu_4 12 rfl rfl)
abbrev cX10_fraction : ByteArray := prog_26_method_73_code
def yX10_fraction : MethodName := ⟨RX10, "fraction", "(III)I"⟩
def dkwX10_fraction_5 : List UInt8 := [55, 9, 42, 22, 7, 9, 148, 156, 0, 9, 22, 9, 117, 167, 0, 5, 22, 9, 182, 0, 248, 172]
abbrev dktX10_fraction_5 : List UInt8 := dkwX10_fraction_5 ++ []
def dkwX10_fraction_4 : List UInt8 := [154, 0, 13, 29, 154, 0, 7, 4, 167, 0, 4, 3, 172, 29, 154, 0, 8, 22, 5, 167, 0, 5, 22, 7]
abbrev dktX10_fraction_4 : List UInt8 := dkwX10_fraction_4 ++ dktX10_fraction_5
def dkwX10_fraction_3 : List UInt8 := [47, 55, 5, 42, 180, 0, 24, 21, 4, 4, 27, 120, 2, 130, 126, 47, 55, 7, 22, 7, 9, 148]
abbrev dktX10_fraction_3 : List UInt8 := dkwX10_fraction_3 ++ dktX10_fraction_4
def dkwX10_fraction_2 : List UInt8 := [42, 5, 182, 0, 204, 172, 42, 27, 28, 182, 1, 47, 54, 4, 42, 182, 0, 235, 42, 180, 0, 24, 21, 4]
abbrev dktX10_fraction_2 : List UInt8 := dkwX10_fraction_2 ++ dktX10_fraction_3
def dkwX10_fraction_1 : List UInt8 := [154, 0, 9, 42, 4, 182, 0, 204, 172, 42, 180, 0, 13, 27, 184, 0, 118, 28, 184, 0, 96, 154, 0, 9]
abbrev dktX10_fraction_1 : List UInt8 := dkwX10_fraction_1 ++ dktX10_fraction_2
def dkwX10_fraction_0 : List UInt8 := [42, 27, 182, 0, 216, 153, 0, 21, 42, 28, 182, 0, 216, 153, 0, 13, 29, 133, 9, 10, 184, 0, 102]
abbrev dktX10_fraction_0 : List UInt8 := dkwX10_fraction_0 ++ dktX10_fraction_1
theorem dksX10_fraction_0 : cX10_fraction.data.toList.drop 0 = dktX10_fraction_0 := by decide +kernel
theorem dksX10_fraction_1 : cX10_fraction.data.toList.drop 23 = dktX10_fraction_1 := dk_seg dksX10_fraction_0 23 rfl rfl
theorem dksX10_fraction_2 : cX10_fraction.data.toList.drop 47 = dktX10_fraction_2 := dk_seg dksX10_fraction_1 24 rfl rfl
theorem dksX10_fraction_3 : cX10_fraction.data.toList.drop 71 = dktX10_fraction_3 := dk_seg dksX10_fraction_2 24 rfl rfl
theorem dksX10_fraction_4 : cX10_fraction.data.toList.drop 93 = dktX10_fraction_4 := dk_seg dksX10_fraction_3 22 rfl rfl
theorem dksX10_fraction_5 : cX10_fraction.data.toList.drop 117 = dktX10_fraction_5 := dk_seg dksX10_fraction_4 24 rfl rfl
theorem dX10_fraction_0 : decode cX10_fraction 0 = .ok (.aload_n 0, 1) := dk_42 (dk_at dksX10_fraction_0 0 rfl rfl)
theorem dX10_fraction_1 : decode cX10_fraction 1 = .ok (.iload_n 1, 1) := dk_27 (dk_at dksX10_fraction_0 1 rfl rfl)
theorem dX10_fraction_2 : decode cX10_fraction 2 = .ok (.invokevirtual 216, 3) := dk_182 0 216 (dk_at dksX10_fraction_0 2 rfl rfl)
theorem dX10_fraction_5 : decode cX10_fraction 5 = .ok (.ifCond .eq 21, 3) := dk_153 0 21 (dk_at dksX10_fraction_0 5 rfl rfl)
theorem dX10_fraction_8 : decode cX10_fraction 8 = .ok (.aload_n 0, 1) := dk_42 (dk_at dksX10_fraction_0 8 rfl rfl)
theorem dX10_fraction_9 : decode cX10_fraction 9 = .ok (.iload_n 2, 1) := dk_28 (dk_at dksX10_fraction_0 9 rfl rfl)
theorem dX10_fraction_10 : decode cX10_fraction 10 = .ok (.invokevirtual 216, 3) := dk_182 0 216 (dk_at dksX10_fraction_0 10 rfl rfl)
theorem dX10_fraction_13 : decode cX10_fraction 13 = .ok (.ifCond .eq 13, 3) := dk_153 0 13 (dk_at dksX10_fraction_0 13 rfl rfl)
theorem dX10_fraction_16 : decode cX10_fraction 16 = .ok (.iload_n 3, 1) := dk_29 (dk_at dksX10_fraction_0 16 rfl rfl)
theorem dX10_fraction_17 : decode cX10_fraction 17 = .ok (.i2l, 1) := dk_133 (dk_at dksX10_fraction_0 17 rfl rfl)
theorem dX10_fraction_18 : decode cX10_fraction 18 = .ok (.lconst 0, 1) := dk_9 (dk_at dksX10_fraction_0 18 rfl rfl)
theorem dX10_fraction_19 : decode cX10_fraction 19 = .ok (.lconst 1, 1) := dk_10 (dk_at dksX10_fraction_0 19 rfl rfl)
theorem dX10_fraction_20 : decode cX10_fraction 20 = .ok (.invokestatic 102, 3) := dk_184 0 102 (dk_at dksX10_fraction_0 20 rfl rfl)
theorem dX10_fraction_23 : decode cX10_fraction 23 = .ok (.ifCond .ne 9, 3) := dk_154 0 9 (dk_at dksX10_fraction_1 0 rfl rfl)
theorem dX10_fraction_26 : decode cX10_fraction 26 = .ok (.aload_n 0, 1) := dk_42 (dk_at dksX10_fraction_1 3 rfl rfl)
theorem dX10_fraction_27 : decode cX10_fraction 27 = .ok (.iconst 1, 1) := dk_4 (dk_at dksX10_fraction_1 4 rfl rfl)
theorem dX10_fraction_28 : decode cX10_fraction 28 = .ok (.invokevirtual 204, 3) := dk_182 0 204 (dk_at dksX10_fraction_1 5 rfl rfl)
theorem dX10_fraction_31 : decode cX10_fraction 31 = .ok (.ireturn, 1) := dk_172 (dk_at dksX10_fraction_1 8 rfl rfl)
theorem dX10_fraction_32 : decode cX10_fraction 32 = .ok (.aload_n 0, 1) := dk_42 (dk_at dksX10_fraction_1 9 rfl rfl)
theorem dX10_fraction_33 : decode cX10_fraction 33 = .ok (.getfield 13, 3) := dk_180 0 13 (dk_at dksX10_fraction_1 10 rfl rfl)
theorem dX10_fraction_36 : decode cX10_fraction 36 = .ok (.iload_n 1, 1) := dk_27 (dk_at dksX10_fraction_1 13 rfl rfl)
theorem dX10_fraction_37 : decode cX10_fraction 37 = .ok (.invokestatic 118, 3) := dk_184 0 118 (dk_at dksX10_fraction_1 14 rfl rfl)
theorem dX10_fraction_40 : decode cX10_fraction 40 = .ok (.iload_n 2, 1) := dk_28 (dk_at dksX10_fraction_1 17 rfl rfl)
theorem dX10_fraction_41 : decode cX10_fraction 41 = .ok (.invokestatic 96, 3) := dk_184 0 96 (dk_at dksX10_fraction_1 18 rfl rfl)
theorem dX10_fraction_44 : decode cX10_fraction 44 = .ok (.ifCond .ne 9, 3) := dk_154 0 9 (dk_at dksX10_fraction_1 21 rfl rfl)
theorem dX10_fraction_47 : decode cX10_fraction 47 = .ok (.aload_n 0, 1) := dk_42 (dk_at dksX10_fraction_2 0 rfl rfl)
theorem dX10_fraction_48 : decode cX10_fraction 48 = .ok (.iconst 2, 1) := dk_5 (dk_at dksX10_fraction_2 1 rfl rfl)
theorem dX10_fraction_49 : decode cX10_fraction 49 = .ok (.invokevirtual 204, 3) := dk_182 0 204 (dk_at dksX10_fraction_2 2 rfl rfl)
theorem dX10_fraction_52 : decode cX10_fraction 52 = .ok (.ireturn, 1) := dk_172 (dk_at dksX10_fraction_2 5 rfl rfl)
theorem dX10_fraction_53 : decode cX10_fraction 53 = .ok (.aload_n 0, 1) := dk_42 (dk_at dksX10_fraction_2 6 rfl rfl)
theorem dX10_fraction_54 : decode cX10_fraction 54 = .ok (.iload_n 1, 1) := dk_27 (dk_at dksX10_fraction_2 7 rfl rfl)
theorem dX10_fraction_55 : decode cX10_fraction 55 = .ok (.iload_n 2, 1) := dk_28 (dk_at dksX10_fraction_2 8 rfl rfl)
theorem dX10_fraction_56 : decode cX10_fraction 56 = .ok (.invokevirtual 303, 3) := dk_182 1 47 (dk_at dksX10_fraction_2 9 rfl rfl)
theorem dX10_fraction_59 : decode cX10_fraction 59 = .ok (.istore 4, 2) := dk_54 4 (dk_at dksX10_fraction_2 12 rfl rfl)
theorem dX10_fraction_61 : decode cX10_fraction 61 = .ok (.aload_n 0, 1) := dk_42 (dk_at dksX10_fraction_2 14 rfl rfl)
theorem dX10_fraction_62 : decode cX10_fraction 62 = .ok (.invokevirtual 235, 3) := dk_182 0 235 (dk_at dksX10_fraction_2 15 rfl rfl)
theorem dX10_fraction_65 : decode cX10_fraction 65 = .ok (.aload_n 0, 1) := dk_42 (dk_at dksX10_fraction_2 18 rfl rfl)
theorem dX10_fraction_66 : decode cX10_fraction 66 = .ok (.getfield 24, 3) := dk_180 0 24 (dk_at dksX10_fraction_2 19 rfl rfl)
theorem dX10_fraction_69 : decode cX10_fraction 69 = .ok (.iload 4, 2) := dk_21 4 (dk_at dksX10_fraction_2 22 rfl rfl)
theorem dX10_fraction_71 : decode cX10_fraction 71 = .ok (.laload, 1) := dk_47 (dk_at dksX10_fraction_3 0 rfl rfl)
theorem dX10_fraction_72 : decode cX10_fraction 72 = .ok (.lstore 5, 2) := dk_55 5 (dk_at dksX10_fraction_3 1 rfl rfl)
theorem dX10_fraction_74 : decode cX10_fraction 74 = .ok (.aload_n 0, 1) := dk_42 (dk_at dksX10_fraction_3 3 rfl rfl)
theorem dX10_fraction_75 : decode cX10_fraction 75 = .ok (.getfield 24, 3) := dk_180 0 24 (dk_at dksX10_fraction_3 4 rfl rfl)
theorem dX10_fraction_78 : decode cX10_fraction 78 = .ok (.iload 4, 2) := dk_21 4 (dk_at dksX10_fraction_3 7 rfl rfl)
theorem dX10_fraction_80 : decode cX10_fraction 80 = .ok (.iconst 1, 1) := dk_4 (dk_at dksX10_fraction_3 9 rfl rfl)
theorem dX10_fraction_81 : decode cX10_fraction 81 = .ok (.iload_n 1, 1) := dk_27 (dk_at dksX10_fraction_3 10 rfl rfl)
theorem dX10_fraction_82 : decode cX10_fraction 82 = .ok (.ishl, 1) := dk_120 (dk_at dksX10_fraction_3 11 rfl rfl)
theorem dX10_fraction_83 : decode cX10_fraction 83 = .ok (.iconst (-1), 1) := dk_2 (dk_at dksX10_fraction_3 12 rfl rfl)
theorem dX10_fraction_84 : decode cX10_fraction 84 = .ok (.ixor, 1) := dk_130 (dk_at dksX10_fraction_3 13 rfl rfl)
theorem dX10_fraction_85 : decode cX10_fraction 85 = .ok (.iand, 1) := dk_126 (dk_at dksX10_fraction_3 14 rfl rfl)
theorem dX10_fraction_86 : decode cX10_fraction 86 = .ok (.laload, 1) := dk_47 (dk_at dksX10_fraction_3 15 rfl rfl)
theorem dX10_fraction_87 : decode cX10_fraction 87 = .ok (.lstore 7, 2) := dk_55 7 (dk_at dksX10_fraction_3 16 rfl rfl)
theorem dX10_fraction_89 : decode cX10_fraction 89 = .ok (.lload 7, 2) := dk_22 7 (dk_at dksX10_fraction_3 18 rfl rfl)
theorem dX10_fraction_91 : decode cX10_fraction 91 = .ok (.lconst 0, 1) := dk_9 (dk_at dksX10_fraction_3 20 rfl rfl)
theorem dX10_fraction_92 : decode cX10_fraction 92 = .ok (.lcmp, 1) := dk_148 (dk_at dksX10_fraction_3 21 rfl rfl)
theorem dX10_fraction_93 : decode cX10_fraction 93 = .ok (.ifCond .ne 13, 3) := dk_154 0 13 (dk_at dksX10_fraction_4 0 rfl rfl)
theorem dX10_fraction_96 : decode cX10_fraction 96 = .ok (.iload_n 3, 1) := dk_29 (dk_at dksX10_fraction_4 3 rfl rfl)
theorem dX10_fraction_97 : decode cX10_fraction 97 = .ok (.ifCond .ne 7, 3) := dk_154 0 7 (dk_at dksX10_fraction_4 4 rfl rfl)
theorem dX10_fraction_100 : decode cX10_fraction 100 = .ok (.iconst 1, 1) := dk_4 (dk_at dksX10_fraction_4 7 rfl rfl)
theorem dX10_fraction_101 : decode cX10_fraction 101 = .ok (.goto 4, 3) := dk_167 0 4 (dk_at dksX10_fraction_4 8 rfl rfl)
theorem dX10_fraction_104 : decode cX10_fraction 104 = .ok (.iconst 0, 1) := dk_3 (dk_at dksX10_fraction_4 11 rfl rfl)
theorem dX10_fraction_105 : decode cX10_fraction 105 = .ok (.ireturn, 1) := dk_172 (dk_at dksX10_fraction_4 12 rfl rfl)
theorem dX10_fraction_106 : decode cX10_fraction 106 = .ok (.iload_n 3, 1) := dk_29 (dk_at dksX10_fraction_4 13 rfl rfl)
theorem dX10_fraction_107 : decode cX10_fraction 107 = .ok (.ifCond .ne 8, 3) := dk_154 0 8 (dk_at dksX10_fraction_4 14 rfl rfl)
theorem dX10_fraction_110 : decode cX10_fraction 110 = .ok (.lload 5, 2) := dk_22 5 (dk_at dksX10_fraction_4 17 rfl rfl)
theorem dX10_fraction_112 : decode cX10_fraction 112 = .ok (.goto 5, 3) := dk_167 0 5 (dk_at dksX10_fraction_4 19 rfl rfl)
theorem dX10_fraction_115 : decode cX10_fraction 115 = .ok (.lload 7, 2) := dk_22 7 (dk_at dksX10_fraction_4 22 rfl rfl)
theorem dX10_fraction_117 : decode cX10_fraction 117 = .ok (.lstore 9, 2) := dk_55 9 (dk_at dksX10_fraction_5 0 rfl rfl)
theorem dX10_fraction_119 : decode cX10_fraction 119 = .ok (.aload_n 0, 1) := dk_42 (dk_at dksX10_fraction_5 2 rfl rfl)
theorem dX10_fraction_120 : decode cX10_fraction 120 = .ok (.lload 7, 2) := dk_22 7 (dk_at dksX10_fraction_5 3 rfl rfl)
theorem dX10_fraction_122 : decode cX10_fraction 122 = .ok (.lconst 0, 1) := dk_9 (dk_at dksX10_fraction_5 5 rfl rfl)
theorem dX10_fraction_123 : decode cX10_fraction 123 = .ok (.lcmp, 1) := dk_148 (dk_at dksX10_fraction_5 6 rfl rfl)
theorem dX10_fraction_124 : decode cX10_fraction 124 = .ok (.ifCond .ge 9, 3) := dk_156 0 9 (dk_at dksX10_fraction_5 7 rfl rfl)
theorem dX10_fraction_127 : decode cX10_fraction 127 = .ok (.lload 9, 2) := dk_22 9 (dk_at dksX10_fraction_5 10 rfl rfl)
theorem dX10_fraction_129 : decode cX10_fraction 129 = .ok (.lneg, 1) := dk_117 (dk_at dksX10_fraction_5 12 rfl rfl)
theorem dX10_fraction_130 : decode cX10_fraction 130 = .ok (.goto 5, 3) := dk_167 0 5 (dk_at dksX10_fraction_5 13 rfl rfl)
theorem dX10_fraction_133 : decode cX10_fraction 133 = .ok (.lload 9, 2) := dk_22 9 (dk_at dksX10_fraction_5 16 rfl rfl)
theorem dX10_fraction_135 : decode cX10_fraction 135 = .ok (.invokevirtual 248, 3) := dk_182 0 248 (dk_at dksX10_fraction_5 18 rfl rfl)
theorem dX10_fraction_138 : decode cX10_fraction 138 = .ok (.ireturn, 1) := dk_172 (dk_at dksX10_fraction_5 21 rfl rfl)
abbrev cX10_way : ByteArray := prog_26_method_72_code
def yX10_way : MethodName := ⟨RX10, "way", "(II)I"⟩
def dkwX10_way_4 : List UInt8 := [132, 5, 1, 167, 255, 181, 167, 255, 166, 27, 28, 160, 0, 9, 4, 27, 120, 167, 0, 4, 29, 172]
abbrev dktX10_way_4 : List UInt8 := dkwX10_way_4 ++ []
def dkwX10_way_3 : List UInt8 := [167, 0, 4, 3, 54, 6, 29, 21, 6, 153, 0, 12, 4, 21, 5, 120, 2, 130, 167, 0, 4, 2, 126, 62]
abbrev dktX10_way_3 : List UInt8 := dkwX10_way_3 ++ dktX10_way_4
def dkwX10_way_2 : List UInt8 := [28, 159, 0, 26, 42, 180, 0, 13, 16, 13, 21, 5, 96, 46, 29, 126, 184, 0, 130, 4, 163, 0, 7, 4]
abbrev dktX10_way_2 : List UInt8 := dkwX10_way_2 ++ dktX10_way_3
def dkwX10_way_1 : List UInt8 := [21, 5, 16, 12, 162, 0, 74, 29, 21, 5, 184, 0, 96, 153, 0, 38, 21, 5, 27, 159, 0, 32, 21, 5]
abbrev dktX10_way_1 : List UInt8 := dkwX10_way_1 ++ dktX10_way_2
def dkwX10_way_0 : List UInt8 := [42, 180, 0, 13, 27, 184, 0, 118, 62, 3, 54, 4, 21, 4, 29, 159, 0, 90, 29, 54, 4, 3, 54, 5]
abbrev dktX10_way_0 : List UInt8 := dkwX10_way_0 ++ dktX10_way_1
theorem dksX10_way_0 : cX10_way.data.toList.drop 0 = dktX10_way_0 := by decide +kernel
theorem dksX10_way_1 : cX10_way.data.toList.drop 24 = dktX10_way_1 := dk_seg dksX10_way_0 24 rfl rfl
theorem dksX10_way_2 : cX10_way.data.toList.drop 48 = dktX10_way_2 := dk_seg dksX10_way_1 24 rfl rfl
theorem dksX10_way_3 : cX10_way.data.toList.drop 72 = dktX10_way_3 := dk_seg dksX10_way_2 24 rfl rfl
theorem dksX10_way_4 : cX10_way.data.toList.drop 96 = dktX10_way_4 := dk_seg dksX10_way_3 24 rfl rfl
theorem dX10_way_0 : decode cX10_way 0 = .ok (.aload_n 0, 1) := dk_42 (dk_at dksX10_way_0 0 rfl rfl)
theorem dX10_way_1 : decode cX10_way 1 = .ok (.getfield 13, 3) := dk_180 0 13 (dk_at dksX10_way_0 1 rfl rfl)
theorem dX10_way_4 : decode cX10_way 4 = .ok (.iload_n 1, 1) := dk_27 (dk_at dksX10_way_0 4 rfl rfl)
theorem dX10_way_5 : decode cX10_way 5 = .ok (.invokestatic 118, 3) := dk_184 0 118 (dk_at dksX10_way_0 5 rfl rfl)
theorem dX10_way_8 : decode cX10_way 8 = .ok (.istore_n 3, 1) := dk_62 (dk_at dksX10_way_0 8 rfl rfl)
theorem dX10_way_9 : decode cX10_way 9 = .ok (.iconst 0, 1) := dk_3 (dk_at dksX10_way_0 9 rfl rfl)
theorem dX10_way_10 : decode cX10_way 10 = .ok (.istore 4, 2) := dk_54 4 (dk_at dksX10_way_0 10 rfl rfl)
theorem dX10_way_12 : decode cX10_way 12 = .ok (.iload 4, 2) := dk_21 4 (dk_at dksX10_way_0 12 rfl rfl)
theorem dX10_way_14 : decode cX10_way 14 = .ok (.iload_n 3, 1) := dk_29 (dk_at dksX10_way_0 14 rfl rfl)
theorem dX10_way_15 : decode cX10_way 15 = .ok (.if_icmp .eq 90, 3) := dk_159 0 90 (dk_at dksX10_way_0 15 rfl rfl)
theorem dX10_way_18 : decode cX10_way 18 = .ok (.iload_n 3, 1) := dk_29 (dk_at dksX10_way_0 18 rfl rfl)
theorem dX10_way_19 : decode cX10_way 19 = .ok (.istore 4, 2) := dk_54 4 (dk_at dksX10_way_0 19 rfl rfl)
theorem dX10_way_21 : decode cX10_way 21 = .ok (.iconst 0, 1) := dk_3 (dk_at dksX10_way_0 21 rfl rfl)
theorem dX10_way_22 : decode cX10_way 22 = .ok (.istore 5, 2) := dk_54 5 (dk_at dksX10_way_0 22 rfl rfl)
theorem dX10_way_24 : decode cX10_way 24 = .ok (.iload 5, 2) := dk_21 5 (dk_at dksX10_way_1 0 rfl rfl)
theorem dX10_way_26 : decode cX10_way 26 = .ok (.bipush 12, 2) := dk_16 12 (dk_at dksX10_way_1 2 rfl rfl)
theorem dX10_way_28 : decode cX10_way 28 = .ok (.if_icmp .ge 74, 3) := dk_162 0 74 (dk_at dksX10_way_1 4 rfl rfl)
theorem dX10_way_31 : decode cX10_way 31 = .ok (.iload_n 3, 1) := dk_29 (dk_at dksX10_way_1 7 rfl rfl)
theorem dX10_way_32 : decode cX10_way 32 = .ok (.iload 5, 2) := dk_21 5 (dk_at dksX10_way_1 8 rfl rfl)
theorem dX10_way_34 : decode cX10_way 34 = .ok (.invokestatic 96, 3) := dk_184 0 96 (dk_at dksX10_way_1 10 rfl rfl)
theorem dX10_way_37 : decode cX10_way 37 = .ok (.ifCond .eq 38, 3) := dk_153 0 38 (dk_at dksX10_way_1 13 rfl rfl)
theorem dX10_way_40 : decode cX10_way 40 = .ok (.iload 5, 2) := dk_21 5 (dk_at dksX10_way_1 16 rfl rfl)
theorem dX10_way_42 : decode cX10_way 42 = .ok (.iload_n 1, 1) := dk_27 (dk_at dksX10_way_1 18 rfl rfl)
theorem dX10_way_43 : decode cX10_way 43 = .ok (.if_icmp .eq 32, 3) := dk_159 0 32 (dk_at dksX10_way_1 19 rfl rfl)
theorem dX10_way_46 : decode cX10_way 46 = .ok (.iload 5, 2) := dk_21 5 (dk_at dksX10_way_1 22 rfl rfl)
theorem dX10_way_48 : decode cX10_way 48 = .ok (.iload_n 2, 1) := dk_28 (dk_at dksX10_way_2 0 rfl rfl)
theorem dX10_way_49 : decode cX10_way 49 = .ok (.if_icmp .eq 26, 3) := dk_159 0 26 (dk_at dksX10_way_2 1 rfl rfl)
theorem dX10_way_52 : decode cX10_way 52 = .ok (.aload_n 0, 1) := dk_42 (dk_at dksX10_way_2 4 rfl rfl)
theorem dX10_way_53 : decode cX10_way 53 = .ok (.getfield 13, 3) := dk_180 0 13 (dk_at dksX10_way_2 5 rfl rfl)
theorem dX10_way_56 : decode cX10_way 56 = .ok (.bipush 13, 2) := dk_16 13 (dk_at dksX10_way_2 8 rfl rfl)
theorem dX10_way_58 : decode cX10_way 58 = .ok (.iload 5, 2) := dk_21 5 (dk_at dksX10_way_2 10 rfl rfl)
theorem dX10_way_60 : decode cX10_way 60 = .ok (.iadd, 1) := dk_96 (dk_at dksX10_way_2 12 rfl rfl)
theorem dX10_way_61 : decode cX10_way 61 = .ok (.iaload, 1) := dk_46 (dk_at dksX10_way_2 13 rfl rfl)
theorem dX10_way_62 : decode cX10_way 62 = .ok (.iload_n 3, 1) := dk_29 (dk_at dksX10_way_2 14 rfl rfl)
theorem dX10_way_63 : decode cX10_way 63 = .ok (.iand, 1) := dk_126 (dk_at dksX10_way_2 15 rfl rfl)
theorem dX10_way_64 : decode cX10_way 64 = .ok (.invokestatic 130, 3) := dk_184 0 130 (dk_at dksX10_way_2 16 rfl rfl)
theorem dX10_way_67 : decode cX10_way 67 = .ok (.iconst 1, 1) := dk_4 (dk_at dksX10_way_2 19 rfl rfl)
theorem dX10_way_68 : decode cX10_way 68 = .ok (.if_icmp .gt 7, 3) := dk_163 0 7 (dk_at dksX10_way_2 20 rfl rfl)
theorem dX10_way_71 : decode cX10_way 71 = .ok (.iconst 1, 1) := dk_4 (dk_at dksX10_way_2 23 rfl rfl)
theorem dX10_way_72 : decode cX10_way 72 = .ok (.goto 4, 3) := dk_167 0 4 (dk_at dksX10_way_3 0 rfl rfl)
theorem dX10_way_75 : decode cX10_way 75 = .ok (.iconst 0, 1) := dk_3 (dk_at dksX10_way_3 3 rfl rfl)
theorem dX10_way_76 : decode cX10_way 76 = .ok (.istore 6, 2) := dk_54 6 (dk_at dksX10_way_3 4 rfl rfl)
theorem dX10_way_78 : decode cX10_way 78 = .ok (.iload_n 3, 1) := dk_29 (dk_at dksX10_way_3 6 rfl rfl)
theorem dX10_way_79 : decode cX10_way 79 = .ok (.iload 6, 2) := dk_21 6 (dk_at dksX10_way_3 7 rfl rfl)
theorem dX10_way_81 : decode cX10_way 81 = .ok (.ifCond .eq 12, 3) := dk_153 0 12 (dk_at dksX10_way_3 9 rfl rfl)
theorem dX10_way_84 : decode cX10_way 84 = .ok (.iconst 1, 1) := dk_4 (dk_at dksX10_way_3 12 rfl rfl)
theorem dX10_way_85 : decode cX10_way 85 = .ok (.iload 5, 2) := dk_21 5 (dk_at dksX10_way_3 13 rfl rfl)
theorem dX10_way_87 : decode cX10_way 87 = .ok (.ishl, 1) := dk_120 (dk_at dksX10_way_3 15 rfl rfl)
theorem dX10_way_88 : decode cX10_way 88 = .ok (.iconst (-1), 1) := dk_2 (dk_at dksX10_way_3 16 rfl rfl)
theorem dX10_way_89 : decode cX10_way 89 = .ok (.ixor, 1) := dk_130 (dk_at dksX10_way_3 17 rfl rfl)
theorem dX10_way_90 : decode cX10_way 90 = .ok (.goto 4, 3) := dk_167 0 4 (dk_at dksX10_way_3 18 rfl rfl)
theorem dX10_way_93 : decode cX10_way 93 = .ok (.iconst (-1), 1) := dk_2 (dk_at dksX10_way_3 21 rfl rfl)
theorem dX10_way_94 : decode cX10_way 94 = .ok (.iand, 1) := dk_126 (dk_at dksX10_way_3 22 rfl rfl)
theorem dX10_way_95 : decode cX10_way 95 = .ok (.istore_n 3, 1) := dk_62 (dk_at dksX10_way_3 23 rfl rfl)
theorem dX10_way_96 : decode cX10_way 96 = .ok (.iinc 5 1, 3) := dk_132 5 1 (dk_at dksX10_way_4 0 rfl rfl)
theorem dX10_way_99 : decode cX10_way 99 = .ok (.goto (-75), 3) := dk_167 255 181 (dk_at dksX10_way_4 3 rfl rfl)
theorem dX10_way_102 : decode cX10_way 102 = .ok (.goto (-90), 3) := dk_167 255 166 (dk_at dksX10_way_4 6 rfl rfl)
theorem dX10_way_105 : decode cX10_way 105 = .ok (.iload_n 1, 1) := dk_27 (dk_at dksX10_way_4 9 rfl rfl)
theorem dX10_way_106 : decode cX10_way 106 = .ok (.iload_n 2, 1) := dk_28 (dk_at dksX10_way_4 10 rfl rfl)
theorem dX10_way_107 : decode cX10_way 107 = .ok (.if_icmp .ne 9, 3) := dk_160 0 9 (dk_at dksX10_way_4 11 rfl rfl)
theorem dX10_way_110 : decode cX10_way 110 = .ok (.iconst 1, 1) := dk_4 (dk_at dksX10_way_4 14 rfl rfl)
theorem dX10_way_111 : decode cX10_way 111 = .ok (.iload_n 1, 1) := dk_27 (dk_at dksX10_way_4 15 rfl rfl)
theorem dX10_way_112 : decode cX10_way 112 = .ok (.ishl, 1) := dk_120 (dk_at dksX10_way_4 16 rfl rfl)
theorem dX10_way_113 : decode cX10_way 113 = .ok (.goto 4, 3) := dk_167 0 4 (dk_at dksX10_way_4 17 rfl rfl)
theorem dX10_way_116 : decode cX10_way 116 = .ok (.iload_n 3, 1) := dk_29 (dk_at dksX10_way_4 20 rfl rfl)
theorem dX10_way_117 : decode cX10_way 117 = .ok (.ireturn, 1) := dk_172 (dk_at dksX10_way_4 21 rfl rfl)
abbrev cX10_room_2 : ByteArray := prog_26_method_78_code
def yX10_room_2 : MethodName := ⟨RX10, "room", "(II)I"⟩
def dkwX10_room_2_3 : List UInt8 := [182, 1, 53, 167, 0, 8, 42, 29, 182, 1, 60, 136, 172]
abbrev dktX10_room_2_3 : List UInt8 := dkwX10_room_2_3 ++ []
def dkwX10_room_2_2 : List UInt8 := [29, 182, 1, 53, 184, 1, 56, 153, 0, 9, 42, 8, 182, 0, 204, 172, 28, 154, 0, 11, 42, 29]
abbrev dktX10_room_2_2 : List UInt8 := dkwX10_room_2_2 ++ dktX10_room_2_3
def dkwX10_room_2_1 : List UInt8 := [42, 180, 0, 13, 27, 184, 0, 118, 62, 42, 29, 182, 1, 50, 154, 0, 9, 42, 6, 182, 0, 204, 172, 42]
abbrev dktX10_room_2_1 : List UInt8 := dkwX10_room_2_1 ++ dktX10_room_2_2
def dkwX10_room_2_0 : List UInt8 := [42, 27, 182, 0, 216, 153, 0, 13, 28, 133, 9, 10, 184, 0, 102, 154, 0, 9, 42, 4, 182, 0, 204, 172]
abbrev dktX10_room_2_0 : List UInt8 := dkwX10_room_2_0 ++ dktX10_room_2_1
theorem dksX10_room_2_0 : cX10_room_2.data.toList.drop 0 = dktX10_room_2_0 := by decide +kernel
theorem dksX10_room_2_1 : cX10_room_2.data.toList.drop 24 = dktX10_room_2_1 := dk_seg dksX10_room_2_0 24 rfl rfl
theorem dksX10_room_2_2 : cX10_room_2.data.toList.drop 48 = dktX10_room_2_2 := dk_seg dksX10_room_2_1 24 rfl rfl
theorem dksX10_room_2_3 : cX10_room_2.data.toList.drop 70 = dktX10_room_2_3 := dk_seg dksX10_room_2_2 22 rfl rfl
theorem dX10_room_2_0 : decode cX10_room_2 0 = .ok (.aload_n 0, 1) := dk_42 (dk_at dksX10_room_2_0 0 rfl rfl)
theorem dX10_room_2_1 : decode cX10_room_2 1 = .ok (.iload_n 1, 1) := dk_27 (dk_at dksX10_room_2_0 1 rfl rfl)
theorem dX10_room_2_2 : decode cX10_room_2 2 = .ok (.invokevirtual 216, 3) := dk_182 0 216 (dk_at dksX10_room_2_0 2 rfl rfl)
theorem dX10_room_2_5 : decode cX10_room_2 5 = .ok (.ifCond .eq 13, 3) := dk_153 0 13 (dk_at dksX10_room_2_0 5 rfl rfl)
theorem dX10_room_2_8 : decode cX10_room_2 8 = .ok (.iload_n 2, 1) := dk_28 (dk_at dksX10_room_2_0 8 rfl rfl)
theorem dX10_room_2_9 : decode cX10_room_2 9 = .ok (.i2l, 1) := dk_133 (dk_at dksX10_room_2_0 9 rfl rfl)
theorem dX10_room_2_10 : decode cX10_room_2 10 = .ok (.lconst 0, 1) := dk_9 (dk_at dksX10_room_2_0 10 rfl rfl)
theorem dX10_room_2_11 : decode cX10_room_2 11 = .ok (.lconst 1, 1) := dk_10 (dk_at dksX10_room_2_0 11 rfl rfl)
theorem dX10_room_2_12 : decode cX10_room_2 12 = .ok (.invokestatic 102, 3) := dk_184 0 102 (dk_at dksX10_room_2_0 12 rfl rfl)
theorem dX10_room_2_15 : decode cX10_room_2 15 = .ok (.ifCond .ne 9, 3) := dk_154 0 9 (dk_at dksX10_room_2_0 15 rfl rfl)
theorem dX10_room_2_18 : decode cX10_room_2 18 = .ok (.aload_n 0, 1) := dk_42 (dk_at dksX10_room_2_0 18 rfl rfl)
theorem dX10_room_2_19 : decode cX10_room_2 19 = .ok (.iconst 1, 1) := dk_4 (dk_at dksX10_room_2_0 19 rfl rfl)
theorem dX10_room_2_20 : decode cX10_room_2 20 = .ok (.invokevirtual 204, 3) := dk_182 0 204 (dk_at dksX10_room_2_0 20 rfl rfl)
theorem dX10_room_2_23 : decode cX10_room_2 23 = .ok (.ireturn, 1) := dk_172 (dk_at dksX10_room_2_0 23 rfl rfl)
theorem dX10_room_2_24 : decode cX10_room_2 24 = .ok (.aload_n 0, 1) := dk_42 (dk_at dksX10_room_2_1 0 rfl rfl)
theorem dX10_room_2_25 : decode cX10_room_2 25 = .ok (.getfield 13, 3) := dk_180 0 13 (dk_at dksX10_room_2_1 1 rfl rfl)
theorem dX10_room_2_28 : decode cX10_room_2 28 = .ok (.iload_n 1, 1) := dk_27 (dk_at dksX10_room_2_1 4 rfl rfl)
theorem dX10_room_2_29 : decode cX10_room_2 29 = .ok (.invokestatic 118, 3) := dk_184 0 118 (dk_at dksX10_room_2_1 5 rfl rfl)
theorem dX10_room_2_32 : decode cX10_room_2 32 = .ok (.istore_n 3, 1) := dk_62 (dk_at dksX10_room_2_1 8 rfl rfl)
theorem dX10_room_2_33 : decode cX10_room_2 33 = .ok (.aload_n 0, 1) := dk_42 (dk_at dksX10_room_2_1 9 rfl rfl)
theorem dX10_room_2_34 : decode cX10_room_2 34 = .ok (.iload_n 3, 1) := dk_29 (dk_at dksX10_room_2_1 10 rfl rfl)
theorem dX10_room_2_35 : decode cX10_room_2 35 = .ok (.invokevirtual 306, 3) := dk_182 1 50 (dk_at dksX10_room_2_1 11 rfl rfl)
theorem dX10_room_2_38 : decode cX10_room_2 38 = .ok (.ifCond .ne 9, 3) := dk_154 0 9 (dk_at dksX10_room_2_1 14 rfl rfl)
theorem dX10_room_2_41 : decode cX10_room_2 41 = .ok (.aload_n 0, 1) := dk_42 (dk_at dksX10_room_2_1 17 rfl rfl)
theorem dX10_room_2_42 : decode cX10_room_2 42 = .ok (.iconst 3, 1) := dk_6 (dk_at dksX10_room_2_1 18 rfl rfl)
theorem dX10_room_2_43 : decode cX10_room_2 43 = .ok (.invokevirtual 204, 3) := dk_182 0 204 (dk_at dksX10_room_2_1 19 rfl rfl)
theorem dX10_room_2_46 : decode cX10_room_2 46 = .ok (.ireturn, 1) := dk_172 (dk_at dksX10_room_2_1 22 rfl rfl)
theorem dX10_room_2_47 : decode cX10_room_2 47 = .ok (.aload_n 0, 1) := dk_42 (dk_at dksX10_room_2_1 23 rfl rfl)
theorem dX10_room_2_48 : decode cX10_room_2 48 = .ok (.iload_n 3, 1) := dk_29 (dk_at dksX10_room_2_2 0 rfl rfl)
theorem dX10_room_2_49 : decode cX10_room_2 49 = .ok (.invokevirtual 309, 3) := dk_182 1 53 (dk_at dksX10_room_2_2 1 rfl rfl)
theorem dX10_room_2_52 : decode cX10_room_2 52 = .ok (.invokestatic 312, 3) := dk_184 1 56 (dk_at dksX10_room_2_2 4 rfl rfl)
theorem dX10_room_2_55 : decode cX10_room_2 55 = .ok (.ifCond .eq 9, 3) := dk_153 0 9 (dk_at dksX10_room_2_2 7 rfl rfl)
theorem dX10_room_2_58 : decode cX10_room_2 58 = .ok (.aload_n 0, 1) := dk_42 (dk_at dksX10_room_2_2 10 rfl rfl)
theorem dX10_room_2_59 : decode cX10_room_2 59 = .ok (.iconst 5, 1) := dk_8 (dk_at dksX10_room_2_2 11 rfl rfl)
theorem dX10_room_2_60 : decode cX10_room_2 60 = .ok (.invokevirtual 204, 3) := dk_182 0 204 (dk_at dksX10_room_2_2 12 rfl rfl)
theorem dX10_room_2_63 : decode cX10_room_2 63 = .ok (.ireturn, 1) := dk_172 (dk_at dksX10_room_2_2 15 rfl rfl)
theorem dX10_room_2_64 : decode cX10_room_2 64 = .ok (.iload_n 2, 1) := dk_28 (dk_at dksX10_room_2_2 16 rfl rfl)
theorem dX10_room_2_65 : decode cX10_room_2 65 = .ok (.ifCond .ne 11, 3) := dk_154 0 11 (dk_at dksX10_room_2_2 17 rfl rfl)
theorem dX10_room_2_68 : decode cX10_room_2 68 = .ok (.aload_n 0, 1) := dk_42 (dk_at dksX10_room_2_2 20 rfl rfl)
theorem dX10_room_2_69 : decode cX10_room_2 69 = .ok (.iload_n 3, 1) := dk_29 (dk_at dksX10_room_2_2 21 rfl rfl)
theorem dX10_room_2_70 : decode cX10_room_2 70 = .ok (.invokevirtual 309, 3) := dk_182 1 53 (dk_at dksX10_room_2_3 0 rfl rfl)
theorem dX10_room_2_73 : decode cX10_room_2 73 = .ok (.goto 8, 3) := dk_167 0 8 (dk_at dksX10_room_2_3 3 rfl rfl)
theorem dX10_room_2_76 : decode cX10_room_2 76 = .ok (.aload_n 0, 1) := dk_42 (dk_at dksX10_room_2_3 6 rfl rfl)
theorem dX10_room_2_77 : decode cX10_room_2 77 = .ok (.iload_n 3, 1) := dk_29 (dk_at dksX10_room_2_3 7 rfl rfl)
theorem dX10_room_2_78 : decode cX10_room_2 78 = .ok (.invokevirtual 316, 3) := dk_182 1 60 (dk_at dksX10_room_2_3 8 rfl rfl)
theorem dX10_room_2_81 : decode cX10_room_2 81 = .ok (.l2i, 1) := dk_136 (dk_at dksX10_room_2_3 11 rfl rfl)
theorem dX10_room_2_82 : decode cX10_room_2 82 = .ok (.ireturn, 1) := dk_172 (dk_at dksX10_room_2_3 12 rfl rfl)
abbrev cX10_isLine : ByteArray := prog_26_method_74_code
def yX10_isLine : MethodName := ⟨RX10, "isLine", "(I)Z"⟩
def dkwX10_isLine_1 : List UInt8 := [46, 184, 0, 130, 5, 164, 0, 5, 3, 172, 132, 2, 1, 167, 255, 221, 4, 172]
abbrev dktX10_isLine_1 : List UInt8 := dkwX10_isLine_1 ++ []
def dkwX10_isLine_0 : List UInt8 := [3, 61, 28, 16, 12, 162, 0, 35, 27, 28, 184, 0, 96, 153, 0, 21, 42, 180, 0, 13, 16, 13, 28, 96]
abbrev dktX10_isLine_0 : List UInt8 := dkwX10_isLine_0 ++ dktX10_isLine_1
theorem dksX10_isLine_0 : cX10_isLine.data.toList.drop 0 = dktX10_isLine_0 := by decide +kernel
theorem dksX10_isLine_1 : cX10_isLine.data.toList.drop 24 = dktX10_isLine_1 := dk_seg dksX10_isLine_0 24 rfl rfl
theorem dX10_isLine_0 : decode cX10_isLine 0 = .ok (.iconst 0, 1) := dk_3 (dk_at dksX10_isLine_0 0 rfl rfl)
theorem dX10_isLine_1 : decode cX10_isLine 1 = .ok (.istore_n 2, 1) := dk_61 (dk_at dksX10_isLine_0 1 rfl rfl)
theorem dX10_isLine_2 : decode cX10_isLine 2 = .ok (.iload_n 2, 1) := dk_28 (dk_at dksX10_isLine_0 2 rfl rfl)
theorem dX10_isLine_3 : decode cX10_isLine 3 = .ok (.bipush 12, 2) := dk_16 12 (dk_at dksX10_isLine_0 3 rfl rfl)
theorem dX10_isLine_5 : decode cX10_isLine 5 = .ok (.if_icmp .ge 35, 3) := dk_162 0 35 (dk_at dksX10_isLine_0 5 rfl rfl)
theorem dX10_isLine_8 : decode cX10_isLine 8 = .ok (.iload_n 1, 1) := dk_27 (dk_at dksX10_isLine_0 8 rfl rfl)
theorem dX10_isLine_9 : decode cX10_isLine 9 = .ok (.iload_n 2, 1) := dk_28 (dk_at dksX10_isLine_0 9 rfl rfl)
theorem dX10_isLine_10 : decode cX10_isLine 10 = .ok (.invokestatic 96, 3) := dk_184 0 96 (dk_at dksX10_isLine_0 10 rfl rfl)
theorem dX10_isLine_13 : decode cX10_isLine 13 = .ok (.ifCond .eq 21, 3) := dk_153 0 21 (dk_at dksX10_isLine_0 13 rfl rfl)
theorem dX10_isLine_16 : decode cX10_isLine 16 = .ok (.aload_n 0, 1) := dk_42 (dk_at dksX10_isLine_0 16 rfl rfl)
theorem dX10_isLine_17 : decode cX10_isLine 17 = .ok (.getfield 13, 3) := dk_180 0 13 (dk_at dksX10_isLine_0 17 rfl rfl)
theorem dX10_isLine_20 : decode cX10_isLine 20 = .ok (.bipush 13, 2) := dk_16 13 (dk_at dksX10_isLine_0 20 rfl rfl)
theorem dX10_isLine_22 : decode cX10_isLine 22 = .ok (.iload_n 2, 1) := dk_28 (dk_at dksX10_isLine_0 22 rfl rfl)
theorem dX10_isLine_23 : decode cX10_isLine 23 = .ok (.iadd, 1) := dk_96 (dk_at dksX10_isLine_0 23 rfl rfl)
theorem dX10_isLine_24 : decode cX10_isLine 24 = .ok (.iaload, 1) := dk_46 (dk_at dksX10_isLine_1 0 rfl rfl)
theorem dX10_isLine_25 : decode cX10_isLine 25 = .ok (.invokestatic 130, 3) := dk_184 0 130 (dk_at dksX10_isLine_1 1 rfl rfl)
theorem dX10_isLine_28 : decode cX10_isLine 28 = .ok (.iconst 2, 1) := dk_5 (dk_at dksX10_isLine_1 4 rfl rfl)
theorem dX10_isLine_29 : decode cX10_isLine 29 = .ok (.if_icmp .le 5, 3) := dk_164 0 5 (dk_at dksX10_isLine_1 5 rfl rfl)
theorem dX10_isLine_32 : decode cX10_isLine 32 = .ok (.iconst 0, 1) := dk_3 (dk_at dksX10_isLine_1 8 rfl rfl)
theorem dX10_isLine_33 : decode cX10_isLine 33 = .ok (.ireturn, 1) := dk_172 (dk_at dksX10_isLine_1 9 rfl rfl)
theorem dX10_isLine_34 : decode cX10_isLine 34 = .ok (.iinc 2 1, 3) := dk_132 2 1 (dk_at dksX10_isLine_1 10 rfl rfl)
theorem dX10_isLine_37 : decode cX10_isLine 37 = .ok (.goto (-35), 3) := dk_167 255 221 (dk_at dksX10_isLine_1 13 rfl rfl)
theorem dX10_isLine_40 : decode cX10_isLine 40 = .ok (.iconst 1, 1) := dk_4 (dk_at dksX10_isLine_1 16 rfl rfl)
theorem dX10_isLine_41 : decode cX10_isLine 41 = .ok (.ireturn, 1) := dk_172 (dk_at dksX10_isLine_1 17 rfl rfl)
abbrev cX10_roomN : ByteArray := prog_26_method_75_code
def yX10_roomN : MethodName := ⟨RX10, "roomN", "(I)J"⟩
def dkwX10_roomN_0 : List UInt8 := [42, 27, 182, 0, 244, 65, 32, 9, 148, 156, 0, 8, 32, 117, 167, 0, 4, 32, 173]
abbrev dktX10_roomN_0 : List UInt8 := dkwX10_roomN_0 ++ []
theorem dksX10_roomN_0 : cX10_roomN.data.toList.drop 0 = dktX10_roomN_0 := by decide +kernel
theorem dX10_roomN_0 : decode cX10_roomN 0 = .ok (.aload_n 0, 1) := dk_42 (dk_at dksX10_roomN_0 0 rfl rfl)
theorem dX10_roomN_1 : decode cX10_roomN 1 = .ok (.iload_n 1, 1) := dk_27 (dk_at dksX10_roomN_0 1 rfl rfl)
theorem dX10_roomN_2 : decode cX10_roomN 2 = .ok (.invokevirtual 244, 3) := dk_182 0 244 (dk_at dksX10_roomN_0 2 rfl rfl)
theorem dX10_roomN_5 : decode cX10_roomN 5 = .ok (.lstore_n 2, 1) := dk_65 (dk_at dksX10_roomN_0 5 rfl rfl)
theorem dX10_roomN_6 : decode cX10_roomN 6 = .ok (.lload_n 2, 1) := dk_32 (dk_at dksX10_roomN_0 6 rfl rfl)
theorem dX10_roomN_7 : decode cX10_roomN 7 = .ok (.lconst 0, 1) := dk_9 (dk_at dksX10_roomN_0 7 rfl rfl)
theorem dX10_roomN_8 : decode cX10_roomN 8 = .ok (.lcmp, 1) := dk_148 (dk_at dksX10_roomN_0 8 rfl rfl)
theorem dX10_roomN_9 : decode cX10_roomN 9 = .ok (.ifCond .ge 8, 3) := dk_156 0 8 (dk_at dksX10_roomN_0 9 rfl rfl)
theorem dX10_roomN_12 : decode cX10_roomN 12 = .ok (.lload_n 2, 1) := dk_32 (dk_at dksX10_roomN_0 12 rfl rfl)
theorem dX10_roomN_13 : decode cX10_roomN 13 = .ok (.lneg, 1) := dk_117 (dk_at dksX10_roomN_0 13 rfl rfl)
theorem dX10_roomN_14 : decode cX10_roomN 14 = .ok (.goto 4, 3) := dk_167 0 4 (dk_at dksX10_roomN_0 14 rfl rfl)
theorem dX10_roomN_17 : decode cX10_roomN 17 = .ok (.lload_n 2, 1) := dk_32 (dk_at dksX10_roomN_0 17 rfl rfl)
theorem dX10_roomN_18 : decode cX10_roomN 18 = .ok (.lreturn, 1) := dk_173 (dk_at dksX10_roomN_0 18 rfl rfl)
abbrev cX10_isOver : ByteArray := prog_26_method_77_code
def yX10_isOver : MethodName := ⟨RX10, "isOver", "(J)Z"⟩
def dkwX10_isOver_0 : List UInt8 := [30, 20, 0, 238, 20, 0, 240, 184, 0, 102, 154, 0, 7, 4, 167, 0, 4, 3, 172]
abbrev dktX10_isOver_0 : List UInt8 := dkwX10_isOver_0 ++ []
theorem dksX10_isOver_0 : cX10_isOver.data.toList.drop 0 = dktX10_isOver_0 := by decide +kernel
theorem dX10_isOver_0 : decode cX10_isOver 0 = .ok (.lload_n 0, 1) := dk_30 (dk_at dksX10_isOver_0 0 rfl rfl)
theorem dX10_isOver_1 : decode cX10_isOver 1 = .ok (.ldc2_w 238, 3) := dk_20 0 238 (dk_at dksX10_isOver_0 1 rfl rfl)
theorem dX10_isOver_4 : decode cX10_isOver 4 = .ok (.ldc2_w 240, 3) := dk_20 0 240 (dk_at dksX10_isOver_0 4 rfl rfl)
theorem dX10_isOver_7 : decode cX10_isOver 7 = .ok (.invokestatic 102, 3) := dk_184 0 102 (dk_at dksX10_isOver_0 7 rfl rfl)
theorem dX10_isOver_10 : decode cX10_isOver 10 = .ok (.ifCond .ne 7, 3) := dk_154 0 7 (dk_at dksX10_isOver_0 10 rfl rfl)
theorem dX10_isOver_13 : decode cX10_isOver 13 = .ok (.iconst 1, 1) := dk_4 (dk_at dksX10_isOver_0 13 rfl rfl)
theorem dX10_isOver_14 : decode cX10_isOver 14 = .ok (.goto 4, 3) := dk_167 0 4 (dk_at dksX10_isOver_0 14 rfl rfl)
theorem dX10_isOver_17 : decode cX10_isOver 17 = .ok (.iconst 0, 1) := dk_3 (dk_at dksX10_isOver_0 17 rfl rfl)
theorem dX10_isOver_18 : decode cX10_isOver 18 = .ok (.ireturn, 1) := dk_172 (dk_at dksX10_isOver_0 18 rfl rfl)
abbrev cX10_roomM : ByteArray := prog_26_method_76_code
def yX10_roomM : MethodName := ⟨RX10, "roomM", "(I)J"⟩
def dkwX10_roomM_4 : List UInt8 := [113, 55, 9, 22, 9, 9, 148, 156, 0, 11, 22, 9, 22, 7, 97, 167, 0, 5, 22, 9, 173]
abbrev dktX10_roomM_4 : List UInt8 := dkwX10_roomM_4 ++ []
def dkwX10_roomM_3 : List UInt8 := [33, 117, 167, 0, 4, 33, 55, 7, 33, 9, 148, 158, 0, 9, 22, 5, 117, 167, 0, 5, 22, 5, 22, 7]
abbrev dktX10_roomM_3 : List UInt8 := dkwX10_roomM_3 ++ dktX10_roomM_4
def dkwX10_roomM_2 : List UInt8 := [27, 4, 28, 120, 2, 130, 126, 47, 55, 5, 33, 9, 148, 154, 0, 5, 10, 173, 33, 9, 148, 156, 0, 8]
abbrev dktX10_roomM_2 : List UInt8 := dkwX10_roomM_2 ++ dktX10_roomM_3
def dkwX10_roomM_1 : List UInt8 := [164, 0, 9, 132, 2, 1, 167, 255, 229, 42, 182, 0, 235, 42, 180, 0, 24, 27, 47, 66, 42, 180, 0, 24]
abbrev dktX10_roomM_1 : List UInt8 := dkwX10_roomM_1 ++ dktX10_roomM_2
def dkwX10_roomM_0 : List UInt8 := [3, 61, 27, 28, 184, 0, 96, 153, 0, 19, 42, 180, 0, 13, 16, 13, 28, 96, 46, 184, 0, 130, 4]
abbrev dktX10_roomM_0 : List UInt8 := dkwX10_roomM_0 ++ dktX10_roomM_1
theorem dksX10_roomM_0 : cX10_roomM.data.toList.drop 0 = dktX10_roomM_0 := by decide +kernel
theorem dksX10_roomM_1 : cX10_roomM.data.toList.drop 23 = dktX10_roomM_1 := dk_seg dksX10_roomM_0 23 rfl rfl
theorem dksX10_roomM_2 : cX10_roomM.data.toList.drop 47 = dktX10_roomM_2 := dk_seg dksX10_roomM_1 24 rfl rfl
theorem dksX10_roomM_3 : cX10_roomM.data.toList.drop 71 = dktX10_roomM_3 := dk_seg dksX10_roomM_2 24 rfl rfl
theorem dksX10_roomM_4 : cX10_roomM.data.toList.drop 95 = dktX10_roomM_4 := dk_seg dksX10_roomM_3 24 rfl rfl
theorem dX10_roomM_0 : decode cX10_roomM 0 = .ok (.iconst 0, 1) := dk_3 (dk_at dksX10_roomM_0 0 rfl rfl)
theorem dX10_roomM_1 : decode cX10_roomM 1 = .ok (.istore_n 2, 1) := dk_61 (dk_at dksX10_roomM_0 1 rfl rfl)
theorem dX10_roomM_2 : decode cX10_roomM 2 = .ok (.iload_n 1, 1) := dk_27 (dk_at dksX10_roomM_0 2 rfl rfl)
theorem dX10_roomM_3 : decode cX10_roomM 3 = .ok (.iload_n 2, 1) := dk_28 (dk_at dksX10_roomM_0 3 rfl rfl)
theorem dX10_roomM_4 : decode cX10_roomM 4 = .ok (.invokestatic 96, 3) := dk_184 0 96 (dk_at dksX10_roomM_0 4 rfl rfl)
theorem dX10_roomM_7 : decode cX10_roomM 7 = .ok (.ifCond .eq 19, 3) := dk_153 0 19 (dk_at dksX10_roomM_0 7 rfl rfl)
theorem dX10_roomM_10 : decode cX10_roomM 10 = .ok (.aload_n 0, 1) := dk_42 (dk_at dksX10_roomM_0 10 rfl rfl)
theorem dX10_roomM_11 : decode cX10_roomM 11 = .ok (.getfield 13, 3) := dk_180 0 13 (dk_at dksX10_roomM_0 11 rfl rfl)
theorem dX10_roomM_14 : decode cX10_roomM 14 = .ok (.bipush 13, 2) := dk_16 13 (dk_at dksX10_roomM_0 14 rfl rfl)
theorem dX10_roomM_16 : decode cX10_roomM 16 = .ok (.iload_n 2, 1) := dk_28 (dk_at dksX10_roomM_0 16 rfl rfl)
theorem dX10_roomM_17 : decode cX10_roomM 17 = .ok (.iadd, 1) := dk_96 (dk_at dksX10_roomM_0 17 rfl rfl)
theorem dX10_roomM_18 : decode cX10_roomM 18 = .ok (.iaload, 1) := dk_46 (dk_at dksX10_roomM_0 18 rfl rfl)
theorem dX10_roomM_19 : decode cX10_roomM 19 = .ok (.invokestatic 130, 3) := dk_184 0 130 (dk_at dksX10_roomM_0 19 rfl rfl)
theorem dX10_roomM_22 : decode cX10_roomM 22 = .ok (.iconst 1, 1) := dk_4 (dk_at dksX10_roomM_0 22 rfl rfl)
theorem dX10_roomM_23 : decode cX10_roomM 23 = .ok (.if_icmp .le 9, 3) := dk_164 0 9 (dk_at dksX10_roomM_1 0 rfl rfl)
theorem dX10_roomM_26 : decode cX10_roomM 26 = .ok (.iinc 2 1, 3) := dk_132 2 1 (dk_at dksX10_roomM_1 3 rfl rfl)
theorem dX10_roomM_29 : decode cX10_roomM 29 = .ok (.goto (-27), 3) := dk_167 255 229 (dk_at dksX10_roomM_1 6 rfl rfl)
theorem dX10_roomM_32 : decode cX10_roomM 32 = .ok (.aload_n 0, 1) := dk_42 (dk_at dksX10_roomM_1 9 rfl rfl)
theorem dX10_roomM_33 : decode cX10_roomM 33 = .ok (.invokevirtual 235, 3) := dk_182 0 235 (dk_at dksX10_roomM_1 10 rfl rfl)
theorem dX10_roomM_36 : decode cX10_roomM 36 = .ok (.aload_n 0, 1) := dk_42 (dk_at dksX10_roomM_1 13 rfl rfl)
theorem dX10_roomM_37 : decode cX10_roomM 37 = .ok (.getfield 24, 3) := dk_180 0 24 (dk_at dksX10_roomM_1 14 rfl rfl)
theorem dX10_roomM_40 : decode cX10_roomM 40 = .ok (.iload_n 1, 1) := dk_27 (dk_at dksX10_roomM_1 17 rfl rfl)
theorem dX10_roomM_41 : decode cX10_roomM 41 = .ok (.laload, 1) := dk_47 (dk_at dksX10_roomM_1 18 rfl rfl)
theorem dX10_roomM_42 : decode cX10_roomM 42 = .ok (.lstore_n 3, 1) := dk_66 (dk_at dksX10_roomM_1 19 rfl rfl)
theorem dX10_roomM_43 : decode cX10_roomM 43 = .ok (.aload_n 0, 1) := dk_42 (dk_at dksX10_roomM_1 20 rfl rfl)
theorem dX10_roomM_44 : decode cX10_roomM 44 = .ok (.getfield 24, 3) := dk_180 0 24 (dk_at dksX10_roomM_1 21 rfl rfl)
theorem dX10_roomM_47 : decode cX10_roomM 47 = .ok (.iload_n 1, 1) := dk_27 (dk_at dksX10_roomM_2 0 rfl rfl)
theorem dX10_roomM_48 : decode cX10_roomM 48 = .ok (.iconst 1, 1) := dk_4 (dk_at dksX10_roomM_2 1 rfl rfl)
theorem dX10_roomM_49 : decode cX10_roomM 49 = .ok (.iload_n 2, 1) := dk_28 (dk_at dksX10_roomM_2 2 rfl rfl)
theorem dX10_roomM_50 : decode cX10_roomM 50 = .ok (.ishl, 1) := dk_120 (dk_at dksX10_roomM_2 3 rfl rfl)
theorem dX10_roomM_51 : decode cX10_roomM 51 = .ok (.iconst (-1), 1) := dk_2 (dk_at dksX10_roomM_2 4 rfl rfl)
theorem dX10_roomM_52 : decode cX10_roomM 52 = .ok (.ixor, 1) := dk_130 (dk_at dksX10_roomM_2 5 rfl rfl)
theorem dX10_roomM_53 : decode cX10_roomM 53 = .ok (.iand, 1) := dk_126 (dk_at dksX10_roomM_2 6 rfl rfl)
theorem dX10_roomM_54 : decode cX10_roomM 54 = .ok (.laload, 1) := dk_47 (dk_at dksX10_roomM_2 7 rfl rfl)
theorem dX10_roomM_55 : decode cX10_roomM 55 = .ok (.lstore 5, 2) := dk_55 5 (dk_at dksX10_roomM_2 8 rfl rfl)
theorem dX10_roomM_57 : decode cX10_roomM 57 = .ok (.lload_n 3, 1) := dk_33 (dk_at dksX10_roomM_2 10 rfl rfl)
theorem dX10_roomM_58 : decode cX10_roomM 58 = .ok (.lconst 0, 1) := dk_9 (dk_at dksX10_roomM_2 11 rfl rfl)
theorem dX10_roomM_59 : decode cX10_roomM 59 = .ok (.lcmp, 1) := dk_148 (dk_at dksX10_roomM_2 12 rfl rfl)
theorem dX10_roomM_60 : decode cX10_roomM 60 = .ok (.ifCond .ne 5, 3) := dk_154 0 5 (dk_at dksX10_roomM_2 13 rfl rfl)
theorem dX10_roomM_63 : decode cX10_roomM 63 = .ok (.lconst 1, 1) := dk_10 (dk_at dksX10_roomM_2 16 rfl rfl)
theorem dX10_roomM_64 : decode cX10_roomM 64 = .ok (.lreturn, 1) := dk_173 (dk_at dksX10_roomM_2 17 rfl rfl)
theorem dX10_roomM_65 : decode cX10_roomM 65 = .ok (.lload_n 3, 1) := dk_33 (dk_at dksX10_roomM_2 18 rfl rfl)
theorem dX10_roomM_66 : decode cX10_roomM 66 = .ok (.lconst 0, 1) := dk_9 (dk_at dksX10_roomM_2 19 rfl rfl)
theorem dX10_roomM_67 : decode cX10_roomM 67 = .ok (.lcmp, 1) := dk_148 (dk_at dksX10_roomM_2 20 rfl rfl)
theorem dX10_roomM_68 : decode cX10_roomM 68 = .ok (.ifCond .ge 8, 3) := dk_156 0 8 (dk_at dksX10_roomM_2 21 rfl rfl)
theorem dX10_roomM_71 : decode cX10_roomM 71 = .ok (.lload_n 3, 1) := dk_33 (dk_at dksX10_roomM_3 0 rfl rfl)
theorem dX10_roomM_72 : decode cX10_roomM 72 = .ok (.lneg, 1) := dk_117 (dk_at dksX10_roomM_3 1 rfl rfl)
theorem dX10_roomM_73 : decode cX10_roomM 73 = .ok (.goto 4, 3) := dk_167 0 4 (dk_at dksX10_roomM_3 2 rfl rfl)
theorem dX10_roomM_76 : decode cX10_roomM 76 = .ok (.lload_n 3, 1) := dk_33 (dk_at dksX10_roomM_3 5 rfl rfl)
theorem dX10_roomM_77 : decode cX10_roomM 77 = .ok (.lstore 7, 2) := dk_55 7 (dk_at dksX10_roomM_3 6 rfl rfl)
theorem dX10_roomM_79 : decode cX10_roomM 79 = .ok (.lload_n 3, 1) := dk_33 (dk_at dksX10_roomM_3 8 rfl rfl)
theorem dX10_roomM_80 : decode cX10_roomM 80 = .ok (.lconst 0, 1) := dk_9 (dk_at dksX10_roomM_3 9 rfl rfl)
theorem dX10_roomM_81 : decode cX10_roomM 81 = .ok (.lcmp, 1) := dk_148 (dk_at dksX10_roomM_3 10 rfl rfl)
theorem dX10_roomM_82 : decode cX10_roomM 82 = .ok (.ifCond .le 9, 3) := dk_158 0 9 (dk_at dksX10_roomM_3 11 rfl rfl)
theorem dX10_roomM_85 : decode cX10_roomM 85 = .ok (.lload 5, 2) := dk_22 5 (dk_at dksX10_roomM_3 14 rfl rfl)
theorem dX10_roomM_87 : decode cX10_roomM 87 = .ok (.lneg, 1) := dk_117 (dk_at dksX10_roomM_3 16 rfl rfl)
theorem dX10_roomM_88 : decode cX10_roomM 88 = .ok (.goto 5, 3) := dk_167 0 5 (dk_at dksX10_roomM_3 17 rfl rfl)
theorem dX10_roomM_91 : decode cX10_roomM 91 = .ok (.lload 5, 2) := dk_22 5 (dk_at dksX10_roomM_3 20 rfl rfl)
theorem dX10_roomM_93 : decode cX10_roomM 93 = .ok (.lload 7, 2) := dk_22 7 (dk_at dksX10_roomM_3 22 rfl rfl)
theorem dX10_roomM_95 : decode cX10_roomM 95 = .ok (.lrem, 1) := dk_113 (dk_at dksX10_roomM_4 0 rfl rfl)
theorem dX10_roomM_96 : decode cX10_roomM 96 = .ok (.lstore 9, 2) := dk_55 9 (dk_at dksX10_roomM_4 1 rfl rfl)
theorem dX10_roomM_98 : decode cX10_roomM 98 = .ok (.lload 9, 2) := dk_22 9 (dk_at dksX10_roomM_4 3 rfl rfl)
theorem dX10_roomM_100 : decode cX10_roomM 100 = .ok (.lconst 0, 1) := dk_9 (dk_at dksX10_roomM_4 5 rfl rfl)
theorem dX10_roomM_101 : decode cX10_roomM 101 = .ok (.lcmp, 1) := dk_148 (dk_at dksX10_roomM_4 6 rfl rfl)
theorem dX10_roomM_102 : decode cX10_roomM 102 = .ok (.ifCond .ge 11, 3) := dk_156 0 11 (dk_at dksX10_roomM_4 7 rfl rfl)
theorem dX10_roomM_105 : decode cX10_roomM 105 = .ok (.lload 9, 2) := dk_22 9 (dk_at dksX10_roomM_4 10 rfl rfl)
theorem dX10_roomM_107 : decode cX10_roomM 107 = .ok (.lload 7, 2) := dk_22 7 (dk_at dksX10_roomM_4 12 rfl rfl)
theorem dX10_roomM_109 : decode cX10_roomM 109 = .ok (.ladd, 1) := dk_97 (dk_at dksX10_roomM_4 14 rfl rfl)
theorem dX10_roomM_110 : decode cX10_roomM 110 = .ok (.goto 5, 3) := dk_167 0 5 (dk_at dksX10_roomM_4 15 rfl rfl)
theorem dX10_roomM_113 : decode cX10_roomM 113 = .ok (.lload 9, 2) := dk_22 9 (dk_at dksX10_roomM_4 18 rfl rfl)
theorem dX10_roomM_115 : decode cX10_roomM 115 = .ok (.lreturn, 1) := dk_173 (dk_at dksX10_roomM_4 20 rfl rfl)
abbrev cX10_oneRoom : ByteArray := prog_26_method_79_code
def yX10_oneRoom : MethodName := ⟨RX10, "oneRoom", "(II)I"⟩
def dkwX10_oneRoom_6 : List UInt8 := [182, 1, 60, 42, 21, 4, 182, 1, 60, 105, 22, 5, 113, 10, 148, 154, 0, 7, 4, 167, 0, 4, 3, 172]
abbrev dktX10_oneRoom_6 : List UInt8 := dkwX10_oneRoom_6 ++ []
def dkwX10_oneRoom_5 : List UInt8 := [20, 1, 20, 148, 155, 0, 38, 42, 29, 182, 1, 60, 42, 21, 4, 182, 1, 60, 148, 153, 0, 23, 42, 29]
abbrev dktX10_oneRoom_5 : List UInt8 := dkwX10_oneRoom_5 ++ dktX10_oneRoom_6
def dkwX10_oneRoom_4 : List UInt8 := [42, 29, 182, 1, 53, 55, 5, 22, 5, 42, 21, 4, 182, 1, 53, 148, 153, 0, 5, 3, 172, 22, 5]
abbrev dktX10_oneRoom_4 : List UInt8 := dkwX10_oneRoom_4 ++ dktX10_oneRoom_5
def dkwX10_oneRoom_3 : List UInt8 := [184, 1, 56, 154, 0, 15, 42, 21, 4, 182, 1, 53, 184, 1, 56, 153, 0, 9, 42, 8, 182, 0, 204, 172]
abbrev dktX10_oneRoom_3 : List UInt8 := dkwX10_oneRoom_3 ++ dktX10_oneRoom_4
def dkwX10_oneRoom_2 : List UInt8 := [153, 0, 12, 42, 21, 4, 182, 1, 50, 154, 0, 9, 42, 6, 182, 0, 204, 172, 42, 29, 182, 1, 53]
abbrev dktX10_oneRoom_2 : List UInt8 := dkwX10_oneRoom_2 ++ dktX10_oneRoom_3
def dkwX10_oneRoom_1 : List UInt8 := [180, 0, 13, 27, 184, 0, 118, 62, 42, 180, 0, 13, 28, 184, 0, 118, 54, 4, 42, 29, 182, 1, 50]
abbrev dktX10_oneRoom_1 : List UInt8 := dkwX10_oneRoom_1 ++ dktX10_oneRoom_2
def dkwX10_oneRoom_0 : List UInt8 := [42, 27, 182, 0, 216, 153, 0, 11, 42, 28, 182, 0, 216, 154, 0, 9, 42, 4, 182, 0, 204, 172, 42]
abbrev dktX10_oneRoom_0 : List UInt8 := dkwX10_oneRoom_0 ++ dktX10_oneRoom_1
theorem dksX10_oneRoom_0 : cX10_oneRoom.data.toList.drop 0 = dktX10_oneRoom_0 := by decide +kernel
theorem dksX10_oneRoom_1 : cX10_oneRoom.data.toList.drop 23 = dktX10_oneRoom_1 := dk_seg dksX10_oneRoom_0 23 rfl rfl
theorem dksX10_oneRoom_2 : cX10_oneRoom.data.toList.drop 46 = dktX10_oneRoom_2 := dk_seg dksX10_oneRoom_1 23 rfl rfl
theorem dksX10_oneRoom_3 : cX10_oneRoom.data.toList.drop 69 = dktX10_oneRoom_3 := dk_seg dksX10_oneRoom_2 23 rfl rfl
theorem dksX10_oneRoom_4 : cX10_oneRoom.data.toList.drop 93 = dktX10_oneRoom_4 := dk_seg dksX10_oneRoom_3 24 rfl rfl
theorem dksX10_oneRoom_5 : cX10_oneRoom.data.toList.drop 116 = dktX10_oneRoom_5 := dk_seg dksX10_oneRoom_4 23 rfl rfl
theorem dksX10_oneRoom_6 : cX10_oneRoom.data.toList.drop 140 = dktX10_oneRoom_6 := dk_seg dksX10_oneRoom_5 24 rfl rfl
theorem dX10_oneRoom_0 : decode cX10_oneRoom 0 = .ok (.aload_n 0, 1) := dk_42 (dk_at dksX10_oneRoom_0 0 rfl rfl)
theorem dX10_oneRoom_1 : decode cX10_oneRoom 1 = .ok (.iload_n 1, 1) := dk_27 (dk_at dksX10_oneRoom_0 1 rfl rfl)
theorem dX10_oneRoom_2 : decode cX10_oneRoom 2 = .ok (.invokevirtual 216, 3) := dk_182 0 216 (dk_at dksX10_oneRoom_0 2 rfl rfl)
theorem dX10_oneRoom_5 : decode cX10_oneRoom 5 = .ok (.ifCond .eq 11, 3) := dk_153 0 11 (dk_at dksX10_oneRoom_0 5 rfl rfl)
theorem dX10_oneRoom_8 : decode cX10_oneRoom 8 = .ok (.aload_n 0, 1) := dk_42 (dk_at dksX10_oneRoom_0 8 rfl rfl)
theorem dX10_oneRoom_9 : decode cX10_oneRoom 9 = .ok (.iload_n 2, 1) := dk_28 (dk_at dksX10_oneRoom_0 9 rfl rfl)
theorem dX10_oneRoom_10 : decode cX10_oneRoom 10 = .ok (.invokevirtual 216, 3) := dk_182 0 216 (dk_at dksX10_oneRoom_0 10 rfl rfl)
theorem dX10_oneRoom_13 : decode cX10_oneRoom 13 = .ok (.ifCond .ne 9, 3) := dk_154 0 9 (dk_at dksX10_oneRoom_0 13 rfl rfl)
theorem dX10_oneRoom_16 : decode cX10_oneRoom 16 = .ok (.aload_n 0, 1) := dk_42 (dk_at dksX10_oneRoom_0 16 rfl rfl)
theorem dX10_oneRoom_17 : decode cX10_oneRoom 17 = .ok (.iconst 1, 1) := dk_4 (dk_at dksX10_oneRoom_0 17 rfl rfl)
theorem dX10_oneRoom_18 : decode cX10_oneRoom 18 = .ok (.invokevirtual 204, 3) := dk_182 0 204 (dk_at dksX10_oneRoom_0 18 rfl rfl)
theorem dX10_oneRoom_21 : decode cX10_oneRoom 21 = .ok (.ireturn, 1) := dk_172 (dk_at dksX10_oneRoom_0 21 rfl rfl)
theorem dX10_oneRoom_22 : decode cX10_oneRoom 22 = .ok (.aload_n 0, 1) := dk_42 (dk_at dksX10_oneRoom_0 22 rfl rfl)
theorem dX10_oneRoom_23 : decode cX10_oneRoom 23 = .ok (.getfield 13, 3) := dk_180 0 13 (dk_at dksX10_oneRoom_1 0 rfl rfl)
theorem dX10_oneRoom_26 : decode cX10_oneRoom 26 = .ok (.iload_n 1, 1) := dk_27 (dk_at dksX10_oneRoom_1 3 rfl rfl)
theorem dX10_oneRoom_27 : decode cX10_oneRoom 27 = .ok (.invokestatic 118, 3) := dk_184 0 118 (dk_at dksX10_oneRoom_1 4 rfl rfl)
theorem dX10_oneRoom_30 : decode cX10_oneRoom 30 = .ok (.istore_n 3, 1) := dk_62 (dk_at dksX10_oneRoom_1 7 rfl rfl)
theorem dX10_oneRoom_31 : decode cX10_oneRoom 31 = .ok (.aload_n 0, 1) := dk_42 (dk_at dksX10_oneRoom_1 8 rfl rfl)
theorem dX10_oneRoom_32 : decode cX10_oneRoom 32 = .ok (.getfield 13, 3) := dk_180 0 13 (dk_at dksX10_oneRoom_1 9 rfl rfl)
theorem dX10_oneRoom_35 : decode cX10_oneRoom 35 = .ok (.iload_n 2, 1) := dk_28 (dk_at dksX10_oneRoom_1 12 rfl rfl)
theorem dX10_oneRoom_36 : decode cX10_oneRoom 36 = .ok (.invokestatic 118, 3) := dk_184 0 118 (dk_at dksX10_oneRoom_1 13 rfl rfl)
theorem dX10_oneRoom_39 : decode cX10_oneRoom 39 = .ok (.istore 4, 2) := dk_54 4 (dk_at dksX10_oneRoom_1 16 rfl rfl)
theorem dX10_oneRoom_41 : decode cX10_oneRoom 41 = .ok (.aload_n 0, 1) := dk_42 (dk_at dksX10_oneRoom_1 18 rfl rfl)
theorem dX10_oneRoom_42 : decode cX10_oneRoom 42 = .ok (.iload_n 3, 1) := dk_29 (dk_at dksX10_oneRoom_1 19 rfl rfl)
theorem dX10_oneRoom_43 : decode cX10_oneRoom 43 = .ok (.invokevirtual 306, 3) := dk_182 1 50 (dk_at dksX10_oneRoom_1 20 rfl rfl)
theorem dX10_oneRoom_46 : decode cX10_oneRoom 46 = .ok (.ifCond .eq 12, 3) := dk_153 0 12 (dk_at dksX10_oneRoom_2 0 rfl rfl)
theorem dX10_oneRoom_49 : decode cX10_oneRoom 49 = .ok (.aload_n 0, 1) := dk_42 (dk_at dksX10_oneRoom_2 3 rfl rfl)
theorem dX10_oneRoom_50 : decode cX10_oneRoom 50 = .ok (.iload 4, 2) := dk_21 4 (dk_at dksX10_oneRoom_2 4 rfl rfl)
theorem dX10_oneRoom_52 : decode cX10_oneRoom 52 = .ok (.invokevirtual 306, 3) := dk_182 1 50 (dk_at dksX10_oneRoom_2 6 rfl rfl)
theorem dX10_oneRoom_55 : decode cX10_oneRoom 55 = .ok (.ifCond .ne 9, 3) := dk_154 0 9 (dk_at dksX10_oneRoom_2 9 rfl rfl)
theorem dX10_oneRoom_58 : decode cX10_oneRoom 58 = .ok (.aload_n 0, 1) := dk_42 (dk_at dksX10_oneRoom_2 12 rfl rfl)
theorem dX10_oneRoom_59 : decode cX10_oneRoom 59 = .ok (.iconst 3, 1) := dk_6 (dk_at dksX10_oneRoom_2 13 rfl rfl)
theorem dX10_oneRoom_60 : decode cX10_oneRoom 60 = .ok (.invokevirtual 204, 3) := dk_182 0 204 (dk_at dksX10_oneRoom_2 14 rfl rfl)
theorem dX10_oneRoom_63 : decode cX10_oneRoom 63 = .ok (.ireturn, 1) := dk_172 (dk_at dksX10_oneRoom_2 17 rfl rfl)
theorem dX10_oneRoom_64 : decode cX10_oneRoom 64 = .ok (.aload_n 0, 1) := dk_42 (dk_at dksX10_oneRoom_2 18 rfl rfl)
theorem dX10_oneRoom_65 : decode cX10_oneRoom 65 = .ok (.iload_n 3, 1) := dk_29 (dk_at dksX10_oneRoom_2 19 rfl rfl)
theorem dX10_oneRoom_66 : decode cX10_oneRoom 66 = .ok (.invokevirtual 309, 3) := dk_182 1 53 (dk_at dksX10_oneRoom_2 20 rfl rfl)
theorem dX10_oneRoom_69 : decode cX10_oneRoom 69 = .ok (.invokestatic 312, 3) := dk_184 1 56 (dk_at dksX10_oneRoom_3 0 rfl rfl)
theorem dX10_oneRoom_72 : decode cX10_oneRoom 72 = .ok (.ifCond .ne 15, 3) := dk_154 0 15 (dk_at dksX10_oneRoom_3 3 rfl rfl)
theorem dX10_oneRoom_75 : decode cX10_oneRoom 75 = .ok (.aload_n 0, 1) := dk_42 (dk_at dksX10_oneRoom_3 6 rfl rfl)
theorem dX10_oneRoom_76 : decode cX10_oneRoom 76 = .ok (.iload 4, 2) := dk_21 4 (dk_at dksX10_oneRoom_3 7 rfl rfl)
theorem dX10_oneRoom_78 : decode cX10_oneRoom 78 = .ok (.invokevirtual 309, 3) := dk_182 1 53 (dk_at dksX10_oneRoom_3 9 rfl rfl)
theorem dX10_oneRoom_81 : decode cX10_oneRoom 81 = .ok (.invokestatic 312, 3) := dk_184 1 56 (dk_at dksX10_oneRoom_3 12 rfl rfl)
theorem dX10_oneRoom_84 : decode cX10_oneRoom 84 = .ok (.ifCond .eq 9, 3) := dk_153 0 9 (dk_at dksX10_oneRoom_3 15 rfl rfl)
theorem dX10_oneRoom_87 : decode cX10_oneRoom 87 = .ok (.aload_n 0, 1) := dk_42 (dk_at dksX10_oneRoom_3 18 rfl rfl)
theorem dX10_oneRoom_88 : decode cX10_oneRoom 88 = .ok (.iconst 5, 1) := dk_8 (dk_at dksX10_oneRoom_3 19 rfl rfl)
theorem dX10_oneRoom_89 : decode cX10_oneRoom 89 = .ok (.invokevirtual 204, 3) := dk_182 0 204 (dk_at dksX10_oneRoom_3 20 rfl rfl)
theorem dX10_oneRoom_92 : decode cX10_oneRoom 92 = .ok (.ireturn, 1) := dk_172 (dk_at dksX10_oneRoom_3 23 rfl rfl)
theorem dX10_oneRoom_93 : decode cX10_oneRoom 93 = .ok (.aload_n 0, 1) := dk_42 (dk_at dksX10_oneRoom_4 0 rfl rfl)
theorem dX10_oneRoom_94 : decode cX10_oneRoom 94 = .ok (.iload_n 3, 1) := dk_29 (dk_at dksX10_oneRoom_4 1 rfl rfl)
theorem dX10_oneRoom_95 : decode cX10_oneRoom 95 = .ok (.invokevirtual 309, 3) := dk_182 1 53 (dk_at dksX10_oneRoom_4 2 rfl rfl)
theorem dX10_oneRoom_98 : decode cX10_oneRoom 98 = .ok (.lstore 5, 2) := dk_55 5 (dk_at dksX10_oneRoom_4 5 rfl rfl)
theorem dX10_oneRoom_100 : decode cX10_oneRoom 100 = .ok (.lload 5, 2) := dk_22 5 (dk_at dksX10_oneRoom_4 7 rfl rfl)
theorem dX10_oneRoom_102 : decode cX10_oneRoom 102 = .ok (.aload_n 0, 1) := dk_42 (dk_at dksX10_oneRoom_4 9 rfl rfl)
theorem dX10_oneRoom_103 : decode cX10_oneRoom 103 = .ok (.iload 4, 2) := dk_21 4 (dk_at dksX10_oneRoom_4 10 rfl rfl)
theorem dX10_oneRoom_105 : decode cX10_oneRoom 105 = .ok (.invokevirtual 309, 3) := dk_182 1 53 (dk_at dksX10_oneRoom_4 12 rfl rfl)
theorem dX10_oneRoom_108 : decode cX10_oneRoom 108 = .ok (.lcmp, 1) := dk_148 (dk_at dksX10_oneRoom_4 15 rfl rfl)
theorem dX10_oneRoom_109 : decode cX10_oneRoom 109 = .ok (.ifCond .eq 5, 3) := dk_153 0 5 (dk_at dksX10_oneRoom_4 16 rfl rfl)
theorem dX10_oneRoom_112 : decode cX10_oneRoom 112 = .ok (.iconst 0, 1) := dk_3 (dk_at dksX10_oneRoom_4 19 rfl rfl)
theorem dX10_oneRoom_113 : decode cX10_oneRoom 113 = .ok (.ireturn, 1) := dk_172 (dk_at dksX10_oneRoom_4 20 rfl rfl)
theorem dX10_oneRoom_114 : decode cX10_oneRoom 114 = .ok (.lload 5, 2) := dk_22 5 (dk_at dksX10_oneRoom_4 21 rfl rfl)
theorem dX10_oneRoom_116 : decode cX10_oneRoom 116 = .ok (.ldc2_w 276, 3) := dk_20 1 20 (dk_at dksX10_oneRoom_5 0 rfl rfl)
theorem dX10_oneRoom_119 : decode cX10_oneRoom 119 = .ok (.lcmp, 1) := dk_148 (dk_at dksX10_oneRoom_5 3 rfl rfl)
theorem dX10_oneRoom_120 : decode cX10_oneRoom 120 = .ok (.ifCond .lt 38, 3) := dk_155 0 38 (dk_at dksX10_oneRoom_5 4 rfl rfl)
theorem dX10_oneRoom_123 : decode cX10_oneRoom 123 = .ok (.aload_n 0, 1) := dk_42 (dk_at dksX10_oneRoom_5 7 rfl rfl)
theorem dX10_oneRoom_124 : decode cX10_oneRoom 124 = .ok (.iload_n 3, 1) := dk_29 (dk_at dksX10_oneRoom_5 8 rfl rfl)
theorem dX10_oneRoom_125 : decode cX10_oneRoom 125 = .ok (.invokevirtual 316, 3) := dk_182 1 60 (dk_at dksX10_oneRoom_5 9 rfl rfl)
theorem dX10_oneRoom_128 : decode cX10_oneRoom 128 = .ok (.aload_n 0, 1) := dk_42 (dk_at dksX10_oneRoom_5 12 rfl rfl)
theorem dX10_oneRoom_129 : decode cX10_oneRoom 129 = .ok (.iload 4, 2) := dk_21 4 (dk_at dksX10_oneRoom_5 13 rfl rfl)
theorem dX10_oneRoom_131 : decode cX10_oneRoom 131 = .ok (.invokevirtual 316, 3) := dk_182 1 60 (dk_at dksX10_oneRoom_5 15 rfl rfl)
theorem dX10_oneRoom_134 : decode cX10_oneRoom 134 = .ok (.lcmp, 1) := dk_148 (dk_at dksX10_oneRoom_5 18 rfl rfl)
theorem dX10_oneRoom_135 : decode cX10_oneRoom 135 = .ok (.ifCond .eq 23, 3) := dk_153 0 23 (dk_at dksX10_oneRoom_5 19 rfl rfl)
theorem dX10_oneRoom_138 : decode cX10_oneRoom 138 = .ok (.aload_n 0, 1) := dk_42 (dk_at dksX10_oneRoom_5 22 rfl rfl)
theorem dX10_oneRoom_139 : decode cX10_oneRoom 139 = .ok (.iload_n 3, 1) := dk_29 (dk_at dksX10_oneRoom_5 23 rfl rfl)
theorem dX10_oneRoom_140 : decode cX10_oneRoom 140 = .ok (.invokevirtual 316, 3) := dk_182 1 60 (dk_at dksX10_oneRoom_6 0 rfl rfl)
theorem dX10_oneRoom_143 : decode cX10_oneRoom 143 = .ok (.aload_n 0, 1) := dk_42 (dk_at dksX10_oneRoom_6 3 rfl rfl)
theorem dX10_oneRoom_144 : decode cX10_oneRoom 144 = .ok (.iload 4, 2) := dk_21 4 (dk_at dksX10_oneRoom_6 4 rfl rfl)
theorem dX10_oneRoom_146 : decode cX10_oneRoom 146 = .ok (.invokevirtual 316, 3) := dk_182 1 60 (dk_at dksX10_oneRoom_6 6 rfl rfl)
theorem dX10_oneRoom_149 : decode cX10_oneRoom 149 = .ok (.lmul, 1) := dk_105 (dk_at dksX10_oneRoom_6 9 rfl rfl)
theorem dX10_oneRoom_150 : decode cX10_oneRoom 150 = .ok (.lload 5, 2) := dk_22 5 (dk_at dksX10_oneRoom_6 10 rfl rfl)
theorem dX10_oneRoom_152 : decode cX10_oneRoom 152 = .ok (.lrem, 1) := dk_113 (dk_at dksX10_oneRoom_6 12 rfl rfl)
theorem dX10_oneRoom_153 : decode cX10_oneRoom 153 = .ok (.lconst 1, 1) := dk_10 (dk_at dksX10_oneRoom_6 13 rfl rfl)
theorem dX10_oneRoom_154 : decode cX10_oneRoom 154 = .ok (.lcmp, 1) := dk_148 (dk_at dksX10_oneRoom_6 14 rfl rfl)
theorem dX10_oneRoom_155 : decode cX10_oneRoom 155 = .ok (.ifCond .ne 7, 3) := dk_154 0 7 (dk_at dksX10_oneRoom_6 15 rfl rfl)
theorem dX10_oneRoom_158 : decode cX10_oneRoom 158 = .ok (.iconst 1, 1) := dk_4 (dk_at dksX10_oneRoom_6 18 rfl rfl)
theorem dX10_oneRoom_159 : decode cX10_oneRoom 159 = .ok (.goto 4, 3) := dk_167 0 4 (dk_at dksX10_oneRoom_6 19 rfl rfl)
theorem dX10_oneRoom_162 : decode cX10_oneRoom 162 = .ok (.iconst 0, 1) := dk_3 (dk_at dksX10_oneRoom_6 22 rfl rfl)
theorem dX10_oneRoom_163 : decode cX10_oneRoom 163 = .ok (.ireturn, 1) := dk_172 (dk_at dksX10_oneRoom_6 23 rfl rfl)
abbrev cX10_chain : ByteArray := prog_26_method_82_code
def yX10_chain : MethodName := ⟨RX10, "chain", "(III)I"⟩
def dkwX10_chain_2 : List UInt8 := [156, 0, 11, 42, 5, 182, 0, 204, 167, 0, 5, 21, 4, 172]
abbrev dktX10_chain_2 : List UInt8 := dkwX10_chain_2 ++ []
def dkwX10_chain_1 : List UInt8 := [184, 1, 6, 10, 148, 158, 0, 9, 42, 6, 182, 0, 204, 172, 27, 28, 29, 184, 1, 68, 54, 4, 21, 4]
abbrev dktX10_chain_1 : List UInt8 := dkwX10_chain_1 ++ dktX10_chain_2
def dkwX10_chain_0 : List UInt8 := [27, 28, 184, 1, 65, 153, 0, 8, 29, 2, 162, 0, 9, 42, 4, 182, 0, 204, 172, 27, 133, 28, 133]
abbrev dktX10_chain_0 : List UInt8 := dkwX10_chain_0 ++ dktX10_chain_1
theorem dksX10_chain_0 : cX10_chain.data.toList.drop 0 = dktX10_chain_0 := by decide +kernel
theorem dksX10_chain_1 : cX10_chain.data.toList.drop 23 = dktX10_chain_1 := dk_seg dksX10_chain_0 23 rfl rfl
theorem dksX10_chain_2 : cX10_chain.data.toList.drop 47 = dktX10_chain_2 := dk_seg dksX10_chain_1 24 rfl rfl
theorem dX10_chain_0 : decode cX10_chain 0 = .ok (.iload_n 1, 1) := dk_27 (dk_at dksX10_chain_0 0 rfl rfl)
theorem dX10_chain_1 : decode cX10_chain 1 = .ok (.iload_n 2, 1) := dk_28 (dk_at dksX10_chain_0 1 rfl rfl)
theorem dX10_chain_2 : decode cX10_chain 2 = .ok (.invokestatic 321, 3) := dk_184 1 65 (dk_at dksX10_chain_0 2 rfl rfl)
theorem dX10_chain_5 : decode cX10_chain 5 = .ok (.ifCond .eq 8, 3) := dk_153 0 8 (dk_at dksX10_chain_0 5 rfl rfl)
theorem dX10_chain_8 : decode cX10_chain 8 = .ok (.iload_n 3, 1) := dk_29 (dk_at dksX10_chain_0 8 rfl rfl)
theorem dX10_chain_9 : decode cX10_chain 9 = .ok (.iconst (-1), 1) := dk_2 (dk_at dksX10_chain_0 9 rfl rfl)
theorem dX10_chain_10 : decode cX10_chain 10 = .ok (.if_icmp .ge 9, 3) := dk_162 0 9 (dk_at dksX10_chain_0 10 rfl rfl)
theorem dX10_chain_13 : decode cX10_chain 13 = .ok (.aload_n 0, 1) := dk_42 (dk_at dksX10_chain_0 13 rfl rfl)
theorem dX10_chain_14 : decode cX10_chain 14 = .ok (.iconst 1, 1) := dk_4 (dk_at dksX10_chain_0 14 rfl rfl)
theorem dX10_chain_15 : decode cX10_chain 15 = .ok (.invokevirtual 204, 3) := dk_182 0 204 (dk_at dksX10_chain_0 15 rfl rfl)
theorem dX10_chain_18 : decode cX10_chain 18 = .ok (.ireturn, 1) := dk_172 (dk_at dksX10_chain_0 18 rfl rfl)
theorem dX10_chain_19 : decode cX10_chain 19 = .ok (.iload_n 1, 1) := dk_27 (dk_at dksX10_chain_0 19 rfl rfl)
theorem dX10_chain_20 : decode cX10_chain 20 = .ok (.i2l, 1) := dk_133 (dk_at dksX10_chain_0 20 rfl rfl)
theorem dX10_chain_21 : decode cX10_chain 21 = .ok (.iload_n 2, 1) := dk_28 (dk_at dksX10_chain_0 21 rfl rfl)
theorem dX10_chain_22 : decode cX10_chain 22 = .ok (.i2l, 1) := dk_133 (dk_at dksX10_chain_0 22 rfl rfl)
theorem dX10_chain_23 : decode cX10_chain 23 = .ok (.invokestatic 262, 3) := dk_184 1 6 (dk_at dksX10_chain_1 0 rfl rfl)
theorem dX10_chain_26 : decode cX10_chain 26 = .ok (.lconst 1, 1) := dk_10 (dk_at dksX10_chain_1 3 rfl rfl)
theorem dX10_chain_27 : decode cX10_chain 27 = .ok (.lcmp, 1) := dk_148 (dk_at dksX10_chain_1 4 rfl rfl)
theorem dX10_chain_28 : decode cX10_chain 28 = .ok (.ifCond .le 9, 3) := dk_158 0 9 (dk_at dksX10_chain_1 5 rfl rfl)
theorem dX10_chain_31 : decode cX10_chain 31 = .ok (.aload_n 0, 1) := dk_42 (dk_at dksX10_chain_1 8 rfl rfl)
theorem dX10_chain_32 : decode cX10_chain 32 = .ok (.iconst 3, 1) := dk_6 (dk_at dksX10_chain_1 9 rfl rfl)
theorem dX10_chain_33 : decode cX10_chain 33 = .ok (.invokevirtual 204, 3) := dk_182 0 204 (dk_at dksX10_chain_1 10 rfl rfl)
theorem dX10_chain_36 : decode cX10_chain 36 = .ok (.ireturn, 1) := dk_172 (dk_at dksX10_chain_1 13 rfl rfl)
theorem dX10_chain_37 : decode cX10_chain 37 = .ok (.iload_n 1, 1) := dk_27 (dk_at dksX10_chain_1 14 rfl rfl)
theorem dX10_chain_38 : decode cX10_chain 38 = .ok (.iload_n 2, 1) := dk_28 (dk_at dksX10_chain_1 15 rfl rfl)
theorem dX10_chain_39 : decode cX10_chain 39 = .ok (.iload_n 3, 1) := dk_29 (dk_at dksX10_chain_1 16 rfl rfl)
theorem dX10_chain_40 : decode cX10_chain 40 = .ok (.invokestatic 324, 3) := dk_184 1 68 (dk_at dksX10_chain_1 17 rfl rfl)
theorem dX10_chain_43 : decode cX10_chain 43 = .ok (.istore 4, 2) := dk_54 4 (dk_at dksX10_chain_1 20 rfl rfl)
theorem dX10_chain_45 : decode cX10_chain 45 = .ok (.iload 4, 2) := dk_21 4 (dk_at dksX10_chain_1 22 rfl rfl)
theorem dX10_chain_47 : decode cX10_chain 47 = .ok (.ifCond .ge 11, 3) := dk_156 0 11 (dk_at dksX10_chain_2 0 rfl rfl)
theorem dX10_chain_50 : decode cX10_chain 50 = .ok (.aload_n 0, 1) := dk_42 (dk_at dksX10_chain_2 3 rfl rfl)
theorem dX10_chain_51 : decode cX10_chain 51 = .ok (.iconst 2, 1) := dk_5 (dk_at dksX10_chain_2 4 rfl rfl)
theorem dX10_chain_52 : decode cX10_chain 52 = .ok (.invokevirtual 204, 3) := dk_182 0 204 (dk_at dksX10_chain_2 5 rfl rfl)
theorem dX10_chain_55 : decode cX10_chain 55 = .ok (.goto 5, 3) := dk_167 0 5 (dk_at dksX10_chain_2 8 rfl rfl)
theorem dX10_chain_58 : decode cX10_chain 58 = .ok (.iload 4, 2) := dk_21 4 (dk_at dksX10_chain_2 11 rfl rfl)
theorem dX10_chain_60 : decode cX10_chain 60 = .ok (.ireturn, 1) := dk_172 (dk_at dksX10_chain_2 13 rfl rfl)
abbrev cX10_isChain : ByteArray := prog_26_method_80_code
def yX10_isChain : MethodName := ⟨RX10, "isChain", "(II)Z"⟩
def dkwX10_isChain_1 : List UInt8 := [153, 0, 7, 4, 167, 0, 4, 3, 172]
abbrev dktX10_isChain_1 : List UInt8 := dkwX10_isChain_1 ++ []
def dkwX10_isChain_0 : List UInt8 := [26, 133, 20, 1, 20, 20, 1, 63, 184, 0, 102, 153, 0, 20, 27, 133, 10, 26, 133, 10, 101, 184, 0, 102]
abbrev dktX10_isChain_0 : List UInt8 := dkwX10_isChain_0 ++ dktX10_isChain_1
theorem dksX10_isChain_0 : cX10_isChain.data.toList.drop 0 = dktX10_isChain_0 := by decide +kernel
theorem dksX10_isChain_1 : cX10_isChain.data.toList.drop 24 = dktX10_isChain_1 := dk_seg dksX10_isChain_0 24 rfl rfl
theorem dX10_isChain_0 : decode cX10_isChain 0 = .ok (.iload_n 0, 1) := dk_26 (dk_at dksX10_isChain_0 0 rfl rfl)
theorem dX10_isChain_1 : decode cX10_isChain 1 = .ok (.i2l, 1) := dk_133 (dk_at dksX10_isChain_0 1 rfl rfl)
theorem dX10_isChain_2 : decode cX10_isChain 2 = .ok (.ldc2_w 276, 3) := dk_20 1 20 (dk_at dksX10_isChain_0 2 rfl rfl)
theorem dX10_isChain_5 : decode cX10_isChain 5 = .ok (.ldc2_w 319, 3) := dk_20 1 63 (dk_at dksX10_isChain_0 5 rfl rfl)
theorem dX10_isChain_8 : decode cX10_isChain 8 = .ok (.invokestatic 102, 3) := dk_184 0 102 (dk_at dksX10_isChain_0 8 rfl rfl)
theorem dX10_isChain_11 : decode cX10_isChain 11 = .ok (.ifCond .eq 20, 3) := dk_153 0 20 (dk_at dksX10_isChain_0 11 rfl rfl)
theorem dX10_isChain_14 : decode cX10_isChain 14 = .ok (.iload_n 1, 1) := dk_27 (dk_at dksX10_isChain_0 14 rfl rfl)
theorem dX10_isChain_15 : decode cX10_isChain 15 = .ok (.i2l, 1) := dk_133 (dk_at dksX10_isChain_0 15 rfl rfl)
theorem dX10_isChain_16 : decode cX10_isChain 16 = .ok (.lconst 1, 1) := dk_10 (dk_at dksX10_isChain_0 16 rfl rfl)
theorem dX10_isChain_17 : decode cX10_isChain 17 = .ok (.iload_n 0, 1) := dk_26 (dk_at dksX10_isChain_0 17 rfl rfl)
theorem dX10_isChain_18 : decode cX10_isChain 18 = .ok (.i2l, 1) := dk_133 (dk_at dksX10_isChain_0 18 rfl rfl)
theorem dX10_isChain_19 : decode cX10_isChain 19 = .ok (.lconst 1, 1) := dk_10 (dk_at dksX10_isChain_0 19 rfl rfl)
theorem dX10_isChain_20 : decode cX10_isChain 20 = .ok (.lsub, 1) := dk_101 (dk_at dksX10_isChain_0 20 rfl rfl)
theorem dX10_isChain_21 : decode cX10_isChain 21 = .ok (.invokestatic 102, 3) := dk_184 0 102 (dk_at dksX10_isChain_0 21 rfl rfl)
theorem dX10_isChain_24 : decode cX10_isChain 24 = .ok (.ifCond .eq 7, 3) := dk_153 0 7 (dk_at dksX10_isChain_1 0 rfl rfl)
theorem dX10_isChain_27 : decode cX10_isChain 27 = .ok (.iconst 1, 1) := dk_4 (dk_at dksX10_isChain_1 3 rfl rfl)
theorem dX10_isChain_28 : decode cX10_isChain 28 = .ok (.goto 4, 3) := dk_167 0 4 (dk_at dksX10_isChain_1 4 rfl rfl)
theorem dX10_isChain_31 : decode cX10_isChain 31 = .ok (.iconst 0, 1) := dk_3 (dk_at dksX10_isChain_1 7 rfl rfl)
theorem dX10_isChain_32 : decode cX10_isChain 32 = .ok (.ireturn, 1) := dk_172 (dk_at dksX10_isChain_1 8 rfl rfl)
abbrev cX10_chained : ByteArray := prog_26_method_81_code
def yX10_chained : MethodName := ⟨RX10, "chained", "(III)I"⟩
def dkwX10_chained_2 : List UInt8 := [54, 4, 132, 5, 1, 167, 255, 212, 28, 156, 0, 8, 21, 5, 167, 0, 4, 2, 172]
abbrev dktX10_chained_2 : List UInt8 := dkwX10_chained_2 ++ []
def dkwX10_chained_1 : List UInt8 := [21, 5, 28, 160, 0, 6, 21, 6, 172, 21, 6, 21, 4, 104, 29, 100, 54, 7, 21, 4, 62, 21, 7]
abbrev dktX10_chained_1 : List UInt8 := dkwX10_chained_1 ++ dktX10_chained_2
def dkwX10_chained_0 : List UInt8 := [26, 62, 27, 54, 4, 3, 54, 5, 21, 4, 158, 0, 45, 29, 21, 4, 96, 4, 100, 21, 4, 108, 54, 6]
abbrev dktX10_chained_0 : List UInt8 := dkwX10_chained_0 ++ dktX10_chained_1
theorem dksX10_chained_0 : cX10_chained.data.toList.drop 0 = dktX10_chained_0 := by decide +kernel
theorem dksX10_chained_1 : cX10_chained.data.toList.drop 24 = dktX10_chained_1 := dk_seg dksX10_chained_0 24 rfl rfl
theorem dksX10_chained_2 : cX10_chained.data.toList.drop 47 = dktX10_chained_2 := dk_seg dksX10_chained_1 23 rfl rfl
theorem dX10_chained_0 : decode cX10_chained 0 = .ok (.iload_n 0, 1) := dk_26 (dk_at dksX10_chained_0 0 rfl rfl)
theorem dX10_chained_1 : decode cX10_chained 1 = .ok (.istore_n 3, 1) := dk_62 (dk_at dksX10_chained_0 1 rfl rfl)
theorem dX10_chained_2 : decode cX10_chained 2 = .ok (.iload_n 1, 1) := dk_27 (dk_at dksX10_chained_0 2 rfl rfl)
theorem dX10_chained_3 : decode cX10_chained 3 = .ok (.istore 4, 2) := dk_54 4 (dk_at dksX10_chained_0 3 rfl rfl)
theorem dX10_chained_5 : decode cX10_chained 5 = .ok (.iconst 0, 1) := dk_3 (dk_at dksX10_chained_0 5 rfl rfl)
theorem dX10_chained_6 : decode cX10_chained 6 = .ok (.istore 5, 2) := dk_54 5 (dk_at dksX10_chained_0 6 rfl rfl)
theorem dX10_chained_8 : decode cX10_chained 8 = .ok (.iload 4, 2) := dk_21 4 (dk_at dksX10_chained_0 8 rfl rfl)
theorem dX10_chained_10 : decode cX10_chained 10 = .ok (.ifCond .le 45, 3) := dk_158 0 45 (dk_at dksX10_chained_0 10 rfl rfl)
theorem dX10_chained_13 : decode cX10_chained 13 = .ok (.iload_n 3, 1) := dk_29 (dk_at dksX10_chained_0 13 rfl rfl)
theorem dX10_chained_14 : decode cX10_chained 14 = .ok (.iload 4, 2) := dk_21 4 (dk_at dksX10_chained_0 14 rfl rfl)
theorem dX10_chained_16 : decode cX10_chained 16 = .ok (.iadd, 1) := dk_96 (dk_at dksX10_chained_0 16 rfl rfl)
theorem dX10_chained_17 : decode cX10_chained 17 = .ok (.iconst 1, 1) := dk_4 (dk_at dksX10_chained_0 17 rfl rfl)
theorem dX10_chained_18 : decode cX10_chained 18 = .ok (.isub, 1) := dk_100 (dk_at dksX10_chained_0 18 rfl rfl)
theorem dX10_chained_19 : decode cX10_chained 19 = .ok (.iload 4, 2) := dk_21 4 (dk_at dksX10_chained_0 19 rfl rfl)
theorem dX10_chained_21 : decode cX10_chained 21 = .ok (.idiv, 1) := dk_108 (dk_at dksX10_chained_0 21 rfl rfl)
theorem dX10_chained_22 : decode cX10_chained 22 = .ok (.istore 6, 2) := dk_54 6 (dk_at dksX10_chained_0 22 rfl rfl)
theorem dX10_chained_24 : decode cX10_chained 24 = .ok (.iload 5, 2) := dk_21 5 (dk_at dksX10_chained_1 0 rfl rfl)
theorem dX10_chained_26 : decode cX10_chained 26 = .ok (.iload_n 2, 1) := dk_28 (dk_at dksX10_chained_1 2 rfl rfl)
theorem dX10_chained_27 : decode cX10_chained 27 = .ok (.if_icmp .ne 6, 3) := dk_160 0 6 (dk_at dksX10_chained_1 3 rfl rfl)
theorem dX10_chained_30 : decode cX10_chained 30 = .ok (.iload 6, 2) := dk_21 6 (dk_at dksX10_chained_1 6 rfl rfl)
theorem dX10_chained_32 : decode cX10_chained 32 = .ok (.ireturn, 1) := dk_172 (dk_at dksX10_chained_1 8 rfl rfl)
theorem dX10_chained_33 : decode cX10_chained 33 = .ok (.iload 6, 2) := dk_21 6 (dk_at dksX10_chained_1 9 rfl rfl)
theorem dX10_chained_35 : decode cX10_chained 35 = .ok (.iload 4, 2) := dk_21 4 (dk_at dksX10_chained_1 11 rfl rfl)
theorem dX10_chained_37 : decode cX10_chained 37 = .ok (.imul, 1) := dk_104 (dk_at dksX10_chained_1 13 rfl rfl)
theorem dX10_chained_38 : decode cX10_chained 38 = .ok (.iload_n 3, 1) := dk_29 (dk_at dksX10_chained_1 14 rfl rfl)
theorem dX10_chained_39 : decode cX10_chained 39 = .ok (.isub, 1) := dk_100 (dk_at dksX10_chained_1 15 rfl rfl)
theorem dX10_chained_40 : decode cX10_chained 40 = .ok (.istore 7, 2) := dk_54 7 (dk_at dksX10_chained_1 16 rfl rfl)
theorem dX10_chained_42 : decode cX10_chained 42 = .ok (.iload 4, 2) := dk_21 4 (dk_at dksX10_chained_1 18 rfl rfl)
theorem dX10_chained_44 : decode cX10_chained 44 = .ok (.istore_n 3, 1) := dk_62 (dk_at dksX10_chained_1 20 rfl rfl)
theorem dX10_chained_45 : decode cX10_chained 45 = .ok (.iload 7, 2) := dk_21 7 (dk_at dksX10_chained_1 21 rfl rfl)
theorem dX10_chained_47 : decode cX10_chained 47 = .ok (.istore 4, 2) := dk_54 4 (dk_at dksX10_chained_2 0 rfl rfl)
theorem dX10_chained_49 : decode cX10_chained 49 = .ok (.iinc 5 1, 3) := dk_132 5 1 (dk_at dksX10_chained_2 2 rfl rfl)
theorem dX10_chained_52 : decode cX10_chained 52 = .ok (.goto (-44), 3) := dk_167 255 212 (dk_at dksX10_chained_2 5 rfl rfl)
theorem dX10_chained_55 : decode cX10_chained 55 = .ok (.iload_n 2, 1) := dk_28 (dk_at dksX10_chained_2 8 rfl rfl)
theorem dX10_chained_56 : decode cX10_chained 56 = .ok (.ifCond .ge 8, 3) := dk_156 0 8 (dk_at dksX10_chained_2 9 rfl rfl)
theorem dX10_chained_59 : decode cX10_chained 59 = .ok (.iload 5, 2) := dk_21 5 (dk_at dksX10_chained_2 12 rfl rfl)
theorem dX10_chained_61 : decode cX10_chained 61 = .ok (.goto 4, 3) := dk_167 0 4 (dk_at dksX10_chained_2 14 rfl rfl)
theorem dX10_chained_64 : decode cX10_chained 64 = .ok (.iconst (-1), 1) := dk_2 (dk_at dksX10_chained_2 17 rfl rfl)
theorem dX10_chained_65 : decode cX10_chained 65 = .ok (.ireturn, 1) := dk_172 (dk_at dksX10_chained_2 18 rfl rfl)
abbrev cX10_plant : ByteArray := prog_26_method_83_code
def yX10_plant : MethodName := ⟨RX10, "plant", "(II)I"⟩
def dkwX10_plant_7 : List UInt8 := [167, 255, 210, 21, 4, 172]
abbrev dktX10_plant_7 : List UInt8 := dkwX10_plant_7 ++ []
def dkwX10_plant_6 : List UInt8 := [21, 5, 155, 0, 14, 42, 180, 0, 13, 21, 5, 21, 7, 184, 0, 158, 21, 7, 54, 5, 132, 6, 1]
abbrev dktX10_plant_6 : List UInt8 := dkwX10_plant_6 ++ dktX10_plant_7
def dkwX10_plant_5 : List UInt8 := [21, 6, 29, 162, 0, 46, 42, 180, 0, 13, 27, 28, 21, 6, 184, 1, 68, 116, 184, 0, 165, 54, 7]
abbrev dktX10_plant_5 : List UInt8 := dkwX10_plant_5 ++ dktX10_plant_6
def dkwX10_plant_4 : List UInt8 := [42, 182, 0, 213, 42, 180, 0, 13, 3, 46, 2, 130, 184, 0, 114, 54, 4, 2, 54, 5, 3, 54, 6]
abbrev dktX10_plant_4 : List UInt8 := dkwX10_plant_4 ++ dktX10_plant_5
def dkwX10_plant_3 : List UInt8 := [27, 28, 21, 4, 184, 1, 68, 16, 30, 164, 0, 9, 42, 8, 182, 0, 204, 172, 132, 4, 1, 167, 255, 229]
abbrev dktX10_plant_3 : List UInt8 := dkwX10_plant_3 ++ dktX10_plant_4
def dkwX10_plant_2 : List UInt8 := [184, 0, 130, 96, 16, 12, 164, 0, 9, 42, 7, 182, 0, 204, 172, 3, 54, 4, 21, 4, 29, 162, 0, 27]
abbrev dktX10_plant_2 : List UInt8 := dkwX10_plant_2 ++ dktX10_plant_3
def dkwX10_plant_1 : List UInt8 := [158, 0, 9, 42, 6, 182, 0, 204, 172, 27, 28, 2, 184, 1, 68, 62, 29, 42, 180, 0, 13, 3, 46]
abbrev dktX10_plant_1 : List UInt8 := dkwX10_plant_1 ++ dktX10_plant_2
def dkwX10_plant_0 : List UInt8 := [27, 28, 184, 1, 65, 154, 0, 9, 42, 4, 182, 0, 204, 172, 27, 133, 28, 133, 184, 1, 6, 10, 148]
abbrev dktX10_plant_0 : List UInt8 := dkwX10_plant_0 ++ dktX10_plant_1
theorem dksX10_plant_0 : cX10_plant.data.toList.drop 0 = dktX10_plant_0 := by decide +kernel
theorem dksX10_plant_1 : cX10_plant.data.toList.drop 23 = dktX10_plant_1 := dk_seg dksX10_plant_0 23 rfl rfl
theorem dksX10_plant_2 : cX10_plant.data.toList.drop 46 = dktX10_plant_2 := dk_seg dksX10_plant_1 23 rfl rfl
theorem dksX10_plant_3 : cX10_plant.data.toList.drop 70 = dktX10_plant_3 := dk_seg dksX10_plant_2 24 rfl rfl
theorem dksX10_plant_4 : cX10_plant.data.toList.drop 94 = dktX10_plant_4 := dk_seg dksX10_plant_3 24 rfl rfl
theorem dksX10_plant_5 : cX10_plant.data.toList.drop 117 = dktX10_plant_5 := dk_seg dksX10_plant_4 23 rfl rfl
theorem dksX10_plant_6 : cX10_plant.data.toList.drop 140 = dktX10_plant_6 := dk_seg dksX10_plant_5 23 rfl rfl
theorem dksX10_plant_7 : cX10_plant.data.toList.drop 163 = dktX10_plant_7 := dk_seg dksX10_plant_6 23 rfl rfl
theorem dX10_plant_0 : decode cX10_plant 0 = .ok (.iload_n 1, 1) := dk_27 (dk_at dksX10_plant_0 0 rfl rfl)
theorem dX10_plant_1 : decode cX10_plant 1 = .ok (.iload_n 2, 1) := dk_28 (dk_at dksX10_plant_0 1 rfl rfl)
theorem dX10_plant_2 : decode cX10_plant 2 = .ok (.invokestatic 321, 3) := dk_184 1 65 (dk_at dksX10_plant_0 2 rfl rfl)
theorem dX10_plant_5 : decode cX10_plant 5 = .ok (.ifCond .ne 9, 3) := dk_154 0 9 (dk_at dksX10_plant_0 5 rfl rfl)
theorem dX10_plant_8 : decode cX10_plant 8 = .ok (.aload_n 0, 1) := dk_42 (dk_at dksX10_plant_0 8 rfl rfl)
theorem dX10_plant_9 : decode cX10_plant 9 = .ok (.iconst 1, 1) := dk_4 (dk_at dksX10_plant_0 9 rfl rfl)
theorem dX10_plant_10 : decode cX10_plant 10 = .ok (.invokevirtual 204, 3) := dk_182 0 204 (dk_at dksX10_plant_0 10 rfl rfl)
theorem dX10_plant_13 : decode cX10_plant 13 = .ok (.ireturn, 1) := dk_172 (dk_at dksX10_plant_0 13 rfl rfl)
theorem dX10_plant_14 : decode cX10_plant 14 = .ok (.iload_n 1, 1) := dk_27 (dk_at dksX10_plant_0 14 rfl rfl)
theorem dX10_plant_15 : decode cX10_plant 15 = .ok (.i2l, 1) := dk_133 (dk_at dksX10_plant_0 15 rfl rfl)
theorem dX10_plant_16 : decode cX10_plant 16 = .ok (.iload_n 2, 1) := dk_28 (dk_at dksX10_plant_0 16 rfl rfl)
theorem dX10_plant_17 : decode cX10_plant 17 = .ok (.i2l, 1) := dk_133 (dk_at dksX10_plant_0 17 rfl rfl)
theorem dX10_plant_18 : decode cX10_plant 18 = .ok (.invokestatic 262, 3) := dk_184 1 6 (dk_at dksX10_plant_0 18 rfl rfl)
theorem dX10_plant_21 : decode cX10_plant 21 = .ok (.lconst 1, 1) := dk_10 (dk_at dksX10_plant_0 21 rfl rfl)
theorem dX10_plant_22 : decode cX10_plant 22 = .ok (.lcmp, 1) := dk_148 (dk_at dksX10_plant_0 22 rfl rfl)
theorem dX10_plant_23 : decode cX10_plant 23 = .ok (.ifCond .le 9, 3) := dk_158 0 9 (dk_at dksX10_plant_1 0 rfl rfl)
theorem dX10_plant_26 : decode cX10_plant 26 = .ok (.aload_n 0, 1) := dk_42 (dk_at dksX10_plant_1 3 rfl rfl)
theorem dX10_plant_27 : decode cX10_plant 27 = .ok (.iconst 3, 1) := dk_6 (dk_at dksX10_plant_1 4 rfl rfl)
theorem dX10_plant_28 : decode cX10_plant 28 = .ok (.invokevirtual 204, 3) := dk_182 0 204 (dk_at dksX10_plant_1 5 rfl rfl)
theorem dX10_plant_31 : decode cX10_plant 31 = .ok (.ireturn, 1) := dk_172 (dk_at dksX10_plant_1 8 rfl rfl)
theorem dX10_plant_32 : decode cX10_plant 32 = .ok (.iload_n 1, 1) := dk_27 (dk_at dksX10_plant_1 9 rfl rfl)
theorem dX10_plant_33 : decode cX10_plant 33 = .ok (.iload_n 2, 1) := dk_28 (dk_at dksX10_plant_1 10 rfl rfl)
theorem dX10_plant_34 : decode cX10_plant 34 = .ok (.iconst (-1), 1) := dk_2 (dk_at dksX10_plant_1 11 rfl rfl)
theorem dX10_plant_35 : decode cX10_plant 35 = .ok (.invokestatic 324, 3) := dk_184 1 68 (dk_at dksX10_plant_1 12 rfl rfl)
theorem dX10_plant_38 : decode cX10_plant 38 = .ok (.istore_n 3, 1) := dk_62 (dk_at dksX10_plant_1 15 rfl rfl)
theorem dX10_plant_39 : decode cX10_plant 39 = .ok (.iload_n 3, 1) := dk_29 (dk_at dksX10_plant_1 16 rfl rfl)
theorem dX10_plant_40 : decode cX10_plant 40 = .ok (.aload_n 0, 1) := dk_42 (dk_at dksX10_plant_1 17 rfl rfl)
theorem dX10_plant_41 : decode cX10_plant 41 = .ok (.getfield 13, 3) := dk_180 0 13 (dk_at dksX10_plant_1 18 rfl rfl)
theorem dX10_plant_44 : decode cX10_plant 44 = .ok (.iconst 0, 1) := dk_3 (dk_at dksX10_plant_1 21 rfl rfl)
theorem dX10_plant_45 : decode cX10_plant 45 = .ok (.iaload, 1) := dk_46 (dk_at dksX10_plant_1 22 rfl rfl)
theorem dX10_plant_46 : decode cX10_plant 46 = .ok (.invokestatic 130, 3) := dk_184 0 130 (dk_at dksX10_plant_2 0 rfl rfl)
theorem dX10_plant_49 : decode cX10_plant 49 = .ok (.iadd, 1) := dk_96 (dk_at dksX10_plant_2 3 rfl rfl)
theorem dX10_plant_50 : decode cX10_plant 50 = .ok (.bipush 12, 2) := dk_16 12 (dk_at dksX10_plant_2 4 rfl rfl)
theorem dX10_plant_52 : decode cX10_plant 52 = .ok (.if_icmp .le 9, 3) := dk_164 0 9 (dk_at dksX10_plant_2 6 rfl rfl)
theorem dX10_plant_55 : decode cX10_plant 55 = .ok (.aload_n 0, 1) := dk_42 (dk_at dksX10_plant_2 9 rfl rfl)
theorem dX10_plant_56 : decode cX10_plant 56 = .ok (.iconst 4, 1) := dk_7 (dk_at dksX10_plant_2 10 rfl rfl)
theorem dX10_plant_57 : decode cX10_plant 57 = .ok (.invokevirtual 204, 3) := dk_182 0 204 (dk_at dksX10_plant_2 11 rfl rfl)
theorem dX10_plant_60 : decode cX10_plant 60 = .ok (.ireturn, 1) := dk_172 (dk_at dksX10_plant_2 14 rfl rfl)
theorem dX10_plant_61 : decode cX10_plant 61 = .ok (.iconst 0, 1) := dk_3 (dk_at dksX10_plant_2 15 rfl rfl)
theorem dX10_plant_62 : decode cX10_plant 62 = .ok (.istore 4, 2) := dk_54 4 (dk_at dksX10_plant_2 16 rfl rfl)
theorem dX10_plant_64 : decode cX10_plant 64 = .ok (.iload 4, 2) := dk_21 4 (dk_at dksX10_plant_2 18 rfl rfl)
theorem dX10_plant_66 : decode cX10_plant 66 = .ok (.iload_n 3, 1) := dk_29 (dk_at dksX10_plant_2 20 rfl rfl)
theorem dX10_plant_67 : decode cX10_plant 67 = .ok (.if_icmp .ge 27, 3) := dk_162 0 27 (dk_at dksX10_plant_2 21 rfl rfl)
theorem dX10_plant_70 : decode cX10_plant 70 = .ok (.iload_n 1, 1) := dk_27 (dk_at dksX10_plant_3 0 rfl rfl)
theorem dX10_plant_71 : decode cX10_plant 71 = .ok (.iload_n 2, 1) := dk_28 (dk_at dksX10_plant_3 1 rfl rfl)
theorem dX10_plant_72 : decode cX10_plant 72 = .ok (.iload 4, 2) := dk_21 4 (dk_at dksX10_plant_3 2 rfl rfl)
theorem dX10_plant_74 : decode cX10_plant 74 = .ok (.invokestatic 324, 3) := dk_184 1 68 (dk_at dksX10_plant_3 4 rfl rfl)
theorem dX10_plant_77 : decode cX10_plant 77 = .ok (.bipush 30, 2) := dk_16 30 (dk_at dksX10_plant_3 7 rfl rfl)
theorem dX10_plant_79 : decode cX10_plant 79 = .ok (.if_icmp .le 9, 3) := dk_164 0 9 (dk_at dksX10_plant_3 9 rfl rfl)
theorem dX10_plant_82 : decode cX10_plant 82 = .ok (.aload_n 0, 1) := dk_42 (dk_at dksX10_plant_3 12 rfl rfl)
theorem dX10_plant_83 : decode cX10_plant 83 = .ok (.iconst 5, 1) := dk_8 (dk_at dksX10_plant_3 13 rfl rfl)
theorem dX10_plant_84 : decode cX10_plant 84 = .ok (.invokevirtual 204, 3) := dk_182 0 204 (dk_at dksX10_plant_3 14 rfl rfl)
theorem dX10_plant_87 : decode cX10_plant 87 = .ok (.ireturn, 1) := dk_172 (dk_at dksX10_plant_3 17 rfl rfl)
theorem dX10_plant_88 : decode cX10_plant 88 = .ok (.iinc 4 1, 3) := dk_132 4 1 (dk_at dksX10_plant_3 18 rfl rfl)
theorem dX10_plant_91 : decode cX10_plant 91 = .ok (.goto (-27), 3) := dk_167 255 229 (dk_at dksX10_plant_3 21 rfl rfl)
theorem dX10_plant_94 : decode cX10_plant 94 = .ok (.aload_n 0, 1) := dk_42 (dk_at dksX10_plant_4 0 rfl rfl)
theorem dX10_plant_95 : decode cX10_plant 95 = .ok (.invokevirtual 213, 3) := dk_182 0 213 (dk_at dksX10_plant_4 1 rfl rfl)
theorem dX10_plant_98 : decode cX10_plant 98 = .ok (.aload_n 0, 1) := dk_42 (dk_at dksX10_plant_4 4 rfl rfl)
theorem dX10_plant_99 : decode cX10_plant 99 = .ok (.getfield 13, 3) := dk_180 0 13 (dk_at dksX10_plant_4 5 rfl rfl)
theorem dX10_plant_102 : decode cX10_plant 102 = .ok (.iconst 0, 1) := dk_3 (dk_at dksX10_plant_4 8 rfl rfl)
theorem dX10_plant_103 : decode cX10_plant 103 = .ok (.iaload, 1) := dk_46 (dk_at dksX10_plant_4 9 rfl rfl)
theorem dX10_plant_104 : decode cX10_plant 104 = .ok (.iconst (-1), 1) := dk_2 (dk_at dksX10_plant_4 10 rfl rfl)
theorem dX10_plant_105 : decode cX10_plant 105 = .ok (.ixor, 1) := dk_130 (dk_at dksX10_plant_4 11 rfl rfl)
theorem dX10_plant_106 : decode cX10_plant 106 = .ok (.invokestatic 114, 3) := dk_184 0 114 (dk_at dksX10_plant_4 12 rfl rfl)
theorem dX10_plant_109 : decode cX10_plant 109 = .ok (.istore 4, 2) := dk_54 4 (dk_at dksX10_plant_4 15 rfl rfl)
theorem dX10_plant_111 : decode cX10_plant 111 = .ok (.iconst (-1), 1) := dk_2 (dk_at dksX10_plant_4 17 rfl rfl)
theorem dX10_plant_112 : decode cX10_plant 112 = .ok (.istore 5, 2) := dk_54 5 (dk_at dksX10_plant_4 18 rfl rfl)
theorem dX10_plant_114 : decode cX10_plant 114 = .ok (.iconst 0, 1) := dk_3 (dk_at dksX10_plant_4 20 rfl rfl)
theorem dX10_plant_115 : decode cX10_plant 115 = .ok (.istore 6, 2) := dk_54 6 (dk_at dksX10_plant_4 21 rfl rfl)
theorem dX10_plant_117 : decode cX10_plant 117 = .ok (.iload 6, 2) := dk_21 6 (dk_at dksX10_plant_5 0 rfl rfl)
theorem dX10_plant_119 : decode cX10_plant 119 = .ok (.iload_n 3, 1) := dk_29 (dk_at dksX10_plant_5 2 rfl rfl)
theorem dX10_plant_120 : decode cX10_plant 120 = .ok (.if_icmp .ge 46, 3) := dk_162 0 46 (dk_at dksX10_plant_5 3 rfl rfl)
theorem dX10_plant_123 : decode cX10_plant 123 = .ok (.aload_n 0, 1) := dk_42 (dk_at dksX10_plant_5 6 rfl rfl)
theorem dX10_plant_124 : decode cX10_plant 124 = .ok (.getfield 13, 3) := dk_180 0 13 (dk_at dksX10_plant_5 7 rfl rfl)
theorem dX10_plant_127 : decode cX10_plant 127 = .ok (.iload_n 1, 1) := dk_27 (dk_at dksX10_plant_5 10 rfl rfl)
theorem dX10_plant_128 : decode cX10_plant 128 = .ok (.iload_n 2, 1) := dk_28 (dk_at dksX10_plant_5 11 rfl rfl)
theorem dX10_plant_129 : decode cX10_plant 129 = .ok (.iload 6, 2) := dk_21 6 (dk_at dksX10_plant_5 12 rfl rfl)
theorem dX10_plant_131 : decode cX10_plant 131 = .ok (.invokestatic 324, 3) := dk_184 1 68 (dk_at dksX10_plant_5 14 rfl rfl)
theorem dX10_plant_134 : decode cX10_plant 134 = .ok (.ineg, 1) := dk_116 (dk_at dksX10_plant_5 17 rfl rfl)
theorem dX10_plant_135 : decode cX10_plant 135 = .ok (.invokestatic 165, 3) := dk_184 0 165 (dk_at dksX10_plant_5 18 rfl rfl)
theorem dX10_plant_138 : decode cX10_plant 138 = .ok (.istore 7, 2) := dk_54 7 (dk_at dksX10_plant_5 21 rfl rfl)
theorem dX10_plant_140 : decode cX10_plant 140 = .ok (.iload 5, 2) := dk_21 5 (dk_at dksX10_plant_6 0 rfl rfl)
theorem dX10_plant_142 : decode cX10_plant 142 = .ok (.ifCond .lt 14, 3) := dk_155 0 14 (dk_at dksX10_plant_6 2 rfl rfl)
theorem dX10_plant_145 : decode cX10_plant 145 = .ok (.aload_n 0, 1) := dk_42 (dk_at dksX10_plant_6 5 rfl rfl)
theorem dX10_plant_146 : decode cX10_plant 146 = .ok (.getfield 13, 3) := dk_180 0 13 (dk_at dksX10_plant_6 6 rfl rfl)
theorem dX10_plant_149 : decode cX10_plant 149 = .ok (.iload 5, 2) := dk_21 5 (dk_at dksX10_plant_6 9 rfl rfl)
theorem dX10_plant_151 : decode cX10_plant 151 = .ok (.iload 7, 2) := dk_21 7 (dk_at dksX10_plant_6 11 rfl rfl)
theorem dX10_plant_153 : decode cX10_plant 153 = .ok (.invokestatic 158, 3) := dk_184 0 158 (dk_at dksX10_plant_6 13 rfl rfl)
theorem dX10_plant_156 : decode cX10_plant 156 = .ok (.iload 7, 2) := dk_21 7 (dk_at dksX10_plant_6 16 rfl rfl)
theorem dX10_plant_158 : decode cX10_plant 158 = .ok (.istore 5, 2) := dk_54 5 (dk_at dksX10_plant_6 18 rfl rfl)
theorem dX10_plant_160 : decode cX10_plant 160 = .ok (.iinc 6 1, 3) := dk_132 6 1 (dk_at dksX10_plant_6 20 rfl rfl)
theorem dX10_plant_163 : decode cX10_plant 163 = .ok (.goto (-46), 3) := dk_167 255 210 (dk_at dksX10_plant_7 0 rfl rfl)
theorem dX10_plant_166 : decode cX10_plant 166 = .ok (.iload 4, 2) := dk_21 4 (dk_at dksX10_plant_7 3 rfl rfl)
theorem dX10_plant_168 : decode cX10_plant 168 = .ok (.ireturn, 1) := dk_172 (dk_at dksX10_plant_7 5 rfl rfl)
abbrev cX10_feed : ByteArray := prog_26_method_84_code
def yX10_feed : MethodName := ⟨RX10, "feed", "(JI)I"⟩
def dkwX10_feed_3 : List UInt8 := [181, 1, 74, 132, 4, 1, 167, 255, 216, 42, 180, 1, 74, 172]
abbrev dktX10_feed_3 : List UInt8 := dkwX10_feed_3 ++ []
def dkwX10_feed_2 : List UInt8 := [42, 180, 1, 74, 31, 16, 8, 21, 4, 104, 123, 20, 1, 77, 127, 136, 79, 42, 89, 180, 1, 74, 4, 96]
abbrev dktX10_feed_2 : List UInt8 := dkwX10_feed_2 ++ dktX10_feed_3
def dkwX10_feed_1 : List UInt8 := [16, 120, 164, 0, 9, 42, 7, 182, 0, 204, 172, 3, 54, 4, 21, 4, 29, 162, 0, 40, 42, 180, 0, 37]
abbrev dktX10_feed_1 : List UInt8 := dkwX10_feed_1 ++ dktX10_feed_2
def dkwX10_feed_0 : List UInt8 := [29, 133, 10, 20, 1, 72, 184, 0, 102, 154, 0, 9, 42, 4, 182, 0, 204, 172, 42, 180, 1, 74, 29, 96]
abbrev dktX10_feed_0 : List UInt8 := dkwX10_feed_0 ++ dktX10_feed_1
theorem dksX10_feed_0 : cX10_feed.data.toList.drop 0 = dktX10_feed_0 := by decide +kernel
theorem dksX10_feed_1 : cX10_feed.data.toList.drop 24 = dktX10_feed_1 := dk_seg dksX10_feed_0 24 rfl rfl
theorem dksX10_feed_2 : cX10_feed.data.toList.drop 48 = dktX10_feed_2 := dk_seg dksX10_feed_1 24 rfl rfl
theorem dksX10_feed_3 : cX10_feed.data.toList.drop 72 = dktX10_feed_3 := dk_seg dksX10_feed_2 24 rfl rfl
theorem dX10_feed_0 : decode cX10_feed 0 = .ok (.iload_n 3, 1) := dk_29 (dk_at dksX10_feed_0 0 rfl rfl)
theorem dX10_feed_1 : decode cX10_feed 1 = .ok (.i2l, 1) := dk_133 (dk_at dksX10_feed_0 1 rfl rfl)
theorem dX10_feed_2 : decode cX10_feed 2 = .ok (.lconst 1, 1) := dk_10 (dk_at dksX10_feed_0 2 rfl rfl)
theorem dX10_feed_3 : decode cX10_feed 3 = .ok (.ldc2_w 328, 3) := dk_20 1 72 (dk_at dksX10_feed_0 3 rfl rfl)
theorem dX10_feed_6 : decode cX10_feed 6 = .ok (.invokestatic 102, 3) := dk_184 0 102 (dk_at dksX10_feed_0 6 rfl rfl)
theorem dX10_feed_9 : decode cX10_feed 9 = .ok (.ifCond .ne 9, 3) := dk_154 0 9 (dk_at dksX10_feed_0 9 rfl rfl)
theorem dX10_feed_12 : decode cX10_feed 12 = .ok (.aload_n 0, 1) := dk_42 (dk_at dksX10_feed_0 12 rfl rfl)
theorem dX10_feed_13 : decode cX10_feed 13 = .ok (.iconst 1, 1) := dk_4 (dk_at dksX10_feed_0 13 rfl rfl)
theorem dX10_feed_14 : decode cX10_feed 14 = .ok (.invokevirtual 204, 3) := dk_182 0 204 (dk_at dksX10_feed_0 14 rfl rfl)
theorem dX10_feed_17 : decode cX10_feed 17 = .ok (.ireturn, 1) := dk_172 (dk_at dksX10_feed_0 17 rfl rfl)
theorem dX10_feed_18 : decode cX10_feed 18 = .ok (.aload_n 0, 1) := dk_42 (dk_at dksX10_feed_0 18 rfl rfl)
theorem dX10_feed_19 : decode cX10_feed 19 = .ok (.getfield 330, 3) := dk_180 1 74 (dk_at dksX10_feed_0 19 rfl rfl)
theorem dX10_feed_22 : decode cX10_feed 22 = .ok (.iload_n 3, 1) := dk_29 (dk_at dksX10_feed_0 22 rfl rfl)
theorem dX10_feed_23 : decode cX10_feed 23 = .ok (.iadd, 1) := dk_96 (dk_at dksX10_feed_0 23 rfl rfl)
theorem dX10_feed_24 : decode cX10_feed 24 = .ok (.bipush 120, 2) := dk_16 120 (dk_at dksX10_feed_1 0 rfl rfl)
theorem dX10_feed_26 : decode cX10_feed 26 = .ok (.if_icmp .le 9, 3) := dk_164 0 9 (dk_at dksX10_feed_1 2 rfl rfl)
theorem dX10_feed_29 : decode cX10_feed 29 = .ok (.aload_n 0, 1) := dk_42 (dk_at dksX10_feed_1 5 rfl rfl)
theorem dX10_feed_30 : decode cX10_feed 30 = .ok (.iconst 4, 1) := dk_7 (dk_at dksX10_feed_1 6 rfl rfl)
theorem dX10_feed_31 : decode cX10_feed 31 = .ok (.invokevirtual 204, 3) := dk_182 0 204 (dk_at dksX10_feed_1 7 rfl rfl)
theorem dX10_feed_34 : decode cX10_feed 34 = .ok (.ireturn, 1) := dk_172 (dk_at dksX10_feed_1 10 rfl rfl)
theorem dX10_feed_35 : decode cX10_feed 35 = .ok (.iconst 0, 1) := dk_3 (dk_at dksX10_feed_1 11 rfl rfl)
theorem dX10_feed_36 : decode cX10_feed 36 = .ok (.istore 4, 2) := dk_54 4 (dk_at dksX10_feed_1 12 rfl rfl)
theorem dX10_feed_38 : decode cX10_feed 38 = .ok (.iload 4, 2) := dk_21 4 (dk_at dksX10_feed_1 14 rfl rfl)
theorem dX10_feed_40 : decode cX10_feed 40 = .ok (.iload_n 3, 1) := dk_29 (dk_at dksX10_feed_1 16 rfl rfl)
theorem dX10_feed_41 : decode cX10_feed 41 = .ok (.if_icmp .ge 40, 3) := dk_162 0 40 (dk_at dksX10_feed_1 17 rfl rfl)
theorem dX10_feed_44 : decode cX10_feed 44 = .ok (.aload_n 0, 1) := dk_42 (dk_at dksX10_feed_1 20 rfl rfl)
theorem dX10_feed_45 : decode cX10_feed 45 = .ok (.getfield 37, 3) := dk_180 0 37 (dk_at dksX10_feed_1 21 rfl rfl)
theorem dX10_feed_48 : decode cX10_feed 48 = .ok (.aload_n 0, 1) := dk_42 (dk_at dksX10_feed_2 0 rfl rfl)
theorem dX10_feed_49 : decode cX10_feed 49 = .ok (.getfield 330, 3) := dk_180 1 74 (dk_at dksX10_feed_2 1 rfl rfl)
theorem dX10_feed_52 : decode cX10_feed 52 = .ok (.lload_n 1, 1) := dk_31 (dk_at dksX10_feed_2 4 rfl rfl)
theorem dX10_feed_53 : decode cX10_feed 53 = .ok (.bipush 8, 2) := dk_16 8 (dk_at dksX10_feed_2 5 rfl rfl)
theorem dX10_feed_55 : decode cX10_feed 55 = .ok (.iload 4, 2) := dk_21 4 (dk_at dksX10_feed_2 7 rfl rfl)
theorem dX10_feed_57 : decode cX10_feed 57 = .ok (.imul, 1) := dk_104 (dk_at dksX10_feed_2 9 rfl rfl)
theorem dX10_feed_58 : decode cX10_feed 58 = .ok (.lshr, 1) := dk_123 (dk_at dksX10_feed_2 10 rfl rfl)
theorem dX10_feed_59 : decode cX10_feed 59 = .ok (.ldc2_w 333, 3) := dk_20 1 77 (dk_at dksX10_feed_2 11 rfl rfl)
theorem dX10_feed_62 : decode cX10_feed 62 = .ok (.land, 1) := dk_127 (dk_at dksX10_feed_2 14 rfl rfl)
theorem dX10_feed_63 : decode cX10_feed 63 = .ok (.l2i, 1) := dk_136 (dk_at dksX10_feed_2 15 rfl rfl)
theorem dX10_feed_64 : decode cX10_feed 64 = .ok (.iastore, 1) := dk_79 (dk_at dksX10_feed_2 16 rfl rfl)
theorem dX10_feed_65 : decode cX10_feed 65 = .ok (.aload_n 0, 1) := dk_42 (dk_at dksX10_feed_2 17 rfl rfl)
theorem dX10_feed_66 : decode cX10_feed 66 = .ok (.dup, 1) := dk_89 (dk_at dksX10_feed_2 18 rfl rfl)
theorem dX10_feed_67 : decode cX10_feed 67 = .ok (.getfield 330, 3) := dk_180 1 74 (dk_at dksX10_feed_2 19 rfl rfl)
theorem dX10_feed_70 : decode cX10_feed 70 = .ok (.iconst 1, 1) := dk_4 (dk_at dksX10_feed_2 22 rfl rfl)
theorem dX10_feed_71 : decode cX10_feed 71 = .ok (.iadd, 1) := dk_96 (dk_at dksX10_feed_2 23 rfl rfl)
theorem dX10_feed_72 : decode cX10_feed 72 = .ok (.putfield 330, 3) := dk_181 1 74 (dk_at dksX10_feed_3 0 rfl rfl)
theorem dX10_feed_75 : decode cX10_feed 75 = .ok (.iinc 4 1, 3) := dk_132 4 1 (dk_at dksX10_feed_3 3 rfl rfl)
theorem dX10_feed_78 : decode cX10_feed 78 = .ok (.goto (-40), 3) := dk_167 255 216 (dk_at dksX10_feed_3 6 rfl rfl)
theorem dX10_feed_81 : decode cX10_feed 81 = .ok (.aload_n 0, 1) := dk_42 (dk_at dksX10_feed_3 9 rfl rfl)
theorem dX10_feed_82 : decode cX10_feed 82 = .ok (.getfield 330, 3) := dk_180 1 74 (dk_at dksX10_feed_3 10 rfl rfl)
theorem dX10_feed_85 : decode cX10_feed 85 = .ok (.ireturn, 1) := dk_172 (dk_at dksX10_feed_3 13 rfl rfl)
abbrev cX10_forest : ByteArray := prog_26_method_91_code
def yX10_forest : MethodName := ⟨RX10, "forest", "()I"⟩
def dkwX10_forest_2 : List UInt8 := [184, 0, 130, 172]
abbrev dktX10_forest_2 : List UInt8 := dkwX10_forest_2 ++ []
def dkwX10_forest_1 : List UInt8 := [100, 172, 42, 182, 0, 213, 42, 180, 0, 40, 42, 180, 0, 13, 184, 0, 188, 42, 180, 0, 13, 3, 46]
abbrev dktX10_forest_1 : List UInt8 := dkwX10_forest_1 ++ dktX10_forest_2
def dkwX10_forest_0 : List UInt8 := [42, 182, 1, 105, 42, 180, 1, 79, 60, 42, 3, 181, 1, 74, 42, 180, 1, 95, 153, 0, 8, 16, 246, 27]
abbrev dktX10_forest_0 : List UInt8 := dkwX10_forest_0 ++ dktX10_forest_1
theorem dksX10_forest_0 : cX10_forest.data.toList.drop 0 = dktX10_forest_0 := by decide +kernel
theorem dksX10_forest_1 : cX10_forest.data.toList.drop 24 = dktX10_forest_1 := dk_seg dksX10_forest_0 24 rfl rfl
theorem dksX10_forest_2 : cX10_forest.data.toList.drop 47 = dktX10_forest_2 := dk_seg dksX10_forest_1 23 rfl rfl
theorem dX10_forest_0 : decode cX10_forest 0 = .ok (.aload_n 0, 1) := dk_42 (dk_at dksX10_forest_0 0 rfl rfl)
theorem dX10_forest_1 : decode cX10_forest 1 = .ok (.invokevirtual 361, 3) := dk_182 1 105 (dk_at dksX10_forest_0 1 rfl rfl)
theorem dX10_forest_4 : decode cX10_forest 4 = .ok (.aload_n 0, 1) := dk_42 (dk_at dksX10_forest_0 4 rfl rfl)
theorem dX10_forest_5 : decode cX10_forest 5 = .ok (.getfield 335, 3) := dk_180 1 79 (dk_at dksX10_forest_0 5 rfl rfl)
theorem dX10_forest_8 : decode cX10_forest 8 = .ok (.istore_n 1, 1) := dk_60 (dk_at dksX10_forest_0 8 rfl rfl)
theorem dX10_forest_9 : decode cX10_forest 9 = .ok (.aload_n 0, 1) := dk_42 (dk_at dksX10_forest_0 9 rfl rfl)
theorem dX10_forest_10 : decode cX10_forest 10 = .ok (.iconst 0, 1) := dk_3 (dk_at dksX10_forest_0 10 rfl rfl)
theorem dX10_forest_11 : decode cX10_forest 11 = .ok (.putfield 330, 3) := dk_181 1 74 (dk_at dksX10_forest_0 11 rfl rfl)
theorem dX10_forest_14 : decode cX10_forest 14 = .ok (.aload_n 0, 1) := dk_42 (dk_at dksX10_forest_0 14 rfl rfl)
theorem dX10_forest_15 : decode cX10_forest 15 = .ok (.getfield 351, 3) := dk_180 1 95 (dk_at dksX10_forest_0 15 rfl rfl)
theorem dX10_forest_18 : decode cX10_forest 18 = .ok (.ifCond .eq 8, 3) := dk_153 0 8 (dk_at dksX10_forest_0 18 rfl rfl)
theorem dX10_forest_21 : decode cX10_forest 21 = .ok (.bipush (-10), 2) := dk_16 246 (dk_at dksX10_forest_0 21 rfl rfl)
theorem dX10_forest_23 : decode cX10_forest 23 = .ok (.iload_n 1, 1) := dk_27 (dk_at dksX10_forest_0 23 rfl rfl)
theorem dX10_forest_24 : decode cX10_forest 24 = .ok (.isub, 1) := dk_100 (dk_at dksX10_forest_1 0 rfl rfl)
theorem dX10_forest_25 : decode cX10_forest 25 = .ok (.ireturn, 1) := dk_172 (dk_at dksX10_forest_1 1 rfl rfl)
theorem dX10_forest_26 : decode cX10_forest 26 = .ok (.aload_n 0, 1) := dk_42 (dk_at dksX10_forest_1 2 rfl rfl)
theorem dX10_forest_27 : decode cX10_forest 27 = .ok (.invokevirtual 213, 3) := dk_182 0 213 (dk_at dksX10_forest_1 3 rfl rfl)
theorem dX10_forest_30 : decode cX10_forest 30 = .ok (.aload_n 0, 1) := dk_42 (dk_at dksX10_forest_1 6 rfl rfl)
theorem dX10_forest_31 : decode cX10_forest 31 = .ok (.getfield 40, 3) := dk_180 0 40 (dk_at dksX10_forest_1 7 rfl rfl)
theorem dX10_forest_34 : decode cX10_forest 34 = .ok (.aload_n 0, 1) := dk_42 (dk_at dksX10_forest_1 10 rfl rfl)
theorem dX10_forest_35 : decode cX10_forest 35 = .ok (.getfield 13, 3) := dk_180 0 13 (dk_at dksX10_forest_1 11 rfl rfl)
theorem dX10_forest_38 : decode cX10_forest 38 = .ok (.invokestatic 188, 3) := dk_184 0 188 (dk_at dksX10_forest_1 14 rfl rfl)
theorem dX10_forest_41 : decode cX10_forest 41 = .ok (.aload_n 0, 1) := dk_42 (dk_at dksX10_forest_1 17 rfl rfl)
theorem dX10_forest_42 : decode cX10_forest 42 = .ok (.getfield 13, 3) := dk_180 0 13 (dk_at dksX10_forest_1 18 rfl rfl)
theorem dX10_forest_45 : decode cX10_forest 45 = .ok (.iconst 0, 1) := dk_3 (dk_at dksX10_forest_1 21 rfl rfl)
theorem dX10_forest_46 : decode cX10_forest 46 = .ok (.iaload, 1) := dk_46 (dk_at dksX10_forest_1 22 rfl rfl)
theorem dX10_forest_47 : decode cX10_forest 47 = .ok (.invokestatic 130, 3) := dk_184 0 130 (dk_at dksX10_forest_2 0 rfl rfl)
theorem dX10_forest_50 : decode cX10_forest 50 = .ok (.ireturn, 1) := dk_172 (dk_at dksX10_forest_2 3 rfl rfl)
abbrev cX10_forestHere : ByteArray := prog_26_method_90_code
def yX10_forestHere : MethodName := ⟨RX10, "forestHere", "()V"⟩
def dkwX10_forestHere_4 : List UInt8 := [157, 255, 197, 42, 182, 1, 86, 156, 255, 190, 177]
abbrev dktX10_forestHere_4 : List UInt8 := dkwX10_forestHere_4 ++ []
def dkwX10_forestHere_3 : List UInt8 := [180, 1, 79, 4, 96, 181, 1, 79, 167, 0, 8, 42, 4, 181, 1, 95, 42, 180, 1, 95, 154, 0, 14, 27]
abbrev dktX10_forestHere_3 : List UInt8 := dkwX10_forestHere_3 ++ dktX10_forestHere_4
def dkwX10_forestHere_2 : List UInt8 := [182, 1, 102, 60, 167, 0, 34, 28, 16, 41, 160, 0, 23, 27, 158, 0, 19, 132, 1, 255, 42, 89]
abbrev dktX10_forestHere_2 : List UInt8 := dkwX10_forestHere_2 ++ dktX10_forestHere_3
def dkwX10_forestHere_1 : List UInt8 := [181, 1, 79, 42, 3, 181, 1, 95, 3, 60, 42, 182, 1, 86, 61, 28, 16, 40, 160, 0, 12, 42, 27]
abbrev dktX10_forestHere_1 : List UInt8 := dkwX10_forestHere_1 ++ dktX10_forestHere_2
def dkwX10_forestHere_0 : List UInt8 := [3, 60, 27, 16, 25, 162, 0, 16, 42, 180, 0, 40, 27, 3, 79, 132, 1, 1, 167, 255, 240, 42, 3]
abbrev dktX10_forestHere_0 : List UInt8 := dkwX10_forestHere_0 ++ dktX10_forestHere_1
theorem dksX10_forestHere_0 : cX10_forestHere.data.toList.drop 0 = dktX10_forestHere_0 := by decide +kernel
theorem dksX10_forestHere_1 : cX10_forestHere.data.toList.drop 23 = dktX10_forestHere_1 := dk_seg dksX10_forestHere_0 23 rfl rfl
theorem dksX10_forestHere_2 : cX10_forestHere.data.toList.drop 46 = dktX10_forestHere_2 := dk_seg dksX10_forestHere_1 23 rfl rfl
theorem dksX10_forestHere_3 : cX10_forestHere.data.toList.drop 68 = dktX10_forestHere_3 := dk_seg dksX10_forestHere_2 22 rfl rfl
theorem dksX10_forestHere_4 : cX10_forestHere.data.toList.drop 92 = dktX10_forestHere_4 := dk_seg dksX10_forestHere_3 24 rfl rfl
theorem dX10_forestHere_0 : decode cX10_forestHere 0 = .ok (.iconst 0, 1) := dk_3 (dk_at dksX10_forestHere_0 0 rfl rfl)
theorem dX10_forestHere_1 : decode cX10_forestHere 1 = .ok (.istore_n 1, 1) := dk_60 (dk_at dksX10_forestHere_0 1 rfl rfl)
theorem dX10_forestHere_2 : decode cX10_forestHere 2 = .ok (.iload_n 1, 1) := dk_27 (dk_at dksX10_forestHere_0 2 rfl rfl)
theorem dX10_forestHere_3 : decode cX10_forestHere 3 = .ok (.bipush 25, 2) := dk_16 25 (dk_at dksX10_forestHere_0 3 rfl rfl)
theorem dX10_forestHere_5 : decode cX10_forestHere 5 = .ok (.if_icmp .ge 16, 3) := dk_162 0 16 (dk_at dksX10_forestHere_0 5 rfl rfl)
theorem dX10_forestHere_8 : decode cX10_forestHere 8 = .ok (.aload_n 0, 1) := dk_42 (dk_at dksX10_forestHere_0 8 rfl rfl)
theorem dX10_forestHere_9 : decode cX10_forestHere 9 = .ok (.getfield 40, 3) := dk_180 0 40 (dk_at dksX10_forestHere_0 9 rfl rfl)
theorem dX10_forestHere_12 : decode cX10_forestHere 12 = .ok (.iload_n 1, 1) := dk_27 (dk_at dksX10_forestHere_0 12 rfl rfl)
theorem dX10_forestHere_13 : decode cX10_forestHere 13 = .ok (.iconst 0, 1) := dk_3 (dk_at dksX10_forestHere_0 13 rfl rfl)
theorem dX10_forestHere_14 : decode cX10_forestHere 14 = .ok (.iastore, 1) := dk_79 (dk_at dksX10_forestHere_0 14 rfl rfl)
theorem dX10_forestHere_15 : decode cX10_forestHere 15 = .ok (.iinc 1 1, 3) := dk_132 1 1 (dk_at dksX10_forestHere_0 15 rfl rfl)
theorem dX10_forestHere_18 : decode cX10_forestHere 18 = .ok (.goto (-16), 3) := dk_167 255 240 (dk_at dksX10_forestHere_0 18 rfl rfl)
theorem dX10_forestHere_21 : decode cX10_forestHere 21 = .ok (.aload_n 0, 1) := dk_42 (dk_at dksX10_forestHere_0 21 rfl rfl)
theorem dX10_forestHere_22 : decode cX10_forestHere 22 = .ok (.iconst 0, 1) := dk_3 (dk_at dksX10_forestHere_0 22 rfl rfl)
theorem dX10_forestHere_23 : decode cX10_forestHere 23 = .ok (.putfield 335, 3) := dk_181 1 79 (dk_at dksX10_forestHere_1 0 rfl rfl)
theorem dX10_forestHere_26 : decode cX10_forestHere 26 = .ok (.aload_n 0, 1) := dk_42 (dk_at dksX10_forestHere_1 3 rfl rfl)
theorem dX10_forestHere_27 : decode cX10_forestHere 27 = .ok (.iconst 0, 1) := dk_3 (dk_at dksX10_forestHere_1 4 rfl rfl)
theorem dX10_forestHere_28 : decode cX10_forestHere 28 = .ok (.putfield 351, 3) := dk_181 1 95 (dk_at dksX10_forestHere_1 5 rfl rfl)
theorem dX10_forestHere_31 : decode cX10_forestHere 31 = .ok (.iconst 0, 1) := dk_3 (dk_at dksX10_forestHere_1 8 rfl rfl)
theorem dX10_forestHere_32 : decode cX10_forestHere 32 = .ok (.istore_n 1, 1) := dk_60 (dk_at dksX10_forestHere_1 9 rfl rfl)
theorem dX10_forestHere_33 : decode cX10_forestHere 33 = .ok (.aload_n 0, 1) := dk_42 (dk_at dksX10_forestHere_1 10 rfl rfl)
theorem dX10_forestHere_34 : decode cX10_forestHere 34 = .ok (.invokevirtual 342, 3) := dk_182 1 86 (dk_at dksX10_forestHere_1 11 rfl rfl)
theorem dX10_forestHere_37 : decode cX10_forestHere 37 = .ok (.istore_n 2, 1) := dk_61 (dk_at dksX10_forestHere_1 14 rfl rfl)
theorem dX10_forestHere_38 : decode cX10_forestHere 38 = .ok (.iload_n 2, 1) := dk_28 (dk_at dksX10_forestHere_1 15 rfl rfl)
theorem dX10_forestHere_39 : decode cX10_forestHere 39 = .ok (.bipush 40, 2) := dk_16 40 (dk_at dksX10_forestHere_1 16 rfl rfl)
theorem dX10_forestHere_41 : decode cX10_forestHere 41 = .ok (.if_icmp .ne 12, 3) := dk_160 0 12 (dk_at dksX10_forestHere_1 18 rfl rfl)
theorem dX10_forestHere_44 : decode cX10_forestHere 44 = .ok (.aload_n 0, 1) := dk_42 (dk_at dksX10_forestHere_1 21 rfl rfl)
theorem dX10_forestHere_45 : decode cX10_forestHere 45 = .ok (.iload_n 1, 1) := dk_27 (dk_at dksX10_forestHere_1 22 rfl rfl)
theorem dX10_forestHere_46 : decode cX10_forestHere 46 = .ok (.invokevirtual 358, 3) := dk_182 1 102 (dk_at dksX10_forestHere_2 0 rfl rfl)
theorem dX10_forestHere_49 : decode cX10_forestHere 49 = .ok (.istore_n 1, 1) := dk_60 (dk_at dksX10_forestHere_2 3 rfl rfl)
theorem dX10_forestHere_50 : decode cX10_forestHere 50 = .ok (.goto 34, 3) := dk_167 0 34 (dk_at dksX10_forestHere_2 4 rfl rfl)
theorem dX10_forestHere_53 : decode cX10_forestHere 53 = .ok (.iload_n 2, 1) := dk_28 (dk_at dksX10_forestHere_2 7 rfl rfl)
theorem dX10_forestHere_54 : decode cX10_forestHere 54 = .ok (.bipush 41, 2) := dk_16 41 (dk_at dksX10_forestHere_2 8 rfl rfl)
theorem dX10_forestHere_56 : decode cX10_forestHere 56 = .ok (.if_icmp .ne 23, 3) := dk_160 0 23 (dk_at dksX10_forestHere_2 10 rfl rfl)
theorem dX10_forestHere_59 : decode cX10_forestHere 59 = .ok (.iload_n 1, 1) := dk_27 (dk_at dksX10_forestHere_2 13 rfl rfl)
theorem dX10_forestHere_60 : decode cX10_forestHere 60 = .ok (.ifCond .le 19, 3) := dk_158 0 19 (dk_at dksX10_forestHere_2 14 rfl rfl)
theorem dX10_forestHere_63 : decode cX10_forestHere 63 = .ok (.iinc 1 (-1), 3) := dk_132 1 255 (dk_at dksX10_forestHere_2 17 rfl rfl)
theorem dX10_forestHere_66 : decode cX10_forestHere 66 = .ok (.aload_n 0, 1) := dk_42 (dk_at dksX10_forestHere_2 20 rfl rfl)
theorem dX10_forestHere_67 : decode cX10_forestHere 67 = .ok (.dup, 1) := dk_89 (dk_at dksX10_forestHere_2 21 rfl rfl)
theorem dX10_forestHere_68 : decode cX10_forestHere 68 = .ok (.getfield 335, 3) := dk_180 1 79 (dk_at dksX10_forestHere_3 0 rfl rfl)
theorem dX10_forestHere_71 : decode cX10_forestHere 71 = .ok (.iconst 1, 1) := dk_4 (dk_at dksX10_forestHere_3 3 rfl rfl)
theorem dX10_forestHere_72 : decode cX10_forestHere 72 = .ok (.iadd, 1) := dk_96 (dk_at dksX10_forestHere_3 4 rfl rfl)
theorem dX10_forestHere_73 : decode cX10_forestHere 73 = .ok (.putfield 335, 3) := dk_181 1 79 (dk_at dksX10_forestHere_3 5 rfl rfl)
theorem dX10_forestHere_76 : decode cX10_forestHere 76 = .ok (.goto 8, 3) := dk_167 0 8 (dk_at dksX10_forestHere_3 8 rfl rfl)
theorem dX10_forestHere_79 : decode cX10_forestHere 79 = .ok (.aload_n 0, 1) := dk_42 (dk_at dksX10_forestHere_3 11 rfl rfl)
theorem dX10_forestHere_80 : decode cX10_forestHere 80 = .ok (.iconst 1, 1) := dk_4 (dk_at dksX10_forestHere_3 12 rfl rfl)
theorem dX10_forestHere_81 : decode cX10_forestHere 81 = .ok (.putfield 351, 3) := dk_181 1 95 (dk_at dksX10_forestHere_3 13 rfl rfl)
theorem dX10_forestHere_84 : decode cX10_forestHere 84 = .ok (.aload_n 0, 1) := dk_42 (dk_at dksX10_forestHere_3 16 rfl rfl)
theorem dX10_forestHere_85 : decode cX10_forestHere 85 = .ok (.getfield 351, 3) := dk_180 1 95 (dk_at dksX10_forestHere_3 17 rfl rfl)
theorem dX10_forestHere_88 : decode cX10_forestHere 88 = .ok (.ifCond .ne 14, 3) := dk_154 0 14 (dk_at dksX10_forestHere_3 20 rfl rfl)
theorem dX10_forestHere_91 : decode cX10_forestHere 91 = .ok (.iload_n 1, 1) := dk_27 (dk_at dksX10_forestHere_3 23 rfl rfl)
theorem dX10_forestHere_92 : decode cX10_forestHere 92 = .ok (.ifCond .gt (-59), 3) := dk_157 255 197 (dk_at dksX10_forestHere_4 0 rfl rfl)
theorem dX10_forestHere_95 : decode cX10_forestHere 95 = .ok (.aload_n 0, 1) := dk_42 (dk_at dksX10_forestHere_4 3 rfl rfl)
theorem dX10_forestHere_96 : decode cX10_forestHere 96 = .ok (.invokevirtual 342, 3) := dk_182 1 86 (dk_at dksX10_forestHere_4 4 rfl rfl)
theorem dX10_forestHere_99 : decode cX10_forestHere 99 = .ok (.ifCond .ge (-66), 3) := dk_156 255 190 (dk_at dksX10_forestHere_4 7 rfl rfl)
theorem dX10_forestHere_102 : decode cX10_forestHere 102 = .ok (.return_, 1) := dk_177 (dk_at dksX10_forestHere_4 10 rfl rfl)
abbrev cX10_here : ByteArray := prog_26_method_85_code
def yX10_here : MethodName := ⟨RX10, "here", "()I"⟩
def dkwX10_here_2 : List UInt8 := [162, 0, 15, 42, 180, 0, 37, 42, 180, 1, 79, 46, 167, 0, 4, 2, 172]
abbrev dktX10_here_2 : List UInt8 := dkwX10_here_2 ++ []
def dkwX10_here_1 : List UInt8 := [160, 0, 16, 42, 89, 180, 1, 79, 4, 96, 181, 1, 79, 167, 255, 221, 42, 180, 1, 79, 42, 180, 1, 74]
abbrev dktX10_here_1 : List UInt8 := dkwX10_here_1 ++ dktX10_here_2
def dkwX10_here_0 : List UInt8 := [42, 180, 1, 79, 42, 180, 1, 74, 162, 0, 30, 42, 180, 0, 37, 42, 180, 1, 79, 46, 16, 32]
abbrev dktX10_here_0 : List UInt8 := dkwX10_here_0 ++ dktX10_here_1
theorem dksX10_here_0 : cX10_here.data.toList.drop 0 = dktX10_here_0 := by decide +kernel
theorem dksX10_here_1 : cX10_here.data.toList.drop 22 = dktX10_here_1 := dk_seg dksX10_here_0 22 rfl rfl
theorem dksX10_here_2 : cX10_here.data.toList.drop 46 = dktX10_here_2 := dk_seg dksX10_here_1 24 rfl rfl
theorem dX10_here_0 : decode cX10_here 0 = .ok (.aload_n 0, 1) := dk_42 (dk_at dksX10_here_0 0 rfl rfl)
theorem dX10_here_1 : decode cX10_here 1 = .ok (.getfield 335, 3) := dk_180 1 79 (dk_at dksX10_here_0 1 rfl rfl)
theorem dX10_here_4 : decode cX10_here 4 = .ok (.aload_n 0, 1) := dk_42 (dk_at dksX10_here_0 4 rfl rfl)
theorem dX10_here_5 : decode cX10_here 5 = .ok (.getfield 330, 3) := dk_180 1 74 (dk_at dksX10_here_0 5 rfl rfl)
theorem dX10_here_8 : decode cX10_here 8 = .ok (.if_icmp .ge 30, 3) := dk_162 0 30 (dk_at dksX10_here_0 8 rfl rfl)
theorem dX10_here_11 : decode cX10_here 11 = .ok (.aload_n 0, 1) := dk_42 (dk_at dksX10_here_0 11 rfl rfl)
theorem dX10_here_12 : decode cX10_here 12 = .ok (.getfield 37, 3) := dk_180 0 37 (dk_at dksX10_here_0 12 rfl rfl)
theorem dX10_here_15 : decode cX10_here 15 = .ok (.aload_n 0, 1) := dk_42 (dk_at dksX10_here_0 15 rfl rfl)
theorem dX10_here_16 : decode cX10_here 16 = .ok (.getfield 335, 3) := dk_180 1 79 (dk_at dksX10_here_0 16 rfl rfl)
theorem dX10_here_19 : decode cX10_here 19 = .ok (.iaload, 1) := dk_46 (dk_at dksX10_here_0 19 rfl rfl)
theorem dX10_here_20 : decode cX10_here 20 = .ok (.bipush 32, 2) := dk_16 32 (dk_at dksX10_here_0 20 rfl rfl)
theorem dX10_here_22 : decode cX10_here 22 = .ok (.if_icmp .ne 16, 3) := dk_160 0 16 (dk_at dksX10_here_1 0 rfl rfl)
theorem dX10_here_25 : decode cX10_here 25 = .ok (.aload_n 0, 1) := dk_42 (dk_at dksX10_here_1 3 rfl rfl)
theorem dX10_here_26 : decode cX10_here 26 = .ok (.dup, 1) := dk_89 (dk_at dksX10_here_1 4 rfl rfl)
theorem dX10_here_27 : decode cX10_here 27 = .ok (.getfield 335, 3) := dk_180 1 79 (dk_at dksX10_here_1 5 rfl rfl)
theorem dX10_here_30 : decode cX10_here 30 = .ok (.iconst 1, 1) := dk_4 (dk_at dksX10_here_1 8 rfl rfl)
theorem dX10_here_31 : decode cX10_here 31 = .ok (.iadd, 1) := dk_96 (dk_at dksX10_here_1 9 rfl rfl)
theorem dX10_here_32 : decode cX10_here 32 = .ok (.putfield 335, 3) := dk_181 1 79 (dk_at dksX10_here_1 10 rfl rfl)
theorem dX10_here_35 : decode cX10_here 35 = .ok (.goto (-35), 3) := dk_167 255 221 (dk_at dksX10_here_1 13 rfl rfl)
theorem dX10_here_38 : decode cX10_here 38 = .ok (.aload_n 0, 1) := dk_42 (dk_at dksX10_here_1 16 rfl rfl)
theorem dX10_here_39 : decode cX10_here 39 = .ok (.getfield 335, 3) := dk_180 1 79 (dk_at dksX10_here_1 17 rfl rfl)
theorem dX10_here_42 : decode cX10_here 42 = .ok (.aload_n 0, 1) := dk_42 (dk_at dksX10_here_1 20 rfl rfl)
theorem dX10_here_43 : decode cX10_here 43 = .ok (.getfield 330, 3) := dk_180 1 74 (dk_at dksX10_here_1 21 rfl rfl)
theorem dX10_here_46 : decode cX10_here 46 = .ok (.if_icmp .ge 15, 3) := dk_162 0 15 (dk_at dksX10_here_2 0 rfl rfl)
theorem dX10_here_49 : decode cX10_here 49 = .ok (.aload_n 0, 1) := dk_42 (dk_at dksX10_here_2 3 rfl rfl)
theorem dX10_here_50 : decode cX10_here 50 = .ok (.getfield 37, 3) := dk_180 0 37 (dk_at dksX10_here_2 4 rfl rfl)
theorem dX10_here_53 : decode cX10_here 53 = .ok (.aload_n 0, 1) := dk_42 (dk_at dksX10_here_2 7 rfl rfl)
theorem dX10_here_54 : decode cX10_here 54 = .ok (.getfield 335, 3) := dk_180 1 79 (dk_at dksX10_here_2 8 rfl rfl)
theorem dX10_here_57 : decode cX10_here 57 = .ok (.iaload, 1) := dk_46 (dk_at dksX10_here_2 11 rfl rfl)
theorem dX10_here_58 : decode cX10_here 58 = .ok (.goto 4, 3) := dk_167 0 4 (dk_at dksX10_here_2 12 rfl rfl)
theorem dX10_here_61 : decode cX10_here 61 = .ok (.iconst (-1), 1) := dk_2 (dk_at dksX10_here_2 15 rfl rfl)
theorem dX10_here_62 : decode cX10_here 62 = .ok (.ireturn, 1) := dk_172 (dk_at dksX10_here_2 16 rfl rfl)
abbrev cX10_opensHere : ByteArray := prog_26_method_89_code
def yX10_opensHere : MethodName := ⟨RX10, "opensHere", "(I)I"⟩
def dkwX10_opensHere_3 : List UInt8 := [29, 184, 0, 158, 42, 180, 0, 43, 27, 29, 79, 27, 4, 96, 172]
abbrev dktX10_opensHere_3 : List UInt8 := dkwX10_opensHere_3 ++ []
def dkwX10_opensHere_2 : List UInt8 := [180, 0, 40, 28, 184, 0, 165, 62, 27, 158, 0, 19, 42, 180, 0, 40, 42, 180, 0, 43, 27, 4, 100, 46]
abbrev dktX10_opensHere_2 : List UInt8 := dkwX10_opensHere_2 ++ dktX10_opensHere_3
def dkwX10_opensHere_1 : List UInt8 := [180, 1, 79, 4, 96, 181, 1, 79, 42, 182, 1, 99, 61, 42, 180, 1, 95, 153, 0, 5, 27, 172, 42]
abbrev dktX10_opensHere_1 : List UInt8 := dkwX10_opensHere_1 ++ dktX10_opensHere_2
def dkwX10_opensHere_0 : List UInt8 := [42, 180, 0, 40, 3, 46, 184, 0, 130, 16, 12, 160, 0, 10, 42, 4, 181, 1, 95, 27, 172, 42, 89]
abbrev dktX10_opensHere_0 : List UInt8 := dkwX10_opensHere_0 ++ dktX10_opensHere_1
theorem dksX10_opensHere_0 : cX10_opensHere.data.toList.drop 0 = dktX10_opensHere_0 := by decide +kernel
theorem dksX10_opensHere_1 : cX10_opensHere.data.toList.drop 23 = dktX10_opensHere_1 := dk_seg dksX10_opensHere_0 23 rfl rfl
theorem dksX10_opensHere_2 : cX10_opensHere.data.toList.drop 46 = dktX10_opensHere_2 := dk_seg dksX10_opensHere_1 23 rfl rfl
theorem dksX10_opensHere_3 : cX10_opensHere.data.toList.drop 70 = dktX10_opensHere_3 := dk_seg dksX10_opensHere_2 24 rfl rfl
theorem dX10_opensHere_0 : decode cX10_opensHere 0 = .ok (.aload_n 0, 1) := dk_42 (dk_at dksX10_opensHere_0 0 rfl rfl)
theorem dX10_opensHere_1 : decode cX10_opensHere 1 = .ok (.getfield 40, 3) := dk_180 0 40 (dk_at dksX10_opensHere_0 1 rfl rfl)
theorem dX10_opensHere_4 : decode cX10_opensHere 4 = .ok (.iconst 0, 1) := dk_3 (dk_at dksX10_opensHere_0 4 rfl rfl)
theorem dX10_opensHere_5 : decode cX10_opensHere 5 = .ok (.iaload, 1) := dk_46 (dk_at dksX10_opensHere_0 5 rfl rfl)
theorem dX10_opensHere_6 : decode cX10_opensHere 6 = .ok (.invokestatic 130, 3) := dk_184 0 130 (dk_at dksX10_opensHere_0 6 rfl rfl)
theorem dX10_opensHere_9 : decode cX10_opensHere 9 = .ok (.bipush 12, 2) := dk_16 12 (dk_at dksX10_opensHere_0 9 rfl rfl)
theorem dX10_opensHere_11 : decode cX10_opensHere 11 = .ok (.if_icmp .ne 10, 3) := dk_160 0 10 (dk_at dksX10_opensHere_0 11 rfl rfl)
theorem dX10_opensHere_14 : decode cX10_opensHere 14 = .ok (.aload_n 0, 1) := dk_42 (dk_at dksX10_opensHere_0 14 rfl rfl)
theorem dX10_opensHere_15 : decode cX10_opensHere 15 = .ok (.iconst 1, 1) := dk_4 (dk_at dksX10_opensHere_0 15 rfl rfl)
theorem dX10_opensHere_16 : decode cX10_opensHere 16 = .ok (.putfield 351, 3) := dk_181 1 95 (dk_at dksX10_opensHere_0 16 rfl rfl)
theorem dX10_opensHere_19 : decode cX10_opensHere 19 = .ok (.iload_n 1, 1) := dk_27 (dk_at dksX10_opensHere_0 19 rfl rfl)
theorem dX10_opensHere_20 : decode cX10_opensHere 20 = .ok (.ireturn, 1) := dk_172 (dk_at dksX10_opensHere_0 20 rfl rfl)
theorem dX10_opensHere_21 : decode cX10_opensHere 21 = .ok (.aload_n 0, 1) := dk_42 (dk_at dksX10_opensHere_0 21 rfl rfl)
theorem dX10_opensHere_22 : decode cX10_opensHere 22 = .ok (.dup, 1) := dk_89 (dk_at dksX10_opensHere_0 22 rfl rfl)
theorem dX10_opensHere_23 : decode cX10_opensHere 23 = .ok (.getfield 335, 3) := dk_180 1 79 (dk_at dksX10_opensHere_1 0 rfl rfl)
theorem dX10_opensHere_26 : decode cX10_opensHere 26 = .ok (.iconst 1, 1) := dk_4 (dk_at dksX10_opensHere_1 3 rfl rfl)
theorem dX10_opensHere_27 : decode cX10_opensHere 27 = .ok (.iadd, 1) := dk_96 (dk_at dksX10_opensHere_1 4 rfl rfl)
theorem dX10_opensHere_28 : decode cX10_opensHere 28 = .ok (.putfield 335, 3) := dk_181 1 79 (dk_at dksX10_opensHere_1 5 rfl rfl)
theorem dX10_opensHere_31 : decode cX10_opensHere 31 = .ok (.aload_n 0, 1) := dk_42 (dk_at dksX10_opensHere_1 8 rfl rfl)
theorem dX10_opensHere_32 : decode cX10_opensHere 32 = .ok (.invokevirtual 355, 3) := dk_182 1 99 (dk_at dksX10_opensHere_1 9 rfl rfl)
theorem dX10_opensHere_35 : decode cX10_opensHere 35 = .ok (.istore_n 2, 1) := dk_61 (dk_at dksX10_opensHere_1 12 rfl rfl)
theorem dX10_opensHere_36 : decode cX10_opensHere 36 = .ok (.aload_n 0, 1) := dk_42 (dk_at dksX10_opensHere_1 13 rfl rfl)
theorem dX10_opensHere_37 : decode cX10_opensHere 37 = .ok (.getfield 351, 3) := dk_180 1 95 (dk_at dksX10_opensHere_1 14 rfl rfl)
theorem dX10_opensHere_40 : decode cX10_opensHere 40 = .ok (.ifCond .eq 5, 3) := dk_153 0 5 (dk_at dksX10_opensHere_1 17 rfl rfl)
theorem dX10_opensHere_43 : decode cX10_opensHere 43 = .ok (.iload_n 1, 1) := dk_27 (dk_at dksX10_opensHere_1 20 rfl rfl)
theorem dX10_opensHere_44 : decode cX10_opensHere 44 = .ok (.ireturn, 1) := dk_172 (dk_at dksX10_opensHere_1 21 rfl rfl)
theorem dX10_opensHere_45 : decode cX10_opensHere 45 = .ok (.aload_n 0, 1) := dk_42 (dk_at dksX10_opensHere_1 22 rfl rfl)
theorem dX10_opensHere_46 : decode cX10_opensHere 46 = .ok (.getfield 40, 3) := dk_180 0 40 (dk_at dksX10_opensHere_2 0 rfl rfl)
theorem dX10_opensHere_49 : decode cX10_opensHere 49 = .ok (.iload_n 2, 1) := dk_28 (dk_at dksX10_opensHere_2 3 rfl rfl)
theorem dX10_opensHere_50 : decode cX10_opensHere 50 = .ok (.invokestatic 165, 3) := dk_184 0 165 (dk_at dksX10_opensHere_2 4 rfl rfl)
theorem dX10_opensHere_53 : decode cX10_opensHere 53 = .ok (.istore_n 3, 1) := dk_62 (dk_at dksX10_opensHere_2 7 rfl rfl)
theorem dX10_opensHere_54 : decode cX10_opensHere 54 = .ok (.iload_n 1, 1) := dk_27 (dk_at dksX10_opensHere_2 8 rfl rfl)
theorem dX10_opensHere_55 : decode cX10_opensHere 55 = .ok (.ifCond .le 19, 3) := dk_158 0 19 (dk_at dksX10_opensHere_2 9 rfl rfl)
theorem dX10_opensHere_58 : decode cX10_opensHere 58 = .ok (.aload_n 0, 1) := dk_42 (dk_at dksX10_opensHere_2 12 rfl rfl)
theorem dX10_opensHere_59 : decode cX10_opensHere 59 = .ok (.getfield 40, 3) := dk_180 0 40 (dk_at dksX10_opensHere_2 13 rfl rfl)
theorem dX10_opensHere_62 : decode cX10_opensHere 62 = .ok (.aload_n 0, 1) := dk_42 (dk_at dksX10_opensHere_2 16 rfl rfl)
theorem dX10_opensHere_63 : decode cX10_opensHere 63 = .ok (.getfield 43, 3) := dk_180 0 43 (dk_at dksX10_opensHere_2 17 rfl rfl)
theorem dX10_opensHere_66 : decode cX10_opensHere 66 = .ok (.iload_n 1, 1) := dk_27 (dk_at dksX10_opensHere_2 20 rfl rfl)
theorem dX10_opensHere_67 : decode cX10_opensHere 67 = .ok (.iconst 1, 1) := dk_4 (dk_at dksX10_opensHere_2 21 rfl rfl)
theorem dX10_opensHere_68 : decode cX10_opensHere 68 = .ok (.isub, 1) := dk_100 (dk_at dksX10_opensHere_2 22 rfl rfl)
theorem dX10_opensHere_69 : decode cX10_opensHere 69 = .ok (.iaload, 1) := dk_46 (dk_at dksX10_opensHere_2 23 rfl rfl)
theorem dX10_opensHere_70 : decode cX10_opensHere 70 = .ok (.iload_n 3, 1) := dk_29 (dk_at dksX10_opensHere_3 0 rfl rfl)
theorem dX10_opensHere_71 : decode cX10_opensHere 71 = .ok (.invokestatic 158, 3) := dk_184 0 158 (dk_at dksX10_opensHere_3 1 rfl rfl)
theorem dX10_opensHere_74 : decode cX10_opensHere 74 = .ok (.aload_n 0, 1) := dk_42 (dk_at dksX10_opensHere_3 4 rfl rfl)
theorem dX10_opensHere_75 : decode cX10_opensHere 75 = .ok (.getfield 43, 3) := dk_180 0 43 (dk_at dksX10_opensHere_3 5 rfl rfl)
theorem dX10_opensHere_78 : decode cX10_opensHere 78 = .ok (.iload_n 1, 1) := dk_27 (dk_at dksX10_opensHere_3 8 rfl rfl)
theorem dX10_opensHere_79 : decode cX10_opensHere 79 = .ok (.iload_n 3, 1) := dk_29 (dk_at dksX10_opensHere_3 9 rfl rfl)
theorem dX10_opensHere_80 : decode cX10_opensHere 80 = .ok (.iastore, 1) := dk_79 (dk_at dksX10_opensHere_3 10 rfl rfl)
theorem dX10_opensHere_81 : decode cX10_opensHere 81 = .ok (.iload_n 1, 1) := dk_27 (dk_at dksX10_opensHere_3 11 rfl rfl)
theorem dX10_opensHere_82 : decode cX10_opensHere 82 = .ok (.iconst 1, 1) := dk_4 (dk_at dksX10_opensHere_3 12 rfl rfl)
theorem dX10_opensHere_83 : decode cX10_opensHere 83 = .ok (.iadd, 1) := dk_96 (dk_at dksX10_opensHere_3 13 rfl rfl)
theorem dX10_opensHere_84 : decode cX10_opensHere 84 = .ok (.ireturn, 1) := dk_172 (dk_at dksX10_opensHere_3 14 rfl rfl)
abbrev cX10_weightHere : ByteArray := prog_26_method_88_code
def yX10_weightHere : MethodName := ⟨RX10, "weightHere", "()I"⟩
def dkwX10_weightHere_5 : List UInt8 := [181, 1, 79, 27, 29, 104, 172]
abbrev dktX10_weightHere_5 : List UInt8 := dkwX10_weightHere_5 ++ []
def dkwX10_weightHere_4 : List UInt8 := [184, 0, 102, 153, 0, 9, 29, 16, 30, 164, 0, 10, 42, 4, 181, 1, 95, 3, 172, 42, 28, 21, 4, 96]
abbrev dktX10_weightHere_4 : List UInt8 := dkwX10_weightHere_4 ++ dktX10_weightHere_5
def dkwX10_weightHere_3 : List UInt8 := [96, 16, 48, 100, 167, 0, 4, 29, 62, 132, 4, 1, 167, 255, 212, 21, 4, 133, 10, 20, 1, 20]
abbrev dktX10_weightHere_3 : List UInt8 := dkwX10_weightHere_3 ++ dktX10_weightHere_4
def dkwX10_weightHere_2 : List UInt8 := [184, 1, 92, 153, 0, 36, 21, 4, 5, 162, 0, 22, 16, 10, 29, 104, 42, 28, 21, 4, 96, 182, 1, 89]
abbrev dktX10_weightHere_2 : List UInt8 := dkwX10_weightHere_2 ++ dktX10_weightHere_3
def dkwX10_weightHere_1 : List UInt8 := [96, 167, 0, 7, 42, 180, 1, 79, 61, 3, 62, 3, 54, 4, 42, 28, 21, 4, 96, 182, 1, 89]
abbrev dktX10_weightHere_1 : List UInt8 := dkwX10_weightHere_1 ++ dktX10_weightHere_2
def dkwX10_weightHere_0 : List UInt8 := [42, 182, 1, 86, 16, 45, 160, 0, 7, 2, 167, 0, 4, 4, 60, 27, 156, 0, 12, 42, 180, 1, 79, 4]
abbrev dktX10_weightHere_0 : List UInt8 := dkwX10_weightHere_0 ++ dktX10_weightHere_1
theorem dksX10_weightHere_0 : cX10_weightHere.data.toList.drop 0 = dktX10_weightHere_0 := by decide +kernel
theorem dksX10_weightHere_1 : cX10_weightHere.data.toList.drop 24 = dktX10_weightHere_1 := dk_seg dksX10_weightHere_0 24 rfl rfl
theorem dksX10_weightHere_2 : cX10_weightHere.data.toList.drop 46 = dktX10_weightHere_2 := dk_seg dksX10_weightHere_1 22 rfl rfl
theorem dksX10_weightHere_3 : cX10_weightHere.data.toList.drop 70 = dktX10_weightHere_3 := dk_seg dksX10_weightHere_2 24 rfl rfl
theorem dksX10_weightHere_4 : cX10_weightHere.data.toList.drop 92 = dktX10_weightHere_4 := dk_seg dksX10_weightHere_3 22 rfl rfl
theorem dksX10_weightHere_5 : cX10_weightHere.data.toList.drop 116 = dktX10_weightHere_5 := dk_seg dksX10_weightHere_4 24 rfl rfl
theorem dX10_weightHere_0 : decode cX10_weightHere 0 = .ok (.aload_n 0, 1) := dk_42 (dk_at dksX10_weightHere_0 0 rfl rfl)
theorem dX10_weightHere_1 : decode cX10_weightHere 1 = .ok (.invokevirtual 342, 3) := dk_182 1 86 (dk_at dksX10_weightHere_0 1 rfl rfl)
theorem dX10_weightHere_4 : decode cX10_weightHere 4 = .ok (.bipush 45, 2) := dk_16 45 (dk_at dksX10_weightHere_0 4 rfl rfl)
theorem dX10_weightHere_6 : decode cX10_weightHere 6 = .ok (.if_icmp .ne 7, 3) := dk_160 0 7 (dk_at dksX10_weightHere_0 6 rfl rfl)
theorem dX10_weightHere_9 : decode cX10_weightHere 9 = .ok (.iconst (-1), 1) := dk_2 (dk_at dksX10_weightHere_0 9 rfl rfl)
theorem dX10_weightHere_10 : decode cX10_weightHere 10 = .ok (.goto 4, 3) := dk_167 0 4 (dk_at dksX10_weightHere_0 10 rfl rfl)
theorem dX10_weightHere_13 : decode cX10_weightHere 13 = .ok (.iconst 1, 1) := dk_4 (dk_at dksX10_weightHere_0 13 rfl rfl)
theorem dX10_weightHere_14 : decode cX10_weightHere 14 = .ok (.istore_n 1, 1) := dk_60 (dk_at dksX10_weightHere_0 14 rfl rfl)
theorem dX10_weightHere_15 : decode cX10_weightHere 15 = .ok (.iload_n 1, 1) := dk_27 (dk_at dksX10_weightHere_0 15 rfl rfl)
theorem dX10_weightHere_16 : decode cX10_weightHere 16 = .ok (.ifCond .ge 12, 3) := dk_156 0 12 (dk_at dksX10_weightHere_0 16 rfl rfl)
theorem dX10_weightHere_19 : decode cX10_weightHere 19 = .ok (.aload_n 0, 1) := dk_42 (dk_at dksX10_weightHere_0 19 rfl rfl)
theorem dX10_weightHere_20 : decode cX10_weightHere 20 = .ok (.getfield 335, 3) := dk_180 1 79 (dk_at dksX10_weightHere_0 20 rfl rfl)
theorem dX10_weightHere_23 : decode cX10_weightHere 23 = .ok (.iconst 1, 1) := dk_4 (dk_at dksX10_weightHere_0 23 rfl rfl)
theorem dX10_weightHere_24 : decode cX10_weightHere 24 = .ok (.iadd, 1) := dk_96 (dk_at dksX10_weightHere_1 0 rfl rfl)
theorem dX10_weightHere_25 : decode cX10_weightHere 25 = .ok (.goto 7, 3) := dk_167 0 7 (dk_at dksX10_weightHere_1 1 rfl rfl)
theorem dX10_weightHere_28 : decode cX10_weightHere 28 = .ok (.aload_n 0, 1) := dk_42 (dk_at dksX10_weightHere_1 4 rfl rfl)
theorem dX10_weightHere_29 : decode cX10_weightHere 29 = .ok (.getfield 335, 3) := dk_180 1 79 (dk_at dksX10_weightHere_1 5 rfl rfl)
theorem dX10_weightHere_32 : decode cX10_weightHere 32 = .ok (.istore_n 2, 1) := dk_61 (dk_at dksX10_weightHere_1 8 rfl rfl)
theorem dX10_weightHere_33 : decode cX10_weightHere 33 = .ok (.iconst 0, 1) := dk_3 (dk_at dksX10_weightHere_1 9 rfl rfl)
theorem dX10_weightHere_34 : decode cX10_weightHere 34 = .ok (.istore_n 3, 1) := dk_62 (dk_at dksX10_weightHere_1 10 rfl rfl)
theorem dX10_weightHere_35 : decode cX10_weightHere 35 = .ok (.iconst 0, 1) := dk_3 (dk_at dksX10_weightHere_1 11 rfl rfl)
theorem dX10_weightHere_36 : decode cX10_weightHere 36 = .ok (.istore 4, 2) := dk_54 4 (dk_at dksX10_weightHere_1 12 rfl rfl)
theorem dX10_weightHere_38 : decode cX10_weightHere 38 = .ok (.aload_n 0, 1) := dk_42 (dk_at dksX10_weightHere_1 14 rfl rfl)
theorem dX10_weightHere_39 : decode cX10_weightHere 39 = .ok (.iload_n 2, 1) := dk_28 (dk_at dksX10_weightHere_1 15 rfl rfl)
theorem dX10_weightHere_40 : decode cX10_weightHere 40 = .ok (.iload 4, 2) := dk_21 4 (dk_at dksX10_weightHere_1 16 rfl rfl)
theorem dX10_weightHere_42 : decode cX10_weightHere 42 = .ok (.iadd, 1) := dk_96 (dk_at dksX10_weightHere_1 18 rfl rfl)
theorem dX10_weightHere_43 : decode cX10_weightHere 43 = .ok (.invokevirtual 345, 3) := dk_182 1 89 (dk_at dksX10_weightHere_1 19 rfl rfl)
theorem dX10_weightHere_46 : decode cX10_weightHere 46 = .ok (.invokestatic 348, 3) := dk_184 1 92 (dk_at dksX10_weightHere_2 0 rfl rfl)
theorem dX10_weightHere_49 : decode cX10_weightHere 49 = .ok (.ifCond .eq 36, 3) := dk_153 0 36 (dk_at dksX10_weightHere_2 3 rfl rfl)
theorem dX10_weightHere_52 : decode cX10_weightHere 52 = .ok (.iload 4, 2) := dk_21 4 (dk_at dksX10_weightHere_2 6 rfl rfl)
theorem dX10_weightHere_54 : decode cX10_weightHere 54 = .ok (.iconst 2, 1) := dk_5 (dk_at dksX10_weightHere_2 8 rfl rfl)
theorem dX10_weightHere_55 : decode cX10_weightHere 55 = .ok (.if_icmp .ge 22, 3) := dk_162 0 22 (dk_at dksX10_weightHere_2 9 rfl rfl)
theorem dX10_weightHere_58 : decode cX10_weightHere 58 = .ok (.bipush 10, 2) := dk_16 10 (dk_at dksX10_weightHere_2 12 rfl rfl)
theorem dX10_weightHere_60 : decode cX10_weightHere 60 = .ok (.iload_n 3, 1) := dk_29 (dk_at dksX10_weightHere_2 14 rfl rfl)
theorem dX10_weightHere_61 : decode cX10_weightHere 61 = .ok (.imul, 1) := dk_104 (dk_at dksX10_weightHere_2 15 rfl rfl)
theorem dX10_weightHere_62 : decode cX10_weightHere 62 = .ok (.aload_n 0, 1) := dk_42 (dk_at dksX10_weightHere_2 16 rfl rfl)
theorem dX10_weightHere_63 : decode cX10_weightHere 63 = .ok (.iload_n 2, 1) := dk_28 (dk_at dksX10_weightHere_2 17 rfl rfl)
theorem dX10_weightHere_64 : decode cX10_weightHere 64 = .ok (.iload 4, 2) := dk_21 4 (dk_at dksX10_weightHere_2 18 rfl rfl)
theorem dX10_weightHere_66 : decode cX10_weightHere 66 = .ok (.iadd, 1) := dk_96 (dk_at dksX10_weightHere_2 20 rfl rfl)
theorem dX10_weightHere_67 : decode cX10_weightHere 67 = .ok (.invokevirtual 345, 3) := dk_182 1 89 (dk_at dksX10_weightHere_2 21 rfl rfl)
theorem dX10_weightHere_70 : decode cX10_weightHere 70 = .ok (.iadd, 1) := dk_96 (dk_at dksX10_weightHere_3 0 rfl rfl)
theorem dX10_weightHere_71 : decode cX10_weightHere 71 = .ok (.bipush 48, 2) := dk_16 48 (dk_at dksX10_weightHere_3 1 rfl rfl)
theorem dX10_weightHere_73 : decode cX10_weightHere 73 = .ok (.isub, 1) := dk_100 (dk_at dksX10_weightHere_3 3 rfl rfl)
theorem dX10_weightHere_74 : decode cX10_weightHere 74 = .ok (.goto 4, 3) := dk_167 0 4 (dk_at dksX10_weightHere_3 4 rfl rfl)
theorem dX10_weightHere_77 : decode cX10_weightHere 77 = .ok (.iload_n 3, 1) := dk_29 (dk_at dksX10_weightHere_3 7 rfl rfl)
theorem dX10_weightHere_78 : decode cX10_weightHere 78 = .ok (.istore_n 3, 1) := dk_62 (dk_at dksX10_weightHere_3 8 rfl rfl)
theorem dX10_weightHere_79 : decode cX10_weightHere 79 = .ok (.iinc 4 1, 3) := dk_132 4 1 (dk_at dksX10_weightHere_3 9 rfl rfl)
theorem dX10_weightHere_82 : decode cX10_weightHere 82 = .ok (.goto (-44), 3) := dk_167 255 212 (dk_at dksX10_weightHere_3 12 rfl rfl)
theorem dX10_weightHere_85 : decode cX10_weightHere 85 = .ok (.iload 4, 2) := dk_21 4 (dk_at dksX10_weightHere_3 15 rfl rfl)
theorem dX10_weightHere_87 : decode cX10_weightHere 87 = .ok (.i2l, 1) := dk_133 (dk_at dksX10_weightHere_3 17 rfl rfl)
theorem dX10_weightHere_88 : decode cX10_weightHere 88 = .ok (.lconst 1, 1) := dk_10 (dk_at dksX10_weightHere_3 18 rfl rfl)
theorem dX10_weightHere_89 : decode cX10_weightHere 89 = .ok (.ldc2_w 276, 3) := dk_20 1 20 (dk_at dksX10_weightHere_3 19 rfl rfl)
theorem dX10_weightHere_92 : decode cX10_weightHere 92 = .ok (.invokestatic 102, 3) := dk_184 0 102 (dk_at dksX10_weightHere_4 0 rfl rfl)
theorem dX10_weightHere_95 : decode cX10_weightHere 95 = .ok (.ifCond .eq 9, 3) := dk_153 0 9 (dk_at dksX10_weightHere_4 3 rfl rfl)
theorem dX10_weightHere_98 : decode cX10_weightHere 98 = .ok (.iload_n 3, 1) := dk_29 (dk_at dksX10_weightHere_4 6 rfl rfl)
theorem dX10_weightHere_99 : decode cX10_weightHere 99 = .ok (.bipush 30, 2) := dk_16 30 (dk_at dksX10_weightHere_4 7 rfl rfl)
theorem dX10_weightHere_101 : decode cX10_weightHere 101 = .ok (.if_icmp .le 10, 3) := dk_164 0 10 (dk_at dksX10_weightHere_4 9 rfl rfl)
theorem dX10_weightHere_104 : decode cX10_weightHere 104 = .ok (.aload_n 0, 1) := dk_42 (dk_at dksX10_weightHere_4 12 rfl rfl)
theorem dX10_weightHere_105 : decode cX10_weightHere 105 = .ok (.iconst 1, 1) := dk_4 (dk_at dksX10_weightHere_4 13 rfl rfl)
theorem dX10_weightHere_106 : decode cX10_weightHere 106 = .ok (.putfield 351, 3) := dk_181 1 95 (dk_at dksX10_weightHere_4 14 rfl rfl)
theorem dX10_weightHere_109 : decode cX10_weightHere 109 = .ok (.iconst 0, 1) := dk_3 (dk_at dksX10_weightHere_4 17 rfl rfl)
theorem dX10_weightHere_110 : decode cX10_weightHere 110 = .ok (.ireturn, 1) := dk_172 (dk_at dksX10_weightHere_4 18 rfl rfl)
theorem dX10_weightHere_111 : decode cX10_weightHere 111 = .ok (.aload_n 0, 1) := dk_42 (dk_at dksX10_weightHere_4 19 rfl rfl)
theorem dX10_weightHere_112 : decode cX10_weightHere 112 = .ok (.iload_n 2, 1) := dk_28 (dk_at dksX10_weightHere_4 20 rfl rfl)
theorem dX10_weightHere_113 : decode cX10_weightHere 113 = .ok (.iload 4, 2) := dk_21 4 (dk_at dksX10_weightHere_4 21 rfl rfl)
theorem dX10_weightHere_115 : decode cX10_weightHere 115 = .ok (.iadd, 1) := dk_96 (dk_at dksX10_weightHere_4 23 rfl rfl)
theorem dX10_weightHere_116 : decode cX10_weightHere 116 = .ok (.putfield 335, 3) := dk_181 1 79 (dk_at dksX10_weightHere_5 0 rfl rfl)
theorem dX10_weightHere_119 : decode cX10_weightHere 119 = .ok (.iload_n 1, 1) := dk_27 (dk_at dksX10_weightHere_5 3 rfl rfl)
theorem dX10_weightHere_120 : decode cX10_weightHere 120 = .ok (.iload_n 3, 1) := dk_29 (dk_at dksX10_weightHere_5 4 rfl rfl)
theorem dX10_weightHere_121 : decode cX10_weightHere 121 = .ok (.imul, 1) := dk_104 (dk_at dksX10_weightHere_5 5 rfl rfl)
theorem dX10_weightHere_122 : decode cX10_weightHere 122 = .ok (.ireturn, 1) := dk_172 (dk_at dksX10_weightHere_5 6 rfl rfl)
abbrev cX10_byteAt : ByteArray := prog_26_method_86_code
def yX10_byteAt : MethodName := ⟨RX10, "byteAt", "(I)I"⟩
def dkwX10_byteAt_0 : List UInt8 := [27, 42, 180, 1, 74, 162, 0, 12, 42, 180, 0, 37, 27, 46, 167, 0, 4, 2, 172]
abbrev dktX10_byteAt_0 : List UInt8 := dkwX10_byteAt_0 ++ []
theorem dksX10_byteAt_0 : cX10_byteAt.data.toList.drop 0 = dktX10_byteAt_0 := by decide +kernel
theorem dX10_byteAt_0 : decode cX10_byteAt 0 = .ok (.iload_n 1, 1) := dk_27 (dk_at dksX10_byteAt_0 0 rfl rfl)
theorem dX10_byteAt_1 : decode cX10_byteAt 1 = .ok (.aload_n 0, 1) := dk_42 (dk_at dksX10_byteAt_0 1 rfl rfl)
theorem dX10_byteAt_2 : decode cX10_byteAt 2 = .ok (.getfield 330, 3) := dk_180 1 74 (dk_at dksX10_byteAt_0 2 rfl rfl)
theorem dX10_byteAt_5 : decode cX10_byteAt 5 = .ok (.if_icmp .ge 12, 3) := dk_162 0 12 (dk_at dksX10_byteAt_0 5 rfl rfl)
theorem dX10_byteAt_8 : decode cX10_byteAt 8 = .ok (.aload_n 0, 1) := dk_42 (dk_at dksX10_byteAt_0 8 rfl rfl)
theorem dX10_byteAt_9 : decode cX10_byteAt 9 = .ok (.getfield 37, 3) := dk_180 0 37 (dk_at dksX10_byteAt_0 9 rfl rfl)
theorem dX10_byteAt_12 : decode cX10_byteAt 12 = .ok (.iload_n 1, 1) := dk_27 (dk_at dksX10_byteAt_0 12 rfl rfl)
theorem dX10_byteAt_13 : decode cX10_byteAt 13 = .ok (.iaload, 1) := dk_46 (dk_at dksX10_byteAt_0 13 rfl rfl)
theorem dX10_byteAt_14 : decode cX10_byteAt 14 = .ok (.goto 4, 3) := dk_167 0 4 (dk_at dksX10_byteAt_0 14 rfl rfl)
theorem dX10_byteAt_17 : decode cX10_byteAt 17 = .ok (.iconst (-1), 1) := dk_2 (dk_at dksX10_byteAt_0 17 rfl rfl)
theorem dX10_byteAt_18 : decode cX10_byteAt 18 = .ok (.ireturn, 1) := dk_172 (dk_at dksX10_byteAt_0 18 rfl rfl)
abbrev cX10_isDigit : ByteArray := prog_26_method_87_code
def yX10_isDigit : MethodName := ⟨RX10, "isDigit", "(I)Z"⟩
def dkwX10_isDigit_0 : List UInt8 := [26, 133, 20, 1, 82, 20, 1, 84, 184, 0, 102, 172]
abbrev dktX10_isDigit_0 : List UInt8 := dkwX10_isDigit_0 ++ []
theorem dksX10_isDigit_0 : cX10_isDigit.data.toList.drop 0 = dktX10_isDigit_0 := by decide +kernel
theorem dX10_isDigit_0 : decode cX10_isDigit 0 = .ok (.iload_n 0, 1) := dk_26 (dk_at dksX10_isDigit_0 0 rfl rfl)
theorem dX10_isDigit_1 : decode cX10_isDigit 1 = .ok (.i2l, 1) := dk_133 (dk_at dksX10_isDigit_0 1 rfl rfl)
theorem dX10_isDigit_2 : decode cX10_isDigit 2 = .ok (.ldc2_w 338, 3) := dk_20 1 82 (dk_at dksX10_isDigit_0 2 rfl rfl)
theorem dX10_isDigit_5 : decode cX10_isDigit 5 = .ok (.ldc2_w 340, 3) := dk_20 1 84 (dk_at dksX10_isDigit_0 5 rfl rfl)
theorem dX10_isDigit_8 : decode cX10_isDigit 8 = .ok (.invokestatic 102, 3) := dk_184 0 102 (dk_at dksX10_isDigit_0 8 rfl rfl)
theorem dX10_isDigit_11 : decode cX10_isDigit 11 = .ok (.ireturn, 1) := dk_172 (dk_at dksX10_isDigit_0 11 rfl rfl)
abbrev cX10_least : ByteArray := prog_26_method_97_code
def yX10_least : MethodName := ⟨RX10, "least", "(I)I"⟩
def dkwX10_least_2 : List UInt8 := [5, 182, 0, 204, 172]
abbrev dktX10_least_2 : List UInt8 := dkwX10_least_2 ++ []
def dkwX10_least_1 : List UInt8 := [180, 1, 122, 167, 0, 25, 27, 42, 180, 1, 122, 162, 0, 12, 42, 180, 0, 58, 27, 46, 167, 0, 8, 42]
abbrev dktX10_least_1 : List UInt8 := dkwX10_least_1 ++ dktX10_least_2
def dkwX10_least_0 : List UInt8 := [27, 2, 162, 0, 9, 42, 4, 182, 0, 204, 172, 42, 42, 180, 0, 13, 182, 1, 125, 27, 156, 0, 10, 42]
abbrev dktX10_least_0 : List UInt8 := dkwX10_least_0 ++ dktX10_least_1
theorem dksX10_least_0 : cX10_least.data.toList.drop 0 = dktX10_least_0 := by decide +kernel
theorem dksX10_least_1 : cX10_least.data.toList.drop 24 = dktX10_least_1 := dk_seg dksX10_least_0 24 rfl rfl
theorem dksX10_least_2 : cX10_least.data.toList.drop 48 = dktX10_least_2 := dk_seg dksX10_least_1 24 rfl rfl
theorem dX10_least_0 : decode cX10_least 0 = .ok (.iload_n 1, 1) := dk_27 (dk_at dksX10_least_0 0 rfl rfl)
theorem dX10_least_1 : decode cX10_least 1 = .ok (.iconst (-1), 1) := dk_2 (dk_at dksX10_least_0 1 rfl rfl)
theorem dX10_least_2 : decode cX10_least 2 = .ok (.if_icmp .ge 9, 3) := dk_162 0 9 (dk_at dksX10_least_0 2 rfl rfl)
theorem dX10_least_5 : decode cX10_least 5 = .ok (.aload_n 0, 1) := dk_42 (dk_at dksX10_least_0 5 rfl rfl)
theorem dX10_least_6 : decode cX10_least 6 = .ok (.iconst 1, 1) := dk_4 (dk_at dksX10_least_0 6 rfl rfl)
theorem dX10_least_7 : decode cX10_least 7 = .ok (.invokevirtual 204, 3) := dk_182 0 204 (dk_at dksX10_least_0 7 rfl rfl)
theorem dX10_least_10 : decode cX10_least 10 = .ok (.ireturn, 1) := dk_172 (dk_at dksX10_least_0 10 rfl rfl)
theorem dX10_least_11 : decode cX10_least 11 = .ok (.aload_n 0, 1) := dk_42 (dk_at dksX10_least_0 11 rfl rfl)
theorem dX10_least_12 : decode cX10_least 12 = .ok (.aload_n 0, 1) := dk_42 (dk_at dksX10_least_0 12 rfl rfl)
theorem dX10_least_13 : decode cX10_least 13 = .ok (.getfield 13, 3) := dk_180 0 13 (dk_at dksX10_least_0 13 rfl rfl)
theorem dX10_least_16 : decode cX10_least 16 = .ok (.invokevirtual 381, 3) := dk_182 1 125 (dk_at dksX10_least_0 16 rfl rfl)
theorem dX10_least_19 : decode cX10_least 19 = .ok (.iload_n 1, 1) := dk_27 (dk_at dksX10_least_0 19 rfl rfl)
theorem dX10_least_20 : decode cX10_least 20 = .ok (.ifCond .ge 10, 3) := dk_156 0 10 (dk_at dksX10_least_0 20 rfl rfl)
theorem dX10_least_23 : decode cX10_least 23 = .ok (.aload_n 0, 1) := dk_42 (dk_at dksX10_least_0 23 rfl rfl)
theorem dX10_least_24 : decode cX10_least 24 = .ok (.getfield 378, 3) := dk_180 1 122 (dk_at dksX10_least_1 0 rfl rfl)
theorem dX10_least_27 : decode cX10_least 27 = .ok (.goto 25, 3) := dk_167 0 25 (dk_at dksX10_least_1 3 rfl rfl)
theorem dX10_least_30 : decode cX10_least 30 = .ok (.iload_n 1, 1) := dk_27 (dk_at dksX10_least_1 6 rfl rfl)
theorem dX10_least_31 : decode cX10_least 31 = .ok (.aload_n 0, 1) := dk_42 (dk_at dksX10_least_1 7 rfl rfl)
theorem dX10_least_32 : decode cX10_least 32 = .ok (.getfield 378, 3) := dk_180 1 122 (dk_at dksX10_least_1 8 rfl rfl)
theorem dX10_least_35 : decode cX10_least 35 = .ok (.if_icmp .ge 12, 3) := dk_162 0 12 (dk_at dksX10_least_1 11 rfl rfl)
theorem dX10_least_38 : decode cX10_least 38 = .ok (.aload_n 0, 1) := dk_42 (dk_at dksX10_least_1 14 rfl rfl)
theorem dX10_least_39 : decode cX10_least 39 = .ok (.getfield 58, 3) := dk_180 0 58 (dk_at dksX10_least_1 15 rfl rfl)
theorem dX10_least_42 : decode cX10_least 42 = .ok (.iload_n 1, 1) := dk_27 (dk_at dksX10_least_1 18 rfl rfl)
theorem dX10_least_43 : decode cX10_least 43 = .ok (.iaload, 1) := dk_46 (dk_at dksX10_least_1 19 rfl rfl)
theorem dX10_least_44 : decode cX10_least 44 = .ok (.goto 8, 3) := dk_167 0 8 (dk_at dksX10_least_1 20 rfl rfl)
theorem dX10_least_47 : decode cX10_least 47 = .ok (.aload_n 0, 1) := dk_42 (dk_at dksX10_least_1 23 rfl rfl)
theorem dX10_least_48 : decode cX10_least 48 = .ok (.iconst 2, 1) := dk_5 (dk_at dksX10_least_2 0 rfl rfl)
theorem dX10_least_49 : decode cX10_least 49 = .ok (.invokevirtual 204, 3) := dk_182 0 204 (dk_at dksX10_least_2 1 rfl rfl)
theorem dX10_least_52 : decode cX10_least 52 = .ok (.ireturn, 1) := dk_172 (dk_at dksX10_least_2 4 rfl rfl)
abbrev cX10_layText : ByteArray := prog_26_method_96_code
def yX10_layText : MethodName := ⟨RX10, "layText", "([I)V"⟩
def dkwX10_layText_8 : List UInt8 := [126, 61, 167, 255, 125, 177]
abbrev dktX10_layText_8 : List UInt8 := dkwX10_layText_8 ++ []
def dkwX10_layText_7 : List UInt8 := [46, 79, 42, 89, 180, 1, 122, 4, 96, 181, 1, 122, 132, 4, 1, 167, 255, 214, 28, 4, 29, 120, 2, 130]
abbrev dktX10_layText_7 : List UInt8 := dkwX10_layText_7 ++ dktX10_layText_8
def dkwX10_layText_6 : List UInt8 := [180, 0, 55, 29, 46, 162, 0, 37, 42, 180, 0, 58, 42, 180, 1, 122, 42, 180, 0, 52, 29, 50, 21, 4]
abbrev dktX10_layText_6 : List UInt8 := dkwX10_layText_6 ++ dktX10_layText_7
def dkwX10_layText_5 : List UInt8 := [153, 0, 8, 21, 4, 167, 0, 4, 29, 62, 132, 4, 1, 167, 255, 198, 3, 54, 4, 21, 4, 42]
abbrev dktX10_layText_5 : List UInt8 := dkwX10_layText_5 ++ dktX10_layText_6
def dkwX10_layText_4 : List UInt8 := [50, 42, 180, 0, 55, 21, 4, 46, 42, 180, 0, 52, 29, 50, 42, 180, 0, 55, 29, 46, 184, 1, 115]
abbrev dktX10_layText_4 : List UInt8 := dkwX10_layText_4 ++ dktX10_layText_5
def dkwX10_layText_3 : List UInt8 := [54, 4, 21, 4, 16, 12, 162, 0, 57, 28, 21, 4, 184, 0, 96, 153, 0, 40, 42, 180, 0, 52, 21, 4]
abbrev dktX10_layText_3 : List UInt8 := dkwX10_layText_3 ++ dktX10_layText_4
def dkwX10_layText_2 : List UInt8 := [132, 3, 1, 167, 255, 213, 42, 3, 181, 1, 122, 28, 153, 0, 133, 28, 184, 0, 114, 62, 29, 4, 96]
abbrev dktX10_layText_2 : List UInt8 := dkwX10_layText_2 ++ dktX10_layText_3
def dkwX10_layText_1 : List UInt8 := [184, 0, 118, 184, 0, 114, 29, 160, 0, 15, 42, 43, 29, 182, 1, 119, 28, 4, 29, 120, 128, 61]
abbrev dktX10_layText_1 : List UInt8 := dkwX10_layText_1 ++ dktX10_layText_2
def dkwX10_layText_0 : List UInt8 := [3, 61, 3, 62, 29, 16, 12, 162, 0, 43, 43, 3, 46, 29, 184, 0, 96, 153, 0, 27, 43, 29]
abbrev dktX10_layText_0 : List UInt8 := dkwX10_layText_0 ++ dktX10_layText_1
theorem dksX10_layText_0 : cX10_layText.data.toList.drop 0 = dktX10_layText_0 := by decide +kernel
theorem dksX10_layText_1 : cX10_layText.data.toList.drop 22 = dktX10_layText_1 := dk_seg dksX10_layText_0 22 rfl rfl
theorem dksX10_layText_2 : cX10_layText.data.toList.drop 44 = dktX10_layText_2 := dk_seg dksX10_layText_1 22 rfl rfl
theorem dksX10_layText_3 : cX10_layText.data.toList.drop 67 = dktX10_layText_3 := dk_seg dksX10_layText_2 23 rfl rfl
theorem dksX10_layText_4 : cX10_layText.data.toList.drop 91 = dktX10_layText_4 := dk_seg dksX10_layText_3 24 rfl rfl
theorem dksX10_layText_5 : cX10_layText.data.toList.drop 114 = dktX10_layText_5 := dk_seg dksX10_layText_4 23 rfl rfl
theorem dksX10_layText_6 : cX10_layText.data.toList.drop 136 = dktX10_layText_6 := dk_seg dksX10_layText_5 22 rfl rfl
theorem dksX10_layText_7 : cX10_layText.data.toList.drop 160 = dktX10_layText_7 := dk_seg dksX10_layText_6 24 rfl rfl
theorem dksX10_layText_8 : cX10_layText.data.toList.drop 184 = dktX10_layText_8 := dk_seg dksX10_layText_7 24 rfl rfl
theorem dX10_layText_0 : decode cX10_layText 0 = .ok (.iconst 0, 1) := dk_3 (dk_at dksX10_layText_0 0 rfl rfl)
theorem dX10_layText_1 : decode cX10_layText 1 = .ok (.istore_n 2, 1) := dk_61 (dk_at dksX10_layText_0 1 rfl rfl)
theorem dX10_layText_2 : decode cX10_layText 2 = .ok (.iconst 0, 1) := dk_3 (dk_at dksX10_layText_0 2 rfl rfl)
theorem dX10_layText_3 : decode cX10_layText 3 = .ok (.istore_n 3, 1) := dk_62 (dk_at dksX10_layText_0 3 rfl rfl)
theorem dX10_layText_4 : decode cX10_layText 4 = .ok (.iload_n 3, 1) := dk_29 (dk_at dksX10_layText_0 4 rfl rfl)
theorem dX10_layText_5 : decode cX10_layText 5 = .ok (.bipush 12, 2) := dk_16 12 (dk_at dksX10_layText_0 5 rfl rfl)
theorem dX10_layText_7 : decode cX10_layText 7 = .ok (.if_icmp .ge 43, 3) := dk_162 0 43 (dk_at dksX10_layText_0 7 rfl rfl)
theorem dX10_layText_10 : decode cX10_layText 10 = .ok (.aload_n 1, 1) := dk_43 (dk_at dksX10_layText_0 10 rfl rfl)
theorem dX10_layText_11 : decode cX10_layText 11 = .ok (.iconst 0, 1) := dk_3 (dk_at dksX10_layText_0 11 rfl rfl)
theorem dX10_layText_12 : decode cX10_layText 12 = .ok (.iaload, 1) := dk_46 (dk_at dksX10_layText_0 12 rfl rfl)
theorem dX10_layText_13 : decode cX10_layText 13 = .ok (.iload_n 3, 1) := dk_29 (dk_at dksX10_layText_0 13 rfl rfl)
theorem dX10_layText_14 : decode cX10_layText 14 = .ok (.invokestatic 96, 3) := dk_184 0 96 (dk_at dksX10_layText_0 14 rfl rfl)
theorem dX10_layText_17 : decode cX10_layText 17 = .ok (.ifCond .eq 27, 3) := dk_153 0 27 (dk_at dksX10_layText_0 17 rfl rfl)
theorem dX10_layText_20 : decode cX10_layText 20 = .ok (.aload_n 1, 1) := dk_43 (dk_at dksX10_layText_0 20 rfl rfl)
theorem dX10_layText_21 : decode cX10_layText 21 = .ok (.iload_n 3, 1) := dk_29 (dk_at dksX10_layText_0 21 rfl rfl)
theorem dX10_layText_22 : decode cX10_layText 22 = .ok (.invokestatic 118, 3) := dk_184 0 118 (dk_at dksX10_layText_1 0 rfl rfl)
theorem dX10_layText_25 : decode cX10_layText 25 = .ok (.invokestatic 114, 3) := dk_184 0 114 (dk_at dksX10_layText_1 3 rfl rfl)
theorem dX10_layText_28 : decode cX10_layText 28 = .ok (.iload_n 3, 1) := dk_29 (dk_at dksX10_layText_1 6 rfl rfl)
theorem dX10_layText_29 : decode cX10_layText 29 = .ok (.if_icmp .ne 15, 3) := dk_160 0 15 (dk_at dksX10_layText_1 7 rfl rfl)
theorem dX10_layText_32 : decode cX10_layText 32 = .ok (.aload_n 0, 1) := dk_42 (dk_at dksX10_layText_1 10 rfl rfl)
theorem dX10_layText_33 : decode cX10_layText 33 = .ok (.aload_n 1, 1) := dk_43 (dk_at dksX10_layText_1 11 rfl rfl)
theorem dX10_layText_34 : decode cX10_layText 34 = .ok (.iload_n 3, 1) := dk_29 (dk_at dksX10_layText_1 12 rfl rfl)
theorem dX10_layText_35 : decode cX10_layText 35 = .ok (.invokevirtual 375, 3) := dk_182 1 119 (dk_at dksX10_layText_1 13 rfl rfl)
theorem dX10_layText_38 : decode cX10_layText 38 = .ok (.iload_n 2, 1) := dk_28 (dk_at dksX10_layText_1 16 rfl rfl)
theorem dX10_layText_39 : decode cX10_layText 39 = .ok (.iconst 1, 1) := dk_4 (dk_at dksX10_layText_1 17 rfl rfl)
theorem dX10_layText_40 : decode cX10_layText 40 = .ok (.iload_n 3, 1) := dk_29 (dk_at dksX10_layText_1 18 rfl rfl)
theorem dX10_layText_41 : decode cX10_layText 41 = .ok (.ishl, 1) := dk_120 (dk_at dksX10_layText_1 19 rfl rfl)
theorem dX10_layText_42 : decode cX10_layText 42 = .ok (.ior, 1) := dk_128 (dk_at dksX10_layText_1 20 rfl rfl)
theorem dX10_layText_43 : decode cX10_layText 43 = .ok (.istore_n 2, 1) := dk_61 (dk_at dksX10_layText_1 21 rfl rfl)
theorem dX10_layText_44 : decode cX10_layText 44 = .ok (.iinc 3 1, 3) := dk_132 3 1 (dk_at dksX10_layText_2 0 rfl rfl)
theorem dX10_layText_47 : decode cX10_layText 47 = .ok (.goto (-43), 3) := dk_167 255 213 (dk_at dksX10_layText_2 3 rfl rfl)
theorem dX10_layText_50 : decode cX10_layText 50 = .ok (.aload_n 0, 1) := dk_42 (dk_at dksX10_layText_2 6 rfl rfl)
theorem dX10_layText_51 : decode cX10_layText 51 = .ok (.iconst 0, 1) := dk_3 (dk_at dksX10_layText_2 7 rfl rfl)
theorem dX10_layText_52 : decode cX10_layText 52 = .ok (.putfield 378, 3) := dk_181 1 122 (dk_at dksX10_layText_2 8 rfl rfl)
theorem dX10_layText_55 : decode cX10_layText 55 = .ok (.iload_n 2, 1) := dk_28 (dk_at dksX10_layText_2 11 rfl rfl)
theorem dX10_layText_56 : decode cX10_layText 56 = .ok (.ifCond .eq 133, 3) := dk_153 0 133 (dk_at dksX10_layText_2 12 rfl rfl)
theorem dX10_layText_59 : decode cX10_layText 59 = .ok (.iload_n 2, 1) := dk_28 (dk_at dksX10_layText_2 15 rfl rfl)
theorem dX10_layText_60 : decode cX10_layText 60 = .ok (.invokestatic 114, 3) := dk_184 0 114 (dk_at dksX10_layText_2 16 rfl rfl)
theorem dX10_layText_63 : decode cX10_layText 63 = .ok (.istore_n 3, 1) := dk_62 (dk_at dksX10_layText_2 19 rfl rfl)
theorem dX10_layText_64 : decode cX10_layText 64 = .ok (.iload_n 3, 1) := dk_29 (dk_at dksX10_layText_2 20 rfl rfl)
theorem dX10_layText_65 : decode cX10_layText 65 = .ok (.iconst 1, 1) := dk_4 (dk_at dksX10_layText_2 21 rfl rfl)
theorem dX10_layText_66 : decode cX10_layText 66 = .ok (.iadd, 1) := dk_96 (dk_at dksX10_layText_2 22 rfl rfl)
theorem dX10_layText_67 : decode cX10_layText 67 = .ok (.istore 4, 2) := dk_54 4 (dk_at dksX10_layText_3 0 rfl rfl)
theorem dX10_layText_69 : decode cX10_layText 69 = .ok (.iload 4, 2) := dk_21 4 (dk_at dksX10_layText_3 2 rfl rfl)
theorem dX10_layText_71 : decode cX10_layText 71 = .ok (.bipush 12, 2) := dk_16 12 (dk_at dksX10_layText_3 4 rfl rfl)
theorem dX10_layText_73 : decode cX10_layText 73 = .ok (.if_icmp .ge 57, 3) := dk_162 0 57 (dk_at dksX10_layText_3 6 rfl rfl)
theorem dX10_layText_76 : decode cX10_layText 76 = .ok (.iload_n 2, 1) := dk_28 (dk_at dksX10_layText_3 9 rfl rfl)
theorem dX10_layText_77 : decode cX10_layText 77 = .ok (.iload 4, 2) := dk_21 4 (dk_at dksX10_layText_3 10 rfl rfl)
theorem dX10_layText_79 : decode cX10_layText 79 = .ok (.invokestatic 96, 3) := dk_184 0 96 (dk_at dksX10_layText_3 12 rfl rfl)
theorem dX10_layText_82 : decode cX10_layText 82 = .ok (.ifCond .eq 40, 3) := dk_153 0 40 (dk_at dksX10_layText_3 15 rfl rfl)
theorem dX10_layText_85 : decode cX10_layText 85 = .ok (.aload_n 0, 1) := dk_42 (dk_at dksX10_layText_3 18 rfl rfl)
theorem dX10_layText_86 : decode cX10_layText 86 = .ok (.getfield 52, 3) := dk_180 0 52 (dk_at dksX10_layText_3 19 rfl rfl)
theorem dX10_layText_89 : decode cX10_layText 89 = .ok (.iload 4, 2) := dk_21 4 (dk_at dksX10_layText_3 22 rfl rfl)
theorem dX10_layText_91 : decode cX10_layText 91 = .ok (.aaload, 1) := dk_50 (dk_at dksX10_layText_4 0 rfl rfl)
theorem dX10_layText_92 : decode cX10_layText 92 = .ok (.aload_n 0, 1) := dk_42 (dk_at dksX10_layText_4 1 rfl rfl)
theorem dX10_layText_93 : decode cX10_layText 93 = .ok (.getfield 55, 3) := dk_180 0 55 (dk_at dksX10_layText_4 2 rfl rfl)
theorem dX10_layText_96 : decode cX10_layText 96 = .ok (.iload 4, 2) := dk_21 4 (dk_at dksX10_layText_4 5 rfl rfl)
theorem dX10_layText_98 : decode cX10_layText 98 = .ok (.iaload, 1) := dk_46 (dk_at dksX10_layText_4 7 rfl rfl)
theorem dX10_layText_99 : decode cX10_layText 99 = .ok (.aload_n 0, 1) := dk_42 (dk_at dksX10_layText_4 8 rfl rfl)
theorem dX10_layText_100 : decode cX10_layText 100 = .ok (.getfield 52, 3) := dk_180 0 52 (dk_at dksX10_layText_4 9 rfl rfl)
theorem dX10_layText_103 : decode cX10_layText 103 = .ok (.iload_n 3, 1) := dk_29 (dk_at dksX10_layText_4 12 rfl rfl)
theorem dX10_layText_104 : decode cX10_layText 104 = .ok (.aaload, 1) := dk_50 (dk_at dksX10_layText_4 13 rfl rfl)
theorem dX10_layText_105 : decode cX10_layText 105 = .ok (.aload_n 0, 1) := dk_42 (dk_at dksX10_layText_4 14 rfl rfl)
theorem dX10_layText_106 : decode cX10_layText 106 = .ok (.getfield 55, 3) := dk_180 0 55 (dk_at dksX10_layText_4 15 rfl rfl)
theorem dX10_layText_109 : decode cX10_layText 109 = .ok (.iload_n 3, 1) := dk_29 (dk_at dksX10_layText_4 18 rfl rfl)
theorem dX10_layText_110 : decode cX10_layText 110 = .ok (.iaload, 1) := dk_46 (dk_at dksX10_layText_4 19 rfl rfl)
theorem dX10_layText_111 : decode cX10_layText 111 = .ok (.invokestatic 371, 3) := dk_184 1 115 (dk_at dksX10_layText_4 20 rfl rfl)
theorem dX10_layText_114 : decode cX10_layText 114 = .ok (.ifCond .eq 8, 3) := dk_153 0 8 (dk_at dksX10_layText_5 0 rfl rfl)
theorem dX10_layText_117 : decode cX10_layText 117 = .ok (.iload 4, 2) := dk_21 4 (dk_at dksX10_layText_5 3 rfl rfl)
theorem dX10_layText_119 : decode cX10_layText 119 = .ok (.goto 4, 3) := dk_167 0 4 (dk_at dksX10_layText_5 5 rfl rfl)
theorem dX10_layText_122 : decode cX10_layText 122 = .ok (.iload_n 3, 1) := dk_29 (dk_at dksX10_layText_5 8 rfl rfl)
theorem dX10_layText_123 : decode cX10_layText 123 = .ok (.istore_n 3, 1) := dk_62 (dk_at dksX10_layText_5 9 rfl rfl)
theorem dX10_layText_124 : decode cX10_layText 124 = .ok (.iinc 4 1, 3) := dk_132 4 1 (dk_at dksX10_layText_5 10 rfl rfl)
theorem dX10_layText_127 : decode cX10_layText 127 = .ok (.goto (-58), 3) := dk_167 255 198 (dk_at dksX10_layText_5 13 rfl rfl)
theorem dX10_layText_130 : decode cX10_layText 130 = .ok (.iconst 0, 1) := dk_3 (dk_at dksX10_layText_5 16 rfl rfl)
theorem dX10_layText_131 : decode cX10_layText 131 = .ok (.istore 4, 2) := dk_54 4 (dk_at dksX10_layText_5 17 rfl rfl)
theorem dX10_layText_133 : decode cX10_layText 133 = .ok (.iload 4, 2) := dk_21 4 (dk_at dksX10_layText_5 19 rfl rfl)
theorem dX10_layText_135 : decode cX10_layText 135 = .ok (.aload_n 0, 1) := dk_42 (dk_at dksX10_layText_5 21 rfl rfl)
theorem dX10_layText_136 : decode cX10_layText 136 = .ok (.getfield 55, 3) := dk_180 0 55 (dk_at dksX10_layText_6 0 rfl rfl)
theorem dX10_layText_139 : decode cX10_layText 139 = .ok (.iload_n 3, 1) := dk_29 (dk_at dksX10_layText_6 3 rfl rfl)
theorem dX10_layText_140 : decode cX10_layText 140 = .ok (.iaload, 1) := dk_46 (dk_at dksX10_layText_6 4 rfl rfl)
theorem dX10_layText_141 : decode cX10_layText 141 = .ok (.if_icmp .ge 37, 3) := dk_162 0 37 (dk_at dksX10_layText_6 5 rfl rfl)
theorem dX10_layText_144 : decode cX10_layText 144 = .ok (.aload_n 0, 1) := dk_42 (dk_at dksX10_layText_6 8 rfl rfl)
theorem dX10_layText_145 : decode cX10_layText 145 = .ok (.getfield 58, 3) := dk_180 0 58 (dk_at dksX10_layText_6 9 rfl rfl)
theorem dX10_layText_148 : decode cX10_layText 148 = .ok (.aload_n 0, 1) := dk_42 (dk_at dksX10_layText_6 12 rfl rfl)
theorem dX10_layText_149 : decode cX10_layText 149 = .ok (.getfield 378, 3) := dk_180 1 122 (dk_at dksX10_layText_6 13 rfl rfl)
theorem dX10_layText_152 : decode cX10_layText 152 = .ok (.aload_n 0, 1) := dk_42 (dk_at dksX10_layText_6 16 rfl rfl)
theorem dX10_layText_153 : decode cX10_layText 153 = .ok (.getfield 52, 3) := dk_180 0 52 (dk_at dksX10_layText_6 17 rfl rfl)
theorem dX10_layText_156 : decode cX10_layText 156 = .ok (.iload_n 3, 1) := dk_29 (dk_at dksX10_layText_6 20 rfl rfl)
theorem dX10_layText_157 : decode cX10_layText 157 = .ok (.aaload, 1) := dk_50 (dk_at dksX10_layText_6 21 rfl rfl)
theorem dX10_layText_158 : decode cX10_layText 158 = .ok (.iload 4, 2) := dk_21 4 (dk_at dksX10_layText_6 22 rfl rfl)
theorem dX10_layText_160 : decode cX10_layText 160 = .ok (.iaload, 1) := dk_46 (dk_at dksX10_layText_7 0 rfl rfl)
theorem dX10_layText_161 : decode cX10_layText 161 = .ok (.iastore, 1) := dk_79 (dk_at dksX10_layText_7 1 rfl rfl)
theorem dX10_layText_162 : decode cX10_layText 162 = .ok (.aload_n 0, 1) := dk_42 (dk_at dksX10_layText_7 2 rfl rfl)
theorem dX10_layText_163 : decode cX10_layText 163 = .ok (.dup, 1) := dk_89 (dk_at dksX10_layText_7 3 rfl rfl)
theorem dX10_layText_164 : decode cX10_layText 164 = .ok (.getfield 378, 3) := dk_180 1 122 (dk_at dksX10_layText_7 4 rfl rfl)
theorem dX10_layText_167 : decode cX10_layText 167 = .ok (.iconst 1, 1) := dk_4 (dk_at dksX10_layText_7 7 rfl rfl)
theorem dX10_layText_168 : decode cX10_layText 168 = .ok (.iadd, 1) := dk_96 (dk_at dksX10_layText_7 8 rfl rfl)
theorem dX10_layText_169 : decode cX10_layText 169 = .ok (.putfield 378, 3) := dk_181 1 122 (dk_at dksX10_layText_7 9 rfl rfl)
theorem dX10_layText_172 : decode cX10_layText 172 = .ok (.iinc 4 1, 3) := dk_132 4 1 (dk_at dksX10_layText_7 12 rfl rfl)
theorem dX10_layText_175 : decode cX10_layText 175 = .ok (.goto (-42), 3) := dk_167 255 214 (dk_at dksX10_layText_7 15 rfl rfl)
theorem dX10_layText_178 : decode cX10_layText 178 = .ok (.iload_n 2, 1) := dk_28 (dk_at dksX10_layText_7 18 rfl rfl)
theorem dX10_layText_179 : decode cX10_layText 179 = .ok (.iconst 1, 1) := dk_4 (dk_at dksX10_layText_7 19 rfl rfl)
theorem dX10_layText_180 : decode cX10_layText 180 = .ok (.iload_n 3, 1) := dk_29 (dk_at dksX10_layText_7 20 rfl rfl)
theorem dX10_layText_181 : decode cX10_layText 181 = .ok (.ishl, 1) := dk_120 (dk_at dksX10_layText_7 21 rfl rfl)
theorem dX10_layText_182 : decode cX10_layText 182 = .ok (.iconst (-1), 1) := dk_2 (dk_at dksX10_layText_7 22 rfl rfl)
theorem dX10_layText_183 : decode cX10_layText 183 = .ok (.ixor, 1) := dk_130 (dk_at dksX10_layText_7 23 rfl rfl)
theorem dX10_layText_184 : decode cX10_layText 184 = .ok (.iand, 1) := dk_126 (dk_at dksX10_layText_8 0 rfl rfl)
theorem dX10_layText_185 : decode cX10_layText 185 = .ok (.istore_n 2, 1) := dk_61 (dk_at dksX10_layText_8 1 rfl rfl)
theorem dX10_layText_186 : decode cX10_layText 186 = .ok (.goto (-131), 3) := dk_167 255 125 (dk_at dksX10_layText_8 2 rfl rfl)
theorem dX10_layText_189 : decode cX10_layText 189 = .ok (.return_, 1) := dk_177 (dk_at dksX10_layText_8 5 rfl rfl)
abbrev cX10_layTree : ByteArray := prog_26_method_95_code
def yX10_layTree : MethodName := ⟨RX10, "layTree", "([II)V"⟩
def dkwX10_layTree_6 : List UInt8 := [167, 255, 135, 177]
abbrev dktX10_layTree_6 : List UInt8 := dkwX10_layTree_6 ++ []
def dkwX10_layTree_5 : List UInt8 := [132, 5, 1, 167, 255, 222, 42, 180, 0, 55, 28, 42, 180, 0, 49, 21, 4, 46, 79, 132, 4, 1]
abbrev dktX10_layTree_5 : List UInt8 := dkwX10_layTree_5 ++ dktX10_layTree_6
def dkwX10_layTree_4 : List UInt8 := [162, 0, 28, 42, 180, 0, 52, 28, 50, 21, 5, 42, 180, 0, 46, 21, 4, 50, 21, 5, 46, 79]
abbrev dktX10_layTree_4 : List UInt8 := dkwX10_layTree_4 ++ dktX10_layTree_5
def dkwX10_layTree_3 : List UInt8 := [180, 0, 55, 28, 46, 184, 1, 115, 153, 0, 56, 3, 54, 5, 21, 5, 42, 180, 0, 49, 21, 4, 46]
abbrev dktX10_layTree_3 : List UInt8 := dkwX10_layTree_3 ++ dktX10_layTree_4
def dkwX10_layTree_2 : List UInt8 := [153, 0, 35, 42, 180, 0, 46, 21, 4, 50, 42, 180, 0, 49, 21, 4, 46, 42, 180, 0, 52, 28, 50, 42]
abbrev dktX10_layTree_2 : List UInt8 := dkwX10_layTree_2 ++ dktX10_layTree_3
def dkwX10_layTree_1 : List UInt8 := [21, 4, 184, 0, 96, 153, 0, 105, 42, 43, 21, 4, 2, 182, 1, 108, 42, 180, 0, 55, 28, 46]
abbrev dktX10_layTree_1 : List UInt8 := dkwX10_layTree_1 ++ dktX10_layTree_2
def dkwX10_layTree_0 : List UInt8 := [43, 28, 184, 0, 118, 62, 42, 180, 0, 55, 28, 3, 79, 3, 54, 4, 21, 4, 16, 12, 162, 0, 120, 29]
abbrev dktX10_layTree_0 : List UInt8 := dkwX10_layTree_0 ++ dktX10_layTree_1
theorem dksX10_layTree_0 : cX10_layTree.data.toList.drop 0 = dktX10_layTree_0 := by decide +kernel
theorem dksX10_layTree_1 : cX10_layTree.data.toList.drop 24 = dktX10_layTree_1 := dk_seg dksX10_layTree_0 24 rfl rfl
theorem dksX10_layTree_2 : cX10_layTree.data.toList.drop 46 = dktX10_layTree_2 := dk_seg dksX10_layTree_1 22 rfl rfl
theorem dksX10_layTree_3 : cX10_layTree.data.toList.drop 70 = dktX10_layTree_3 := dk_seg dksX10_layTree_2 24 rfl rfl
theorem dksX10_layTree_4 : cX10_layTree.data.toList.drop 93 = dktX10_layTree_4 := dk_seg dksX10_layTree_3 23 rfl rfl
theorem dksX10_layTree_5 : cX10_layTree.data.toList.drop 115 = dktX10_layTree_5 := dk_seg dksX10_layTree_4 22 rfl rfl
theorem dksX10_layTree_6 : cX10_layTree.data.toList.drop 137 = dktX10_layTree_6 := dk_seg dksX10_layTree_5 22 rfl rfl
theorem dX10_layTree_0 : decode cX10_layTree 0 = .ok (.aload_n 1, 1) := dk_43 (dk_at dksX10_layTree_0 0 rfl rfl)
theorem dX10_layTree_1 : decode cX10_layTree 1 = .ok (.iload_n 2, 1) := dk_28 (dk_at dksX10_layTree_0 1 rfl rfl)
theorem dX10_layTree_2 : decode cX10_layTree 2 = .ok (.invokestatic 118, 3) := dk_184 0 118 (dk_at dksX10_layTree_0 2 rfl rfl)
theorem dX10_layTree_5 : decode cX10_layTree 5 = .ok (.istore_n 3, 1) := dk_62 (dk_at dksX10_layTree_0 5 rfl rfl)
theorem dX10_layTree_6 : decode cX10_layTree 6 = .ok (.aload_n 0, 1) := dk_42 (dk_at dksX10_layTree_0 6 rfl rfl)
theorem dX10_layTree_7 : decode cX10_layTree 7 = .ok (.getfield 55, 3) := dk_180 0 55 (dk_at dksX10_layTree_0 7 rfl rfl)
theorem dX10_layTree_10 : decode cX10_layTree 10 = .ok (.iload_n 2, 1) := dk_28 (dk_at dksX10_layTree_0 10 rfl rfl)
theorem dX10_layTree_11 : decode cX10_layTree 11 = .ok (.iconst 0, 1) := dk_3 (dk_at dksX10_layTree_0 11 rfl rfl)
theorem dX10_layTree_12 : decode cX10_layTree 12 = .ok (.iastore, 1) := dk_79 (dk_at dksX10_layTree_0 12 rfl rfl)
theorem dX10_layTree_13 : decode cX10_layTree 13 = .ok (.iconst 0, 1) := dk_3 (dk_at dksX10_layTree_0 13 rfl rfl)
theorem dX10_layTree_14 : decode cX10_layTree 14 = .ok (.istore 4, 2) := dk_54 4 (dk_at dksX10_layTree_0 14 rfl rfl)
theorem dX10_layTree_16 : decode cX10_layTree 16 = .ok (.iload 4, 2) := dk_21 4 (dk_at dksX10_layTree_0 16 rfl rfl)
theorem dX10_layTree_18 : decode cX10_layTree 18 = .ok (.bipush 12, 2) := dk_16 12 (dk_at dksX10_layTree_0 18 rfl rfl)
theorem dX10_layTree_20 : decode cX10_layTree 20 = .ok (.if_icmp .ge 120, 3) := dk_162 0 120 (dk_at dksX10_layTree_0 20 rfl rfl)
theorem dX10_layTree_23 : decode cX10_layTree 23 = .ok (.iload_n 3, 1) := dk_29 (dk_at dksX10_layTree_0 23 rfl rfl)
theorem dX10_layTree_24 : decode cX10_layTree 24 = .ok (.iload 4, 2) := dk_21 4 (dk_at dksX10_layTree_1 0 rfl rfl)
theorem dX10_layTree_26 : decode cX10_layTree 26 = .ok (.invokestatic 96, 3) := dk_184 0 96 (dk_at dksX10_layTree_1 2 rfl rfl)
theorem dX10_layTree_29 : decode cX10_layTree 29 = .ok (.ifCond .eq 105, 3) := dk_153 0 105 (dk_at dksX10_layTree_1 5 rfl rfl)
theorem dX10_layTree_32 : decode cX10_layTree 32 = .ok (.aload_n 0, 1) := dk_42 (dk_at dksX10_layTree_1 8 rfl rfl)
theorem dX10_layTree_33 : decode cX10_layTree 33 = .ok (.aload_n 1, 1) := dk_43 (dk_at dksX10_layTree_1 9 rfl rfl)
theorem dX10_layTree_34 : decode cX10_layTree 34 = .ok (.iload 4, 2) := dk_21 4 (dk_at dksX10_layTree_1 10 rfl rfl)
theorem dX10_layTree_36 : decode cX10_layTree 36 = .ok (.iconst (-1), 1) := dk_2 (dk_at dksX10_layTree_1 12 rfl rfl)
theorem dX10_layTree_37 : decode cX10_layTree 37 = .ok (.invokevirtual 364, 3) := dk_182 1 108 (dk_at dksX10_layTree_1 13 rfl rfl)
theorem dX10_layTree_40 : decode cX10_layTree 40 = .ok (.aload_n 0, 1) := dk_42 (dk_at dksX10_layTree_1 16 rfl rfl)
theorem dX10_layTree_41 : decode cX10_layTree 41 = .ok (.getfield 55, 3) := dk_180 0 55 (dk_at dksX10_layTree_1 17 rfl rfl)
theorem dX10_layTree_44 : decode cX10_layTree 44 = .ok (.iload_n 2, 1) := dk_28 (dk_at dksX10_layTree_1 20 rfl rfl)
theorem dX10_layTree_45 : decode cX10_layTree 45 = .ok (.iaload, 1) := dk_46 (dk_at dksX10_layTree_1 21 rfl rfl)
theorem dX10_layTree_46 : decode cX10_layTree 46 = .ok (.ifCond .eq 35, 3) := dk_153 0 35 (dk_at dksX10_layTree_2 0 rfl rfl)
theorem dX10_layTree_49 : decode cX10_layTree 49 = .ok (.aload_n 0, 1) := dk_42 (dk_at dksX10_layTree_2 3 rfl rfl)
theorem dX10_layTree_50 : decode cX10_layTree 50 = .ok (.getfield 46, 3) := dk_180 0 46 (dk_at dksX10_layTree_2 4 rfl rfl)
theorem dX10_layTree_53 : decode cX10_layTree 53 = .ok (.iload 4, 2) := dk_21 4 (dk_at dksX10_layTree_2 7 rfl rfl)
theorem dX10_layTree_55 : decode cX10_layTree 55 = .ok (.aaload, 1) := dk_50 (dk_at dksX10_layTree_2 9 rfl rfl)
theorem dX10_layTree_56 : decode cX10_layTree 56 = .ok (.aload_n 0, 1) := dk_42 (dk_at dksX10_layTree_2 10 rfl rfl)
theorem dX10_layTree_57 : decode cX10_layTree 57 = .ok (.getfield 49, 3) := dk_180 0 49 (dk_at dksX10_layTree_2 11 rfl rfl)
theorem dX10_layTree_60 : decode cX10_layTree 60 = .ok (.iload 4, 2) := dk_21 4 (dk_at dksX10_layTree_2 14 rfl rfl)
theorem dX10_layTree_62 : decode cX10_layTree 62 = .ok (.iaload, 1) := dk_46 (dk_at dksX10_layTree_2 16 rfl rfl)
theorem dX10_layTree_63 : decode cX10_layTree 63 = .ok (.aload_n 0, 1) := dk_42 (dk_at dksX10_layTree_2 17 rfl rfl)
theorem dX10_layTree_64 : decode cX10_layTree 64 = .ok (.getfield 52, 3) := dk_180 0 52 (dk_at dksX10_layTree_2 18 rfl rfl)
theorem dX10_layTree_67 : decode cX10_layTree 67 = .ok (.iload_n 2, 1) := dk_28 (dk_at dksX10_layTree_2 21 rfl rfl)
theorem dX10_layTree_68 : decode cX10_layTree 68 = .ok (.aaload, 1) := dk_50 (dk_at dksX10_layTree_2 22 rfl rfl)
theorem dX10_layTree_69 : decode cX10_layTree 69 = .ok (.aload_n 0, 1) := dk_42 (dk_at dksX10_layTree_2 23 rfl rfl)
theorem dX10_layTree_70 : decode cX10_layTree 70 = .ok (.getfield 55, 3) := dk_180 0 55 (dk_at dksX10_layTree_3 0 rfl rfl)
theorem dX10_layTree_73 : decode cX10_layTree 73 = .ok (.iload_n 2, 1) := dk_28 (dk_at dksX10_layTree_3 3 rfl rfl)
theorem dX10_layTree_74 : decode cX10_layTree 74 = .ok (.iaload, 1) := dk_46 (dk_at dksX10_layTree_3 4 rfl rfl)
theorem dX10_layTree_75 : decode cX10_layTree 75 = .ok (.invokestatic 371, 3) := dk_184 1 115 (dk_at dksX10_layTree_3 5 rfl rfl)
theorem dX10_layTree_78 : decode cX10_layTree 78 = .ok (.ifCond .eq 56, 3) := dk_153 0 56 (dk_at dksX10_layTree_3 8 rfl rfl)
theorem dX10_layTree_81 : decode cX10_layTree 81 = .ok (.iconst 0, 1) := dk_3 (dk_at dksX10_layTree_3 11 rfl rfl)
theorem dX10_layTree_82 : decode cX10_layTree 82 = .ok (.istore 5, 2) := dk_54 5 (dk_at dksX10_layTree_3 12 rfl rfl)
theorem dX10_layTree_84 : decode cX10_layTree 84 = .ok (.iload 5, 2) := dk_21 5 (dk_at dksX10_layTree_3 14 rfl rfl)
theorem dX10_layTree_86 : decode cX10_layTree 86 = .ok (.aload_n 0, 1) := dk_42 (dk_at dksX10_layTree_3 16 rfl rfl)
theorem dX10_layTree_87 : decode cX10_layTree 87 = .ok (.getfield 49, 3) := dk_180 0 49 (dk_at dksX10_layTree_3 17 rfl rfl)
theorem dX10_layTree_90 : decode cX10_layTree 90 = .ok (.iload 4, 2) := dk_21 4 (dk_at dksX10_layTree_3 20 rfl rfl)
theorem dX10_layTree_92 : decode cX10_layTree 92 = .ok (.iaload, 1) := dk_46 (dk_at dksX10_layTree_3 22 rfl rfl)
theorem dX10_layTree_93 : decode cX10_layTree 93 = .ok (.if_icmp .ge 28, 3) := dk_162 0 28 (dk_at dksX10_layTree_4 0 rfl rfl)
theorem dX10_layTree_96 : decode cX10_layTree 96 = .ok (.aload_n 0, 1) := dk_42 (dk_at dksX10_layTree_4 3 rfl rfl)
theorem dX10_layTree_97 : decode cX10_layTree 97 = .ok (.getfield 52, 3) := dk_180 0 52 (dk_at dksX10_layTree_4 4 rfl rfl)
theorem dX10_layTree_100 : decode cX10_layTree 100 = .ok (.iload_n 2, 1) := dk_28 (dk_at dksX10_layTree_4 7 rfl rfl)
theorem dX10_layTree_101 : decode cX10_layTree 101 = .ok (.aaload, 1) := dk_50 (dk_at dksX10_layTree_4 8 rfl rfl)
theorem dX10_layTree_102 : decode cX10_layTree 102 = .ok (.iload 5, 2) := dk_21 5 (dk_at dksX10_layTree_4 9 rfl rfl)
theorem dX10_layTree_104 : decode cX10_layTree 104 = .ok (.aload_n 0, 1) := dk_42 (dk_at dksX10_layTree_4 11 rfl rfl)
theorem dX10_layTree_105 : decode cX10_layTree 105 = .ok (.getfield 46, 3) := dk_180 0 46 (dk_at dksX10_layTree_4 12 rfl rfl)
theorem dX10_layTree_108 : decode cX10_layTree 108 = .ok (.iload 4, 2) := dk_21 4 (dk_at dksX10_layTree_4 15 rfl rfl)
theorem dX10_layTree_110 : decode cX10_layTree 110 = .ok (.aaload, 1) := dk_50 (dk_at dksX10_layTree_4 17 rfl rfl)
theorem dX10_layTree_111 : decode cX10_layTree 111 = .ok (.iload 5, 2) := dk_21 5 (dk_at dksX10_layTree_4 18 rfl rfl)
theorem dX10_layTree_113 : decode cX10_layTree 113 = .ok (.iaload, 1) := dk_46 (dk_at dksX10_layTree_4 20 rfl rfl)
theorem dX10_layTree_114 : decode cX10_layTree 114 = .ok (.iastore, 1) := dk_79 (dk_at dksX10_layTree_4 21 rfl rfl)
theorem dX10_layTree_115 : decode cX10_layTree 115 = .ok (.iinc 5 1, 3) := dk_132 5 1 (dk_at dksX10_layTree_5 0 rfl rfl)
theorem dX10_layTree_118 : decode cX10_layTree 118 = .ok (.goto (-34), 3) := dk_167 255 222 (dk_at dksX10_layTree_5 3 rfl rfl)
theorem dX10_layTree_121 : decode cX10_layTree 121 = .ok (.aload_n 0, 1) := dk_42 (dk_at dksX10_layTree_5 6 rfl rfl)
theorem dX10_layTree_122 : decode cX10_layTree 122 = .ok (.getfield 55, 3) := dk_180 0 55 (dk_at dksX10_layTree_5 7 rfl rfl)
theorem dX10_layTree_125 : decode cX10_layTree 125 = .ok (.iload_n 2, 1) := dk_28 (dk_at dksX10_layTree_5 10 rfl rfl)
theorem dX10_layTree_126 : decode cX10_layTree 126 = .ok (.aload_n 0, 1) := dk_42 (dk_at dksX10_layTree_5 11 rfl rfl)
theorem dX10_layTree_127 : decode cX10_layTree 127 = .ok (.getfield 49, 3) := dk_180 0 49 (dk_at dksX10_layTree_5 12 rfl rfl)
theorem dX10_layTree_130 : decode cX10_layTree 130 = .ok (.iload 4, 2) := dk_21 4 (dk_at dksX10_layTree_5 15 rfl rfl)
theorem dX10_layTree_132 : decode cX10_layTree 132 = .ok (.iaload, 1) := dk_46 (dk_at dksX10_layTree_5 17 rfl rfl)
theorem dX10_layTree_133 : decode cX10_layTree 133 = .ok (.iastore, 1) := dk_79 (dk_at dksX10_layTree_5 18 rfl rfl)
theorem dX10_layTree_134 : decode cX10_layTree 134 = .ok (.iinc 4 1, 3) := dk_132 4 1 (dk_at dksX10_layTree_5 19 rfl rfl)
theorem dX10_layTree_137 : decode cX10_layTree 137 = .ok (.goto (-121), 3) := dk_167 255 135 (dk_at dksX10_layTree_6 0 rfl rfl)
theorem dX10_layTree_140 : decode cX10_layTree 140 = .ok (.return_, 1) := dk_177 (dk_at dksX10_layTree_6 3 rfl rfl)
abbrev cX10_layHang : ByteArray := prog_26_method_94_code
def yX10_layHang : MethodName := ⟨RX10, "layHang", "([III)V"⟩
def dkwX10_layHang_10 : List UInt8 := [21, 6, 4, 96, 79, 177]
abbrev dktX10_layHang_10 : List UInt8 := dkwX10_layHang_10 ++ []
def dkwX10_layHang_9 : List UInt8 := [4, 21, 7, 120, 2, 130, 126, 54, 4, 167, 255, 122, 25, 5, 21, 6, 16, 41, 79, 42, 180, 0, 49, 28]
abbrev dktX10_layHang_9 : List UInt8 := dkwX10_layHang_9 ++ dktX10_layHang_10
def dkwX10_layHang_8 : List UInt8 := [21, 6, 42, 180, 0, 46, 21, 7, 50, 21, 8, 46, 79, 132, 6, 1, 132, 8, 1, 167, 255, 223, 21, 4]
abbrev dktX10_layHang_8 : List UInt8 := dkwX10_layHang_8 ++ dktX10_layHang_9
def dkwX10_layHang_7 : List UInt8 := [132, 8, 1, 167, 255, 193, 3, 54, 8, 21, 8, 42, 180, 0, 49, 21, 7, 46, 162, 0, 27, 25, 5]
abbrev dktX10_layHang_7 : List UInt8 := dkwX10_layHang_7 ++ dktX10_layHang_8
def dkwX10_layHang_6 : List UInt8 := [42, 180, 0, 49, 21, 7, 46, 184, 1, 115, 153, 0, 8, 21, 8, 167, 0, 5, 21, 7, 54, 7]
abbrev dktX10_layHang_6 : List UInt8 := dkwX10_layHang_6 ++ dktX10_layHang_7
def dkwX10_layHang_5 : List UInt8 := [153, 0, 42, 42, 180, 0, 46, 21, 8, 50, 42, 180, 0, 49, 21, 8, 46, 42, 180, 0, 46, 21, 7, 50]
abbrev dktX10_layHang_5 : List UInt8 := dkwX10_layHang_5 ++ dktX10_layHang_6
def dkwX10_layHang_4 : List UInt8 := [54, 7, 21, 7, 4, 96, 54, 8, 21, 8, 16, 12, 162, 0, 62, 21, 4, 21, 8, 184, 0, 96]
abbrev dktX10_layHang_4 : List UInt8 := dkwX10_layHang_4 ++ dktX10_layHang_5
def dkwX10_layHang_3 : List UInt8 := [25, 5, 4, 43, 4, 28, 96, 46, 184, 1, 111, 54, 6, 21, 4, 153, 0, 135, 21, 4, 184, 0, 114]
abbrev dktX10_layHang_3 : List UInt8 := dkwX10_layHang_3 ++ dktX10_layHang_4
def dkwX10_layHang_2 : List UInt8 := [182, 1, 108, 132, 5, 1, 167, 255, 228, 42, 180, 0, 46, 28, 50, 58, 5, 25, 5, 3, 16, 40, 79]
abbrev dktX10_layHang_2 : List UInt8 := dkwX10_layHang_2 ++ dktX10_layHang_3
def dkwX10_layHang_1 : List UInt8 := [54, 5, 21, 5, 16, 12, 162, 0, 27, 21, 4, 21, 5, 184, 0, 96, 153, 0, 11, 42, 43, 21, 5, 28]
abbrev dktX10_layHang_1 : List UInt8 := dkwX10_layHang_1 ++ dktX10_layHang_2
def dkwX10_layHang_0 : List UInt8 := [43, 16, 13, 28, 96, 46, 29, 156, 0, 7, 3, 167, 0, 6, 4, 29, 120, 2, 130, 126, 54, 4, 3]
abbrev dktX10_layHang_0 : List UInt8 := dkwX10_layHang_0 ++ dktX10_layHang_1
theorem dksX10_layHang_0 : cX10_layHang.data.toList.drop 0 = dktX10_layHang_0 := by decide +kernel
theorem dksX10_layHang_1 : cX10_layHang.data.toList.drop 23 = dktX10_layHang_1 := dk_seg dksX10_layHang_0 23 rfl rfl
theorem dksX10_layHang_2 : cX10_layHang.data.toList.drop 47 = dktX10_layHang_2 := dk_seg dksX10_layHang_1 24 rfl rfl
theorem dksX10_layHang_3 : cX10_layHang.data.toList.drop 70 = dktX10_layHang_3 := dk_seg dksX10_layHang_2 23 rfl rfl
theorem dksX10_layHang_4 : cX10_layHang.data.toList.drop 93 = dktX10_layHang_4 := dk_seg dksX10_layHang_3 23 rfl rfl
theorem dksX10_layHang_5 : cX10_layHang.data.toList.drop 115 = dktX10_layHang_5 := dk_seg dksX10_layHang_4 22 rfl rfl
theorem dksX10_layHang_6 : cX10_layHang.data.toList.drop 139 = dktX10_layHang_6 := dk_seg dksX10_layHang_5 24 rfl rfl
theorem dksX10_layHang_7 : cX10_layHang.data.toList.drop 161 = dktX10_layHang_7 := dk_seg dksX10_layHang_6 22 rfl rfl
theorem dksX10_layHang_8 : cX10_layHang.data.toList.drop 184 = dktX10_layHang_8 := dk_seg dksX10_layHang_7 23 rfl rfl
theorem dksX10_layHang_9 : cX10_layHang.data.toList.drop 208 = dktX10_layHang_9 := dk_seg dksX10_layHang_8 24 rfl rfl
theorem dksX10_layHang_10 : cX10_layHang.data.toList.drop 232 = dktX10_layHang_10 := dk_seg dksX10_layHang_9 24 rfl rfl
theorem dX10_layHang_0 : decode cX10_layHang 0 = .ok (.aload_n 1, 1) := dk_43 (dk_at dksX10_layHang_0 0 rfl rfl)
theorem dX10_layHang_1 : decode cX10_layHang 1 = .ok (.bipush 13, 2) := dk_16 13 (dk_at dksX10_layHang_0 1 rfl rfl)
theorem dX10_layHang_3 : decode cX10_layHang 3 = .ok (.iload_n 2, 1) := dk_28 (dk_at dksX10_layHang_0 3 rfl rfl)
theorem dX10_layHang_4 : decode cX10_layHang 4 = .ok (.iadd, 1) := dk_96 (dk_at dksX10_layHang_0 4 rfl rfl)
theorem dX10_layHang_5 : decode cX10_layHang 5 = .ok (.iaload, 1) := dk_46 (dk_at dksX10_layHang_0 5 rfl rfl)
theorem dX10_layHang_6 : decode cX10_layHang 6 = .ok (.iload_n 3, 1) := dk_29 (dk_at dksX10_layHang_0 6 rfl rfl)
theorem dX10_layHang_7 : decode cX10_layHang 7 = .ok (.ifCond .ge 7, 3) := dk_156 0 7 (dk_at dksX10_layHang_0 7 rfl rfl)
theorem dX10_layHang_10 : decode cX10_layHang 10 = .ok (.iconst 0, 1) := dk_3 (dk_at dksX10_layHang_0 10 rfl rfl)
theorem dX10_layHang_11 : decode cX10_layHang 11 = .ok (.goto 6, 3) := dk_167 0 6 (dk_at dksX10_layHang_0 11 rfl rfl)
theorem dX10_layHang_14 : decode cX10_layHang 14 = .ok (.iconst 1, 1) := dk_4 (dk_at dksX10_layHang_0 14 rfl rfl)
theorem dX10_layHang_15 : decode cX10_layHang 15 = .ok (.iload_n 3, 1) := dk_29 (dk_at dksX10_layHang_0 15 rfl rfl)
theorem dX10_layHang_16 : decode cX10_layHang 16 = .ok (.ishl, 1) := dk_120 (dk_at dksX10_layHang_0 16 rfl rfl)
theorem dX10_layHang_17 : decode cX10_layHang 17 = .ok (.iconst (-1), 1) := dk_2 (dk_at dksX10_layHang_0 17 rfl rfl)
theorem dX10_layHang_18 : decode cX10_layHang 18 = .ok (.ixor, 1) := dk_130 (dk_at dksX10_layHang_0 18 rfl rfl)
theorem dX10_layHang_19 : decode cX10_layHang 19 = .ok (.iand, 1) := dk_126 (dk_at dksX10_layHang_0 19 rfl rfl)
theorem dX10_layHang_20 : decode cX10_layHang 20 = .ok (.istore 4, 2) := dk_54 4 (dk_at dksX10_layHang_0 20 rfl rfl)
theorem dX10_layHang_22 : decode cX10_layHang 22 = .ok (.iconst 0, 1) := dk_3 (dk_at dksX10_layHang_0 22 rfl rfl)
theorem dX10_layHang_23 : decode cX10_layHang 23 = .ok (.istore 5, 2) := dk_54 5 (dk_at dksX10_layHang_1 0 rfl rfl)
theorem dX10_layHang_25 : decode cX10_layHang 25 = .ok (.iload 5, 2) := dk_21 5 (dk_at dksX10_layHang_1 2 rfl rfl)
theorem dX10_layHang_27 : decode cX10_layHang 27 = .ok (.bipush 12, 2) := dk_16 12 (dk_at dksX10_layHang_1 4 rfl rfl)
theorem dX10_layHang_29 : decode cX10_layHang 29 = .ok (.if_icmp .ge 27, 3) := dk_162 0 27 (dk_at dksX10_layHang_1 6 rfl rfl)
theorem dX10_layHang_32 : decode cX10_layHang 32 = .ok (.iload 4, 2) := dk_21 4 (dk_at dksX10_layHang_1 9 rfl rfl)
theorem dX10_layHang_34 : decode cX10_layHang 34 = .ok (.iload 5, 2) := dk_21 5 (dk_at dksX10_layHang_1 11 rfl rfl)
theorem dX10_layHang_36 : decode cX10_layHang 36 = .ok (.invokestatic 96, 3) := dk_184 0 96 (dk_at dksX10_layHang_1 13 rfl rfl)
theorem dX10_layHang_39 : decode cX10_layHang 39 = .ok (.ifCond .eq 11, 3) := dk_153 0 11 (dk_at dksX10_layHang_1 16 rfl rfl)
theorem dX10_layHang_42 : decode cX10_layHang 42 = .ok (.aload_n 0, 1) := dk_42 (dk_at dksX10_layHang_1 19 rfl rfl)
theorem dX10_layHang_43 : decode cX10_layHang 43 = .ok (.aload_n 1, 1) := dk_43 (dk_at dksX10_layHang_1 20 rfl rfl)
theorem dX10_layHang_44 : decode cX10_layHang 44 = .ok (.iload 5, 2) := dk_21 5 (dk_at dksX10_layHang_1 21 rfl rfl)
theorem dX10_layHang_46 : decode cX10_layHang 46 = .ok (.iload_n 2, 1) := dk_28 (dk_at dksX10_layHang_1 23 rfl rfl)
theorem dX10_layHang_47 : decode cX10_layHang 47 = .ok (.invokevirtual 364, 3) := dk_182 1 108 (dk_at dksX10_layHang_2 0 rfl rfl)
theorem dX10_layHang_50 : decode cX10_layHang 50 = .ok (.iinc 5 1, 3) := dk_132 5 1 (dk_at dksX10_layHang_2 3 rfl rfl)
theorem dX10_layHang_53 : decode cX10_layHang 53 = .ok (.goto (-28), 3) := dk_167 255 228 (dk_at dksX10_layHang_2 6 rfl rfl)
theorem dX10_layHang_56 : decode cX10_layHang 56 = .ok (.aload_n 0, 1) := dk_42 (dk_at dksX10_layHang_2 9 rfl rfl)
theorem dX10_layHang_57 : decode cX10_layHang 57 = .ok (.getfield 46, 3) := dk_180 0 46 (dk_at dksX10_layHang_2 10 rfl rfl)
theorem dX10_layHang_60 : decode cX10_layHang 60 = .ok (.iload_n 2, 1) := dk_28 (dk_at dksX10_layHang_2 13 rfl rfl)
theorem dX10_layHang_61 : decode cX10_layHang 61 = .ok (.aaload, 1) := dk_50 (dk_at dksX10_layHang_2 14 rfl rfl)
theorem dX10_layHang_62 : decode cX10_layHang 62 = .ok (.astore 5, 2) := dk_58 5 (dk_at dksX10_layHang_2 15 rfl rfl)
theorem dX10_layHang_64 : decode cX10_layHang 64 = .ok (.aload 5, 2) := dk_25 5 (dk_at dksX10_layHang_2 17 rfl rfl)
theorem dX10_layHang_66 : decode cX10_layHang 66 = .ok (.iconst 0, 1) := dk_3 (dk_at dksX10_layHang_2 19 rfl rfl)
theorem dX10_layHang_67 : decode cX10_layHang 67 = .ok (.bipush 40, 2) := dk_16 40 (dk_at dksX10_layHang_2 20 rfl rfl)
theorem dX10_layHang_69 : decode cX10_layHang 69 = .ok (.iastore, 1) := dk_79 (dk_at dksX10_layHang_2 22 rfl rfl)
theorem dX10_layHang_70 : decode cX10_layHang 70 = .ok (.aload 5, 2) := dk_25 5 (dk_at dksX10_layHang_3 0 rfl rfl)
theorem dX10_layHang_72 : decode cX10_layHang 72 = .ok (.iconst 1, 1) := dk_4 (dk_at dksX10_layHang_3 2 rfl rfl)
theorem dX10_layHang_73 : decode cX10_layHang 73 = .ok (.aload_n 1, 1) := dk_43 (dk_at dksX10_layHang_3 3 rfl rfl)
theorem dX10_layHang_74 : decode cX10_layHang 74 = .ok (.iconst 1, 1) := dk_4 (dk_at dksX10_layHang_3 4 rfl rfl)
theorem dX10_layHang_75 : decode cX10_layHang 75 = .ok (.iload_n 2, 1) := dk_28 (dk_at dksX10_layHang_3 5 rfl rfl)
theorem dX10_layHang_76 : decode cX10_layHang 76 = .ok (.iadd, 1) := dk_96 (dk_at dksX10_layHang_3 6 rfl rfl)
theorem dX10_layHang_77 : decode cX10_layHang 77 = .ok (.iaload, 1) := dk_46 (dk_at dksX10_layHang_3 7 rfl rfl)
theorem dX10_layHang_78 : decode cX10_layHang 78 = .ok (.invokestatic 367, 3) := dk_184 1 111 (dk_at dksX10_layHang_3 8 rfl rfl)
theorem dX10_layHang_81 : decode cX10_layHang 81 = .ok (.istore 6, 2) := dk_54 6 (dk_at dksX10_layHang_3 11 rfl rfl)
theorem dX10_layHang_83 : decode cX10_layHang 83 = .ok (.iload 4, 2) := dk_21 4 (dk_at dksX10_layHang_3 13 rfl rfl)
theorem dX10_layHang_85 : decode cX10_layHang 85 = .ok (.ifCond .eq 135, 3) := dk_153 0 135 (dk_at dksX10_layHang_3 15 rfl rfl)
theorem dX10_layHang_88 : decode cX10_layHang 88 = .ok (.iload 4, 2) := dk_21 4 (dk_at dksX10_layHang_3 18 rfl rfl)
theorem dX10_layHang_90 : decode cX10_layHang 90 = .ok (.invokestatic 114, 3) := dk_184 0 114 (dk_at dksX10_layHang_3 20 rfl rfl)
theorem dX10_layHang_93 : decode cX10_layHang 93 = .ok (.istore 7, 2) := dk_54 7 (dk_at dksX10_layHang_4 0 rfl rfl)
theorem dX10_layHang_95 : decode cX10_layHang 95 = .ok (.iload 7, 2) := dk_21 7 (dk_at dksX10_layHang_4 2 rfl rfl)
theorem dX10_layHang_97 : decode cX10_layHang 97 = .ok (.iconst 1, 1) := dk_4 (dk_at dksX10_layHang_4 4 rfl rfl)
theorem dX10_layHang_98 : decode cX10_layHang 98 = .ok (.iadd, 1) := dk_96 (dk_at dksX10_layHang_4 5 rfl rfl)
theorem dX10_layHang_99 : decode cX10_layHang 99 = .ok (.istore 8, 2) := dk_54 8 (dk_at dksX10_layHang_4 6 rfl rfl)
theorem dX10_layHang_101 : decode cX10_layHang 101 = .ok (.iload 8, 2) := dk_21 8 (dk_at dksX10_layHang_4 8 rfl rfl)
theorem dX10_layHang_103 : decode cX10_layHang 103 = .ok (.bipush 12, 2) := dk_16 12 (dk_at dksX10_layHang_4 10 rfl rfl)
theorem dX10_layHang_105 : decode cX10_layHang 105 = .ok (.if_icmp .ge 62, 3) := dk_162 0 62 (dk_at dksX10_layHang_4 12 rfl rfl)
theorem dX10_layHang_108 : decode cX10_layHang 108 = .ok (.iload 4, 2) := dk_21 4 (dk_at dksX10_layHang_4 15 rfl rfl)
theorem dX10_layHang_110 : decode cX10_layHang 110 = .ok (.iload 8, 2) := dk_21 8 (dk_at dksX10_layHang_4 17 rfl rfl)
theorem dX10_layHang_112 : decode cX10_layHang 112 = .ok (.invokestatic 96, 3) := dk_184 0 96 (dk_at dksX10_layHang_4 19 rfl rfl)
theorem dX10_layHang_115 : decode cX10_layHang 115 = .ok (.ifCond .eq 42, 3) := dk_153 0 42 (dk_at dksX10_layHang_5 0 rfl rfl)
theorem dX10_layHang_118 : decode cX10_layHang 118 = .ok (.aload_n 0, 1) := dk_42 (dk_at dksX10_layHang_5 3 rfl rfl)
theorem dX10_layHang_119 : decode cX10_layHang 119 = .ok (.getfield 46, 3) := dk_180 0 46 (dk_at dksX10_layHang_5 4 rfl rfl)
theorem dX10_layHang_122 : decode cX10_layHang 122 = .ok (.iload 8, 2) := dk_21 8 (dk_at dksX10_layHang_5 7 rfl rfl)
theorem dX10_layHang_124 : decode cX10_layHang 124 = .ok (.aaload, 1) := dk_50 (dk_at dksX10_layHang_5 9 rfl rfl)
theorem dX10_layHang_125 : decode cX10_layHang 125 = .ok (.aload_n 0, 1) := dk_42 (dk_at dksX10_layHang_5 10 rfl rfl)
theorem dX10_layHang_126 : decode cX10_layHang 126 = .ok (.getfield 49, 3) := dk_180 0 49 (dk_at dksX10_layHang_5 11 rfl rfl)
theorem dX10_layHang_129 : decode cX10_layHang 129 = .ok (.iload 8, 2) := dk_21 8 (dk_at dksX10_layHang_5 14 rfl rfl)
theorem dX10_layHang_131 : decode cX10_layHang 131 = .ok (.iaload, 1) := dk_46 (dk_at dksX10_layHang_5 16 rfl rfl)
theorem dX10_layHang_132 : decode cX10_layHang 132 = .ok (.aload_n 0, 1) := dk_42 (dk_at dksX10_layHang_5 17 rfl rfl)
theorem dX10_layHang_133 : decode cX10_layHang 133 = .ok (.getfield 46, 3) := dk_180 0 46 (dk_at dksX10_layHang_5 18 rfl rfl)
theorem dX10_layHang_136 : decode cX10_layHang 136 = .ok (.iload 7, 2) := dk_21 7 (dk_at dksX10_layHang_5 21 rfl rfl)
theorem dX10_layHang_138 : decode cX10_layHang 138 = .ok (.aaload, 1) := dk_50 (dk_at dksX10_layHang_5 23 rfl rfl)
theorem dX10_layHang_139 : decode cX10_layHang 139 = .ok (.aload_n 0, 1) := dk_42 (dk_at dksX10_layHang_6 0 rfl rfl)
theorem dX10_layHang_140 : decode cX10_layHang 140 = .ok (.getfield 49, 3) := dk_180 0 49 (dk_at dksX10_layHang_6 1 rfl rfl)
theorem dX10_layHang_143 : decode cX10_layHang 143 = .ok (.iload 7, 2) := dk_21 7 (dk_at dksX10_layHang_6 4 rfl rfl)
theorem dX10_layHang_145 : decode cX10_layHang 145 = .ok (.iaload, 1) := dk_46 (dk_at dksX10_layHang_6 6 rfl rfl)
theorem dX10_layHang_146 : decode cX10_layHang 146 = .ok (.invokestatic 371, 3) := dk_184 1 115 (dk_at dksX10_layHang_6 7 rfl rfl)
theorem dX10_layHang_149 : decode cX10_layHang 149 = .ok (.ifCond .eq 8, 3) := dk_153 0 8 (dk_at dksX10_layHang_6 10 rfl rfl)
theorem dX10_layHang_152 : decode cX10_layHang 152 = .ok (.iload 8, 2) := dk_21 8 (dk_at dksX10_layHang_6 13 rfl rfl)
theorem dX10_layHang_154 : decode cX10_layHang 154 = .ok (.goto 5, 3) := dk_167 0 5 (dk_at dksX10_layHang_6 15 rfl rfl)
theorem dX10_layHang_157 : decode cX10_layHang 157 = .ok (.iload 7, 2) := dk_21 7 (dk_at dksX10_layHang_6 18 rfl rfl)
theorem dX10_layHang_159 : decode cX10_layHang 159 = .ok (.istore 7, 2) := dk_54 7 (dk_at dksX10_layHang_6 20 rfl rfl)
theorem dX10_layHang_161 : decode cX10_layHang 161 = .ok (.iinc 8 1, 3) := dk_132 8 1 (dk_at dksX10_layHang_7 0 rfl rfl)
theorem dX10_layHang_164 : decode cX10_layHang 164 = .ok (.goto (-63), 3) := dk_167 255 193 (dk_at dksX10_layHang_7 3 rfl rfl)
theorem dX10_layHang_167 : decode cX10_layHang 167 = .ok (.iconst 0, 1) := dk_3 (dk_at dksX10_layHang_7 6 rfl rfl)
theorem dX10_layHang_168 : decode cX10_layHang 168 = .ok (.istore 8, 2) := dk_54 8 (dk_at dksX10_layHang_7 7 rfl rfl)
theorem dX10_layHang_170 : decode cX10_layHang 170 = .ok (.iload 8, 2) := dk_21 8 (dk_at dksX10_layHang_7 9 rfl rfl)
theorem dX10_layHang_172 : decode cX10_layHang 172 = .ok (.aload_n 0, 1) := dk_42 (dk_at dksX10_layHang_7 11 rfl rfl)
theorem dX10_layHang_173 : decode cX10_layHang 173 = .ok (.getfield 49, 3) := dk_180 0 49 (dk_at dksX10_layHang_7 12 rfl rfl)
theorem dX10_layHang_176 : decode cX10_layHang 176 = .ok (.iload 7, 2) := dk_21 7 (dk_at dksX10_layHang_7 15 rfl rfl)
theorem dX10_layHang_178 : decode cX10_layHang 178 = .ok (.iaload, 1) := dk_46 (dk_at dksX10_layHang_7 17 rfl rfl)
theorem dX10_layHang_179 : decode cX10_layHang 179 = .ok (.if_icmp .ge 27, 3) := dk_162 0 27 (dk_at dksX10_layHang_7 18 rfl rfl)
theorem dX10_layHang_182 : decode cX10_layHang 182 = .ok (.aload 5, 2) := dk_25 5 (dk_at dksX10_layHang_7 21 rfl rfl)
theorem dX10_layHang_184 : decode cX10_layHang 184 = .ok (.iload 6, 2) := dk_21 6 (dk_at dksX10_layHang_8 0 rfl rfl)
theorem dX10_layHang_186 : decode cX10_layHang 186 = .ok (.aload_n 0, 1) := dk_42 (dk_at dksX10_layHang_8 2 rfl rfl)
theorem dX10_layHang_187 : decode cX10_layHang 187 = .ok (.getfield 46, 3) := dk_180 0 46 (dk_at dksX10_layHang_8 3 rfl rfl)
theorem dX10_layHang_190 : decode cX10_layHang 190 = .ok (.iload 7, 2) := dk_21 7 (dk_at dksX10_layHang_8 6 rfl rfl)
theorem dX10_layHang_192 : decode cX10_layHang 192 = .ok (.aaload, 1) := dk_50 (dk_at dksX10_layHang_8 8 rfl rfl)
theorem dX10_layHang_193 : decode cX10_layHang 193 = .ok (.iload 8, 2) := dk_21 8 (dk_at dksX10_layHang_8 9 rfl rfl)
theorem dX10_layHang_195 : decode cX10_layHang 195 = .ok (.iaload, 1) := dk_46 (dk_at dksX10_layHang_8 11 rfl rfl)
theorem dX10_layHang_196 : decode cX10_layHang 196 = .ok (.iastore, 1) := dk_79 (dk_at dksX10_layHang_8 12 rfl rfl)
theorem dX10_layHang_197 : decode cX10_layHang 197 = .ok (.iinc 6 1, 3) := dk_132 6 1 (dk_at dksX10_layHang_8 13 rfl rfl)
theorem dX10_layHang_200 : decode cX10_layHang 200 = .ok (.iinc 8 1, 3) := dk_132 8 1 (dk_at dksX10_layHang_8 16 rfl rfl)
theorem dX10_layHang_203 : decode cX10_layHang 203 = .ok (.goto (-33), 3) := dk_167 255 223 (dk_at dksX10_layHang_8 19 rfl rfl)
theorem dX10_layHang_206 : decode cX10_layHang 206 = .ok (.iload 4, 2) := dk_21 4 (dk_at dksX10_layHang_8 22 rfl rfl)
theorem dX10_layHang_208 : decode cX10_layHang 208 = .ok (.iconst 1, 1) := dk_4 (dk_at dksX10_layHang_9 0 rfl rfl)
theorem dX10_layHang_209 : decode cX10_layHang 209 = .ok (.iload 7, 2) := dk_21 7 (dk_at dksX10_layHang_9 1 rfl rfl)
theorem dX10_layHang_211 : decode cX10_layHang 211 = .ok (.ishl, 1) := dk_120 (dk_at dksX10_layHang_9 3 rfl rfl)
theorem dX10_layHang_212 : decode cX10_layHang 212 = .ok (.iconst (-1), 1) := dk_2 (dk_at dksX10_layHang_9 4 rfl rfl)
theorem dX10_layHang_213 : decode cX10_layHang 213 = .ok (.ixor, 1) := dk_130 (dk_at dksX10_layHang_9 5 rfl rfl)
theorem dX10_layHang_214 : decode cX10_layHang 214 = .ok (.iand, 1) := dk_126 (dk_at dksX10_layHang_9 6 rfl rfl)
theorem dX10_layHang_215 : decode cX10_layHang 215 = .ok (.istore 4, 2) := dk_54 4 (dk_at dksX10_layHang_9 7 rfl rfl)
theorem dX10_layHang_217 : decode cX10_layHang 217 = .ok (.goto (-134), 3) := dk_167 255 122 (dk_at dksX10_layHang_9 9 rfl rfl)
theorem dX10_layHang_220 : decode cX10_layHang 220 = .ok (.aload 5, 2) := dk_25 5 (dk_at dksX10_layHang_9 12 rfl rfl)
theorem dX10_layHang_222 : decode cX10_layHang 222 = .ok (.iload 6, 2) := dk_21 6 (dk_at dksX10_layHang_9 14 rfl rfl)
theorem dX10_layHang_224 : decode cX10_layHang 224 = .ok (.bipush 41, 2) := dk_16 41 (dk_at dksX10_layHang_9 16 rfl rfl)
theorem dX10_layHang_226 : decode cX10_layHang 226 = .ok (.iastore, 1) := dk_79 (dk_at dksX10_layHang_9 18 rfl rfl)
theorem dX10_layHang_227 : decode cX10_layHang 227 = .ok (.aload_n 0, 1) := dk_42 (dk_at dksX10_layHang_9 19 rfl rfl)
theorem dX10_layHang_228 : decode cX10_layHang 228 = .ok (.getfield 49, 3) := dk_180 0 49 (dk_at dksX10_layHang_9 20 rfl rfl)
theorem dX10_layHang_231 : decode cX10_layHang 231 = .ok (.iload_n 2, 1) := dk_28 (dk_at dksX10_layHang_9 23 rfl rfl)
theorem dX10_layHang_232 : decode cX10_layHang 232 = .ok (.iload 6, 2) := dk_21 6 (dk_at dksX10_layHang_10 0 rfl rfl)
theorem dX10_layHang_234 : decode cX10_layHang 234 = .ok (.iconst 1, 1) := dk_4 (dk_at dksX10_layHang_10 2 rfl rfl)
theorem dX10_layHang_235 : decode cX10_layHang 235 = .ok (.iadd, 1) := dk_96 (dk_at dksX10_layHang_10 3 rfl rfl)
theorem dX10_layHang_236 : decode cX10_layHang 236 = .ok (.iastore, 1) := dk_79 (dk_at dksX10_layHang_10 4 rfl rfl)
theorem dX10_layHang_237 : decode cX10_layHang 237 = .ok (.return_, 1) := dk_177 (dk_at dksX10_layHang_10 5 rfl rfl)
abbrev cX10_laysWeight : ByteArray := prog_26_method_93_code
def yX10_laysWeight : MethodName := ⟨RX10, "laysWeight", "([III)I"⟩
def dkwX10_laysWeight_2 : List UInt8 := [29, 16, 48, 21, 4, 16, 10, 112, 96, 79, 29, 4, 96, 172]
abbrev dktX10_laysWeight_2 : List UInt8 := dkwX10_laysWeight_2 ++ []
def dkwX10_laysWeight_1 : List UInt8 := [54, 4, 21, 4, 16, 9, 164, 0, 17, 42, 29, 16, 48, 21, 4, 16, 10, 108, 96, 79, 132, 3, 1, 42]
abbrev dktX10_laysWeight_1 : List UInt8 := dkwX10_laysWeight_1 ++ dktX10_laysWeight_2
def dkwX10_laysWeight_0 : List UInt8 := [27, 62, 28, 156, 0, 11, 42, 29, 16, 45, 79, 132, 3, 1, 28, 156, 0, 8, 28, 116, 167, 0, 4, 28]
abbrev dktX10_laysWeight_0 : List UInt8 := dkwX10_laysWeight_0 ++ dktX10_laysWeight_1
theorem dksX10_laysWeight_0 : cX10_laysWeight.data.toList.drop 0 = dktX10_laysWeight_0 := by decide +kernel
theorem dksX10_laysWeight_1 : cX10_laysWeight.data.toList.drop 24 = dktX10_laysWeight_1 := dk_seg dksX10_laysWeight_0 24 rfl rfl
theorem dksX10_laysWeight_2 : cX10_laysWeight.data.toList.drop 48 = dktX10_laysWeight_2 := dk_seg dksX10_laysWeight_1 24 rfl rfl
theorem dX10_laysWeight_0 : decode cX10_laysWeight 0 = .ok (.iload_n 1, 1) := dk_27 (dk_at dksX10_laysWeight_0 0 rfl rfl)
theorem dX10_laysWeight_1 : decode cX10_laysWeight 1 = .ok (.istore_n 3, 1) := dk_62 (dk_at dksX10_laysWeight_0 1 rfl rfl)
theorem dX10_laysWeight_2 : decode cX10_laysWeight 2 = .ok (.iload_n 2, 1) := dk_28 (dk_at dksX10_laysWeight_0 2 rfl rfl)
theorem dX10_laysWeight_3 : decode cX10_laysWeight 3 = .ok (.ifCond .ge 11, 3) := dk_156 0 11 (dk_at dksX10_laysWeight_0 3 rfl rfl)
theorem dX10_laysWeight_6 : decode cX10_laysWeight 6 = .ok (.aload_n 0, 1) := dk_42 (dk_at dksX10_laysWeight_0 6 rfl rfl)
theorem dX10_laysWeight_7 : decode cX10_laysWeight 7 = .ok (.iload_n 3, 1) := dk_29 (dk_at dksX10_laysWeight_0 7 rfl rfl)
theorem dX10_laysWeight_8 : decode cX10_laysWeight 8 = .ok (.bipush 45, 2) := dk_16 45 (dk_at dksX10_laysWeight_0 8 rfl rfl)
theorem dX10_laysWeight_10 : decode cX10_laysWeight 10 = .ok (.iastore, 1) := dk_79 (dk_at dksX10_laysWeight_0 10 rfl rfl)
theorem dX10_laysWeight_11 : decode cX10_laysWeight 11 = .ok (.iinc 3 1, 3) := dk_132 3 1 (dk_at dksX10_laysWeight_0 11 rfl rfl)
theorem dX10_laysWeight_14 : decode cX10_laysWeight 14 = .ok (.iload_n 2, 1) := dk_28 (dk_at dksX10_laysWeight_0 14 rfl rfl)
theorem dX10_laysWeight_15 : decode cX10_laysWeight 15 = .ok (.ifCond .ge 8, 3) := dk_156 0 8 (dk_at dksX10_laysWeight_0 15 rfl rfl)
theorem dX10_laysWeight_18 : decode cX10_laysWeight 18 = .ok (.iload_n 2, 1) := dk_28 (dk_at dksX10_laysWeight_0 18 rfl rfl)
theorem dX10_laysWeight_19 : decode cX10_laysWeight 19 = .ok (.ineg, 1) := dk_116 (dk_at dksX10_laysWeight_0 19 rfl rfl)
theorem dX10_laysWeight_20 : decode cX10_laysWeight 20 = .ok (.goto 4, 3) := dk_167 0 4 (dk_at dksX10_laysWeight_0 20 rfl rfl)
theorem dX10_laysWeight_23 : decode cX10_laysWeight 23 = .ok (.iload_n 2, 1) := dk_28 (dk_at dksX10_laysWeight_0 23 rfl rfl)
theorem dX10_laysWeight_24 : decode cX10_laysWeight 24 = .ok (.istore 4, 2) := dk_54 4 (dk_at dksX10_laysWeight_1 0 rfl rfl)
theorem dX10_laysWeight_26 : decode cX10_laysWeight 26 = .ok (.iload 4, 2) := dk_21 4 (dk_at dksX10_laysWeight_1 2 rfl rfl)
theorem dX10_laysWeight_28 : decode cX10_laysWeight 28 = .ok (.bipush 9, 2) := dk_16 9 (dk_at dksX10_laysWeight_1 4 rfl rfl)
theorem dX10_laysWeight_30 : decode cX10_laysWeight 30 = .ok (.if_icmp .le 17, 3) := dk_164 0 17 (dk_at dksX10_laysWeight_1 6 rfl rfl)
theorem dX10_laysWeight_33 : decode cX10_laysWeight 33 = .ok (.aload_n 0, 1) := dk_42 (dk_at dksX10_laysWeight_1 9 rfl rfl)
theorem dX10_laysWeight_34 : decode cX10_laysWeight 34 = .ok (.iload_n 3, 1) := dk_29 (dk_at dksX10_laysWeight_1 10 rfl rfl)
theorem dX10_laysWeight_35 : decode cX10_laysWeight 35 = .ok (.bipush 48, 2) := dk_16 48 (dk_at dksX10_laysWeight_1 11 rfl rfl)
theorem dX10_laysWeight_37 : decode cX10_laysWeight 37 = .ok (.iload 4, 2) := dk_21 4 (dk_at dksX10_laysWeight_1 13 rfl rfl)
theorem dX10_laysWeight_39 : decode cX10_laysWeight 39 = .ok (.bipush 10, 2) := dk_16 10 (dk_at dksX10_laysWeight_1 15 rfl rfl)
theorem dX10_laysWeight_41 : decode cX10_laysWeight 41 = .ok (.idiv, 1) := dk_108 (dk_at dksX10_laysWeight_1 17 rfl rfl)
theorem dX10_laysWeight_42 : decode cX10_laysWeight 42 = .ok (.iadd, 1) := dk_96 (dk_at dksX10_laysWeight_1 18 rfl rfl)
theorem dX10_laysWeight_43 : decode cX10_laysWeight 43 = .ok (.iastore, 1) := dk_79 (dk_at dksX10_laysWeight_1 19 rfl rfl)
theorem dX10_laysWeight_44 : decode cX10_laysWeight 44 = .ok (.iinc 3 1, 3) := dk_132 3 1 (dk_at dksX10_laysWeight_1 20 rfl rfl)
theorem dX10_laysWeight_47 : decode cX10_laysWeight 47 = .ok (.aload_n 0, 1) := dk_42 (dk_at dksX10_laysWeight_1 23 rfl rfl)
theorem dX10_laysWeight_48 : decode cX10_laysWeight 48 = .ok (.iload_n 3, 1) := dk_29 (dk_at dksX10_laysWeight_2 0 rfl rfl)
theorem dX10_laysWeight_49 : decode cX10_laysWeight 49 = .ok (.bipush 48, 2) := dk_16 48 (dk_at dksX10_laysWeight_2 1 rfl rfl)
theorem dX10_laysWeight_51 : decode cX10_laysWeight 51 = .ok (.iload 4, 2) := dk_21 4 (dk_at dksX10_laysWeight_2 3 rfl rfl)
theorem dX10_laysWeight_53 : decode cX10_laysWeight 53 = .ok (.bipush 10, 2) := dk_16 10 (dk_at dksX10_laysWeight_2 5 rfl rfl)
theorem dX10_laysWeight_55 : decode cX10_laysWeight 55 = .ok (.irem, 1) := dk_112 (dk_at dksX10_laysWeight_2 7 rfl rfl)
theorem dX10_laysWeight_56 : decode cX10_laysWeight 56 = .ok (.iadd, 1) := dk_96 (dk_at dksX10_laysWeight_2 8 rfl rfl)
theorem dX10_laysWeight_57 : decode cX10_laysWeight 57 = .ok (.iastore, 1) := dk_79 (dk_at dksX10_laysWeight_2 9 rfl rfl)
theorem dX10_laysWeight_58 : decode cX10_laysWeight 58 = .ok (.iload_n 3, 1) := dk_29 (dk_at dksX10_laysWeight_2 10 rfl rfl)
theorem dX10_laysWeight_59 : decode cX10_laysWeight 59 = .ok (.iconst 1, 1) := dk_4 (dk_at dksX10_laysWeight_2 11 rfl rfl)
theorem dX10_laysWeight_60 : decode cX10_laysWeight 60 = .ok (.iadd, 1) := dk_96 (dk_at dksX10_laysWeight_2 12 rfl rfl)
theorem dX10_laysWeight_61 : decode cX10_laysWeight 61 = .ok (.ireturn, 1) := dk_172 (dk_at dksX10_laysWeight_2 13 rfl rfl)
abbrev cX10_isAhead : ByteArray := prog_26_method_92_code
def yX10_isAhead : MethodName := ⟨RX10, "isAhead", "([II[II)Z"⟩
def dkwX10_isAhead_3 : List UInt8 := [167, 0, 4, 3, 172]
abbrev dktX10_isAhead_3 : List UInt8 := dkwX10_isAhead_3 ++ []
def dkwX10_isAhead_2 : List UInt8 := [46, 44, 21, 4, 46, 162, 0, 7, 4, 167, 0, 17, 3, 167, 0, 13, 27, 29, 162, 0, 7, 4]
abbrev dktX10_isAhead_2 : List UInt8 := dkwX10_isAhead_2 ++ dktX10_isAhead_3
def dkwX10_isAhead_1 : List UInt8 := [160, 0, 9, 132, 4, 1, 167, 255, 230, 21, 4, 27, 162, 0, 28, 21, 4, 29, 162, 0, 22, 42, 21, 4]
abbrev dktX10_isAhead_1 : List UInt8 := dkwX10_isAhead_1 ++ dktX10_isAhead_2
def dkwX10_isAhead_0 : List UInt8 := [3, 54, 4, 21, 4, 27, 162, 0, 26, 21, 4, 29, 162, 0, 20, 42, 21, 4, 46, 44, 21, 4, 46]
abbrev dktX10_isAhead_0 : List UInt8 := dkwX10_isAhead_0 ++ dktX10_isAhead_1
theorem dksX10_isAhead_0 : cX10_isAhead.data.toList.drop 0 = dktX10_isAhead_0 := by decide +kernel
theorem dksX10_isAhead_1 : cX10_isAhead.data.toList.drop 23 = dktX10_isAhead_1 := dk_seg dksX10_isAhead_0 23 rfl rfl
theorem dksX10_isAhead_2 : cX10_isAhead.data.toList.drop 47 = dktX10_isAhead_2 := dk_seg dksX10_isAhead_1 24 rfl rfl
theorem dksX10_isAhead_3 : cX10_isAhead.data.toList.drop 69 = dktX10_isAhead_3 := dk_seg dksX10_isAhead_2 22 rfl rfl
theorem dX10_isAhead_0 : decode cX10_isAhead 0 = .ok (.iconst 0, 1) := dk_3 (dk_at dksX10_isAhead_0 0 rfl rfl)
theorem dX10_isAhead_1 : decode cX10_isAhead 1 = .ok (.istore 4, 2) := dk_54 4 (dk_at dksX10_isAhead_0 1 rfl rfl)
theorem dX10_isAhead_3 : decode cX10_isAhead 3 = .ok (.iload 4, 2) := dk_21 4 (dk_at dksX10_isAhead_0 3 rfl rfl)
theorem dX10_isAhead_5 : decode cX10_isAhead 5 = .ok (.iload_n 1, 1) := dk_27 (dk_at dksX10_isAhead_0 5 rfl rfl)
theorem dX10_isAhead_6 : decode cX10_isAhead 6 = .ok (.if_icmp .ge 26, 3) := dk_162 0 26 (dk_at dksX10_isAhead_0 6 rfl rfl)
theorem dX10_isAhead_9 : decode cX10_isAhead 9 = .ok (.iload 4, 2) := dk_21 4 (dk_at dksX10_isAhead_0 9 rfl rfl)
theorem dX10_isAhead_11 : decode cX10_isAhead 11 = .ok (.iload_n 3, 1) := dk_29 (dk_at dksX10_isAhead_0 11 rfl rfl)
theorem dX10_isAhead_12 : decode cX10_isAhead 12 = .ok (.if_icmp .ge 20, 3) := dk_162 0 20 (dk_at dksX10_isAhead_0 12 rfl rfl)
theorem dX10_isAhead_15 : decode cX10_isAhead 15 = .ok (.aload_n 0, 1) := dk_42 (dk_at dksX10_isAhead_0 15 rfl rfl)
theorem dX10_isAhead_16 : decode cX10_isAhead 16 = .ok (.iload 4, 2) := dk_21 4 (dk_at dksX10_isAhead_0 16 rfl rfl)
theorem dX10_isAhead_18 : decode cX10_isAhead 18 = .ok (.iaload, 1) := dk_46 (dk_at dksX10_isAhead_0 18 rfl rfl)
theorem dX10_isAhead_19 : decode cX10_isAhead 19 = .ok (.aload_n 2, 1) := dk_44 (dk_at dksX10_isAhead_0 19 rfl rfl)
theorem dX10_isAhead_20 : decode cX10_isAhead 20 = .ok (.iload 4, 2) := dk_21 4 (dk_at dksX10_isAhead_0 20 rfl rfl)
theorem dX10_isAhead_22 : decode cX10_isAhead 22 = .ok (.iaload, 1) := dk_46 (dk_at dksX10_isAhead_0 22 rfl rfl)
theorem dX10_isAhead_23 : decode cX10_isAhead 23 = .ok (.if_icmp .ne 9, 3) := dk_160 0 9 (dk_at dksX10_isAhead_1 0 rfl rfl)
theorem dX10_isAhead_26 : decode cX10_isAhead 26 = .ok (.iinc 4 1, 3) := dk_132 4 1 (dk_at dksX10_isAhead_1 3 rfl rfl)
theorem dX10_isAhead_29 : decode cX10_isAhead 29 = .ok (.goto (-26), 3) := dk_167 255 230 (dk_at dksX10_isAhead_1 6 rfl rfl)
theorem dX10_isAhead_32 : decode cX10_isAhead 32 = .ok (.iload 4, 2) := dk_21 4 (dk_at dksX10_isAhead_1 9 rfl rfl)
theorem dX10_isAhead_34 : decode cX10_isAhead 34 = .ok (.iload_n 1, 1) := dk_27 (dk_at dksX10_isAhead_1 11 rfl rfl)
theorem dX10_isAhead_35 : decode cX10_isAhead 35 = .ok (.if_icmp .ge 28, 3) := dk_162 0 28 (dk_at dksX10_isAhead_1 12 rfl rfl)
theorem dX10_isAhead_38 : decode cX10_isAhead 38 = .ok (.iload 4, 2) := dk_21 4 (dk_at dksX10_isAhead_1 15 rfl rfl)
theorem dX10_isAhead_40 : decode cX10_isAhead 40 = .ok (.iload_n 3, 1) := dk_29 (dk_at dksX10_isAhead_1 17 rfl rfl)
theorem dX10_isAhead_41 : decode cX10_isAhead 41 = .ok (.if_icmp .ge 22, 3) := dk_162 0 22 (dk_at dksX10_isAhead_1 18 rfl rfl)
theorem dX10_isAhead_44 : decode cX10_isAhead 44 = .ok (.aload_n 0, 1) := dk_42 (dk_at dksX10_isAhead_1 21 rfl rfl)
theorem dX10_isAhead_45 : decode cX10_isAhead 45 = .ok (.iload 4, 2) := dk_21 4 (dk_at dksX10_isAhead_1 22 rfl rfl)
theorem dX10_isAhead_47 : decode cX10_isAhead 47 = .ok (.iaload, 1) := dk_46 (dk_at dksX10_isAhead_2 0 rfl rfl)
theorem dX10_isAhead_48 : decode cX10_isAhead 48 = .ok (.aload_n 2, 1) := dk_44 (dk_at dksX10_isAhead_2 1 rfl rfl)
theorem dX10_isAhead_49 : decode cX10_isAhead 49 = .ok (.iload 4, 2) := dk_21 4 (dk_at dksX10_isAhead_2 2 rfl rfl)
theorem dX10_isAhead_51 : decode cX10_isAhead 51 = .ok (.iaload, 1) := dk_46 (dk_at dksX10_isAhead_2 4 rfl rfl)
theorem dX10_isAhead_52 : decode cX10_isAhead 52 = .ok (.if_icmp .ge 7, 3) := dk_162 0 7 (dk_at dksX10_isAhead_2 5 rfl rfl)
theorem dX10_isAhead_55 : decode cX10_isAhead 55 = .ok (.iconst 1, 1) := dk_4 (dk_at dksX10_isAhead_2 8 rfl rfl)
theorem dX10_isAhead_56 : decode cX10_isAhead 56 = .ok (.goto 17, 3) := dk_167 0 17 (dk_at dksX10_isAhead_2 9 rfl rfl)
theorem dX10_isAhead_59 : decode cX10_isAhead 59 = .ok (.iconst 0, 1) := dk_3 (dk_at dksX10_isAhead_2 12 rfl rfl)
theorem dX10_isAhead_60 : decode cX10_isAhead 60 = .ok (.goto 13, 3) := dk_167 0 13 (dk_at dksX10_isAhead_2 13 rfl rfl)
theorem dX10_isAhead_63 : decode cX10_isAhead 63 = .ok (.iload_n 1, 1) := dk_27 (dk_at dksX10_isAhead_2 16 rfl rfl)
theorem dX10_isAhead_64 : decode cX10_isAhead 64 = .ok (.iload_n 3, 1) := dk_29 (dk_at dksX10_isAhead_2 17 rfl rfl)
theorem dX10_isAhead_65 : decode cX10_isAhead 65 = .ok (.if_icmp .ge 7, 3) := dk_162 0 7 (dk_at dksX10_isAhead_2 18 rfl rfl)
theorem dX10_isAhead_68 : decode cX10_isAhead 68 = .ok (.iconst 1, 1) := dk_4 (dk_at dksX10_isAhead_2 21 rfl rfl)
theorem dX10_isAhead_69 : decode cX10_isAhead 69 = .ok (.goto 4, 3) := dk_167 0 4 (dk_at dksX10_isAhead_3 0 rfl rfl)
theorem dX10_isAhead_72 : decode cX10_isAhead 72 = .ok (.iconst 0, 1) := dk_3 (dk_at dksX10_isAhead_3 3 rfl rfl)
theorem dX10_isAhead_73 : decode cX10_isAhead 73 = .ok (.ireturn, 1) := dk_172 (dk_at dksX10_isAhead_3 4 rfl rfl)
abbrev cX10_keep : ByteArray := prog_26_method_99_code
def yX10_keep : MethodName := ⟨RX10, "keep", "(I)I"⟩
def dkwX10_keep_1 : List UInt8 := [184, 0, 188, 42, 180, 0, 64, 27, 4, 84, 42, 180, 0, 13, 3, 46, 184, 0, 130, 172]
abbrev dktX10_keep_1 : List UInt8 := dkwX10_keep_1 ++ []
def dkwX10_keep_0 : List UInt8 := [27, 184, 1, 129, 154, 0, 9, 42, 4, 182, 0, 204, 172, 42, 180, 0, 13, 42, 180, 0, 61, 27, 50]
abbrev dktX10_keep_0 : List UInt8 := dkwX10_keep_0 ++ dktX10_keep_1
theorem dksX10_keep_0 : cX10_keep.data.toList.drop 0 = dktX10_keep_0 := by decide +kernel
theorem dksX10_keep_1 : cX10_keep.data.toList.drop 23 = dktX10_keep_1 := dk_seg dksX10_keep_0 23 rfl rfl
theorem dX10_keep_0 : decode cX10_keep 0 = .ok (.iload_n 1, 1) := dk_27 (dk_at dksX10_keep_0 0 rfl rfl)
theorem dX10_keep_1 : decode cX10_keep 1 = .ok (.invokestatic 385, 3) := dk_184 1 129 (dk_at dksX10_keep_0 1 rfl rfl)
theorem dX10_keep_4 : decode cX10_keep 4 = .ok (.ifCond .ne 9, 3) := dk_154 0 9 (dk_at dksX10_keep_0 4 rfl rfl)
theorem dX10_keep_7 : decode cX10_keep 7 = .ok (.aload_n 0, 1) := dk_42 (dk_at dksX10_keep_0 7 rfl rfl)
theorem dX10_keep_8 : decode cX10_keep 8 = .ok (.iconst 1, 1) := dk_4 (dk_at dksX10_keep_0 8 rfl rfl)
theorem dX10_keep_9 : decode cX10_keep 9 = .ok (.invokevirtual 204, 3) := dk_182 0 204 (dk_at dksX10_keep_0 9 rfl rfl)
theorem dX10_keep_12 : decode cX10_keep 12 = .ok (.ireturn, 1) := dk_172 (dk_at dksX10_keep_0 12 rfl rfl)
theorem dX10_keep_13 : decode cX10_keep 13 = .ok (.aload_n 0, 1) := dk_42 (dk_at dksX10_keep_0 13 rfl rfl)
theorem dX10_keep_14 : decode cX10_keep 14 = .ok (.getfield 13, 3) := dk_180 0 13 (dk_at dksX10_keep_0 14 rfl rfl)
theorem dX10_keep_17 : decode cX10_keep 17 = .ok (.aload_n 0, 1) := dk_42 (dk_at dksX10_keep_0 17 rfl rfl)
theorem dX10_keep_18 : decode cX10_keep 18 = .ok (.getfield 61, 3) := dk_180 0 61 (dk_at dksX10_keep_0 18 rfl rfl)
theorem dX10_keep_21 : decode cX10_keep 21 = .ok (.iload_n 1, 1) := dk_27 (dk_at dksX10_keep_0 21 rfl rfl)
theorem dX10_keep_22 : decode cX10_keep 22 = .ok (.aaload, 1) := dk_50 (dk_at dksX10_keep_0 22 rfl rfl)
theorem dX10_keep_23 : decode cX10_keep 23 = .ok (.invokestatic 188, 3) := dk_184 0 188 (dk_at dksX10_keep_1 0 rfl rfl)
theorem dX10_keep_26 : decode cX10_keep 26 = .ok (.aload_n 0, 1) := dk_42 (dk_at dksX10_keep_1 3 rfl rfl)
theorem dX10_keep_27 : decode cX10_keep 27 = .ok (.getfield 64, 3) := dk_180 0 64 (dk_at dksX10_keep_1 4 rfl rfl)
theorem dX10_keep_30 : decode cX10_keep 30 = .ok (.iload_n 1, 1) := dk_27 (dk_at dksX10_keep_1 7 rfl rfl)
theorem dX10_keep_31 : decode cX10_keep 31 = .ok (.iconst 1, 1) := dk_4 (dk_at dksX10_keep_1 8 rfl rfl)
theorem dX10_keep_32 : decode cX10_keep 32 = .ok (.bastore, 1) := dk_84 (dk_at dksX10_keep_1 9 rfl rfl)
theorem dX10_keep_33 : decode cX10_keep 33 = .ok (.aload_n 0, 1) := dk_42 (dk_at dksX10_keep_1 10 rfl rfl)
theorem dX10_keep_34 : decode cX10_keep 34 = .ok (.getfield 13, 3) := dk_180 0 13 (dk_at dksX10_keep_1 11 rfl rfl)
theorem dX10_keep_37 : decode cX10_keep 37 = .ok (.iconst 0, 1) := dk_3 (dk_at dksX10_keep_1 14 rfl rfl)
theorem dX10_keep_38 : decode cX10_keep 38 = .ok (.iaload, 1) := dk_46 (dk_at dksX10_keep_1 15 rfl rfl)
theorem dX10_keep_39 : decode cX10_keep 39 = .ok (.invokestatic 130, 3) := dk_184 0 130 (dk_at dksX10_keep_1 16 rfl rfl)
theorem dX10_keep_42 : decode cX10_keep 42 = .ok (.ireturn, 1) := dk_172 (dk_at dksX10_keep_1 19 rfl rfl)
abbrev cX10_isFour : ByteArray := prog_26_method_98_code
def yX10_isFour : MethodName := ⟨RX10, "isFour", "(I)Z"⟩
def dkwX10_isFour_0 : List UInt8 := [26, 133, 9, 20, 0, 124, 184, 0, 102, 172]
abbrev dktX10_isFour_0 : List UInt8 := dkwX10_isFour_0 ++ []
theorem dksX10_isFour_0 : cX10_isFour.data.toList.drop 0 = dktX10_isFour_0 := by decide +kernel
theorem dX10_isFour_0 : decode cX10_isFour 0 = .ok (.iload_n 0, 1) := dk_26 (dk_at dksX10_isFour_0 0 rfl rfl)
theorem dX10_isFour_1 : decode cX10_isFour 1 = .ok (.i2l, 1) := dk_133 (dk_at dksX10_isFour_0 1 rfl rfl)
theorem dX10_isFour_2 : decode cX10_isFour 2 = .ok (.lconst 0, 1) := dk_9 (dk_at dksX10_isFour_0 2 rfl rfl)
theorem dX10_isFour_3 : decode cX10_isFour 3 = .ok (.ldc2_w 124, 3) := dk_20 0 124 (dk_at dksX10_isFour_0 3 rfl rfl)
theorem dX10_isFour_6 : decode cX10_isFour 6 = .ok (.invokestatic 102, 3) := dk_184 0 102 (dk_at dksX10_isFour_0 6 rfl rfl)
theorem dX10_isFour_9 : decode cX10_isFour 9 = .ok (.ireturn, 1) := dk_172 (dk_at dksX10_isFour_0 9 rfl rfl)
abbrev cX10_fetch : ByteArray := prog_26_method_100_code
def yX10_fetch : MethodName := ⟨RX10, "fetch", "(I)I"⟩
def dkwX10_fetch_2 : List UInt8 := [180, 0, 13, 3, 46, 184, 0, 130, 172]
abbrev dktX10_fetch_2 : List UInt8 := dkwX10_fetch_2 ++ []
def dkwX10_fetch_1 : List UInt8 := [16, 7, 182, 0, 204, 172, 42, 182, 0, 213, 42, 180, 0, 61, 27, 50, 42, 180, 0, 13, 184, 0, 188, 42]
abbrev dktX10_fetch_1 : List UInt8 := dkwX10_fetch_1 ++ dktX10_fetch_2
def dkwX10_fetch_0 : List UInt8 := [27, 184, 1, 129, 154, 0, 9, 42, 4, 182, 0, 204, 172, 42, 180, 0, 64, 27, 51, 154, 0, 10, 42]
abbrev dktX10_fetch_0 : List UInt8 := dkwX10_fetch_0 ++ dktX10_fetch_1
theorem dksX10_fetch_0 : cX10_fetch.data.toList.drop 0 = dktX10_fetch_0 := by decide +kernel
theorem dksX10_fetch_1 : cX10_fetch.data.toList.drop 23 = dktX10_fetch_1 := dk_seg dksX10_fetch_0 23 rfl rfl
theorem dksX10_fetch_2 : cX10_fetch.data.toList.drop 47 = dktX10_fetch_2 := dk_seg dksX10_fetch_1 24 rfl rfl
theorem dX10_fetch_0 : decode cX10_fetch 0 = .ok (.iload_n 1, 1) := dk_27 (dk_at dksX10_fetch_0 0 rfl rfl)
theorem dX10_fetch_1 : decode cX10_fetch 1 = .ok (.invokestatic 385, 3) := dk_184 1 129 (dk_at dksX10_fetch_0 1 rfl rfl)
theorem dX10_fetch_4 : decode cX10_fetch 4 = .ok (.ifCond .ne 9, 3) := dk_154 0 9 (dk_at dksX10_fetch_0 4 rfl rfl)
theorem dX10_fetch_7 : decode cX10_fetch 7 = .ok (.aload_n 0, 1) := dk_42 (dk_at dksX10_fetch_0 7 rfl rfl)
theorem dX10_fetch_8 : decode cX10_fetch 8 = .ok (.iconst 1, 1) := dk_4 (dk_at dksX10_fetch_0 8 rfl rfl)
theorem dX10_fetch_9 : decode cX10_fetch 9 = .ok (.invokevirtual 204, 3) := dk_182 0 204 (dk_at dksX10_fetch_0 9 rfl rfl)
theorem dX10_fetch_12 : decode cX10_fetch 12 = .ok (.ireturn, 1) := dk_172 (dk_at dksX10_fetch_0 12 rfl rfl)
theorem dX10_fetch_13 : decode cX10_fetch 13 = .ok (.aload_n 0, 1) := dk_42 (dk_at dksX10_fetch_0 13 rfl rfl)
theorem dX10_fetch_14 : decode cX10_fetch 14 = .ok (.getfield 64, 3) := dk_180 0 64 (dk_at dksX10_fetch_0 14 rfl rfl)
theorem dX10_fetch_17 : decode cX10_fetch 17 = .ok (.iload_n 1, 1) := dk_27 (dk_at dksX10_fetch_0 17 rfl rfl)
theorem dX10_fetch_18 : decode cX10_fetch 18 = .ok (.baload, 1) := dk_51 (dk_at dksX10_fetch_0 18 rfl rfl)
theorem dX10_fetch_19 : decode cX10_fetch 19 = .ok (.ifCond .ne 10, 3) := dk_154 0 10 (dk_at dksX10_fetch_0 19 rfl rfl)
theorem dX10_fetch_22 : decode cX10_fetch 22 = .ok (.aload_n 0, 1) := dk_42 (dk_at dksX10_fetch_0 22 rfl rfl)
theorem dX10_fetch_23 : decode cX10_fetch 23 = .ok (.bipush 7, 2) := dk_16 7 (dk_at dksX10_fetch_1 0 rfl rfl)
theorem dX10_fetch_25 : decode cX10_fetch 25 = .ok (.invokevirtual 204, 3) := dk_182 0 204 (dk_at dksX10_fetch_1 2 rfl rfl)
theorem dX10_fetch_28 : decode cX10_fetch 28 = .ok (.ireturn, 1) := dk_172 (dk_at dksX10_fetch_1 5 rfl rfl)
theorem dX10_fetch_29 : decode cX10_fetch 29 = .ok (.aload_n 0, 1) := dk_42 (dk_at dksX10_fetch_1 6 rfl rfl)
theorem dX10_fetch_30 : decode cX10_fetch 30 = .ok (.invokevirtual 213, 3) := dk_182 0 213 (dk_at dksX10_fetch_1 7 rfl rfl)
theorem dX10_fetch_33 : decode cX10_fetch 33 = .ok (.aload_n 0, 1) := dk_42 (dk_at dksX10_fetch_1 10 rfl rfl)
theorem dX10_fetch_34 : decode cX10_fetch 34 = .ok (.getfield 61, 3) := dk_180 0 61 (dk_at dksX10_fetch_1 11 rfl rfl)
theorem dX10_fetch_37 : decode cX10_fetch 37 = .ok (.iload_n 1, 1) := dk_27 (dk_at dksX10_fetch_1 14 rfl rfl)
theorem dX10_fetch_38 : decode cX10_fetch 38 = .ok (.aaload, 1) := dk_50 (dk_at dksX10_fetch_1 15 rfl rfl)
theorem dX10_fetch_39 : decode cX10_fetch 39 = .ok (.aload_n 0, 1) := dk_42 (dk_at dksX10_fetch_1 16 rfl rfl)
theorem dX10_fetch_40 : decode cX10_fetch 40 = .ok (.getfield 13, 3) := dk_180 0 13 (dk_at dksX10_fetch_1 17 rfl rfl)
theorem dX10_fetch_43 : decode cX10_fetch 43 = .ok (.invokestatic 188, 3) := dk_184 0 188 (dk_at dksX10_fetch_1 20 rfl rfl)
theorem dX10_fetch_46 : decode cX10_fetch 46 = .ok (.aload_n 0, 1) := dk_42 (dk_at dksX10_fetch_1 23 rfl rfl)
theorem dX10_fetch_47 : decode cX10_fetch 47 = .ok (.getfield 13, 3) := dk_180 0 13 (dk_at dksX10_fetch_2 0 rfl rfl)
theorem dX10_fetch_50 : decode cX10_fetch 50 = .ok (.iconst 0, 1) := dk_3 (dk_at dksX10_fetch_2 3 rfl rfl)
theorem dX10_fetch_51 : decode cX10_fetch 51 = .ok (.iaload, 1) := dk_46 (dk_at dksX10_fetch_2 4 rfl rfl)
theorem dX10_fetch_52 : decode cX10_fetch 52 = .ok (.invokestatic 130, 3) := dk_184 0 130 (dk_at dksX10_fetch_2 5 rfl rfl)
theorem dX10_fetch_55 : decode cX10_fetch 55 = .ok (.ireturn, 1) := dk_172 (dk_at dksX10_fetch_2 8 rfl rfl)
abbrev cX10_drop : ByteArray := prog_26_method_101_code
def yX10_drop : MethodName := ⟨RX10, "drop", "(I)I"⟩
def dkwX10_drop_1 : List UInt8 := [167, 0, 4, 3, 61, 42, 180, 0, 64, 27, 3, 84, 28, 172]
abbrev dktX10_drop_1 : List UInt8 := dkwX10_drop_1 ++ []
def dkwX10_drop_0 : List UInt8 := [27, 184, 1, 129, 154, 0, 9, 42, 4, 182, 0, 204, 172, 42, 180, 0, 64, 27, 51, 153, 0, 7, 4]
abbrev dktX10_drop_0 : List UInt8 := dkwX10_drop_0 ++ dktX10_drop_1
theorem dksX10_drop_0 : cX10_drop.data.toList.drop 0 = dktX10_drop_0 := by decide +kernel
theorem dksX10_drop_1 : cX10_drop.data.toList.drop 23 = dktX10_drop_1 := dk_seg dksX10_drop_0 23 rfl rfl
theorem dX10_drop_0 : decode cX10_drop 0 = .ok (.iload_n 1, 1) := dk_27 (dk_at dksX10_drop_0 0 rfl rfl)
theorem dX10_drop_1 : decode cX10_drop 1 = .ok (.invokestatic 385, 3) := dk_184 1 129 (dk_at dksX10_drop_0 1 rfl rfl)
theorem dX10_drop_4 : decode cX10_drop 4 = .ok (.ifCond .ne 9, 3) := dk_154 0 9 (dk_at dksX10_drop_0 4 rfl rfl)
theorem dX10_drop_7 : decode cX10_drop 7 = .ok (.aload_n 0, 1) := dk_42 (dk_at dksX10_drop_0 7 rfl rfl)
theorem dX10_drop_8 : decode cX10_drop 8 = .ok (.iconst 1, 1) := dk_4 (dk_at dksX10_drop_0 8 rfl rfl)
theorem dX10_drop_9 : decode cX10_drop 9 = .ok (.invokevirtual 204, 3) := dk_182 0 204 (dk_at dksX10_drop_0 9 rfl rfl)
theorem dX10_drop_12 : decode cX10_drop 12 = .ok (.ireturn, 1) := dk_172 (dk_at dksX10_drop_0 12 rfl rfl)
theorem dX10_drop_13 : decode cX10_drop 13 = .ok (.aload_n 0, 1) := dk_42 (dk_at dksX10_drop_0 13 rfl rfl)
theorem dX10_drop_14 : decode cX10_drop 14 = .ok (.getfield 64, 3) := dk_180 0 64 (dk_at dksX10_drop_0 14 rfl rfl)
theorem dX10_drop_17 : decode cX10_drop 17 = .ok (.iload_n 1, 1) := dk_27 (dk_at dksX10_drop_0 17 rfl rfl)
theorem dX10_drop_18 : decode cX10_drop 18 = .ok (.baload, 1) := dk_51 (dk_at dksX10_drop_0 18 rfl rfl)
theorem dX10_drop_19 : decode cX10_drop 19 = .ok (.ifCond .eq 7, 3) := dk_153 0 7 (dk_at dksX10_drop_0 19 rfl rfl)
theorem dX10_drop_22 : decode cX10_drop 22 = .ok (.iconst 1, 1) := dk_4 (dk_at dksX10_drop_0 22 rfl rfl)
theorem dX10_drop_23 : decode cX10_drop 23 = .ok (.goto 4, 3) := dk_167 0 4 (dk_at dksX10_drop_1 0 rfl rfl)
theorem dX10_drop_26 : decode cX10_drop 26 = .ok (.iconst 0, 1) := dk_3 (dk_at dksX10_drop_1 3 rfl rfl)
theorem dX10_drop_27 : decode cX10_drop 27 = .ok (.istore_n 2, 1) := dk_61 (dk_at dksX10_drop_1 4 rfl rfl)
theorem dX10_drop_28 : decode cX10_drop 28 = .ok (.aload_n 0, 1) := dk_42 (dk_at dksX10_drop_1 5 rfl rfl)
theorem dX10_drop_29 : decode cX10_drop 29 = .ok (.getfield 64, 3) := dk_180 0 64 (dk_at dksX10_drop_1 6 rfl rfl)
theorem dX10_drop_32 : decode cX10_drop 32 = .ok (.iload_n 1, 1) := dk_27 (dk_at dksX10_drop_1 9 rfl rfl)
theorem dX10_drop_33 : decode cX10_drop 33 = .ok (.iconst 0, 1) := dk_3 (dk_at dksX10_drop_1 10 rfl rfl)
theorem dX10_drop_34 : decode cX10_drop 34 = .ok (.bastore, 1) := dk_84 (dk_at dksX10_drop_1 11 rfl rfl)
theorem dX10_drop_35 : decode cX10_drop 35 = .ok (.iload_n 2, 1) := dk_28 (dk_at dksX10_drop_1 12 rfl rfl)
theorem dX10_drop_36 : decode cX10_drop 36 = .ok (.ireturn, 1) := dk_172 (dk_at dksX10_drop_1 13 rfl rfl)
abbrev cX10_alike : ByteArray := prog_26_method_104_code
def yX10_alike : MethodName := ⟨RX10, "alike", "(I)I"⟩
def dkwX10_alike_2 : List UInt8 := [153, 0, 7, 4, 167, 0, 4, 3, 172]
abbrev dktX10_alike_2 : List UInt8 := dkwX10_alike_2 ++ []
def dkwX10_alike_1 : List UInt8 := [16, 7, 182, 0, 204, 172, 42, 42, 180, 0, 61, 27, 50, 182, 1, 135, 42, 42, 180, 0, 13, 182, 1, 138]
abbrev dktX10_alike_1 : List UInt8 := dkwX10_alike_1 ++ dktX10_alike_2
def dkwX10_alike_0 : List UInt8 := [27, 184, 1, 129, 154, 0, 9, 42, 4, 182, 0, 204, 172, 42, 180, 0, 64, 27, 51, 154, 0, 10, 42]
abbrev dktX10_alike_0 : List UInt8 := dkwX10_alike_0 ++ dktX10_alike_1
theorem dksX10_alike_0 : cX10_alike.data.toList.drop 0 = dktX10_alike_0 := by decide +kernel
theorem dksX10_alike_1 : cX10_alike.data.toList.drop 23 = dktX10_alike_1 := dk_seg dksX10_alike_0 23 rfl rfl
theorem dksX10_alike_2 : cX10_alike.data.toList.drop 47 = dktX10_alike_2 := dk_seg dksX10_alike_1 24 rfl rfl
theorem dX10_alike_0 : decode cX10_alike 0 = .ok (.iload_n 1, 1) := dk_27 (dk_at dksX10_alike_0 0 rfl rfl)
theorem dX10_alike_1 : decode cX10_alike 1 = .ok (.invokestatic 385, 3) := dk_184 1 129 (dk_at dksX10_alike_0 1 rfl rfl)
theorem dX10_alike_4 : decode cX10_alike 4 = .ok (.ifCond .ne 9, 3) := dk_154 0 9 (dk_at dksX10_alike_0 4 rfl rfl)
theorem dX10_alike_7 : decode cX10_alike 7 = .ok (.aload_n 0, 1) := dk_42 (dk_at dksX10_alike_0 7 rfl rfl)
theorem dX10_alike_8 : decode cX10_alike 8 = .ok (.iconst 1, 1) := dk_4 (dk_at dksX10_alike_0 8 rfl rfl)
theorem dX10_alike_9 : decode cX10_alike 9 = .ok (.invokevirtual 204, 3) := dk_182 0 204 (dk_at dksX10_alike_0 9 rfl rfl)
theorem dX10_alike_12 : decode cX10_alike 12 = .ok (.ireturn, 1) := dk_172 (dk_at dksX10_alike_0 12 rfl rfl)
theorem dX10_alike_13 : decode cX10_alike 13 = .ok (.aload_n 0, 1) := dk_42 (dk_at dksX10_alike_0 13 rfl rfl)
theorem dX10_alike_14 : decode cX10_alike 14 = .ok (.getfield 64, 3) := dk_180 0 64 (dk_at dksX10_alike_0 14 rfl rfl)
theorem dX10_alike_17 : decode cX10_alike 17 = .ok (.iload_n 1, 1) := dk_27 (dk_at dksX10_alike_0 17 rfl rfl)
theorem dX10_alike_18 : decode cX10_alike 18 = .ok (.baload, 1) := dk_51 (dk_at dksX10_alike_0 18 rfl rfl)
theorem dX10_alike_19 : decode cX10_alike 19 = .ok (.ifCond .ne 10, 3) := dk_154 0 10 (dk_at dksX10_alike_0 19 rfl rfl)
theorem dX10_alike_22 : decode cX10_alike 22 = .ok (.aload_n 0, 1) := dk_42 (dk_at dksX10_alike_0 22 rfl rfl)
theorem dX10_alike_23 : decode cX10_alike 23 = .ok (.bipush 7, 2) := dk_16 7 (dk_at dksX10_alike_1 0 rfl rfl)
theorem dX10_alike_25 : decode cX10_alike 25 = .ok (.invokevirtual 204, 3) := dk_182 0 204 (dk_at dksX10_alike_1 2 rfl rfl)
theorem dX10_alike_28 : decode cX10_alike 28 = .ok (.ireturn, 1) := dk_172 (dk_at dksX10_alike_1 5 rfl rfl)
theorem dX10_alike_29 : decode cX10_alike 29 = .ok (.aload_n 0, 1) := dk_42 (dk_at dksX10_alike_1 6 rfl rfl)
theorem dX10_alike_30 : decode cX10_alike 30 = .ok (.aload_n 0, 1) := dk_42 (dk_at dksX10_alike_1 7 rfl rfl)
theorem dX10_alike_31 : decode cX10_alike 31 = .ok (.getfield 61, 3) := dk_180 0 61 (dk_at dksX10_alike_1 8 rfl rfl)
theorem dX10_alike_34 : decode cX10_alike 34 = .ok (.iload_n 1, 1) := dk_27 (dk_at dksX10_alike_1 11 rfl rfl)
theorem dX10_alike_35 : decode cX10_alike 35 = .ok (.aaload, 1) := dk_50 (dk_at dksX10_alike_1 12 rfl rfl)
theorem dX10_alike_36 : decode cX10_alike 36 = .ok (.invokevirtual 391, 3) := dk_182 1 135 (dk_at dksX10_alike_1 13 rfl rfl)
theorem dX10_alike_39 : decode cX10_alike 39 = .ok (.aload_n 0, 1) := dk_42 (dk_at dksX10_alike_1 16 rfl rfl)
theorem dX10_alike_40 : decode cX10_alike 40 = .ok (.aload_n 0, 1) := dk_42 (dk_at dksX10_alike_1 17 rfl rfl)
theorem dX10_alike_41 : decode cX10_alike 41 = .ok (.getfield 13, 3) := dk_180 0 13 (dk_at dksX10_alike_1 18 rfl rfl)
theorem dX10_alike_44 : decode cX10_alike 44 = .ok (.invokevirtual 394, 3) := dk_182 1 138 (dk_at dksX10_alike_1 21 rfl rfl)
theorem dX10_alike_47 : decode cX10_alike 47 = .ok (.ifCond .eq 7, 3) := dk_153 0 7 (dk_at dksX10_alike_2 0 rfl rfl)
theorem dX10_alike_50 : decode cX10_alike 50 = .ok (.iconst 1, 1) := dk_4 (dk_at dksX10_alike_2 3 rfl rfl)
theorem dX10_alike_51 : decode cX10_alike 51 = .ok (.goto 4, 3) := dk_167 0 4 (dk_at dksX10_alike_2 4 rfl rfl)
theorem dX10_alike_54 : decode cX10_alike 54 = .ok (.iconst 0, 1) := dk_3 (dk_at dksX10_alike_2 7 rfl rfl)
theorem dX10_alike_55 : decode cX10_alike 55 = .ok (.ireturn, 1) := dk_172 (dk_at dksX10_alike_2 8 rfl rfl)
abbrev cX10_layDue : ByteArray := prog_26_method_102_code
def yX10_layDue : MethodName := ⟨RX10, "layDue", "([I)V"⟩
def dkwX10_layDue_1 : List UInt8 := [180, 0, 68, 28, 42, 180, 0, 58, 28, 46, 79, 132, 2, 1, 167, 255, 233, 177]
abbrev dktX10_layDue_1 : List UInt8 := dkwX10_layDue_1 ++ []
def dkwX10_layDue_0 : List UInt8 := [42, 43, 182, 1, 125, 42, 42, 180, 1, 122, 181, 1, 132, 3, 61, 28, 42, 180, 1, 132, 162, 0, 21, 42]
abbrev dktX10_layDue_0 : List UInt8 := dkwX10_layDue_0 ++ dktX10_layDue_1
theorem dksX10_layDue_0 : cX10_layDue.data.toList.drop 0 = dktX10_layDue_0 := by decide +kernel
theorem dksX10_layDue_1 : cX10_layDue.data.toList.drop 24 = dktX10_layDue_1 := dk_seg dksX10_layDue_0 24 rfl rfl
theorem dX10_layDue_0 : decode cX10_layDue 0 = .ok (.aload_n 0, 1) := dk_42 (dk_at dksX10_layDue_0 0 rfl rfl)
theorem dX10_layDue_1 : decode cX10_layDue 1 = .ok (.aload_n 1, 1) := dk_43 (dk_at dksX10_layDue_0 1 rfl rfl)
theorem dX10_layDue_2 : decode cX10_layDue 2 = .ok (.invokevirtual 381, 3) := dk_182 1 125 (dk_at dksX10_layDue_0 2 rfl rfl)
theorem dX10_layDue_5 : decode cX10_layDue 5 = .ok (.aload_n 0, 1) := dk_42 (dk_at dksX10_layDue_0 5 rfl rfl)
theorem dX10_layDue_6 : decode cX10_layDue 6 = .ok (.aload_n 0, 1) := dk_42 (dk_at dksX10_layDue_0 6 rfl rfl)
theorem dX10_layDue_7 : decode cX10_layDue 7 = .ok (.getfield 378, 3) := dk_180 1 122 (dk_at dksX10_layDue_0 7 rfl rfl)
theorem dX10_layDue_10 : decode cX10_layDue 10 = .ok (.putfield 388, 3) := dk_181 1 132 (dk_at dksX10_layDue_0 10 rfl rfl)
theorem dX10_layDue_13 : decode cX10_layDue 13 = .ok (.iconst 0, 1) := dk_3 (dk_at dksX10_layDue_0 13 rfl rfl)
theorem dX10_layDue_14 : decode cX10_layDue 14 = .ok (.istore_n 2, 1) := dk_61 (dk_at dksX10_layDue_0 14 rfl rfl)
theorem dX10_layDue_15 : decode cX10_layDue 15 = .ok (.iload_n 2, 1) := dk_28 (dk_at dksX10_layDue_0 15 rfl rfl)
theorem dX10_layDue_16 : decode cX10_layDue 16 = .ok (.aload_n 0, 1) := dk_42 (dk_at dksX10_layDue_0 16 rfl rfl)
theorem dX10_layDue_17 : decode cX10_layDue 17 = .ok (.getfield 388, 3) := dk_180 1 132 (dk_at dksX10_layDue_0 17 rfl rfl)
theorem dX10_layDue_20 : decode cX10_layDue 20 = .ok (.if_icmp .ge 21, 3) := dk_162 0 21 (dk_at dksX10_layDue_0 20 rfl rfl)
theorem dX10_layDue_23 : decode cX10_layDue 23 = .ok (.aload_n 0, 1) := dk_42 (dk_at dksX10_layDue_0 23 rfl rfl)
theorem dX10_layDue_24 : decode cX10_layDue 24 = .ok (.getfield 68, 3) := dk_180 0 68 (dk_at dksX10_layDue_1 0 rfl rfl)
theorem dX10_layDue_27 : decode cX10_layDue 27 = .ok (.iload_n 2, 1) := dk_28 (dk_at dksX10_layDue_1 3 rfl rfl)
theorem dX10_layDue_28 : decode cX10_layDue 28 = .ok (.aload_n 0, 1) := dk_42 (dk_at dksX10_layDue_1 4 rfl rfl)
theorem dX10_layDue_29 : decode cX10_layDue 29 = .ok (.getfield 58, 3) := dk_180 0 58 (dk_at dksX10_layDue_1 5 rfl rfl)
theorem dX10_layDue_32 : decode cX10_layDue 32 = .ok (.iload_n 2, 1) := dk_28 (dk_at dksX10_layDue_1 8 rfl rfl)
theorem dX10_layDue_33 : decode cX10_layDue 33 = .ok (.iaload, 1) := dk_46 (dk_at dksX10_layDue_1 9 rfl rfl)
theorem dX10_layDue_34 : decode cX10_layDue 34 = .ok (.iastore, 1) := dk_79 (dk_at dksX10_layDue_1 10 rfl rfl)
theorem dX10_layDue_35 : decode cX10_layDue 35 = .ok (.iinc 2 1, 3) := dk_132 2 1 (dk_at dksX10_layDue_1 11 rfl rfl)
theorem dX10_layDue_38 : decode cX10_layDue 38 = .ok (.goto (-23), 3) := dk_167 255 233 (dk_at dksX10_layDue_1 14 rfl rfl)
theorem dX10_layDue_41 : decode cX10_layDue 41 = .ok (.return_, 1) := dk_177 (dk_at dksX10_layDue_1 17 rfl rfl)
abbrev cX10_isDue : ByteArray := prog_26_method_103_code
def yX10_isDue : MethodName := ⟨RX10, "isDue", "([I)Z"⟩
def dkwX10_isDue_2 : List UInt8 := [160, 0, 7, 4, 167, 0, 4, 3, 61, 132, 3, 1, 167, 255, 220, 28, 172]
abbrev dktX10_isDue_2 : List UInt8 := dkwX10_isDue_2 ++ []
def dkwX10_isDue_1 : List UInt8 := [29, 42, 180, 1, 132, 162, 0, 34, 28, 153, 0, 30, 42, 180, 0, 58, 29, 46, 42, 180, 0, 68, 29, 46]
abbrev dktX10_isDue_1 : List UInt8 := dkwX10_isDue_1 ++ dktX10_isDue_2
def dkwX10_isDue_0 : List UInt8 := [42, 43, 182, 1, 125, 42, 180, 1, 122, 42, 180, 1, 132, 160, 0, 7, 4, 167, 0, 4, 3, 61, 3, 62]
abbrev dktX10_isDue_0 : List UInt8 := dkwX10_isDue_0 ++ dktX10_isDue_1
theorem dksX10_isDue_0 : cX10_isDue.data.toList.drop 0 = dktX10_isDue_0 := by decide +kernel
theorem dksX10_isDue_1 : cX10_isDue.data.toList.drop 24 = dktX10_isDue_1 := dk_seg dksX10_isDue_0 24 rfl rfl
theorem dksX10_isDue_2 : cX10_isDue.data.toList.drop 48 = dktX10_isDue_2 := dk_seg dksX10_isDue_1 24 rfl rfl
theorem dX10_isDue_0 : decode cX10_isDue 0 = .ok (.aload_n 0, 1) := dk_42 (dk_at dksX10_isDue_0 0 rfl rfl)
theorem dX10_isDue_1 : decode cX10_isDue 1 = .ok (.aload_n 1, 1) := dk_43 (dk_at dksX10_isDue_0 1 rfl rfl)
theorem dX10_isDue_2 : decode cX10_isDue 2 = .ok (.invokevirtual 381, 3) := dk_182 1 125 (dk_at dksX10_isDue_0 2 rfl rfl)
theorem dX10_isDue_5 : decode cX10_isDue 5 = .ok (.aload_n 0, 1) := dk_42 (dk_at dksX10_isDue_0 5 rfl rfl)
theorem dX10_isDue_6 : decode cX10_isDue 6 = .ok (.getfield 378, 3) := dk_180 1 122 (dk_at dksX10_isDue_0 6 rfl rfl)
theorem dX10_isDue_9 : decode cX10_isDue 9 = .ok (.aload_n 0, 1) := dk_42 (dk_at dksX10_isDue_0 9 rfl rfl)
theorem dX10_isDue_10 : decode cX10_isDue 10 = .ok (.getfield 388, 3) := dk_180 1 132 (dk_at dksX10_isDue_0 10 rfl rfl)
theorem dX10_isDue_13 : decode cX10_isDue 13 = .ok (.if_icmp .ne 7, 3) := dk_160 0 7 (dk_at dksX10_isDue_0 13 rfl rfl)
theorem dX10_isDue_16 : decode cX10_isDue 16 = .ok (.iconst 1, 1) := dk_4 (dk_at dksX10_isDue_0 16 rfl rfl)
theorem dX10_isDue_17 : decode cX10_isDue 17 = .ok (.goto 4, 3) := dk_167 0 4 (dk_at dksX10_isDue_0 17 rfl rfl)
theorem dX10_isDue_20 : decode cX10_isDue 20 = .ok (.iconst 0, 1) := dk_3 (dk_at dksX10_isDue_0 20 rfl rfl)
theorem dX10_isDue_21 : decode cX10_isDue 21 = .ok (.istore_n 2, 1) := dk_61 (dk_at dksX10_isDue_0 21 rfl rfl)
theorem dX10_isDue_22 : decode cX10_isDue 22 = .ok (.iconst 0, 1) := dk_3 (dk_at dksX10_isDue_0 22 rfl rfl)
theorem dX10_isDue_23 : decode cX10_isDue 23 = .ok (.istore_n 3, 1) := dk_62 (dk_at dksX10_isDue_0 23 rfl rfl)
theorem dX10_isDue_24 : decode cX10_isDue 24 = .ok (.iload_n 3, 1) := dk_29 (dk_at dksX10_isDue_1 0 rfl rfl)
theorem dX10_isDue_25 : decode cX10_isDue 25 = .ok (.aload_n 0, 1) := dk_42 (dk_at dksX10_isDue_1 1 rfl rfl)
theorem dX10_isDue_26 : decode cX10_isDue 26 = .ok (.getfield 388, 3) := dk_180 1 132 (dk_at dksX10_isDue_1 2 rfl rfl)
theorem dX10_isDue_29 : decode cX10_isDue 29 = .ok (.if_icmp .ge 34, 3) := dk_162 0 34 (dk_at dksX10_isDue_1 5 rfl rfl)
theorem dX10_isDue_32 : decode cX10_isDue 32 = .ok (.iload_n 2, 1) := dk_28 (dk_at dksX10_isDue_1 8 rfl rfl)
theorem dX10_isDue_33 : decode cX10_isDue 33 = .ok (.ifCond .eq 30, 3) := dk_153 0 30 (dk_at dksX10_isDue_1 9 rfl rfl)
theorem dX10_isDue_36 : decode cX10_isDue 36 = .ok (.aload_n 0, 1) := dk_42 (dk_at dksX10_isDue_1 12 rfl rfl)
theorem dX10_isDue_37 : decode cX10_isDue 37 = .ok (.getfield 58, 3) := dk_180 0 58 (dk_at dksX10_isDue_1 13 rfl rfl)
theorem dX10_isDue_40 : decode cX10_isDue 40 = .ok (.iload_n 3, 1) := dk_29 (dk_at dksX10_isDue_1 16 rfl rfl)
theorem dX10_isDue_41 : decode cX10_isDue 41 = .ok (.iaload, 1) := dk_46 (dk_at dksX10_isDue_1 17 rfl rfl)
theorem dX10_isDue_42 : decode cX10_isDue 42 = .ok (.aload_n 0, 1) := dk_42 (dk_at dksX10_isDue_1 18 rfl rfl)
theorem dX10_isDue_43 : decode cX10_isDue 43 = .ok (.getfield 68, 3) := dk_180 0 68 (dk_at dksX10_isDue_1 19 rfl rfl)
theorem dX10_isDue_46 : decode cX10_isDue 46 = .ok (.iload_n 3, 1) := dk_29 (dk_at dksX10_isDue_1 22 rfl rfl)
theorem dX10_isDue_47 : decode cX10_isDue 47 = .ok (.iaload, 1) := dk_46 (dk_at dksX10_isDue_1 23 rfl rfl)
theorem dX10_isDue_48 : decode cX10_isDue 48 = .ok (.if_icmp .ne 7, 3) := dk_160 0 7 (dk_at dksX10_isDue_2 0 rfl rfl)
theorem dX10_isDue_51 : decode cX10_isDue 51 = .ok (.iconst 1, 1) := dk_4 (dk_at dksX10_isDue_2 3 rfl rfl)
theorem dX10_isDue_52 : decode cX10_isDue 52 = .ok (.goto 4, 3) := dk_167 0 4 (dk_at dksX10_isDue_2 4 rfl rfl)
theorem dX10_isDue_55 : decode cX10_isDue 55 = .ok (.iconst 0, 1) := dk_3 (dk_at dksX10_isDue_2 7 rfl rfl)
theorem dX10_isDue_56 : decode cX10_isDue 56 = .ok (.istore_n 2, 1) := dk_61 (dk_at dksX10_isDue_2 8 rfl rfl)
theorem dX10_isDue_57 : decode cX10_isDue 57 = .ok (.iinc 3 1, 3) := dk_132 3 1 (dk_at dksX10_isDue_2 9 rfl rfl)
theorem dX10_isDue_60 : decode cX10_isDue 60 = .ok (.goto (-36), 3) := dk_167 255 220 (dk_at dksX10_isDue_2 12 rfl rfl)
theorem dX10_isDue_63 : decode cX10_isDue 63 = .ok (.iload_n 2, 1) := dk_28 (dk_at dksX10_isDue_2 15 rfl rfl)
theorem dX10_isDue_64 : decode cX10_isDue 64 = .ok (.ireturn, 1) := dk_172 (dk_at dksX10_isDue_2 16 rfl rfl)
abbrev cX10_worker : ByteArray := prog_26_method_106_code
def yX10_worker : MethodName := ⟨RX10, "worker", "(II)I"⟩
def dkwX10_worker_4 : List UInt8 := [181, 1, 142, 42, 180, 1, 142, 4, 100, 172]
abbrev dktX10_worker_4 : List UInt8 := dkwX10_worker_4 ++ []
def dkwX10_worker_3 : List UInt8 := [79, 42, 180, 0, 71, 6, 42, 180, 1, 142, 104, 5, 96, 3, 79, 42, 89, 180, 1, 142, 4, 96]
abbrev dktX10_worker_3 : List UInt8 := dkwX10_worker_3 ++ dktX10_worker_4
def dkwX10_worker_2 : List UInt8 := [180, 0, 71, 6, 42, 180, 1, 142, 104, 27, 79, 42, 180, 0, 71, 6, 42, 180, 1, 142, 104, 4, 96, 28]
abbrev dktX10_worker_2 : List UInt8 := dkwX10_worker_2 ++ dktX10_worker_3
def dkwX10_worker_1 : List UInt8 := [42, 4, 182, 0, 204, 172, 42, 180, 1, 142, 16, 6, 160, 0, 9, 42, 7, 182, 0, 204, 172, 42]
abbrev dktX10_worker_1 : List UInt8 := dkwX10_worker_1 ++ dktX10_worker_2
def dkwX10_worker_0 : List UInt8 := [27, 133, 9, 20, 0, 223, 184, 0, 102, 153, 0, 15, 28, 133, 9, 20, 1, 145, 184, 0, 102, 154, 0, 9]
abbrev dktX10_worker_0 : List UInt8 := dkwX10_worker_0 ++ dktX10_worker_1
theorem dksX10_worker_0 : cX10_worker.data.toList.drop 0 = dktX10_worker_0 := by decide +kernel
theorem dksX10_worker_1 : cX10_worker.data.toList.drop 24 = dktX10_worker_1 := dk_seg dksX10_worker_0 24 rfl rfl
theorem dksX10_worker_2 : cX10_worker.data.toList.drop 46 = dktX10_worker_2 := dk_seg dksX10_worker_1 22 rfl rfl
theorem dksX10_worker_3 : cX10_worker.data.toList.drop 70 = dktX10_worker_3 := dk_seg dksX10_worker_2 24 rfl rfl
theorem dksX10_worker_4 : cX10_worker.data.toList.drop 92 = dktX10_worker_4 := dk_seg dksX10_worker_3 22 rfl rfl
theorem dX10_worker_0 : decode cX10_worker 0 = .ok (.iload_n 1, 1) := dk_27 (dk_at dksX10_worker_0 0 rfl rfl)
theorem dX10_worker_1 : decode cX10_worker 1 = .ok (.i2l, 1) := dk_133 (dk_at dksX10_worker_0 1 rfl rfl)
theorem dX10_worker_2 : decode cX10_worker 2 = .ok (.lconst 0, 1) := dk_9 (dk_at dksX10_worker_0 2 rfl rfl)
theorem dX10_worker_3 : decode cX10_worker 3 = .ok (.ldc2_w 223, 3) := dk_20 0 223 (dk_at dksX10_worker_0 3 rfl rfl)
theorem dX10_worker_6 : decode cX10_worker 6 = .ok (.invokestatic 102, 3) := dk_184 0 102 (dk_at dksX10_worker_0 6 rfl rfl)
theorem dX10_worker_9 : decode cX10_worker 9 = .ok (.ifCond .eq 15, 3) := dk_153 0 15 (dk_at dksX10_worker_0 9 rfl rfl)
theorem dX10_worker_12 : decode cX10_worker 12 = .ok (.iload_n 2, 1) := dk_28 (dk_at dksX10_worker_0 12 rfl rfl)
theorem dX10_worker_13 : decode cX10_worker 13 = .ok (.i2l, 1) := dk_133 (dk_at dksX10_worker_0 13 rfl rfl)
theorem dX10_worker_14 : decode cX10_worker 14 = .ok (.lconst 0, 1) := dk_9 (dk_at dksX10_worker_0 14 rfl rfl)
theorem dX10_worker_15 : decode cX10_worker 15 = .ok (.ldc2_w 401, 3) := dk_20 1 145 (dk_at dksX10_worker_0 15 rfl rfl)
theorem dX10_worker_18 : decode cX10_worker 18 = .ok (.invokestatic 102, 3) := dk_184 0 102 (dk_at dksX10_worker_0 18 rfl rfl)
theorem dX10_worker_21 : decode cX10_worker 21 = .ok (.ifCond .ne 9, 3) := dk_154 0 9 (dk_at dksX10_worker_0 21 rfl rfl)
theorem dX10_worker_24 : decode cX10_worker 24 = .ok (.aload_n 0, 1) := dk_42 (dk_at dksX10_worker_1 0 rfl rfl)
theorem dX10_worker_25 : decode cX10_worker 25 = .ok (.iconst 1, 1) := dk_4 (dk_at dksX10_worker_1 1 rfl rfl)
theorem dX10_worker_26 : decode cX10_worker 26 = .ok (.invokevirtual 204, 3) := dk_182 0 204 (dk_at dksX10_worker_1 2 rfl rfl)
theorem dX10_worker_29 : decode cX10_worker 29 = .ok (.ireturn, 1) := dk_172 (dk_at dksX10_worker_1 5 rfl rfl)
theorem dX10_worker_30 : decode cX10_worker 30 = .ok (.aload_n 0, 1) := dk_42 (dk_at dksX10_worker_1 6 rfl rfl)
theorem dX10_worker_31 : decode cX10_worker 31 = .ok (.getfield 398, 3) := dk_180 1 142 (dk_at dksX10_worker_1 7 rfl rfl)
theorem dX10_worker_34 : decode cX10_worker 34 = .ok (.bipush 6, 2) := dk_16 6 (dk_at dksX10_worker_1 10 rfl rfl)
theorem dX10_worker_36 : decode cX10_worker 36 = .ok (.if_icmp .ne 9, 3) := dk_160 0 9 (dk_at dksX10_worker_1 12 rfl rfl)
theorem dX10_worker_39 : decode cX10_worker 39 = .ok (.aload_n 0, 1) := dk_42 (dk_at dksX10_worker_1 15 rfl rfl)
theorem dX10_worker_40 : decode cX10_worker 40 = .ok (.iconst 4, 1) := dk_7 (dk_at dksX10_worker_1 16 rfl rfl)
theorem dX10_worker_41 : decode cX10_worker 41 = .ok (.invokevirtual 204, 3) := dk_182 0 204 (dk_at dksX10_worker_1 17 rfl rfl)
theorem dX10_worker_44 : decode cX10_worker 44 = .ok (.ireturn, 1) := dk_172 (dk_at dksX10_worker_1 20 rfl rfl)
theorem dX10_worker_45 : decode cX10_worker 45 = .ok (.aload_n 0, 1) := dk_42 (dk_at dksX10_worker_1 21 rfl rfl)
theorem dX10_worker_46 : decode cX10_worker 46 = .ok (.getfield 71, 3) := dk_180 0 71 (dk_at dksX10_worker_2 0 rfl rfl)
theorem dX10_worker_49 : decode cX10_worker 49 = .ok (.iconst 3, 1) := dk_6 (dk_at dksX10_worker_2 3 rfl rfl)
theorem dX10_worker_50 : decode cX10_worker 50 = .ok (.aload_n 0, 1) := dk_42 (dk_at dksX10_worker_2 4 rfl rfl)
theorem dX10_worker_51 : decode cX10_worker 51 = .ok (.getfield 398, 3) := dk_180 1 142 (dk_at dksX10_worker_2 5 rfl rfl)
theorem dX10_worker_54 : decode cX10_worker 54 = .ok (.imul, 1) := dk_104 (dk_at dksX10_worker_2 8 rfl rfl)
theorem dX10_worker_55 : decode cX10_worker 55 = .ok (.iload_n 1, 1) := dk_27 (dk_at dksX10_worker_2 9 rfl rfl)
theorem dX10_worker_56 : decode cX10_worker 56 = .ok (.iastore, 1) := dk_79 (dk_at dksX10_worker_2 10 rfl rfl)
theorem dX10_worker_57 : decode cX10_worker 57 = .ok (.aload_n 0, 1) := dk_42 (dk_at dksX10_worker_2 11 rfl rfl)
theorem dX10_worker_58 : decode cX10_worker 58 = .ok (.getfield 71, 3) := dk_180 0 71 (dk_at dksX10_worker_2 12 rfl rfl)
theorem dX10_worker_61 : decode cX10_worker 61 = .ok (.iconst 3, 1) := dk_6 (dk_at dksX10_worker_2 15 rfl rfl)
theorem dX10_worker_62 : decode cX10_worker 62 = .ok (.aload_n 0, 1) := dk_42 (dk_at dksX10_worker_2 16 rfl rfl)
theorem dX10_worker_63 : decode cX10_worker 63 = .ok (.getfield 398, 3) := dk_180 1 142 (dk_at dksX10_worker_2 17 rfl rfl)
theorem dX10_worker_66 : decode cX10_worker 66 = .ok (.imul, 1) := dk_104 (dk_at dksX10_worker_2 20 rfl rfl)
theorem dX10_worker_67 : decode cX10_worker 67 = .ok (.iconst 1, 1) := dk_4 (dk_at dksX10_worker_2 21 rfl rfl)
theorem dX10_worker_68 : decode cX10_worker 68 = .ok (.iadd, 1) := dk_96 (dk_at dksX10_worker_2 22 rfl rfl)
theorem dX10_worker_69 : decode cX10_worker 69 = .ok (.iload_n 2, 1) := dk_28 (dk_at dksX10_worker_2 23 rfl rfl)
theorem dX10_worker_70 : decode cX10_worker 70 = .ok (.iastore, 1) := dk_79 (dk_at dksX10_worker_3 0 rfl rfl)
theorem dX10_worker_71 : decode cX10_worker 71 = .ok (.aload_n 0, 1) := dk_42 (dk_at dksX10_worker_3 1 rfl rfl)
theorem dX10_worker_72 : decode cX10_worker 72 = .ok (.getfield 71, 3) := dk_180 0 71 (dk_at dksX10_worker_3 2 rfl rfl)
theorem dX10_worker_75 : decode cX10_worker 75 = .ok (.iconst 3, 1) := dk_6 (dk_at dksX10_worker_3 5 rfl rfl)
theorem dX10_worker_76 : decode cX10_worker 76 = .ok (.aload_n 0, 1) := dk_42 (dk_at dksX10_worker_3 6 rfl rfl)
theorem dX10_worker_77 : decode cX10_worker 77 = .ok (.getfield 398, 3) := dk_180 1 142 (dk_at dksX10_worker_3 7 rfl rfl)
theorem dX10_worker_80 : decode cX10_worker 80 = .ok (.imul, 1) := dk_104 (dk_at dksX10_worker_3 10 rfl rfl)
theorem dX10_worker_81 : decode cX10_worker 81 = .ok (.iconst 2, 1) := dk_5 (dk_at dksX10_worker_3 11 rfl rfl)
theorem dX10_worker_82 : decode cX10_worker 82 = .ok (.iadd, 1) := dk_96 (dk_at dksX10_worker_3 12 rfl rfl)
theorem dX10_worker_83 : decode cX10_worker 83 = .ok (.iconst 0, 1) := dk_3 (dk_at dksX10_worker_3 13 rfl rfl)
theorem dX10_worker_84 : decode cX10_worker 84 = .ok (.iastore, 1) := dk_79 (dk_at dksX10_worker_3 14 rfl rfl)
theorem dX10_worker_85 : decode cX10_worker 85 = .ok (.aload_n 0, 1) := dk_42 (dk_at dksX10_worker_3 15 rfl rfl)
theorem dX10_worker_86 : decode cX10_worker 86 = .ok (.dup, 1) := dk_89 (dk_at dksX10_worker_3 16 rfl rfl)
theorem dX10_worker_87 : decode cX10_worker 87 = .ok (.getfield 398, 3) := dk_180 1 142 (dk_at dksX10_worker_3 17 rfl rfl)
theorem dX10_worker_90 : decode cX10_worker 90 = .ok (.iconst 1, 1) := dk_4 (dk_at dksX10_worker_3 20 rfl rfl)
theorem dX10_worker_91 : decode cX10_worker 91 = .ok (.iadd, 1) := dk_96 (dk_at dksX10_worker_3 21 rfl rfl)
theorem dX10_worker_92 : decode cX10_worker 92 = .ok (.putfield 398, 3) := dk_181 1 142 (dk_at dksX10_worker_4 0 rfl rfl)
theorem dX10_worker_95 : decode cX10_worker 95 = .ok (.aload_n 0, 1) := dk_42 (dk_at dksX10_worker_4 3 rfl rfl)
theorem dX10_worker_96 : decode cX10_worker 96 = .ok (.getfield 398, 3) := dk_180 1 142 (dk_at dksX10_worker_4 4 rfl rfl)
theorem dX10_worker_99 : decode cX10_worker 99 = .ok (.iconst 1, 1) := dk_4 (dk_at dksX10_worker_4 7 rfl rfl)
theorem dX10_worker_100 : decode cX10_worker 100 = .ok (.isub, 1) := dk_100 (dk_at dksX10_worker_4 8 rfl rfl)
theorem dX10_worker_101 : decode cX10_worker 101 = .ok (.ireturn, 1) := dk_172 (dk_at dksX10_worker_4 9 rfl rfl)
abbrev cX10_workerIs : ByteArray := prog_26_method_108_code
def yX10_workerIs : MethodName := ⟨RX10, "workerIs", "(II)I"⟩
def dkwX10_workerIs_2 : List UInt8 := [180, 0, 71, 6, 27, 104, 46, 42, 180, 0, 71, 6, 27, 104, 4, 96, 46, 184, 1, 150, 172]
abbrev dktX10_workerIs_2 : List UInt8 := dkwX10_workerIs_2 ++ []
def dkwX10_workerIs_1 : List UInt8 := [182, 0, 204, 172, 28, 6, 162, 0, 16, 42, 180, 0, 71, 6, 27, 104, 28, 96, 46, 167, 0, 24, 42]
abbrev dktX10_workerIs_1 : List UInt8 := dkwX10_workerIs_1 ++ dktX10_workerIs_2
def dkwX10_workerIs_0 : List UInt8 := [42, 27, 182, 1, 147, 153, 0, 15, 28, 133, 9, 20, 0, 124, 184, 0, 102, 154, 0, 9, 42, 4]
abbrev dktX10_workerIs_0 : List UInt8 := dkwX10_workerIs_0 ++ dktX10_workerIs_1
theorem dksX10_workerIs_0 : cX10_workerIs.data.toList.drop 0 = dktX10_workerIs_0 := by decide +kernel
theorem dksX10_workerIs_1 : cX10_workerIs.data.toList.drop 22 = dktX10_workerIs_1 := dk_seg dksX10_workerIs_0 22 rfl rfl
theorem dksX10_workerIs_2 : cX10_workerIs.data.toList.drop 45 = dktX10_workerIs_2 := dk_seg dksX10_workerIs_1 23 rfl rfl
theorem dX10_workerIs_0 : decode cX10_workerIs 0 = .ok (.aload_n 0, 1) := dk_42 (dk_at dksX10_workerIs_0 0 rfl rfl)
theorem dX10_workerIs_1 : decode cX10_workerIs 1 = .ok (.iload_n 1, 1) := dk_27 (dk_at dksX10_workerIs_0 1 rfl rfl)
theorem dX10_workerIs_2 : decode cX10_workerIs 2 = .ok (.invokevirtual 403, 3) := dk_182 1 147 (dk_at dksX10_workerIs_0 2 rfl rfl)
theorem dX10_workerIs_5 : decode cX10_workerIs 5 = .ok (.ifCond .eq 15, 3) := dk_153 0 15 (dk_at dksX10_workerIs_0 5 rfl rfl)
theorem dX10_workerIs_8 : decode cX10_workerIs 8 = .ok (.iload_n 2, 1) := dk_28 (dk_at dksX10_workerIs_0 8 rfl rfl)
theorem dX10_workerIs_9 : decode cX10_workerIs 9 = .ok (.i2l, 1) := dk_133 (dk_at dksX10_workerIs_0 9 rfl rfl)
theorem dX10_workerIs_10 : decode cX10_workerIs 10 = .ok (.lconst 0, 1) := dk_9 (dk_at dksX10_workerIs_0 10 rfl rfl)
theorem dX10_workerIs_11 : decode cX10_workerIs 11 = .ok (.ldc2_w 124, 3) := dk_20 0 124 (dk_at dksX10_workerIs_0 11 rfl rfl)
theorem dX10_workerIs_14 : decode cX10_workerIs 14 = .ok (.invokestatic 102, 3) := dk_184 0 102 (dk_at dksX10_workerIs_0 14 rfl rfl)
theorem dX10_workerIs_17 : decode cX10_workerIs 17 = .ok (.ifCond .ne 9, 3) := dk_154 0 9 (dk_at dksX10_workerIs_0 17 rfl rfl)
theorem dX10_workerIs_20 : decode cX10_workerIs 20 = .ok (.aload_n 0, 1) := dk_42 (dk_at dksX10_workerIs_0 20 rfl rfl)
theorem dX10_workerIs_21 : decode cX10_workerIs 21 = .ok (.iconst 1, 1) := dk_4 (dk_at dksX10_workerIs_0 21 rfl rfl)
theorem dX10_workerIs_22 : decode cX10_workerIs 22 = .ok (.invokevirtual 204, 3) := dk_182 0 204 (dk_at dksX10_workerIs_1 0 rfl rfl)
theorem dX10_workerIs_25 : decode cX10_workerIs 25 = .ok (.ireturn, 1) := dk_172 (dk_at dksX10_workerIs_1 3 rfl rfl)
theorem dX10_workerIs_26 : decode cX10_workerIs 26 = .ok (.iload_n 2, 1) := dk_28 (dk_at dksX10_workerIs_1 4 rfl rfl)
theorem dX10_workerIs_27 : decode cX10_workerIs 27 = .ok (.iconst 3, 1) := dk_6 (dk_at dksX10_workerIs_1 5 rfl rfl)
theorem dX10_workerIs_28 : decode cX10_workerIs 28 = .ok (.if_icmp .ge 16, 3) := dk_162 0 16 (dk_at dksX10_workerIs_1 6 rfl rfl)
theorem dX10_workerIs_31 : decode cX10_workerIs 31 = .ok (.aload_n 0, 1) := dk_42 (dk_at dksX10_workerIs_1 9 rfl rfl)
theorem dX10_workerIs_32 : decode cX10_workerIs 32 = .ok (.getfield 71, 3) := dk_180 0 71 (dk_at dksX10_workerIs_1 10 rfl rfl)
theorem dX10_workerIs_35 : decode cX10_workerIs 35 = .ok (.iconst 3, 1) := dk_6 (dk_at dksX10_workerIs_1 13 rfl rfl)
theorem dX10_workerIs_36 : decode cX10_workerIs 36 = .ok (.iload_n 1, 1) := dk_27 (dk_at dksX10_workerIs_1 14 rfl rfl)
theorem dX10_workerIs_37 : decode cX10_workerIs 37 = .ok (.imul, 1) := dk_104 (dk_at dksX10_workerIs_1 15 rfl rfl)
theorem dX10_workerIs_38 : decode cX10_workerIs 38 = .ok (.iload_n 2, 1) := dk_28 (dk_at dksX10_workerIs_1 16 rfl rfl)
theorem dX10_workerIs_39 : decode cX10_workerIs 39 = .ok (.iadd, 1) := dk_96 (dk_at dksX10_workerIs_1 17 rfl rfl)
theorem dX10_workerIs_40 : decode cX10_workerIs 40 = .ok (.iaload, 1) := dk_46 (dk_at dksX10_workerIs_1 18 rfl rfl)
theorem dX10_workerIs_41 : decode cX10_workerIs 41 = .ok (.goto 24, 3) := dk_167 0 24 (dk_at dksX10_workerIs_1 19 rfl rfl)
theorem dX10_workerIs_44 : decode cX10_workerIs 44 = .ok (.aload_n 0, 1) := dk_42 (dk_at dksX10_workerIs_1 22 rfl rfl)
theorem dX10_workerIs_45 : decode cX10_workerIs 45 = .ok (.getfield 71, 3) := dk_180 0 71 (dk_at dksX10_workerIs_2 0 rfl rfl)
theorem dX10_workerIs_48 : decode cX10_workerIs 48 = .ok (.iconst 3, 1) := dk_6 (dk_at dksX10_workerIs_2 3 rfl rfl)
theorem dX10_workerIs_49 : decode cX10_workerIs 49 = .ok (.iload_n 1, 1) := dk_27 (dk_at dksX10_workerIs_2 4 rfl rfl)
theorem dX10_workerIs_50 : decode cX10_workerIs 50 = .ok (.imul, 1) := dk_104 (dk_at dksX10_workerIs_2 5 rfl rfl)
theorem dX10_workerIs_51 : decode cX10_workerIs 51 = .ok (.iaload, 1) := dk_46 (dk_at dksX10_workerIs_2 6 rfl rfl)
theorem dX10_workerIs_52 : decode cX10_workerIs 52 = .ok (.aload_n 0, 1) := dk_42 (dk_at dksX10_workerIs_2 7 rfl rfl)
theorem dX10_workerIs_53 : decode cX10_workerIs 53 = .ok (.getfield 71, 3) := dk_180 0 71 (dk_at dksX10_workerIs_2 8 rfl rfl)
theorem dX10_workerIs_56 : decode cX10_workerIs 56 = .ok (.iconst 3, 1) := dk_6 (dk_at dksX10_workerIs_2 11 rfl rfl)
theorem dX10_workerIs_57 : decode cX10_workerIs 57 = .ok (.iload_n 1, 1) := dk_27 (dk_at dksX10_workerIs_2 12 rfl rfl)
theorem dX10_workerIs_58 : decode cX10_workerIs 58 = .ok (.imul, 1) := dk_104 (dk_at dksX10_workerIs_2 13 rfl rfl)
theorem dX10_workerIs_59 : decode cX10_workerIs 59 = .ok (.iconst 1, 1) := dk_4 (dk_at dksX10_workerIs_2 14 rfl rfl)
theorem dX10_workerIs_60 : decode cX10_workerIs 60 = .ok (.iadd, 1) := dk_96 (dk_at dksX10_workerIs_2 15 rfl rfl)
theorem dX10_workerIs_61 : decode cX10_workerIs 61 = .ok (.iaload, 1) := dk_46 (dk_at dksX10_workerIs_2 16 rfl rfl)
theorem dX10_workerIs_62 : decode cX10_workerIs 62 = .ok (.invokestatic 406, 3) := dk_184 1 150 (dk_at dksX10_workerIs_2 17 rfl rfl)
theorem dX10_workerIs_65 : decode cX10_workerIs 65 = .ok (.ireturn, 1) := dk_172 (dk_at dksX10_workerIs_2 20 rfl rfl)
abbrev cX10_isWorker : ByteArray := prog_26_method_105_code
def yX10_isWorker : MethodName := ⟨RX10, "isWorker", "(I)Z"⟩
def dkwX10_isWorker_0 : List UInt8 := [27, 133, 9, 42, 180, 1, 142, 4, 100, 133, 184, 0, 102, 172]
abbrev dktX10_isWorker_0 : List UInt8 := dkwX10_isWorker_0 ++ []
theorem dksX10_isWorker_0 : cX10_isWorker.data.toList.drop 0 = dktX10_isWorker_0 := by decide +kernel
theorem dX10_isWorker_0 : decode cX10_isWorker 0 = .ok (.iload_n 1, 1) := dk_27 (dk_at dksX10_isWorker_0 0 rfl rfl)
theorem dX10_isWorker_1 : decode cX10_isWorker 1 = .ok (.i2l, 1) := dk_133 (dk_at dksX10_isWorker_0 1 rfl rfl)
theorem dX10_isWorker_2 : decode cX10_isWorker 2 = .ok (.lconst 0, 1) := dk_9 (dk_at dksX10_isWorker_0 2 rfl rfl)
theorem dX10_isWorker_3 : decode cX10_isWorker 3 = .ok (.aload_n 0, 1) := dk_42 (dk_at dksX10_isWorker_0 3 rfl rfl)
theorem dX10_isWorker_4 : decode cX10_isWorker 4 = .ok (.getfield 398, 3) := dk_180 1 142 (dk_at dksX10_isWorker_0 4 rfl rfl)
theorem dX10_isWorker_7 : decode cX10_isWorker 7 = .ok (.iconst 1, 1) := dk_4 (dk_at dksX10_isWorker_0 7 rfl rfl)
theorem dX10_isWorker_8 : decode cX10_isWorker 8 = .ok (.isub, 1) := dk_100 (dk_at dksX10_isWorker_0 8 rfl rfl)
theorem dX10_isWorker_9 : decode cX10_isWorker 9 = .ok (.i2l, 1) := dk_133 (dk_at dksX10_isWorker_0 9 rfl rfl)
theorem dX10_isWorker_10 : decode cX10_isWorker 10 = .ok (.invokestatic 102, 3) := dk_184 0 102 (dk_at dksX10_isWorker_0 10 rfl rfl)
theorem dX10_isWorker_13 : decode cX10_isWorker 13 = .ok (.ireturn, 1) := dk_172 (dk_at dksX10_isWorker_0 13 rfl rfl)
abbrev cX10_cost : ByteArray := prog_26_method_107_code
def yX10_cost : MethodName := ⟨RX10, "cost", "(II)I"⟩
def dkwX10_cost_3 : List UInt8 := [4, 96, 172]
abbrev dktX10_cost_3 : List UInt8 := dkwX10_cost_3 ++ []
def dkwX10_cost_2 : List UInt8 := [5, 27, 104, 5, 96, 172, 5, 27, 104, 16, 7, 96, 172, 6, 27, 104, 6, 96, 172, 27, 6, 100, 172, 27]
abbrev dktX10_cost_2 : List UInt8 := dkwX10_cost_2 ++ dktX10_cost_3
def dkwX10_cost_1 : List UInt8 := [170, 0, 0, 0, 0, 0, 58, 0, 0, 0, 1, 0, 0, 0, 5, 0, 0, 0, 35, 0, 0, 0, 58, 0, 0, 0, 41, 0, 0, 0, 48, 0, 0, 0, 54]
abbrev dktX10_cost_1 : List UInt8 := dkwX10_cost_1 ++ dktX10_cost_2
def dkwX10_cost_0 : List UInt8 := [26]
abbrev dktX10_cost_0 : List UInt8 := dkwX10_cost_0 ++ dktX10_cost_1
theorem dksX10_cost_0 : cX10_cost.data.toList.drop 0 = dktX10_cost_0 := by decide +kernel
theorem dksX10_cost_1 : cX10_cost.data.toList.drop 1 = dktX10_cost_1 := dk_seg dksX10_cost_0 1 rfl rfl
theorem dksX10_cost_2 : cX10_cost.data.toList.drop 36 = dktX10_cost_2 := dk_seg dksX10_cost_1 35 rfl rfl
theorem dksX10_cost_3 : cX10_cost.data.toList.drop 60 = dktX10_cost_3 := dk_seg dksX10_cost_2 24 rfl rfl
theorem dX10_cost_0 : decode cX10_cost 0 = .ok (.iload_n 0, 1) := dk_26 (dk_at dksX10_cost_0 0 rfl rfl)
theorem dX10_cost_1 : decode cX10_cost 1 = .ok (.tableswitch 58 1 5 #[35, 58, 41, 48, 54], 35) := by decide +kernel
theorem dX10_cost_36 : decode cX10_cost 36 = .ok (.iconst 2, 1) := dk_5 (dk_at dksX10_cost_2 0 rfl rfl)
theorem dX10_cost_37 : decode cX10_cost 37 = .ok (.iload_n 1, 1) := dk_27 (dk_at dksX10_cost_2 1 rfl rfl)
theorem dX10_cost_38 : decode cX10_cost 38 = .ok (.imul, 1) := dk_104 (dk_at dksX10_cost_2 2 rfl rfl)
theorem dX10_cost_39 : decode cX10_cost 39 = .ok (.iconst 2, 1) := dk_5 (dk_at dksX10_cost_2 3 rfl rfl)
theorem dX10_cost_40 : decode cX10_cost 40 = .ok (.iadd, 1) := dk_96 (dk_at dksX10_cost_2 4 rfl rfl)
theorem dX10_cost_41 : decode cX10_cost 41 = .ok (.ireturn, 1) := dk_172 (dk_at dksX10_cost_2 5 rfl rfl)
theorem dX10_cost_42 : decode cX10_cost 42 = .ok (.iconst 2, 1) := dk_5 (dk_at dksX10_cost_2 6 rfl rfl)
theorem dX10_cost_43 : decode cX10_cost 43 = .ok (.iload_n 1, 1) := dk_27 (dk_at dksX10_cost_2 7 rfl rfl)
theorem dX10_cost_44 : decode cX10_cost 44 = .ok (.imul, 1) := dk_104 (dk_at dksX10_cost_2 8 rfl rfl)
theorem dX10_cost_45 : decode cX10_cost 45 = .ok (.bipush 7, 2) := dk_16 7 (dk_at dksX10_cost_2 9 rfl rfl)
theorem dX10_cost_47 : decode cX10_cost 47 = .ok (.iadd, 1) := dk_96 (dk_at dksX10_cost_2 11 rfl rfl)
theorem dX10_cost_48 : decode cX10_cost 48 = .ok (.ireturn, 1) := dk_172 (dk_at dksX10_cost_2 12 rfl rfl)
theorem dX10_cost_49 : decode cX10_cost 49 = .ok (.iconst 3, 1) := dk_6 (dk_at dksX10_cost_2 13 rfl rfl)
theorem dX10_cost_50 : decode cX10_cost 50 = .ok (.iload_n 1, 1) := dk_27 (dk_at dksX10_cost_2 14 rfl rfl)
theorem dX10_cost_51 : decode cX10_cost 51 = .ok (.imul, 1) := dk_104 (dk_at dksX10_cost_2 15 rfl rfl)
theorem dX10_cost_52 : decode cX10_cost 52 = .ok (.iconst 3, 1) := dk_6 (dk_at dksX10_cost_2 16 rfl rfl)
theorem dX10_cost_53 : decode cX10_cost 53 = .ok (.iadd, 1) := dk_96 (dk_at dksX10_cost_2 17 rfl rfl)
theorem dX10_cost_54 : decode cX10_cost 54 = .ok (.ireturn, 1) := dk_172 (dk_at dksX10_cost_2 18 rfl rfl)
theorem dX10_cost_55 : decode cX10_cost 55 = .ok (.iload_n 1, 1) := dk_27 (dk_at dksX10_cost_2 19 rfl rfl)
theorem dX10_cost_56 : decode cX10_cost 56 = .ok (.iconst 3, 1) := dk_6 (dk_at dksX10_cost_2 20 rfl rfl)
theorem dX10_cost_57 : decode cX10_cost 57 = .ok (.isub, 1) := dk_100 (dk_at dksX10_cost_2 21 rfl rfl)
theorem dX10_cost_58 : decode cX10_cost 58 = .ok (.ireturn, 1) := dk_172 (dk_at dksX10_cost_2 22 rfl rfl)
theorem dX10_cost_59 : decode cX10_cost 59 = .ok (.iload_n 1, 1) := dk_27 (dk_at dksX10_cost_2 23 rfl rfl)
theorem dX10_cost_60 : decode cX10_cost 60 = .ok (.iconst 1, 1) := dk_4 (dk_at dksX10_cost_3 0 rfl rfl)
theorem dX10_cost_61 : decode cX10_cost 61 = .ok (.iadd, 1) := dk_96 (dk_at dksX10_cost_3 1 rfl rfl)
theorem dX10_cost_62 : decode cX10_cost 62 = .ok (.ireturn, 1) := dk_172 (dk_at dksX10_cost_3 2 rfl rfl)
abbrev cX10_become : ByteArray := prog_26_method_109_code
def yX10_become : MethodName := ⟨RX10, "become", "(II)I"⟩
def dkwX10_become_1 : List UInt8 := [182, 0, 204, 172, 42, 180, 0, 71, 6, 27, 104, 46, 62, 42, 180, 0, 71, 6, 27, 104, 28, 79, 29, 172]
abbrev dktX10_become_1 : List UInt8 := dkwX10_become_1 ++ []
def dkwX10_become_0 : List UInt8 := [42, 27, 182, 1, 147, 153, 0, 15, 28, 133, 9, 20, 0, 223, 184, 0, 102, 154, 0, 9, 42, 4]
abbrev dktX10_become_0 : List UInt8 := dkwX10_become_0 ++ dktX10_become_1
theorem dksX10_become_0 : cX10_become.data.toList.drop 0 = dktX10_become_0 := by decide +kernel
theorem dksX10_become_1 : cX10_become.data.toList.drop 22 = dktX10_become_1 := dk_seg dksX10_become_0 22 rfl rfl
theorem dX10_become_0 : decode cX10_become 0 = .ok (.aload_n 0, 1) := dk_42 (dk_at dksX10_become_0 0 rfl rfl)
theorem dX10_become_1 : decode cX10_become 1 = .ok (.iload_n 1, 1) := dk_27 (dk_at dksX10_become_0 1 rfl rfl)
theorem dX10_become_2 : decode cX10_become 2 = .ok (.invokevirtual 403, 3) := dk_182 1 147 (dk_at dksX10_become_0 2 rfl rfl)
theorem dX10_become_5 : decode cX10_become 5 = .ok (.ifCond .eq 15, 3) := dk_153 0 15 (dk_at dksX10_become_0 5 rfl rfl)
theorem dX10_become_8 : decode cX10_become 8 = .ok (.iload_n 2, 1) := dk_28 (dk_at dksX10_become_0 8 rfl rfl)
theorem dX10_become_9 : decode cX10_become 9 = .ok (.i2l, 1) := dk_133 (dk_at dksX10_become_0 9 rfl rfl)
theorem dX10_become_10 : decode cX10_become 10 = .ok (.lconst 0, 1) := dk_9 (dk_at dksX10_become_0 10 rfl rfl)
theorem dX10_become_11 : decode cX10_become 11 = .ok (.ldc2_w 223, 3) := dk_20 0 223 (dk_at dksX10_become_0 11 rfl rfl)
theorem dX10_become_14 : decode cX10_become 14 = .ok (.invokestatic 102, 3) := dk_184 0 102 (dk_at dksX10_become_0 14 rfl rfl)
theorem dX10_become_17 : decode cX10_become 17 = .ok (.ifCond .ne 9, 3) := dk_154 0 9 (dk_at dksX10_become_0 17 rfl rfl)
theorem dX10_become_20 : decode cX10_become 20 = .ok (.aload_n 0, 1) := dk_42 (dk_at dksX10_become_0 20 rfl rfl)
theorem dX10_become_21 : decode cX10_become 21 = .ok (.iconst 1, 1) := dk_4 (dk_at dksX10_become_0 21 rfl rfl)
theorem dX10_become_22 : decode cX10_become 22 = .ok (.invokevirtual 204, 3) := dk_182 0 204 (dk_at dksX10_become_1 0 rfl rfl)
theorem dX10_become_25 : decode cX10_become 25 = .ok (.ireturn, 1) := dk_172 (dk_at dksX10_become_1 3 rfl rfl)
theorem dX10_become_26 : decode cX10_become 26 = .ok (.aload_n 0, 1) := dk_42 (dk_at dksX10_become_1 4 rfl rfl)
theorem dX10_become_27 : decode cX10_become 27 = .ok (.getfield 71, 3) := dk_180 0 71 (dk_at dksX10_become_1 5 rfl rfl)
theorem dX10_become_30 : decode cX10_become 30 = .ok (.iconst 3, 1) := dk_6 (dk_at dksX10_become_1 8 rfl rfl)
theorem dX10_become_31 : decode cX10_become 31 = .ok (.iload_n 1, 1) := dk_27 (dk_at dksX10_become_1 9 rfl rfl)
theorem dX10_become_32 : decode cX10_become 32 = .ok (.imul, 1) := dk_104 (dk_at dksX10_become_1 10 rfl rfl)
theorem dX10_become_33 : decode cX10_become 33 = .ok (.iaload, 1) := dk_46 (dk_at dksX10_become_1 11 rfl rfl)
theorem dX10_become_34 : decode cX10_become 34 = .ok (.istore_n 3, 1) := dk_62 (dk_at dksX10_become_1 12 rfl rfl)
theorem dX10_become_35 : decode cX10_become 35 = .ok (.aload_n 0, 1) := dk_42 (dk_at dksX10_become_1 13 rfl rfl)
theorem dX10_become_36 : decode cX10_become 36 = .ok (.getfield 71, 3) := dk_180 0 71 (dk_at dksX10_become_1 14 rfl rfl)
theorem dX10_become_39 : decode cX10_become 39 = .ok (.iconst 3, 1) := dk_6 (dk_at dksX10_become_1 17 rfl rfl)
theorem dX10_become_40 : decode cX10_become 40 = .ok (.iload_n 1, 1) := dk_27 (dk_at dksX10_become_1 18 rfl rfl)
theorem dX10_become_41 : decode cX10_become 41 = .ok (.imul, 1) := dk_104 (dk_at dksX10_become_1 19 rfl rfl)
theorem dX10_become_42 : decode cX10_become 42 = .ok (.iload_n 2, 1) := dk_28 (dk_at dksX10_become_1 20 rfl rfl)
theorem dX10_become_43 : decode cX10_become 43 = .ok (.iastore, 1) := dk_79 (dk_at dksX10_become_1 21 rfl rfl)
theorem dX10_become_44 : decode cX10_become 44 = .ok (.iload_n 3, 1) := dk_29 (dk_at dksX10_become_1 22 rfl rfl)
theorem dX10_become_45 : decode cX10_become 45 = .ok (.ireturn, 1) := dk_172 (dk_at dksX10_become_1 23 rfl rfl)
abbrev cX10_as : ByteArray := prog_26_method_110_code
def yX10_as : MethodName := ⟨RX10, "as", "(II)I"⟩
def dkwX10_as_4 : List UInt8 := [182, 0, 204, 172]
abbrev dktX10_as_4 : List UInt8 := dkwX10_as_4 ++ []
def dkwX10_as_3 : List UInt8 := [54, 4, 21, 4, 153, 0, 16, 42, 180, 0, 71, 6, 27, 104, 4, 96, 46, 167, 0, 9, 42, 16, 6]
abbrev dktX10_as_3 : List UInt8 := dkwX10_as_3 ++ dktX10_as_4
def dkwX10_as_2 : List UInt8 := [160, 0, 8, 29, 6, 159, 0, 13, 28, 5, 160, 0, 12, 29, 7, 160, 0, 7, 4, 167, 0, 4, 3]
abbrev dktX10_as_2 : List UInt8 := dkwX10_as_2 ++ dktX10_as_3
def dkwX10_as_1 : List UInt8 := [182, 0, 204, 172, 42, 180, 0, 71, 6, 27, 104, 46, 62, 28, 153, 0, 28, 28, 29, 159, 0, 23, 28, 4]
abbrev dktX10_as_1 : List UInt8 := dkwX10_as_1 ++ dktX10_as_2
def dkwX10_as_0 : List UInt8 := [42, 27, 182, 1, 147, 153, 0, 15, 28, 133, 9, 20, 0, 223, 184, 0, 102, 154, 0, 9, 42, 4]
abbrev dktX10_as_0 : List UInt8 := dkwX10_as_0 ++ dktX10_as_1
theorem dksX10_as_0 : cX10_as.data.toList.drop 0 = dktX10_as_0 := by decide +kernel
theorem dksX10_as_1 : cX10_as.data.toList.drop 22 = dktX10_as_1 := dk_seg dksX10_as_0 22 rfl rfl
theorem dksX10_as_2 : cX10_as.data.toList.drop 46 = dktX10_as_2 := dk_seg dksX10_as_1 24 rfl rfl
theorem dksX10_as_3 : cX10_as.data.toList.drop 69 = dktX10_as_3 := dk_seg dksX10_as_2 23 rfl rfl
theorem dksX10_as_4 : cX10_as.data.toList.drop 92 = dktX10_as_4 := dk_seg dksX10_as_3 23 rfl rfl
theorem dX10_as_0 : decode cX10_as 0 = .ok (.aload_n 0, 1) := dk_42 (dk_at dksX10_as_0 0 rfl rfl)
theorem dX10_as_1 : decode cX10_as 1 = .ok (.iload_n 1, 1) := dk_27 (dk_at dksX10_as_0 1 rfl rfl)
theorem dX10_as_2 : decode cX10_as 2 = .ok (.invokevirtual 403, 3) := dk_182 1 147 (dk_at dksX10_as_0 2 rfl rfl)
theorem dX10_as_5 : decode cX10_as 5 = .ok (.ifCond .eq 15, 3) := dk_153 0 15 (dk_at dksX10_as_0 5 rfl rfl)
theorem dX10_as_8 : decode cX10_as 8 = .ok (.iload_n 2, 1) := dk_28 (dk_at dksX10_as_0 8 rfl rfl)
theorem dX10_as_9 : decode cX10_as 9 = .ok (.i2l, 1) := dk_133 (dk_at dksX10_as_0 9 rfl rfl)
theorem dX10_as_10 : decode cX10_as 10 = .ok (.lconst 0, 1) := dk_9 (dk_at dksX10_as_0 10 rfl rfl)
theorem dX10_as_11 : decode cX10_as 11 = .ok (.ldc2_w 223, 3) := dk_20 0 223 (dk_at dksX10_as_0 11 rfl rfl)
theorem dX10_as_14 : decode cX10_as 14 = .ok (.invokestatic 102, 3) := dk_184 0 102 (dk_at dksX10_as_0 14 rfl rfl)
theorem dX10_as_17 : decode cX10_as 17 = .ok (.ifCond .ne 9, 3) := dk_154 0 9 (dk_at dksX10_as_0 17 rfl rfl)
theorem dX10_as_20 : decode cX10_as 20 = .ok (.aload_n 0, 1) := dk_42 (dk_at dksX10_as_0 20 rfl rfl)
theorem dX10_as_21 : decode cX10_as 21 = .ok (.iconst 1, 1) := dk_4 (dk_at dksX10_as_0 21 rfl rfl)
theorem dX10_as_22 : decode cX10_as 22 = .ok (.invokevirtual 204, 3) := dk_182 0 204 (dk_at dksX10_as_1 0 rfl rfl)
theorem dX10_as_25 : decode cX10_as 25 = .ok (.ireturn, 1) := dk_172 (dk_at dksX10_as_1 3 rfl rfl)
theorem dX10_as_26 : decode cX10_as 26 = .ok (.aload_n 0, 1) := dk_42 (dk_at dksX10_as_1 4 rfl rfl)
theorem dX10_as_27 : decode cX10_as 27 = .ok (.getfield 71, 3) := dk_180 0 71 (dk_at dksX10_as_1 5 rfl rfl)
theorem dX10_as_30 : decode cX10_as 30 = .ok (.iconst 3, 1) := dk_6 (dk_at dksX10_as_1 8 rfl rfl)
theorem dX10_as_31 : decode cX10_as 31 = .ok (.iload_n 1, 1) := dk_27 (dk_at dksX10_as_1 9 rfl rfl)
theorem dX10_as_32 : decode cX10_as 32 = .ok (.imul, 1) := dk_104 (dk_at dksX10_as_1 10 rfl rfl)
theorem dX10_as_33 : decode cX10_as 33 = .ok (.iaload, 1) := dk_46 (dk_at dksX10_as_1 11 rfl rfl)
theorem dX10_as_34 : decode cX10_as 34 = .ok (.istore_n 3, 1) := dk_62 (dk_at dksX10_as_1 12 rfl rfl)
theorem dX10_as_35 : decode cX10_as 35 = .ok (.iload_n 2, 1) := dk_28 (dk_at dksX10_as_1 13 rfl rfl)
theorem dX10_as_36 : decode cX10_as 36 = .ok (.ifCond .eq 28, 3) := dk_153 0 28 (dk_at dksX10_as_1 14 rfl rfl)
theorem dX10_as_39 : decode cX10_as 39 = .ok (.iload_n 2, 1) := dk_28 (dk_at dksX10_as_1 17 rfl rfl)
theorem dX10_as_40 : decode cX10_as 40 = .ok (.iload_n 3, 1) := dk_29 (dk_at dksX10_as_1 18 rfl rfl)
theorem dX10_as_41 : decode cX10_as 41 = .ok (.if_icmp .eq 23, 3) := dk_159 0 23 (dk_at dksX10_as_1 19 rfl rfl)
theorem dX10_as_44 : decode cX10_as 44 = .ok (.iload_n 2, 1) := dk_28 (dk_at dksX10_as_1 22 rfl rfl)
theorem dX10_as_45 : decode cX10_as 45 = .ok (.iconst 1, 1) := dk_4 (dk_at dksX10_as_1 23 rfl rfl)
theorem dX10_as_46 : decode cX10_as 46 = .ok (.if_icmp .ne 8, 3) := dk_160 0 8 (dk_at dksX10_as_2 0 rfl rfl)
theorem dX10_as_49 : decode cX10_as 49 = .ok (.iload_n 3, 1) := dk_29 (dk_at dksX10_as_2 3 rfl rfl)
theorem dX10_as_50 : decode cX10_as 50 = .ok (.iconst 3, 1) := dk_6 (dk_at dksX10_as_2 4 rfl rfl)
theorem dX10_as_51 : decode cX10_as 51 = .ok (.if_icmp .eq 13, 3) := dk_159 0 13 (dk_at dksX10_as_2 5 rfl rfl)
theorem dX10_as_54 : decode cX10_as 54 = .ok (.iload_n 2, 1) := dk_28 (dk_at dksX10_as_2 8 rfl rfl)
theorem dX10_as_55 : decode cX10_as 55 = .ok (.iconst 2, 1) := dk_5 (dk_at dksX10_as_2 9 rfl rfl)
theorem dX10_as_56 : decode cX10_as 56 = .ok (.if_icmp .ne 12, 3) := dk_160 0 12 (dk_at dksX10_as_2 10 rfl rfl)
theorem dX10_as_59 : decode cX10_as 59 = .ok (.iload_n 3, 1) := dk_29 (dk_at dksX10_as_2 13 rfl rfl)
theorem dX10_as_60 : decode cX10_as 60 = .ok (.iconst 4, 1) := dk_7 (dk_at dksX10_as_2 14 rfl rfl)
theorem dX10_as_61 : decode cX10_as 61 = .ok (.if_icmp .ne 7, 3) := dk_160 0 7 (dk_at dksX10_as_2 15 rfl rfl)
theorem dX10_as_64 : decode cX10_as 64 = .ok (.iconst 1, 1) := dk_4 (dk_at dksX10_as_2 18 rfl rfl)
theorem dX10_as_65 : decode cX10_as 65 = .ok (.goto 4, 3) := dk_167 0 4 (dk_at dksX10_as_2 19 rfl rfl)
theorem dX10_as_68 : decode cX10_as 68 = .ok (.iconst 0, 1) := dk_3 (dk_at dksX10_as_2 22 rfl rfl)
theorem dX10_as_69 : decode cX10_as 69 = .ok (.istore 4, 2) := dk_54 4 (dk_at dksX10_as_3 0 rfl rfl)
theorem dX10_as_71 : decode cX10_as 71 = .ok (.iload 4, 2) := dk_21 4 (dk_at dksX10_as_3 2 rfl rfl)
theorem dX10_as_73 : decode cX10_as 73 = .ok (.ifCond .eq 16, 3) := dk_153 0 16 (dk_at dksX10_as_3 4 rfl rfl)
theorem dX10_as_76 : decode cX10_as 76 = .ok (.aload_n 0, 1) := dk_42 (dk_at dksX10_as_3 7 rfl rfl)
theorem dX10_as_77 : decode cX10_as 77 = .ok (.getfield 71, 3) := dk_180 0 71 (dk_at dksX10_as_3 8 rfl rfl)
theorem dX10_as_80 : decode cX10_as 80 = .ok (.iconst 3, 1) := dk_6 (dk_at dksX10_as_3 11 rfl rfl)
theorem dX10_as_81 : decode cX10_as 81 = .ok (.iload_n 1, 1) := dk_27 (dk_at dksX10_as_3 12 rfl rfl)
theorem dX10_as_82 : decode cX10_as 82 = .ok (.imul, 1) := dk_104 (dk_at dksX10_as_3 13 rfl rfl)
theorem dX10_as_83 : decode cX10_as 83 = .ok (.iconst 1, 1) := dk_4 (dk_at dksX10_as_3 14 rfl rfl)
theorem dX10_as_84 : decode cX10_as 84 = .ok (.iadd, 1) := dk_96 (dk_at dksX10_as_3 15 rfl rfl)
theorem dX10_as_85 : decode cX10_as 85 = .ok (.iaload, 1) := dk_46 (dk_at dksX10_as_3 16 rfl rfl)
theorem dX10_as_86 : decode cX10_as 86 = .ok (.goto 9, 3) := dk_167 0 9 (dk_at dksX10_as_3 17 rfl rfl)
theorem dX10_as_89 : decode cX10_as 89 = .ok (.aload_n 0, 1) := dk_42 (dk_at dksX10_as_3 20 rfl rfl)
theorem dX10_as_90 : decode cX10_as 90 = .ok (.bipush 6, 2) := dk_16 6 (dk_at dksX10_as_3 21 rfl rfl)
theorem dX10_as_92 : decode cX10_as 92 = .ok (.invokevirtual 204, 3) := dk_182 0 204 (dk_at dksX10_as_4 0 rfl rfl)
theorem dX10_as_95 : decode cX10_as 95 = .ok (.ireturn, 1) := dk_172 (dk_at dksX10_as_4 3 rfl rfl)
abbrev cX10_next : ByteArray := prog_26_method_113_code
def yX10_next : MethodName := ⟨RX10, "next", "(II)I"⟩
def dkwX10_next_3 : List UInt8 := [167, 0, 7, 29, 16, 100, 112, 172]
abbrev dktX10_next_3 : List UInt8 := dkwX10_next_3 ++ []
def dkwX10_next_2 : List UInt8 := [184, 1, 157, 62, 29, 156, 0, 11, 42, 5, 182, 0, 204, 167, 0, 18, 28, 154, 0, 10, 29, 16, 100, 108]
abbrev dktX10_next_2 : List UInt8 := dkwX10_next_2 ++ dktX10_next_3
def dkwX10_next_1 : List UInt8 := [42, 180, 0, 13, 42, 180, 0, 71, 6, 27, 104, 46, 42, 180, 0, 71, 6, 27, 104, 4, 96, 46]
abbrev dktX10_next_1 : List UInt8 := dkwX10_next_1 ++ dktX10_next_2
def dkwX10_next_0 : List UInt8 := [42, 27, 182, 1, 147, 153, 0, 13, 28, 133, 9, 10, 184, 0, 102, 154, 0, 9, 42, 4, 182, 0, 204, 172]
abbrev dktX10_next_0 : List UInt8 := dkwX10_next_0 ++ dktX10_next_1
theorem dksX10_next_0 : cX10_next.data.toList.drop 0 = dktX10_next_0 := by decide +kernel
theorem dksX10_next_1 : cX10_next.data.toList.drop 24 = dktX10_next_1 := dk_seg dksX10_next_0 24 rfl rfl
theorem dksX10_next_2 : cX10_next.data.toList.drop 46 = dktX10_next_2 := dk_seg dksX10_next_1 22 rfl rfl
theorem dksX10_next_3 : cX10_next.data.toList.drop 70 = dktX10_next_3 := dk_seg dksX10_next_2 24 rfl rfl
theorem dX10_next_0 : decode cX10_next 0 = .ok (.aload_n 0, 1) := dk_42 (dk_at dksX10_next_0 0 rfl rfl)
theorem dX10_next_1 : decode cX10_next 1 = .ok (.iload_n 1, 1) := dk_27 (dk_at dksX10_next_0 1 rfl rfl)
theorem dX10_next_2 : decode cX10_next 2 = .ok (.invokevirtual 403, 3) := dk_182 1 147 (dk_at dksX10_next_0 2 rfl rfl)
theorem dX10_next_5 : decode cX10_next 5 = .ok (.ifCond .eq 13, 3) := dk_153 0 13 (dk_at dksX10_next_0 5 rfl rfl)
theorem dX10_next_8 : decode cX10_next 8 = .ok (.iload_n 2, 1) := dk_28 (dk_at dksX10_next_0 8 rfl rfl)
theorem dX10_next_9 : decode cX10_next 9 = .ok (.i2l, 1) := dk_133 (dk_at dksX10_next_0 9 rfl rfl)
theorem dX10_next_10 : decode cX10_next 10 = .ok (.lconst 0, 1) := dk_9 (dk_at dksX10_next_0 10 rfl rfl)
theorem dX10_next_11 : decode cX10_next 11 = .ok (.lconst 1, 1) := dk_10 (dk_at dksX10_next_0 11 rfl rfl)
theorem dX10_next_12 : decode cX10_next 12 = .ok (.invokestatic 102, 3) := dk_184 0 102 (dk_at dksX10_next_0 12 rfl rfl)
theorem dX10_next_15 : decode cX10_next 15 = .ok (.ifCond .ne 9, 3) := dk_154 0 9 (dk_at dksX10_next_0 15 rfl rfl)
theorem dX10_next_18 : decode cX10_next 18 = .ok (.aload_n 0, 1) := dk_42 (dk_at dksX10_next_0 18 rfl rfl)
theorem dX10_next_19 : decode cX10_next 19 = .ok (.iconst 1, 1) := dk_4 (dk_at dksX10_next_0 19 rfl rfl)
theorem dX10_next_20 : decode cX10_next 20 = .ok (.invokevirtual 204, 3) := dk_182 0 204 (dk_at dksX10_next_0 20 rfl rfl)
theorem dX10_next_23 : decode cX10_next 23 = .ok (.ireturn, 1) := dk_172 (dk_at dksX10_next_0 23 rfl rfl)
theorem dX10_next_24 : decode cX10_next 24 = .ok (.aload_n 0, 1) := dk_42 (dk_at dksX10_next_1 0 rfl rfl)
theorem dX10_next_25 : decode cX10_next 25 = .ok (.getfield 13, 3) := dk_180 0 13 (dk_at dksX10_next_1 1 rfl rfl)
theorem dX10_next_28 : decode cX10_next 28 = .ok (.aload_n 0, 1) := dk_42 (dk_at dksX10_next_1 4 rfl rfl)
theorem dX10_next_29 : decode cX10_next 29 = .ok (.getfield 71, 3) := dk_180 0 71 (dk_at dksX10_next_1 5 rfl rfl)
theorem dX10_next_32 : decode cX10_next 32 = .ok (.iconst 3, 1) := dk_6 (dk_at dksX10_next_1 8 rfl rfl)
theorem dX10_next_33 : decode cX10_next 33 = .ok (.iload_n 1, 1) := dk_27 (dk_at dksX10_next_1 9 rfl rfl)
theorem dX10_next_34 : decode cX10_next 34 = .ok (.imul, 1) := dk_104 (dk_at dksX10_next_1 10 rfl rfl)
theorem dX10_next_35 : decode cX10_next 35 = .ok (.iaload, 1) := dk_46 (dk_at dksX10_next_1 11 rfl rfl)
theorem dX10_next_36 : decode cX10_next 36 = .ok (.aload_n 0, 1) := dk_42 (dk_at dksX10_next_1 12 rfl rfl)
theorem dX10_next_37 : decode cX10_next 37 = .ok (.getfield 71, 3) := dk_180 0 71 (dk_at dksX10_next_1 13 rfl rfl)
theorem dX10_next_40 : decode cX10_next 40 = .ok (.iconst 3, 1) := dk_6 (dk_at dksX10_next_1 16 rfl rfl)
theorem dX10_next_41 : decode cX10_next 41 = .ok (.iload_n 1, 1) := dk_27 (dk_at dksX10_next_1 17 rfl rfl)
theorem dX10_next_42 : decode cX10_next 42 = .ok (.imul, 1) := dk_104 (dk_at dksX10_next_1 18 rfl rfl)
theorem dX10_next_43 : decode cX10_next 43 = .ok (.iconst 1, 1) := dk_4 (dk_at dksX10_next_1 19 rfl rfl)
theorem dX10_next_44 : decode cX10_next 44 = .ok (.iadd, 1) := dk_96 (dk_at dksX10_next_1 20 rfl rfl)
theorem dX10_next_45 : decode cX10_next 45 = .ok (.iaload, 1) := dk_46 (dk_at dksX10_next_1 21 rfl rfl)
theorem dX10_next_46 : decode cX10_next 46 = .ok (.invokestatic 413, 3) := dk_184 1 157 (dk_at dksX10_next_2 0 rfl rfl)
theorem dX10_next_49 : decode cX10_next 49 = .ok (.istore_n 3, 1) := dk_62 (dk_at dksX10_next_2 3 rfl rfl)
theorem dX10_next_50 : decode cX10_next 50 = .ok (.iload_n 3, 1) := dk_29 (dk_at dksX10_next_2 4 rfl rfl)
theorem dX10_next_51 : decode cX10_next 51 = .ok (.ifCond .ge 11, 3) := dk_156 0 11 (dk_at dksX10_next_2 5 rfl rfl)
theorem dX10_next_54 : decode cX10_next 54 = .ok (.aload_n 0, 1) := dk_42 (dk_at dksX10_next_2 8 rfl rfl)
theorem dX10_next_55 : decode cX10_next 55 = .ok (.iconst 2, 1) := dk_5 (dk_at dksX10_next_2 9 rfl rfl)
theorem dX10_next_56 : decode cX10_next 56 = .ok (.invokevirtual 204, 3) := dk_182 0 204 (dk_at dksX10_next_2 10 rfl rfl)
theorem dX10_next_59 : decode cX10_next 59 = .ok (.goto 18, 3) := dk_167 0 18 (dk_at dksX10_next_2 13 rfl rfl)
theorem dX10_next_62 : decode cX10_next 62 = .ok (.iload_n 2, 1) := dk_28 (dk_at dksX10_next_2 16 rfl rfl)
theorem dX10_next_63 : decode cX10_next 63 = .ok (.ifCond .ne 10, 3) := dk_154 0 10 (dk_at dksX10_next_2 17 rfl rfl)
theorem dX10_next_66 : decode cX10_next 66 = .ok (.iload_n 3, 1) := dk_29 (dk_at dksX10_next_2 20 rfl rfl)
theorem dX10_next_67 : decode cX10_next 67 = .ok (.bipush 100, 2) := dk_16 100 (dk_at dksX10_next_2 21 rfl rfl)
theorem dX10_next_69 : decode cX10_next 69 = .ok (.idiv, 1) := dk_108 (dk_at dksX10_next_2 23 rfl rfl)
theorem dX10_next_70 : decode cX10_next 70 = .ok (.goto 7, 3) := dk_167 0 7 (dk_at dksX10_next_3 0 rfl rfl)
theorem dX10_next_73 : decode cX10_next 73 = .ok (.iload_n 3, 1) := dk_29 (dk_at dksX10_next_3 3 rfl rfl)
theorem dX10_next_74 : decode cX10_next 74 = .ok (.bipush 100, 2) := dk_16 100 (dk_at dksX10_next_3 4 rfl rfl)
theorem dX10_next_76 : decode cX10_next 76 = .ok (.irem, 1) := dk_112 (dk_at dksX10_next_3 6 rfl rfl)
theorem dX10_next_77 : decode cX10_next 77 = .ok (.ireturn, 1) := dk_172 (dk_at dksX10_next_3 7 rfl rfl)
abbrev cX10_nextOf : ByteArray := prog_26_method_112_code
def yX10_nextOf : MethodName := ⟨RX10, "nextOf", "([III)I"⟩
def dkwX10_nextOf_5 : List UInt8 := [3, 184, 1, 153, 167, 0, 4, 29, 172]
abbrev dktX10_nextOf_5 : List UInt8 := dkwX10_nextOf_5 ++ []
def dkwX10_nextOf_4 : List UInt8 := [4, 159, 0, 8, 27, 6, 160, 0, 25, 42, 3, 28, 4, 16, 12, 27, 6, 160, 0, 7, 4, 167, 0, 4]
abbrev dktX10_nextOf_4 : List UInt8 := dkwX10_nextOf_4 ++ dktX10_nextOf_5
def dkwX10_nextOf_3 : List UInt8 := [167, 0, 5, 16, 12, 27, 6, 160, 0, 7, 4, 167, 0, 4, 3, 184, 1, 153, 62, 29, 156, 0, 35, 27]
abbrev dktX10_nextOf_3 : List UInt8 := dkwX10_nextOf_3 ++ dktX10_nextOf_4
def dkwX10_nextOf_2 : List UInt8 := [184, 1, 153, 62, 29, 155, 0, 9, 17, 1, 144, 29, 96, 172, 42, 3, 28, 2, 27, 8, 160, 0, 7, 4]
abbrev dktX10_nextOf_2 : List UInt8 := dkwX10_nextOf_2 ++ dktX10_nextOf_3
def dkwX10_nextOf_1 : List UInt8 := [17, 1, 244, 29, 96, 172, 27, 5, 159, 0, 8, 27, 7, 160, 0, 24, 42, 7, 28, 3, 16, 12, 3]
abbrev dktX10_nextOf_1 : List UInt8 := dkwX10_nextOf_1 ++ dktX10_nextOf_2
def dkwX10_nextOf_0 : List UInt8 := [2, 62, 27, 7, 160, 0, 24, 42, 8, 28, 3, 16, 12, 3, 184, 1, 153, 62, 29, 155, 0, 9]
abbrev dktX10_nextOf_0 : List UInt8 := dkwX10_nextOf_0 ++ dktX10_nextOf_1
theorem dksX10_nextOf_0 : cX10_nextOf.data.toList.drop 0 = dktX10_nextOf_0 := by decide +kernel
theorem dksX10_nextOf_1 : cX10_nextOf.data.toList.drop 22 = dktX10_nextOf_1 := dk_seg dksX10_nextOf_0 22 rfl rfl
theorem dksX10_nextOf_2 : cX10_nextOf.data.toList.drop 45 = dktX10_nextOf_2 := dk_seg dksX10_nextOf_1 23 rfl rfl
theorem dksX10_nextOf_3 : cX10_nextOf.data.toList.drop 69 = dktX10_nextOf_3 := dk_seg dksX10_nextOf_2 24 rfl rfl
theorem dksX10_nextOf_4 : cX10_nextOf.data.toList.drop 93 = dktX10_nextOf_4 := dk_seg dksX10_nextOf_3 24 rfl rfl
theorem dksX10_nextOf_5 : cX10_nextOf.data.toList.drop 117 = dktX10_nextOf_5 := dk_seg dksX10_nextOf_4 24 rfl rfl
theorem dX10_nextOf_0 : decode cX10_nextOf 0 = .ok (.iconst (-1), 1) := dk_2 (dk_at dksX10_nextOf_0 0 rfl rfl)
theorem dX10_nextOf_1 : decode cX10_nextOf 1 = .ok (.istore_n 3, 1) := dk_62 (dk_at dksX10_nextOf_0 1 rfl rfl)
theorem dX10_nextOf_2 : decode cX10_nextOf 2 = .ok (.iload_n 1, 1) := dk_27 (dk_at dksX10_nextOf_0 2 rfl rfl)
theorem dX10_nextOf_3 : decode cX10_nextOf 3 = .ok (.iconst 4, 1) := dk_7 (dk_at dksX10_nextOf_0 3 rfl rfl)
theorem dX10_nextOf_4 : decode cX10_nextOf 4 = .ok (.if_icmp .ne 24, 3) := dk_160 0 24 (dk_at dksX10_nextOf_0 4 rfl rfl)
theorem dX10_nextOf_7 : decode cX10_nextOf 7 = .ok (.aload_n 0, 1) := dk_42 (dk_at dksX10_nextOf_0 7 rfl rfl)
theorem dX10_nextOf_8 : decode cX10_nextOf 8 = .ok (.iconst 5, 1) := dk_8 (dk_at dksX10_nextOf_0 8 rfl rfl)
theorem dX10_nextOf_9 : decode cX10_nextOf 9 = .ok (.iload_n 2, 1) := dk_28 (dk_at dksX10_nextOf_0 9 rfl rfl)
theorem dX10_nextOf_10 : decode cX10_nextOf 10 = .ok (.iconst 0, 1) := dk_3 (dk_at dksX10_nextOf_0 10 rfl rfl)
theorem dX10_nextOf_11 : decode cX10_nextOf 11 = .ok (.bipush 12, 2) := dk_16 12 (dk_at dksX10_nextOf_0 11 rfl rfl)
theorem dX10_nextOf_13 : decode cX10_nextOf 13 = .ok (.iconst 0, 1) := dk_3 (dk_at dksX10_nextOf_0 13 rfl rfl)
theorem dX10_nextOf_14 : decode cX10_nextOf 14 = .ok (.invokestatic 409, 3) := dk_184 1 153 (dk_at dksX10_nextOf_0 14 rfl rfl)
theorem dX10_nextOf_17 : decode cX10_nextOf 17 = .ok (.istore_n 3, 1) := dk_62 (dk_at dksX10_nextOf_0 17 rfl rfl)
theorem dX10_nextOf_18 : decode cX10_nextOf 18 = .ok (.iload_n 3, 1) := dk_29 (dk_at dksX10_nextOf_0 18 rfl rfl)
theorem dX10_nextOf_19 : decode cX10_nextOf 19 = .ok (.ifCond .lt 9, 3) := dk_155 0 9 (dk_at dksX10_nextOf_0 19 rfl rfl)
theorem dX10_nextOf_22 : decode cX10_nextOf 22 = .ok (.sipush 500, 3) := dk_17 1 244 (dk_at dksX10_nextOf_1 0 rfl rfl)
theorem dX10_nextOf_25 : decode cX10_nextOf 25 = .ok (.iload_n 3, 1) := dk_29 (dk_at dksX10_nextOf_1 3 rfl rfl)
theorem dX10_nextOf_26 : decode cX10_nextOf 26 = .ok (.iadd, 1) := dk_96 (dk_at dksX10_nextOf_1 4 rfl rfl)
theorem dX10_nextOf_27 : decode cX10_nextOf 27 = .ok (.ireturn, 1) := dk_172 (dk_at dksX10_nextOf_1 5 rfl rfl)
theorem dX10_nextOf_28 : decode cX10_nextOf 28 = .ok (.iload_n 1, 1) := dk_27 (dk_at dksX10_nextOf_1 6 rfl rfl)
theorem dX10_nextOf_29 : decode cX10_nextOf 29 = .ok (.iconst 2, 1) := dk_5 (dk_at dksX10_nextOf_1 7 rfl rfl)
theorem dX10_nextOf_30 : decode cX10_nextOf 30 = .ok (.if_icmp .eq 8, 3) := dk_159 0 8 (dk_at dksX10_nextOf_1 8 rfl rfl)
theorem dX10_nextOf_33 : decode cX10_nextOf 33 = .ok (.iload_n 1, 1) := dk_27 (dk_at dksX10_nextOf_1 11 rfl rfl)
theorem dX10_nextOf_34 : decode cX10_nextOf 34 = .ok (.iconst 4, 1) := dk_7 (dk_at dksX10_nextOf_1 12 rfl rfl)
theorem dX10_nextOf_35 : decode cX10_nextOf 35 = .ok (.if_icmp .ne 24, 3) := dk_160 0 24 (dk_at dksX10_nextOf_1 13 rfl rfl)
theorem dX10_nextOf_38 : decode cX10_nextOf 38 = .ok (.aload_n 0, 1) := dk_42 (dk_at dksX10_nextOf_1 16 rfl rfl)
theorem dX10_nextOf_39 : decode cX10_nextOf 39 = .ok (.iconst 4, 1) := dk_7 (dk_at dksX10_nextOf_1 17 rfl rfl)
theorem dX10_nextOf_40 : decode cX10_nextOf 40 = .ok (.iload_n 2, 1) := dk_28 (dk_at dksX10_nextOf_1 18 rfl rfl)
theorem dX10_nextOf_41 : decode cX10_nextOf 41 = .ok (.iconst 0, 1) := dk_3 (dk_at dksX10_nextOf_1 19 rfl rfl)
theorem dX10_nextOf_42 : decode cX10_nextOf 42 = .ok (.bipush 12, 2) := dk_16 12 (dk_at dksX10_nextOf_1 20 rfl rfl)
theorem dX10_nextOf_44 : decode cX10_nextOf 44 = .ok (.iconst 0, 1) := dk_3 (dk_at dksX10_nextOf_1 22 rfl rfl)
theorem dX10_nextOf_45 : decode cX10_nextOf 45 = .ok (.invokestatic 409, 3) := dk_184 1 153 (dk_at dksX10_nextOf_2 0 rfl rfl)
theorem dX10_nextOf_48 : decode cX10_nextOf 48 = .ok (.istore_n 3, 1) := dk_62 (dk_at dksX10_nextOf_2 3 rfl rfl)
theorem dX10_nextOf_49 : decode cX10_nextOf 49 = .ok (.iload_n 3, 1) := dk_29 (dk_at dksX10_nextOf_2 4 rfl rfl)
theorem dX10_nextOf_50 : decode cX10_nextOf 50 = .ok (.ifCond .lt 9, 3) := dk_155 0 9 (dk_at dksX10_nextOf_2 5 rfl rfl)
theorem dX10_nextOf_53 : decode cX10_nextOf 53 = .ok (.sipush 400, 3) := dk_17 1 144 (dk_at dksX10_nextOf_2 8 rfl rfl)
theorem dX10_nextOf_56 : decode cX10_nextOf 56 = .ok (.iload_n 3, 1) := dk_29 (dk_at dksX10_nextOf_2 11 rfl rfl)
theorem dX10_nextOf_57 : decode cX10_nextOf 57 = .ok (.iadd, 1) := dk_96 (dk_at dksX10_nextOf_2 12 rfl rfl)
theorem dX10_nextOf_58 : decode cX10_nextOf 58 = .ok (.ireturn, 1) := dk_172 (dk_at dksX10_nextOf_2 13 rfl rfl)
theorem dX10_nextOf_59 : decode cX10_nextOf 59 = .ok (.aload_n 0, 1) := dk_42 (dk_at dksX10_nextOf_2 14 rfl rfl)
theorem dX10_nextOf_60 : decode cX10_nextOf 60 = .ok (.iconst 0, 1) := dk_3 (dk_at dksX10_nextOf_2 15 rfl rfl)
theorem dX10_nextOf_61 : decode cX10_nextOf 61 = .ok (.iload_n 2, 1) := dk_28 (dk_at dksX10_nextOf_2 16 rfl rfl)
theorem dX10_nextOf_62 : decode cX10_nextOf 62 = .ok (.iconst (-1), 1) := dk_2 (dk_at dksX10_nextOf_2 17 rfl rfl)
theorem dX10_nextOf_63 : decode cX10_nextOf 63 = .ok (.iload_n 1, 1) := dk_27 (dk_at dksX10_nextOf_2 18 rfl rfl)
theorem dX10_nextOf_64 : decode cX10_nextOf 64 = .ok (.iconst 5, 1) := dk_8 (dk_at dksX10_nextOf_2 19 rfl rfl)
theorem dX10_nextOf_65 : decode cX10_nextOf 65 = .ok (.if_icmp .ne 7, 3) := dk_160 0 7 (dk_at dksX10_nextOf_2 20 rfl rfl)
theorem dX10_nextOf_68 : decode cX10_nextOf 68 = .ok (.iconst 1, 1) := dk_4 (dk_at dksX10_nextOf_2 23 rfl rfl)
theorem dX10_nextOf_69 : decode cX10_nextOf 69 = .ok (.goto 5, 3) := dk_167 0 5 (dk_at dksX10_nextOf_3 0 rfl rfl)
theorem dX10_nextOf_72 : decode cX10_nextOf 72 = .ok (.bipush 12, 2) := dk_16 12 (dk_at dksX10_nextOf_3 3 rfl rfl)
theorem dX10_nextOf_74 : decode cX10_nextOf 74 = .ok (.iload_n 1, 1) := dk_27 (dk_at dksX10_nextOf_3 5 rfl rfl)
theorem dX10_nextOf_75 : decode cX10_nextOf 75 = .ok (.iconst 3, 1) := dk_6 (dk_at dksX10_nextOf_3 6 rfl rfl)
theorem dX10_nextOf_76 : decode cX10_nextOf 76 = .ok (.if_icmp .ne 7, 3) := dk_160 0 7 (dk_at dksX10_nextOf_3 7 rfl rfl)
theorem dX10_nextOf_79 : decode cX10_nextOf 79 = .ok (.iconst 1, 1) := dk_4 (dk_at dksX10_nextOf_3 10 rfl rfl)
theorem dX10_nextOf_80 : decode cX10_nextOf 80 = .ok (.goto 4, 3) := dk_167 0 4 (dk_at dksX10_nextOf_3 11 rfl rfl)
theorem dX10_nextOf_83 : decode cX10_nextOf 83 = .ok (.iconst 0, 1) := dk_3 (dk_at dksX10_nextOf_3 14 rfl rfl)
theorem dX10_nextOf_84 : decode cX10_nextOf 84 = .ok (.invokestatic 409, 3) := dk_184 1 153 (dk_at dksX10_nextOf_3 15 rfl rfl)
theorem dX10_nextOf_87 : decode cX10_nextOf 87 = .ok (.istore_n 3, 1) := dk_62 (dk_at dksX10_nextOf_3 18 rfl rfl)
theorem dX10_nextOf_88 : decode cX10_nextOf 88 = .ok (.iload_n 3, 1) := dk_29 (dk_at dksX10_nextOf_3 19 rfl rfl)
theorem dX10_nextOf_89 : decode cX10_nextOf 89 = .ok (.ifCond .ge 35, 3) := dk_156 0 35 (dk_at dksX10_nextOf_3 20 rfl rfl)
theorem dX10_nextOf_92 : decode cX10_nextOf 92 = .ok (.iload_n 1, 1) := dk_27 (dk_at dksX10_nextOf_3 23 rfl rfl)
theorem dX10_nextOf_93 : decode cX10_nextOf 93 = .ok (.iconst 1, 1) := dk_4 (dk_at dksX10_nextOf_4 0 rfl rfl)
theorem dX10_nextOf_94 : decode cX10_nextOf 94 = .ok (.if_icmp .eq 8, 3) := dk_159 0 8 (dk_at dksX10_nextOf_4 1 rfl rfl)
theorem dX10_nextOf_97 : decode cX10_nextOf 97 = .ok (.iload_n 1, 1) := dk_27 (dk_at dksX10_nextOf_4 4 rfl rfl)
theorem dX10_nextOf_98 : decode cX10_nextOf 98 = .ok (.iconst 3, 1) := dk_6 (dk_at dksX10_nextOf_4 5 rfl rfl)
theorem dX10_nextOf_99 : decode cX10_nextOf 99 = .ok (.if_icmp .ne 25, 3) := dk_160 0 25 (dk_at dksX10_nextOf_4 6 rfl rfl)
theorem dX10_nextOf_102 : decode cX10_nextOf 102 = .ok (.aload_n 0, 1) := dk_42 (dk_at dksX10_nextOf_4 9 rfl rfl)
theorem dX10_nextOf_103 : decode cX10_nextOf 103 = .ok (.iconst 0, 1) := dk_3 (dk_at dksX10_nextOf_4 10 rfl rfl)
theorem dX10_nextOf_104 : decode cX10_nextOf 104 = .ok (.iload_n 2, 1) := dk_28 (dk_at dksX10_nextOf_4 11 rfl rfl)
theorem dX10_nextOf_105 : decode cX10_nextOf 105 = .ok (.iconst 1, 1) := dk_4 (dk_at dksX10_nextOf_4 12 rfl rfl)
theorem dX10_nextOf_106 : decode cX10_nextOf 106 = .ok (.bipush 12, 2) := dk_16 12 (dk_at dksX10_nextOf_4 13 rfl rfl)
theorem dX10_nextOf_108 : decode cX10_nextOf 108 = .ok (.iload_n 1, 1) := dk_27 (dk_at dksX10_nextOf_4 15 rfl rfl)
theorem dX10_nextOf_109 : decode cX10_nextOf 109 = .ok (.iconst 3, 1) := dk_6 (dk_at dksX10_nextOf_4 16 rfl rfl)
theorem dX10_nextOf_110 : decode cX10_nextOf 110 = .ok (.if_icmp .ne 7, 3) := dk_160 0 7 (dk_at dksX10_nextOf_4 17 rfl rfl)
theorem dX10_nextOf_113 : decode cX10_nextOf 113 = .ok (.iconst 1, 1) := dk_4 (dk_at dksX10_nextOf_4 20 rfl rfl)
theorem dX10_nextOf_114 : decode cX10_nextOf 114 = .ok (.goto 4, 3) := dk_167 0 4 (dk_at dksX10_nextOf_4 21 rfl rfl)
theorem dX10_nextOf_117 : decode cX10_nextOf 117 = .ok (.iconst 0, 1) := dk_3 (dk_at dksX10_nextOf_5 0 rfl rfl)
theorem dX10_nextOf_118 : decode cX10_nextOf 118 = .ok (.invokestatic 409, 3) := dk_184 1 153 (dk_at dksX10_nextOf_5 1 rfl rfl)
theorem dX10_nextOf_121 : decode cX10_nextOf 121 = .ok (.goto 4, 3) := dk_167 0 4 (dk_at dksX10_nextOf_5 4 rfl rfl)
theorem dX10_nextOf_124 : decode cX10_nextOf 124 = .ok (.iload_n 3, 1) := dk_29 (dk_at dksX10_nextOf_5 7 rfl rfl)
theorem dX10_nextOf_125 : decode cX10_nextOf 125 = .ok (.ireturn, 1) := dk_172 (dk_at dksX10_nextOf_5 8 rfl rfl)
abbrev cX10_found : ByteArray := prog_26_method_111_code
def yX10_found : MethodName := ⟨RX10, "found", "([IIIIIZ)I"⟩
def dkwX10_found_4 : List UInt8 := [167, 255, 168, 21, 6, 172]
abbrev dktX10_found_4 : List UInt8 := dkwX10_found_4 ++ []
def dkwX10_found_3 : List UInt8 := [21, 5, 154, 0, 8, 21, 6, 156, 0, 8, 21, 7, 167, 0, 5, 21, 6, 54, 6, 132, 7, 1]
abbrev dktX10_found_3 : List UInt8 := dkwX10_found_3 ++ dktX10_found_4
def dkwX10_found_2 : List UInt8 := [27, 21, 7, 3, 3, 3, 184, 0, 200, 154, 0, 7, 4, 167, 0, 4, 3, 54, 8, 21, 8, 153, 0, 18]
abbrev dktX10_found_2 : List UInt8 := dkwX10_found_2 ++ dktX10_found_3
def dkwX10_found_1 : List UInt8 := [21, 7, 96, 46, 29, 160, 0, 35, 42, 16, 13, 21, 7, 96, 46, 184, 0, 130, 21, 4, 163, 0, 20, 42]
abbrev dktX10_found_1 : List UInt8 := dkwX10_found_1 ++ dktX10_found_2
def dkwX10_found_0 : List UInt8 := [2, 54, 6, 28, 54, 7, 21, 7, 16, 12, 162, 0, 87, 42, 21, 7, 184, 0, 106, 153, 0, 45, 42, 4]
abbrev dktX10_found_0 : List UInt8 := dkwX10_found_0 ++ dktX10_found_1
theorem dksX10_found_0 : cX10_found.data.toList.drop 0 = dktX10_found_0 := by decide +kernel
theorem dksX10_found_1 : cX10_found.data.toList.drop 24 = dktX10_found_1 := dk_seg dksX10_found_0 24 rfl rfl
theorem dksX10_found_2 : cX10_found.data.toList.drop 48 = dktX10_found_2 := dk_seg dksX10_found_1 24 rfl rfl
theorem dksX10_found_3 : cX10_found.data.toList.drop 72 = dktX10_found_3 := dk_seg dksX10_found_2 24 rfl rfl
theorem dksX10_found_4 : cX10_found.data.toList.drop 94 = dktX10_found_4 := dk_seg dksX10_found_3 22 rfl rfl
theorem dX10_found_0 : decode cX10_found 0 = .ok (.iconst (-1), 1) := dk_2 (dk_at dksX10_found_0 0 rfl rfl)
theorem dX10_found_1 : decode cX10_found 1 = .ok (.istore 6, 2) := dk_54 6 (dk_at dksX10_found_0 1 rfl rfl)
theorem dX10_found_3 : decode cX10_found 3 = .ok (.iload_n 2, 1) := dk_28 (dk_at dksX10_found_0 3 rfl rfl)
theorem dX10_found_4 : decode cX10_found 4 = .ok (.istore 7, 2) := dk_54 7 (dk_at dksX10_found_0 4 rfl rfl)
theorem dX10_found_6 : decode cX10_found 6 = .ok (.iload 7, 2) := dk_21 7 (dk_at dksX10_found_0 6 rfl rfl)
theorem dX10_found_8 : decode cX10_found 8 = .ok (.bipush 12, 2) := dk_16 12 (dk_at dksX10_found_0 8 rfl rfl)
theorem dX10_found_10 : decode cX10_found 10 = .ok (.if_icmp .ge 87, 3) := dk_162 0 87 (dk_at dksX10_found_0 10 rfl rfl)
theorem dX10_found_13 : decode cX10_found 13 = .ok (.aload_n 0, 1) := dk_42 (dk_at dksX10_found_0 13 rfl rfl)
theorem dX10_found_14 : decode cX10_found 14 = .ok (.iload 7, 2) := dk_21 7 (dk_at dksX10_found_0 14 rfl rfl)
theorem dX10_found_16 : decode cX10_found 16 = .ok (.invokestatic 106, 3) := dk_184 0 106 (dk_at dksX10_found_0 16 rfl rfl)
theorem dX10_found_19 : decode cX10_found 19 = .ok (.ifCond .eq 45, 3) := dk_153 0 45 (dk_at dksX10_found_0 19 rfl rfl)
theorem dX10_found_22 : decode cX10_found 22 = .ok (.aload_n 0, 1) := dk_42 (dk_at dksX10_found_0 22 rfl rfl)
theorem dX10_found_23 : decode cX10_found 23 = .ok (.iconst 1, 1) := dk_4 (dk_at dksX10_found_0 23 rfl rfl)
theorem dX10_found_24 : decode cX10_found 24 = .ok (.iload 7, 2) := dk_21 7 (dk_at dksX10_found_1 0 rfl rfl)
theorem dX10_found_26 : decode cX10_found 26 = .ok (.iadd, 1) := dk_96 (dk_at dksX10_found_1 2 rfl rfl)
theorem dX10_found_27 : decode cX10_found 27 = .ok (.iaload, 1) := dk_46 (dk_at dksX10_found_1 3 rfl rfl)
theorem dX10_found_28 : decode cX10_found 28 = .ok (.iload_n 3, 1) := dk_29 (dk_at dksX10_found_1 4 rfl rfl)
theorem dX10_found_29 : decode cX10_found 29 = .ok (.if_icmp .ne 35, 3) := dk_160 0 35 (dk_at dksX10_found_1 5 rfl rfl)
theorem dX10_found_32 : decode cX10_found 32 = .ok (.aload_n 0, 1) := dk_42 (dk_at dksX10_found_1 8 rfl rfl)
theorem dX10_found_33 : decode cX10_found 33 = .ok (.bipush 13, 2) := dk_16 13 (dk_at dksX10_found_1 9 rfl rfl)
theorem dX10_found_35 : decode cX10_found 35 = .ok (.iload 7, 2) := dk_21 7 (dk_at dksX10_found_1 11 rfl rfl)
theorem dX10_found_37 : decode cX10_found 37 = .ok (.iadd, 1) := dk_96 (dk_at dksX10_found_1 13 rfl rfl)
theorem dX10_found_38 : decode cX10_found 38 = .ok (.iaload, 1) := dk_46 (dk_at dksX10_found_1 14 rfl rfl)
theorem dX10_found_39 : decode cX10_found 39 = .ok (.invokestatic 130, 3) := dk_184 0 130 (dk_at dksX10_found_1 15 rfl rfl)
theorem dX10_found_42 : decode cX10_found 42 = .ok (.iload 4, 2) := dk_21 4 (dk_at dksX10_found_1 18 rfl rfl)
theorem dX10_found_44 : decode cX10_found 44 = .ok (.if_icmp .gt 20, 3) := dk_163 0 20 (dk_at dksX10_found_1 20 rfl rfl)
theorem dX10_found_47 : decode cX10_found 47 = .ok (.aload_n 0, 1) := dk_42 (dk_at dksX10_found_1 23 rfl rfl)
theorem dX10_found_48 : decode cX10_found 48 = .ok (.iload_n 1, 1) := dk_27 (dk_at dksX10_found_2 0 rfl rfl)
theorem dX10_found_49 : decode cX10_found 49 = .ok (.iload 7, 2) := dk_21 7 (dk_at dksX10_found_2 1 rfl rfl)
theorem dX10_found_51 : decode cX10_found 51 = .ok (.iconst 0, 1) := dk_3 (dk_at dksX10_found_2 3 rfl rfl)
theorem dX10_found_52 : decode cX10_found 52 = .ok (.iconst 0, 1) := dk_3 (dk_at dksX10_found_2 4 rfl rfl)
theorem dX10_found_53 : decode cX10_found 53 = .ok (.iconst 0, 1) := dk_3 (dk_at dksX10_found_2 5 rfl rfl)
theorem dX10_found_54 : decode cX10_found 54 = .ok (.invokestatic 200, 3) := dk_184 0 200 (dk_at dksX10_found_2 6 rfl rfl)
theorem dX10_found_57 : decode cX10_found 57 = .ok (.ifCond .ne 7, 3) := dk_154 0 7 (dk_at dksX10_found_2 9 rfl rfl)
theorem dX10_found_60 : decode cX10_found 60 = .ok (.iconst 1, 1) := dk_4 (dk_at dksX10_found_2 12 rfl rfl)
theorem dX10_found_61 : decode cX10_found 61 = .ok (.goto 4, 3) := dk_167 0 4 (dk_at dksX10_found_2 13 rfl rfl)
theorem dX10_found_64 : decode cX10_found 64 = .ok (.iconst 0, 1) := dk_3 (dk_at dksX10_found_2 16 rfl rfl)
theorem dX10_found_65 : decode cX10_found 65 = .ok (.istore 8, 2) := dk_54 8 (dk_at dksX10_found_2 17 rfl rfl)
theorem dX10_found_67 : decode cX10_found 67 = .ok (.iload 8, 2) := dk_21 8 (dk_at dksX10_found_2 19 rfl rfl)
theorem dX10_found_69 : decode cX10_found 69 = .ok (.ifCond .eq 18, 3) := dk_153 0 18 (dk_at dksX10_found_2 21 rfl rfl)
theorem dX10_found_72 : decode cX10_found 72 = .ok (.iload 5, 2) := dk_21 5 (dk_at dksX10_found_3 0 rfl rfl)
theorem dX10_found_74 : decode cX10_found 74 = .ok (.ifCond .ne 8, 3) := dk_154 0 8 (dk_at dksX10_found_3 2 rfl rfl)
theorem dX10_found_77 : decode cX10_found 77 = .ok (.iload 6, 2) := dk_21 6 (dk_at dksX10_found_3 5 rfl rfl)
theorem dX10_found_79 : decode cX10_found 79 = .ok (.ifCond .ge 8, 3) := dk_156 0 8 (dk_at dksX10_found_3 7 rfl rfl)
theorem dX10_found_82 : decode cX10_found 82 = .ok (.iload 7, 2) := dk_21 7 (dk_at dksX10_found_3 10 rfl rfl)
theorem dX10_found_84 : decode cX10_found 84 = .ok (.goto 5, 3) := dk_167 0 5 (dk_at dksX10_found_3 12 rfl rfl)
theorem dX10_found_87 : decode cX10_found 87 = .ok (.iload 6, 2) := dk_21 6 (dk_at dksX10_found_3 15 rfl rfl)
theorem dX10_found_89 : decode cX10_found 89 = .ok (.istore 6, 2) := dk_54 6 (dk_at dksX10_found_3 17 rfl rfl)
theorem dX10_found_91 : decode cX10_found 91 = .ok (.iinc 7 1, 3) := dk_132 7 1 (dk_at dksX10_found_3 19 rfl rfl)
theorem dX10_found_94 : decode cX10_found 94 = .ok (.goto (-88), 3) := dk_167 255 168 (dk_at dksX10_found_4 0 rfl rfl)
theorem dX10_found_97 : decode cX10_found 97 = .ok (.iload 6, 2) := dk_21 6 (dk_at dksX10_found_4 3 rfl rfl)
theorem dX10_found_99 : decode cX10_found 99 = .ok (.ireturn, 1) := dk_172 (dk_at dksX10_found_4 5 rfl rfl)
abbrev cX10_work : ByteArray := prog_26_method_114_code
def yX10_work : MethodName := ⟨RX10, "work", "(II)I"⟩
def dkwX10_work_7 : List UInt8 := [167, 0, 5, 21, 5, 79, 29, 172]
abbrev dktX10_work_7 : List UInt8 := dkwX10_work_7 ++ []
def dkwX10_work_6 : List UInt8 := [29, 96, 54, 5, 42, 180, 0, 71, 6, 27, 104, 5, 96, 21, 5, 17, 39, 15, 164, 0, 9, 17, 39, 15]
abbrev dktX10_work_6 : List UInt8 := dkwX10_work_6 ++ dktX10_work_7
def dkwX10_work_5 : List UInt8 := [6, 27, 104, 4, 96, 46, 184, 1, 157, 54, 4, 167, 255, 199, 42, 180, 0, 71, 6, 27, 104, 5, 96, 46]
abbrev dktX10_work_5 : List UInt8 := dkwX10_work_5 ++ dktX10_work_6
def dkwX10_work_4 : List UInt8 := [3, 3, 182, 0, 207, 132, 3, 1, 42, 180, 0, 13, 42, 180, 0, 71, 6, 27, 104, 46, 42, 180, 0, 71]
abbrev dktX10_work_4 : List UInt8 := dkwX10_work_4 ++ dktX10_work_5
def dkwX10_work_3 : List UInt8 := [54, 4, 29, 28, 162, 0, 58, 21, 4, 155, 0, 53, 42, 21, 4, 16, 100, 108, 21, 4, 16, 100, 112, 3]
abbrev dktX10_work_3 : List UInt8 := dkwX10_work_3 ++ dktX10_work_4
def dkwX10_work_2 : List UInt8 := [180, 0, 13, 42, 180, 0, 71, 6, 27, 104, 46, 42, 180, 0, 71, 6, 27, 104, 4, 96, 46, 184, 1, 157]
abbrev dktX10_work_2 : List UInt8 := dkwX10_work_2 ++ dktX10_work_3
def dkwX10_work_1 : List UInt8 := [182, 0, 204, 172, 42, 180, 0, 181, 28, 96, 16, 40, 164, 0, 9, 42, 7, 182, 0, 204, 172, 3, 62, 42]
abbrev dktX10_work_1 : List UInt8 := dkwX10_work_1 ++ dktX10_work_2
def dkwX10_work_0 : List UInt8 := [42, 27, 182, 1, 147, 153, 0, 15, 28, 133, 10, 20, 1, 160, 184, 0, 102, 154, 0, 9, 42, 4]
abbrev dktX10_work_0 : List UInt8 := dkwX10_work_0 ++ dktX10_work_1
theorem dksX10_work_0 : cX10_work.data.toList.drop 0 = dktX10_work_0 := by decide +kernel
theorem dksX10_work_1 : cX10_work.data.toList.drop 22 = dktX10_work_1 := dk_seg dksX10_work_0 22 rfl rfl
theorem dksX10_work_2 : cX10_work.data.toList.drop 46 = dktX10_work_2 := dk_seg dksX10_work_1 24 rfl rfl
theorem dksX10_work_3 : cX10_work.data.toList.drop 70 = dktX10_work_3 := dk_seg dksX10_work_2 24 rfl rfl
theorem dksX10_work_4 : cX10_work.data.toList.drop 94 = dktX10_work_4 := dk_seg dksX10_work_3 24 rfl rfl
theorem dksX10_work_5 : cX10_work.data.toList.drop 118 = dktX10_work_5 := dk_seg dksX10_work_4 24 rfl rfl
theorem dksX10_work_6 : cX10_work.data.toList.drop 142 = dktX10_work_6 := dk_seg dksX10_work_5 24 rfl rfl
theorem dksX10_work_7 : cX10_work.data.toList.drop 166 = dktX10_work_7 := dk_seg dksX10_work_6 24 rfl rfl
theorem dX10_work_0 : decode cX10_work 0 = .ok (.aload_n 0, 1) := dk_42 (dk_at dksX10_work_0 0 rfl rfl)
theorem dX10_work_1 : decode cX10_work 1 = .ok (.iload_n 1, 1) := dk_27 (dk_at dksX10_work_0 1 rfl rfl)
theorem dX10_work_2 : decode cX10_work 2 = .ok (.invokevirtual 403, 3) := dk_182 1 147 (dk_at dksX10_work_0 2 rfl rfl)
theorem dX10_work_5 : decode cX10_work 5 = .ok (.ifCond .eq 15, 3) := dk_153 0 15 (dk_at dksX10_work_0 5 rfl rfl)
theorem dX10_work_8 : decode cX10_work 8 = .ok (.iload_n 2, 1) := dk_28 (dk_at dksX10_work_0 8 rfl rfl)
theorem dX10_work_9 : decode cX10_work 9 = .ok (.i2l, 1) := dk_133 (dk_at dksX10_work_0 9 rfl rfl)
theorem dX10_work_10 : decode cX10_work 10 = .ok (.lconst 1, 1) := dk_10 (dk_at dksX10_work_0 10 rfl rfl)
theorem dX10_work_11 : decode cX10_work 11 = .ok (.ldc2_w 416, 3) := dk_20 1 160 (dk_at dksX10_work_0 11 rfl rfl)
theorem dX10_work_14 : decode cX10_work 14 = .ok (.invokestatic 102, 3) := dk_184 0 102 (dk_at dksX10_work_0 14 rfl rfl)
theorem dX10_work_17 : decode cX10_work 17 = .ok (.ifCond .ne 9, 3) := dk_154 0 9 (dk_at dksX10_work_0 17 rfl rfl)
theorem dX10_work_20 : decode cX10_work 20 = .ok (.aload_n 0, 1) := dk_42 (dk_at dksX10_work_0 20 rfl rfl)
theorem dX10_work_21 : decode cX10_work 21 = .ok (.iconst 1, 1) := dk_4 (dk_at dksX10_work_0 21 rfl rfl)
theorem dX10_work_22 : decode cX10_work 22 = .ok (.invokevirtual 204, 3) := dk_182 0 204 (dk_at dksX10_work_1 0 rfl rfl)
theorem dX10_work_25 : decode cX10_work 25 = .ok (.ireturn, 1) := dk_172 (dk_at dksX10_work_1 3 rfl rfl)
theorem dX10_work_26 : decode cX10_work 26 = .ok (.aload_n 0, 1) := dk_42 (dk_at dksX10_work_1 4 rfl rfl)
theorem dX10_work_27 : decode cX10_work 27 = .ok (.getfield 181, 3) := dk_180 0 181 (dk_at dksX10_work_1 5 rfl rfl)
theorem dX10_work_30 : decode cX10_work 30 = .ok (.iload_n 2, 1) := dk_28 (dk_at dksX10_work_1 8 rfl rfl)
theorem dX10_work_31 : decode cX10_work 31 = .ok (.iadd, 1) := dk_96 (dk_at dksX10_work_1 9 rfl rfl)
theorem dX10_work_32 : decode cX10_work 32 = .ok (.bipush 40, 2) := dk_16 40 (dk_at dksX10_work_1 10 rfl rfl)
theorem dX10_work_34 : decode cX10_work 34 = .ok (.if_icmp .le 9, 3) := dk_164 0 9 (dk_at dksX10_work_1 12 rfl rfl)
theorem dX10_work_37 : decode cX10_work 37 = .ok (.aload_n 0, 1) := dk_42 (dk_at dksX10_work_1 15 rfl rfl)
theorem dX10_work_38 : decode cX10_work 38 = .ok (.iconst 4, 1) := dk_7 (dk_at dksX10_work_1 16 rfl rfl)
theorem dX10_work_39 : decode cX10_work 39 = .ok (.invokevirtual 204, 3) := dk_182 0 204 (dk_at dksX10_work_1 17 rfl rfl)
theorem dX10_work_42 : decode cX10_work 42 = .ok (.ireturn, 1) := dk_172 (dk_at dksX10_work_1 20 rfl rfl)
theorem dX10_work_43 : decode cX10_work 43 = .ok (.iconst 0, 1) := dk_3 (dk_at dksX10_work_1 21 rfl rfl)
theorem dX10_work_44 : decode cX10_work 44 = .ok (.istore_n 3, 1) := dk_62 (dk_at dksX10_work_1 22 rfl rfl)
theorem dX10_work_45 : decode cX10_work 45 = .ok (.aload_n 0, 1) := dk_42 (dk_at dksX10_work_1 23 rfl rfl)
theorem dX10_work_46 : decode cX10_work 46 = .ok (.getfield 13, 3) := dk_180 0 13 (dk_at dksX10_work_2 0 rfl rfl)
theorem dX10_work_49 : decode cX10_work 49 = .ok (.aload_n 0, 1) := dk_42 (dk_at dksX10_work_2 3 rfl rfl)
theorem dX10_work_50 : decode cX10_work 50 = .ok (.getfield 71, 3) := dk_180 0 71 (dk_at dksX10_work_2 4 rfl rfl)
theorem dX10_work_53 : decode cX10_work 53 = .ok (.iconst 3, 1) := dk_6 (dk_at dksX10_work_2 7 rfl rfl)
theorem dX10_work_54 : decode cX10_work 54 = .ok (.iload_n 1, 1) := dk_27 (dk_at dksX10_work_2 8 rfl rfl)
theorem dX10_work_55 : decode cX10_work 55 = .ok (.imul, 1) := dk_104 (dk_at dksX10_work_2 9 rfl rfl)
theorem dX10_work_56 : decode cX10_work 56 = .ok (.iaload, 1) := dk_46 (dk_at dksX10_work_2 10 rfl rfl)
theorem dX10_work_57 : decode cX10_work 57 = .ok (.aload_n 0, 1) := dk_42 (dk_at dksX10_work_2 11 rfl rfl)
theorem dX10_work_58 : decode cX10_work 58 = .ok (.getfield 71, 3) := dk_180 0 71 (dk_at dksX10_work_2 12 rfl rfl)
theorem dX10_work_61 : decode cX10_work 61 = .ok (.iconst 3, 1) := dk_6 (dk_at dksX10_work_2 15 rfl rfl)
theorem dX10_work_62 : decode cX10_work 62 = .ok (.iload_n 1, 1) := dk_27 (dk_at dksX10_work_2 16 rfl rfl)
theorem dX10_work_63 : decode cX10_work 63 = .ok (.imul, 1) := dk_104 (dk_at dksX10_work_2 17 rfl rfl)
theorem dX10_work_64 : decode cX10_work 64 = .ok (.iconst 1, 1) := dk_4 (dk_at dksX10_work_2 18 rfl rfl)
theorem dX10_work_65 : decode cX10_work 65 = .ok (.iadd, 1) := dk_96 (dk_at dksX10_work_2 19 rfl rfl)
theorem dX10_work_66 : decode cX10_work 66 = .ok (.iaload, 1) := dk_46 (dk_at dksX10_work_2 20 rfl rfl)
theorem dX10_work_67 : decode cX10_work 67 = .ok (.invokestatic 413, 3) := dk_184 1 157 (dk_at dksX10_work_2 21 rfl rfl)
theorem dX10_work_70 : decode cX10_work 70 = .ok (.istore 4, 2) := dk_54 4 (dk_at dksX10_work_3 0 rfl rfl)
theorem dX10_work_72 : decode cX10_work 72 = .ok (.iload_n 3, 1) := dk_29 (dk_at dksX10_work_3 2 rfl rfl)
theorem dX10_work_73 : decode cX10_work 73 = .ok (.iload_n 2, 1) := dk_28 (dk_at dksX10_work_3 3 rfl rfl)
theorem dX10_work_74 : decode cX10_work 74 = .ok (.if_icmp .ge 58, 3) := dk_162 0 58 (dk_at dksX10_work_3 4 rfl rfl)
theorem dX10_work_77 : decode cX10_work 77 = .ok (.iload 4, 2) := dk_21 4 (dk_at dksX10_work_3 7 rfl rfl)
theorem dX10_work_79 : decode cX10_work 79 = .ok (.ifCond .lt 53, 3) := dk_155 0 53 (dk_at dksX10_work_3 9 rfl rfl)
theorem dX10_work_82 : decode cX10_work 82 = .ok (.aload_n 0, 1) := dk_42 (dk_at dksX10_work_3 12 rfl rfl)
theorem dX10_work_83 : decode cX10_work 83 = .ok (.iload 4, 2) := dk_21 4 (dk_at dksX10_work_3 13 rfl rfl)
theorem dX10_work_85 : decode cX10_work 85 = .ok (.bipush 100, 2) := dk_16 100 (dk_at dksX10_work_3 15 rfl rfl)
theorem dX10_work_87 : decode cX10_work 87 = .ok (.idiv, 1) := dk_108 (dk_at dksX10_work_3 17 rfl rfl)
theorem dX10_work_88 : decode cX10_work 88 = .ok (.iload 4, 2) := dk_21 4 (dk_at dksX10_work_3 18 rfl rfl)
theorem dX10_work_90 : decode cX10_work 90 = .ok (.bipush 100, 2) := dk_16 100 (dk_at dksX10_work_3 20 rfl rfl)
theorem dX10_work_92 : decode cX10_work 92 = .ok (.irem, 1) := dk_112 (dk_at dksX10_work_3 22 rfl rfl)
theorem dX10_work_93 : decode cX10_work 93 = .ok (.iconst 0, 1) := dk_3 (dk_at dksX10_work_3 23 rfl rfl)
theorem dX10_work_94 : decode cX10_work 94 = .ok (.iconst 0, 1) := dk_3 (dk_at dksX10_work_4 0 rfl rfl)
theorem dX10_work_95 : decode cX10_work 95 = .ok (.iconst 0, 1) := dk_3 (dk_at dksX10_work_4 1 rfl rfl)
theorem dX10_work_96 : decode cX10_work 96 = .ok (.invokevirtual 207, 3) := dk_182 0 207 (dk_at dksX10_work_4 2 rfl rfl)
theorem dX10_work_99 : decode cX10_work 99 = .ok (.iinc 3 1, 3) := dk_132 3 1 (dk_at dksX10_work_4 5 rfl rfl)
theorem dX10_work_102 : decode cX10_work 102 = .ok (.aload_n 0, 1) := dk_42 (dk_at dksX10_work_4 8 rfl rfl)
theorem dX10_work_103 : decode cX10_work 103 = .ok (.getfield 13, 3) := dk_180 0 13 (dk_at dksX10_work_4 9 rfl rfl)
theorem dX10_work_106 : decode cX10_work 106 = .ok (.aload_n 0, 1) := dk_42 (dk_at dksX10_work_4 12 rfl rfl)
theorem dX10_work_107 : decode cX10_work 107 = .ok (.getfield 71, 3) := dk_180 0 71 (dk_at dksX10_work_4 13 rfl rfl)
theorem dX10_work_110 : decode cX10_work 110 = .ok (.iconst 3, 1) := dk_6 (dk_at dksX10_work_4 16 rfl rfl)
theorem dX10_work_111 : decode cX10_work 111 = .ok (.iload_n 1, 1) := dk_27 (dk_at dksX10_work_4 17 rfl rfl)
theorem dX10_work_112 : decode cX10_work 112 = .ok (.imul, 1) := dk_104 (dk_at dksX10_work_4 18 rfl rfl)
theorem dX10_work_113 : decode cX10_work 113 = .ok (.iaload, 1) := dk_46 (dk_at dksX10_work_4 19 rfl rfl)
theorem dX10_work_114 : decode cX10_work 114 = .ok (.aload_n 0, 1) := dk_42 (dk_at dksX10_work_4 20 rfl rfl)
theorem dX10_work_115 : decode cX10_work 115 = .ok (.getfield 71, 3) := dk_180 0 71 (dk_at dksX10_work_4 21 rfl rfl)
theorem dX10_work_118 : decode cX10_work 118 = .ok (.iconst 3, 1) := dk_6 (dk_at dksX10_work_5 0 rfl rfl)
theorem dX10_work_119 : decode cX10_work 119 = .ok (.iload_n 1, 1) := dk_27 (dk_at dksX10_work_5 1 rfl rfl)
theorem dX10_work_120 : decode cX10_work 120 = .ok (.imul, 1) := dk_104 (dk_at dksX10_work_5 2 rfl rfl)
theorem dX10_work_121 : decode cX10_work 121 = .ok (.iconst 1, 1) := dk_4 (dk_at dksX10_work_5 3 rfl rfl)
theorem dX10_work_122 : decode cX10_work 122 = .ok (.iadd, 1) := dk_96 (dk_at dksX10_work_5 4 rfl rfl)
theorem dX10_work_123 : decode cX10_work 123 = .ok (.iaload, 1) := dk_46 (dk_at dksX10_work_5 5 rfl rfl)
theorem dX10_work_124 : decode cX10_work 124 = .ok (.invokestatic 413, 3) := dk_184 1 157 (dk_at dksX10_work_5 6 rfl rfl)
theorem dX10_work_127 : decode cX10_work 127 = .ok (.istore 4, 2) := dk_54 4 (dk_at dksX10_work_5 9 rfl rfl)
theorem dX10_work_129 : decode cX10_work 129 = .ok (.goto (-57), 3) := dk_167 255 199 (dk_at dksX10_work_5 11 rfl rfl)
theorem dX10_work_132 : decode cX10_work 132 = .ok (.aload_n 0, 1) := dk_42 (dk_at dksX10_work_5 14 rfl rfl)
theorem dX10_work_133 : decode cX10_work 133 = .ok (.getfield 71, 3) := dk_180 0 71 (dk_at dksX10_work_5 15 rfl rfl)
theorem dX10_work_136 : decode cX10_work 136 = .ok (.iconst 3, 1) := dk_6 (dk_at dksX10_work_5 18 rfl rfl)
theorem dX10_work_137 : decode cX10_work 137 = .ok (.iload_n 1, 1) := dk_27 (dk_at dksX10_work_5 19 rfl rfl)
theorem dX10_work_138 : decode cX10_work 138 = .ok (.imul, 1) := dk_104 (dk_at dksX10_work_5 20 rfl rfl)
theorem dX10_work_139 : decode cX10_work 139 = .ok (.iconst 2, 1) := dk_5 (dk_at dksX10_work_5 21 rfl rfl)
theorem dX10_work_140 : decode cX10_work 140 = .ok (.iadd, 1) := dk_96 (dk_at dksX10_work_5 22 rfl rfl)
theorem dX10_work_141 : decode cX10_work 141 = .ok (.iaload, 1) := dk_46 (dk_at dksX10_work_5 23 rfl rfl)
theorem dX10_work_142 : decode cX10_work 142 = .ok (.iload_n 3, 1) := dk_29 (dk_at dksX10_work_6 0 rfl rfl)
theorem dX10_work_143 : decode cX10_work 143 = .ok (.iadd, 1) := dk_96 (dk_at dksX10_work_6 1 rfl rfl)
theorem dX10_work_144 : decode cX10_work 144 = .ok (.istore 5, 2) := dk_54 5 (dk_at dksX10_work_6 2 rfl rfl)
theorem dX10_work_146 : decode cX10_work 146 = .ok (.aload_n 0, 1) := dk_42 (dk_at dksX10_work_6 4 rfl rfl)
theorem dX10_work_147 : decode cX10_work 147 = .ok (.getfield 71, 3) := dk_180 0 71 (dk_at dksX10_work_6 5 rfl rfl)
theorem dX10_work_150 : decode cX10_work 150 = .ok (.iconst 3, 1) := dk_6 (dk_at dksX10_work_6 8 rfl rfl)
theorem dX10_work_151 : decode cX10_work 151 = .ok (.iload_n 1, 1) := dk_27 (dk_at dksX10_work_6 9 rfl rfl)
theorem dX10_work_152 : decode cX10_work 152 = .ok (.imul, 1) := dk_104 (dk_at dksX10_work_6 10 rfl rfl)
theorem dX10_work_153 : decode cX10_work 153 = .ok (.iconst 2, 1) := dk_5 (dk_at dksX10_work_6 11 rfl rfl)
theorem dX10_work_154 : decode cX10_work 154 = .ok (.iadd, 1) := dk_96 (dk_at dksX10_work_6 12 rfl rfl)
theorem dX10_work_155 : decode cX10_work 155 = .ok (.iload 5, 2) := dk_21 5 (dk_at dksX10_work_6 13 rfl rfl)
theorem dX10_work_157 : decode cX10_work 157 = .ok (.sipush 9999, 3) := dk_17 39 15 (dk_at dksX10_work_6 15 rfl rfl)
theorem dX10_work_160 : decode cX10_work 160 = .ok (.if_icmp .le 9, 3) := dk_164 0 9 (dk_at dksX10_work_6 18 rfl rfl)
theorem dX10_work_163 : decode cX10_work 163 = .ok (.sipush 9999, 3) := dk_17 39 15 (dk_at dksX10_work_6 21 rfl rfl)
theorem dX10_work_166 : decode cX10_work 166 = .ok (.goto 5, 3) := dk_167 0 5 (dk_at dksX10_work_7 0 rfl rfl)
theorem dX10_work_169 : decode cX10_work 169 = .ok (.iload 5, 2) := dk_21 5 (dk_at dksX10_work_7 3 rfl rfl)
theorem dX10_work_171 : decode cX10_work 171 = .ok (.iastore, 1) := dk_79 (dk_at dksX10_work_7 5 rfl rfl)
theorem dX10_work_172 : decode cX10_work 172 = .ok (.iload_n 3, 1) := dk_29 (dk_at dksX10_work_7 6 rfl rfl)
theorem dX10_work_173 : decode cX10_work 173 = .ok (.ireturn, 1) := dk_172 (dk_at dksX10_work_7 7 rfl rfl)
abbrev cX10_rest : ByteArray := prog_26_method_117_code
def yX10_rest : MethodName := ⟨RX10, "rest", "(II)I"⟩
def dkwX10_rest_3 : List UInt8 := [46, 184, 0, 130, 167, 0, 12, 42, 180, 0, 74, 3, 50, 184, 1, 165, 172]
abbrev dktX10_rest_3 : List UInt8 := dkwX10_rest_3 ++ []
def dkwX10_rest_2 : List UInt8 := [182, 1, 162, 62, 28, 154, 0, 7, 29, 167, 0, 31, 28, 4, 160, 0, 17, 42, 180, 0, 74, 3, 50, 3]
abbrev dktX10_rest_2 : List UInt8 := dkwX10_rest_2 ++ dktX10_rest_3
def dkwX10_rest_1 : List UInt8 := [182, 0, 204, 172, 42, 42, 180, 0, 71, 6, 27, 104, 46, 42, 180, 0, 71, 6, 27, 104, 4, 96, 46]
abbrev dktX10_rest_1 : List UInt8 := dkwX10_rest_1 ++ dktX10_rest_2
def dkwX10_rest_0 : List UInt8 := [42, 27, 182, 1, 147, 153, 0, 15, 28, 133, 9, 20, 1, 20, 184, 0, 102, 154, 0, 9, 42, 4]
abbrev dktX10_rest_0 : List UInt8 := dkwX10_rest_0 ++ dktX10_rest_1
theorem dksX10_rest_0 : cX10_rest.data.toList.drop 0 = dktX10_rest_0 := by decide +kernel
theorem dksX10_rest_1 : cX10_rest.data.toList.drop 22 = dktX10_rest_1 := dk_seg dksX10_rest_0 22 rfl rfl
theorem dksX10_rest_2 : cX10_rest.data.toList.drop 45 = dktX10_rest_2 := dk_seg dksX10_rest_1 23 rfl rfl
theorem dksX10_rest_3 : cX10_rest.data.toList.drop 69 = dktX10_rest_3 := dk_seg dksX10_rest_2 24 rfl rfl
theorem dX10_rest_0 : decode cX10_rest 0 = .ok (.aload_n 0, 1) := dk_42 (dk_at dksX10_rest_0 0 rfl rfl)
theorem dX10_rest_1 : decode cX10_rest 1 = .ok (.iload_n 1, 1) := dk_27 (dk_at dksX10_rest_0 1 rfl rfl)
theorem dX10_rest_2 : decode cX10_rest 2 = .ok (.invokevirtual 403, 3) := dk_182 1 147 (dk_at dksX10_rest_0 2 rfl rfl)
theorem dX10_rest_5 : decode cX10_rest 5 = .ok (.ifCond .eq 15, 3) := dk_153 0 15 (dk_at dksX10_rest_0 5 rfl rfl)
theorem dX10_rest_8 : decode cX10_rest 8 = .ok (.iload_n 2, 1) := dk_28 (dk_at dksX10_rest_0 8 rfl rfl)
theorem dX10_rest_9 : decode cX10_rest 9 = .ok (.i2l, 1) := dk_133 (dk_at dksX10_rest_0 9 rfl rfl)
theorem dX10_rest_10 : decode cX10_rest 10 = .ok (.lconst 0, 1) := dk_9 (dk_at dksX10_rest_0 10 rfl rfl)
theorem dX10_rest_11 : decode cX10_rest 11 = .ok (.ldc2_w 276, 3) := dk_20 1 20 (dk_at dksX10_rest_0 11 rfl rfl)
theorem dX10_rest_14 : decode cX10_rest 14 = .ok (.invokestatic 102, 3) := dk_184 0 102 (dk_at dksX10_rest_0 14 rfl rfl)
theorem dX10_rest_17 : decode cX10_rest 17 = .ok (.ifCond .ne 9, 3) := dk_154 0 9 (dk_at dksX10_rest_0 17 rfl rfl)
theorem dX10_rest_20 : decode cX10_rest 20 = .ok (.aload_n 0, 1) := dk_42 (dk_at dksX10_rest_0 20 rfl rfl)
theorem dX10_rest_21 : decode cX10_rest 21 = .ok (.iconst 1, 1) := dk_4 (dk_at dksX10_rest_0 21 rfl rfl)
theorem dX10_rest_22 : decode cX10_rest 22 = .ok (.invokevirtual 204, 3) := dk_182 0 204 (dk_at dksX10_rest_1 0 rfl rfl)
theorem dX10_rest_25 : decode cX10_rest 25 = .ok (.ireturn, 1) := dk_172 (dk_at dksX10_rest_1 3 rfl rfl)
theorem dX10_rest_26 : decode cX10_rest 26 = .ok (.aload_n 0, 1) := dk_42 (dk_at dksX10_rest_1 4 rfl rfl)
theorem dX10_rest_27 : decode cX10_rest 27 = .ok (.aload_n 0, 1) := dk_42 (dk_at dksX10_rest_1 5 rfl rfl)
theorem dX10_rest_28 : decode cX10_rest 28 = .ok (.getfield 71, 3) := dk_180 0 71 (dk_at dksX10_rest_1 6 rfl rfl)
theorem dX10_rest_31 : decode cX10_rest 31 = .ok (.iconst 3, 1) := dk_6 (dk_at dksX10_rest_1 9 rfl rfl)
theorem dX10_rest_32 : decode cX10_rest 32 = .ok (.iload_n 1, 1) := dk_27 (dk_at dksX10_rest_1 10 rfl rfl)
theorem dX10_rest_33 : decode cX10_rest 33 = .ok (.imul, 1) := dk_104 (dk_at dksX10_rest_1 11 rfl rfl)
theorem dX10_rest_34 : decode cX10_rest 34 = .ok (.iaload, 1) := dk_46 (dk_at dksX10_rest_1 12 rfl rfl)
theorem dX10_rest_35 : decode cX10_rest 35 = .ok (.aload_n 0, 1) := dk_42 (dk_at dksX10_rest_1 13 rfl rfl)
theorem dX10_rest_36 : decode cX10_rest 36 = .ok (.getfield 71, 3) := dk_180 0 71 (dk_at dksX10_rest_1 14 rfl rfl)
theorem dX10_rest_39 : decode cX10_rest 39 = .ok (.iconst 3, 1) := dk_6 (dk_at dksX10_rest_1 17 rfl rfl)
theorem dX10_rest_40 : decode cX10_rest 40 = .ok (.iload_n 1, 1) := dk_27 (dk_at dksX10_rest_1 18 rfl rfl)
theorem dX10_rest_41 : decode cX10_rest 41 = .ok (.imul, 1) := dk_104 (dk_at dksX10_rest_1 19 rfl rfl)
theorem dX10_rest_42 : decode cX10_rest 42 = .ok (.iconst 1, 1) := dk_4 (dk_at dksX10_rest_1 20 rfl rfl)
theorem dX10_rest_43 : decode cX10_rest 43 = .ok (.iadd, 1) := dk_96 (dk_at dksX10_rest_1 21 rfl rfl)
theorem dX10_rest_44 : decode cX10_rest 44 = .ok (.iaload, 1) := dk_46 (dk_at dksX10_rest_1 22 rfl rfl)
theorem dX10_rest_45 : decode cX10_rest 45 = .ok (.invokevirtual 418, 3) := dk_182 1 162 (dk_at dksX10_rest_2 0 rfl rfl)
theorem dX10_rest_48 : decode cX10_rest 48 = .ok (.istore_n 3, 1) := dk_62 (dk_at dksX10_rest_2 3 rfl rfl)
theorem dX10_rest_49 : decode cX10_rest 49 = .ok (.iload_n 2, 1) := dk_28 (dk_at dksX10_rest_2 4 rfl rfl)
theorem dX10_rest_50 : decode cX10_rest 50 = .ok (.ifCond .ne 7, 3) := dk_154 0 7 (dk_at dksX10_rest_2 5 rfl rfl)
theorem dX10_rest_53 : decode cX10_rest 53 = .ok (.iload_n 3, 1) := dk_29 (dk_at dksX10_rest_2 8 rfl rfl)
theorem dX10_rest_54 : decode cX10_rest 54 = .ok (.goto 31, 3) := dk_167 0 31 (dk_at dksX10_rest_2 9 rfl rfl)
theorem dX10_rest_57 : decode cX10_rest 57 = .ok (.iload_n 2, 1) := dk_28 (dk_at dksX10_rest_2 12 rfl rfl)
theorem dX10_rest_58 : decode cX10_rest 58 = .ok (.iconst 1, 1) := dk_4 (dk_at dksX10_rest_2 13 rfl rfl)
theorem dX10_rest_59 : decode cX10_rest 59 = .ok (.if_icmp .ne 17, 3) := dk_160 0 17 (dk_at dksX10_rest_2 14 rfl rfl)
theorem dX10_rest_62 : decode cX10_rest 62 = .ok (.aload_n 0, 1) := dk_42 (dk_at dksX10_rest_2 17 rfl rfl)
theorem dX10_rest_63 : decode cX10_rest 63 = .ok (.getfield 74, 3) := dk_180 0 74 (dk_at dksX10_rest_2 18 rfl rfl)
theorem dX10_rest_66 : decode cX10_rest 66 = .ok (.iconst 0, 1) := dk_3 (dk_at dksX10_rest_2 21 rfl rfl)
theorem dX10_rest_67 : decode cX10_rest 67 = .ok (.aaload, 1) := dk_50 (dk_at dksX10_rest_2 22 rfl rfl)
theorem dX10_rest_68 : decode cX10_rest 68 = .ok (.iconst 0, 1) := dk_3 (dk_at dksX10_rest_2 23 rfl rfl)
theorem dX10_rest_69 : decode cX10_rest 69 = .ok (.iaload, 1) := dk_46 (dk_at dksX10_rest_3 0 rfl rfl)
theorem dX10_rest_70 : decode cX10_rest 70 = .ok (.invokestatic 130, 3) := dk_184 0 130 (dk_at dksX10_rest_3 1 rfl rfl)
theorem dX10_rest_73 : decode cX10_rest 73 = .ok (.goto 12, 3) := dk_167 0 12 (dk_at dksX10_rest_3 4 rfl rfl)
theorem dX10_rest_76 : decode cX10_rest 76 = .ok (.aload_n 0, 1) := dk_42 (dk_at dksX10_rest_3 7 rfl rfl)
theorem dX10_rest_77 : decode cX10_rest 77 = .ok (.getfield 74, 3) := dk_180 0 74 (dk_at dksX10_rest_3 8 rfl rfl)
theorem dX10_rest_80 : decode cX10_rest 80 = .ok (.iconst 0, 1) := dk_3 (dk_at dksX10_rest_3 11 rfl rfl)
theorem dX10_rest_81 : decode cX10_rest 81 = .ok (.aaload, 1) := dk_50 (dk_at dksX10_rest_3 12 rfl rfl)
theorem dX10_rest_82 : decode cX10_rest 82 = .ok (.invokestatic 421, 3) := dk_184 1 165 (dk_at dksX10_rest_3 13 rfl rfl)
theorem dX10_rest_85 : decode cX10_rest 85 = .ok (.ireturn, 1) := dk_172 (dk_at dksX10_rest_3 16 rfl rfl)
abbrev cX10_toTheEnd : ByteArray := prog_26_method_115_code
def yX10_toTheEnd : MethodName := ⟨RX10, "toTheEnd", "(II)I"⟩
def dkwX10_toTheEnd_2 : List UInt8 := [132, 4, 1, 45, 27, 28, 184, 1, 157, 54, 5, 167, 255, 223, 21, 4, 172]
abbrev dktX10_toTheEnd_2 : List UInt8 := dkwX10_toTheEnd_2 ++ []
def dkwX10_toTheEnd_1 : List UInt8 := [54, 5, 21, 5, 155, 0, 34, 45, 21, 5, 16, 100, 108, 21, 5, 16, 100, 112, 3, 3, 3, 184, 0, 196]
abbrev dktX10_toTheEnd_1 : List UInt8 := dkwX10_toTheEnd_1 ++ dktX10_toTheEnd_2
def dkwX10_toTheEnd_0 : List UInt8 := [42, 180, 0, 74, 3, 50, 78, 42, 180, 0, 13, 45, 184, 0, 188, 3, 54, 4, 45, 27, 28, 184, 1, 157]
abbrev dktX10_toTheEnd_0 : List UInt8 := dkwX10_toTheEnd_0 ++ dktX10_toTheEnd_1
theorem dksX10_toTheEnd_0 : cX10_toTheEnd.data.toList.drop 0 = dktX10_toTheEnd_0 := by decide +kernel
theorem dksX10_toTheEnd_1 : cX10_toTheEnd.data.toList.drop 24 = dktX10_toTheEnd_1 := dk_seg dksX10_toTheEnd_0 24 rfl rfl
theorem dksX10_toTheEnd_2 : cX10_toTheEnd.data.toList.drop 48 = dktX10_toTheEnd_2 := dk_seg dksX10_toTheEnd_1 24 rfl rfl
theorem dX10_toTheEnd_0 : decode cX10_toTheEnd 0 = .ok (.aload_n 0, 1) := dk_42 (dk_at dksX10_toTheEnd_0 0 rfl rfl)
theorem dX10_toTheEnd_1 : decode cX10_toTheEnd 1 = .ok (.getfield 74, 3) := dk_180 0 74 (dk_at dksX10_toTheEnd_0 1 rfl rfl)
theorem dX10_toTheEnd_4 : decode cX10_toTheEnd 4 = .ok (.iconst 0, 1) := dk_3 (dk_at dksX10_toTheEnd_0 4 rfl rfl)
theorem dX10_toTheEnd_5 : decode cX10_toTheEnd 5 = .ok (.aaload, 1) := dk_50 (dk_at dksX10_toTheEnd_0 5 rfl rfl)
theorem dX10_toTheEnd_6 : decode cX10_toTheEnd 6 = .ok (.astore_n 3, 1) := dk_78 (dk_at dksX10_toTheEnd_0 6 rfl rfl)
theorem dX10_toTheEnd_7 : decode cX10_toTheEnd 7 = .ok (.aload_n 0, 1) := dk_42 (dk_at dksX10_toTheEnd_0 7 rfl rfl)
theorem dX10_toTheEnd_8 : decode cX10_toTheEnd 8 = .ok (.getfield 13, 3) := dk_180 0 13 (dk_at dksX10_toTheEnd_0 8 rfl rfl)
theorem dX10_toTheEnd_11 : decode cX10_toTheEnd 11 = .ok (.aload_n 3, 1) := dk_45 (dk_at dksX10_toTheEnd_0 11 rfl rfl)
theorem dX10_toTheEnd_12 : decode cX10_toTheEnd 12 = .ok (.invokestatic 188, 3) := dk_184 0 188 (dk_at dksX10_toTheEnd_0 12 rfl rfl)
theorem dX10_toTheEnd_15 : decode cX10_toTheEnd 15 = .ok (.iconst 0, 1) := dk_3 (dk_at dksX10_toTheEnd_0 15 rfl rfl)
theorem dX10_toTheEnd_16 : decode cX10_toTheEnd 16 = .ok (.istore 4, 2) := dk_54 4 (dk_at dksX10_toTheEnd_0 16 rfl rfl)
theorem dX10_toTheEnd_18 : decode cX10_toTheEnd 18 = .ok (.aload_n 3, 1) := dk_45 (dk_at dksX10_toTheEnd_0 18 rfl rfl)
theorem dX10_toTheEnd_19 : decode cX10_toTheEnd 19 = .ok (.iload_n 1, 1) := dk_27 (dk_at dksX10_toTheEnd_0 19 rfl rfl)
theorem dX10_toTheEnd_20 : decode cX10_toTheEnd 20 = .ok (.iload_n 2, 1) := dk_28 (dk_at dksX10_toTheEnd_0 20 rfl rfl)
theorem dX10_toTheEnd_21 : decode cX10_toTheEnd 21 = .ok (.invokestatic 413, 3) := dk_184 1 157 (dk_at dksX10_toTheEnd_0 21 rfl rfl)
theorem dX10_toTheEnd_24 : decode cX10_toTheEnd 24 = .ok (.istore 5, 2) := dk_54 5 (dk_at dksX10_toTheEnd_1 0 rfl rfl)
theorem dX10_toTheEnd_26 : decode cX10_toTheEnd 26 = .ok (.iload 5, 2) := dk_21 5 (dk_at dksX10_toTheEnd_1 2 rfl rfl)
theorem dX10_toTheEnd_28 : decode cX10_toTheEnd 28 = .ok (.ifCond .lt 34, 3) := dk_155 0 34 (dk_at dksX10_toTheEnd_1 4 rfl rfl)
theorem dX10_toTheEnd_31 : decode cX10_toTheEnd 31 = .ok (.aload_n 3, 1) := dk_45 (dk_at dksX10_toTheEnd_1 7 rfl rfl)
theorem dX10_toTheEnd_32 : decode cX10_toTheEnd 32 = .ok (.iload 5, 2) := dk_21 5 (dk_at dksX10_toTheEnd_1 8 rfl rfl)
theorem dX10_toTheEnd_34 : decode cX10_toTheEnd 34 = .ok (.bipush 100, 2) := dk_16 100 (dk_at dksX10_toTheEnd_1 10 rfl rfl)
theorem dX10_toTheEnd_36 : decode cX10_toTheEnd 36 = .ok (.idiv, 1) := dk_108 (dk_at dksX10_toTheEnd_1 12 rfl rfl)
theorem dX10_toTheEnd_37 : decode cX10_toTheEnd 37 = .ok (.iload 5, 2) := dk_21 5 (dk_at dksX10_toTheEnd_1 13 rfl rfl)
theorem dX10_toTheEnd_39 : decode cX10_toTheEnd 39 = .ok (.bipush 100, 2) := dk_16 100 (dk_at dksX10_toTheEnd_1 15 rfl rfl)
theorem dX10_toTheEnd_41 : decode cX10_toTheEnd 41 = .ok (.irem, 1) := dk_112 (dk_at dksX10_toTheEnd_1 17 rfl rfl)
theorem dX10_toTheEnd_42 : decode cX10_toTheEnd 42 = .ok (.iconst 0, 1) := dk_3 (dk_at dksX10_toTheEnd_1 18 rfl rfl)
theorem dX10_toTheEnd_43 : decode cX10_toTheEnd 43 = .ok (.iconst 0, 1) := dk_3 (dk_at dksX10_toTheEnd_1 19 rfl rfl)
theorem dX10_toTheEnd_44 : decode cX10_toTheEnd 44 = .ok (.iconst 0, 1) := dk_3 (dk_at dksX10_toTheEnd_1 20 rfl rfl)
theorem dX10_toTheEnd_45 : decode cX10_toTheEnd 45 = .ok (.invokestatic 196, 3) := dk_184 0 196 (dk_at dksX10_toTheEnd_1 21 rfl rfl)
theorem dX10_toTheEnd_48 : decode cX10_toTheEnd 48 = .ok (.iinc 4 1, 3) := dk_132 4 1 (dk_at dksX10_toTheEnd_2 0 rfl rfl)
theorem dX10_toTheEnd_51 : decode cX10_toTheEnd 51 = .ok (.aload_n 3, 1) := dk_45 (dk_at dksX10_toTheEnd_2 3 rfl rfl)
theorem dX10_toTheEnd_52 : decode cX10_toTheEnd 52 = .ok (.iload_n 1, 1) := dk_27 (dk_at dksX10_toTheEnd_2 4 rfl rfl)
theorem dX10_toTheEnd_53 : decode cX10_toTheEnd 53 = .ok (.iload_n 2, 1) := dk_28 (dk_at dksX10_toTheEnd_2 5 rfl rfl)
theorem dX10_toTheEnd_54 : decode cX10_toTheEnd 54 = .ok (.invokestatic 413, 3) := dk_184 1 157 (dk_at dksX10_toTheEnd_2 6 rfl rfl)
theorem dX10_toTheEnd_57 : decode cX10_toTheEnd 57 = .ok (.istore 5, 2) := dk_54 5 (dk_at dksX10_toTheEnd_2 9 rfl rfl)
theorem dX10_toTheEnd_59 : decode cX10_toTheEnd 59 = .ok (.goto (-33), 3) := dk_167 255 223 (dk_at dksX10_toTheEnd_2 11 rfl rfl)
theorem dX10_toTheEnd_62 : decode cX10_toTheEnd 62 = .ok (.iload 4, 2) := dk_21 4 (dk_at dksX10_toTheEnd_2 14 rfl rfl)
theorem dX10_toTheEnd_64 : decode cX10_toTheEnd 64 = .ok (.ireturn, 1) := dk_172 (dk_at dksX10_toTheEnd_2 16 rfl rfl)
abbrev cX10_weights : ByteArray := prog_26_method_116_code
def yX10_weights : MethodName := ⟨RX10, "weights", "([I)I"⟩
def dkwX10_weights_1 : List UInt8 := [96, 46, 167, 0, 4, 3, 96, 60, 132, 2, 1, 167, 255, 225, 27, 172]
abbrev dktX10_weights_1 : List UInt8 := dkwX10_weights_1 ++ []
def dkwX10_weights_0 : List UInt8 := [3, 60, 3, 61, 28, 16, 12, 162, 0, 31, 27, 42, 3, 46, 28, 184, 0, 96, 153, 0, 11, 42, 4, 28]
abbrev dktX10_weights_0 : List UInt8 := dkwX10_weights_0 ++ dktX10_weights_1
theorem dksX10_weights_0 : cX10_weights.data.toList.drop 0 = dktX10_weights_0 := by decide +kernel
theorem dksX10_weights_1 : cX10_weights.data.toList.drop 24 = dktX10_weights_1 := dk_seg dksX10_weights_0 24 rfl rfl
theorem dX10_weights_0 : decode cX10_weights 0 = .ok (.iconst 0, 1) := dk_3 (dk_at dksX10_weights_0 0 rfl rfl)
theorem dX10_weights_1 : decode cX10_weights 1 = .ok (.istore_n 1, 1) := dk_60 (dk_at dksX10_weights_0 1 rfl rfl)
theorem dX10_weights_2 : decode cX10_weights 2 = .ok (.iconst 0, 1) := dk_3 (dk_at dksX10_weights_0 2 rfl rfl)
theorem dX10_weights_3 : decode cX10_weights 3 = .ok (.istore_n 2, 1) := dk_61 (dk_at dksX10_weights_0 3 rfl rfl)
theorem dX10_weights_4 : decode cX10_weights 4 = .ok (.iload_n 2, 1) := dk_28 (dk_at dksX10_weights_0 4 rfl rfl)
theorem dX10_weights_5 : decode cX10_weights 5 = .ok (.bipush 12, 2) := dk_16 12 (dk_at dksX10_weights_0 5 rfl rfl)
theorem dX10_weights_7 : decode cX10_weights 7 = .ok (.if_icmp .ge 31, 3) := dk_162 0 31 (dk_at dksX10_weights_0 7 rfl rfl)
theorem dX10_weights_10 : decode cX10_weights 10 = .ok (.iload_n 1, 1) := dk_27 (dk_at dksX10_weights_0 10 rfl rfl)
theorem dX10_weights_11 : decode cX10_weights 11 = .ok (.aload_n 0, 1) := dk_42 (dk_at dksX10_weights_0 11 rfl rfl)
theorem dX10_weights_12 : decode cX10_weights 12 = .ok (.iconst 0, 1) := dk_3 (dk_at dksX10_weights_0 12 rfl rfl)
theorem dX10_weights_13 : decode cX10_weights 13 = .ok (.iaload, 1) := dk_46 (dk_at dksX10_weights_0 13 rfl rfl)
theorem dX10_weights_14 : decode cX10_weights 14 = .ok (.iload_n 2, 1) := dk_28 (dk_at dksX10_weights_0 14 rfl rfl)
theorem dX10_weights_15 : decode cX10_weights 15 = .ok (.invokestatic 96, 3) := dk_184 0 96 (dk_at dksX10_weights_0 15 rfl rfl)
theorem dX10_weights_18 : decode cX10_weights 18 = .ok (.ifCond .eq 11, 3) := dk_153 0 11 (dk_at dksX10_weights_0 18 rfl rfl)
theorem dX10_weights_21 : decode cX10_weights 21 = .ok (.aload_n 0, 1) := dk_42 (dk_at dksX10_weights_0 21 rfl rfl)
theorem dX10_weights_22 : decode cX10_weights 22 = .ok (.iconst 1, 1) := dk_4 (dk_at dksX10_weights_0 22 rfl rfl)
theorem dX10_weights_23 : decode cX10_weights 23 = .ok (.iload_n 2, 1) := dk_28 (dk_at dksX10_weights_0 23 rfl rfl)
theorem dX10_weights_24 : decode cX10_weights 24 = .ok (.iadd, 1) := dk_96 (dk_at dksX10_weights_1 0 rfl rfl)
theorem dX10_weights_25 : decode cX10_weights 25 = .ok (.iaload, 1) := dk_46 (dk_at dksX10_weights_1 1 rfl rfl)
theorem dX10_weights_26 : decode cX10_weights 26 = .ok (.goto 4, 3) := dk_167 0 4 (dk_at dksX10_weights_1 2 rfl rfl)
theorem dX10_weights_29 : decode cX10_weights 29 = .ok (.iconst 0, 1) := dk_3 (dk_at dksX10_weights_1 5 rfl rfl)
theorem dX10_weights_30 : decode cX10_weights 30 = .ok (.iadd, 1) := dk_96 (dk_at dksX10_weights_1 6 rfl rfl)
theorem dX10_weights_31 : decode cX10_weights 31 = .ok (.istore_n 1, 1) := dk_60 (dk_at dksX10_weights_1 7 rfl rfl)
theorem dX10_weights_32 : decode cX10_weights 32 = .ok (.iinc 2 1, 3) := dk_132 2 1 (dk_at dksX10_weights_1 8 rfl rfl)
theorem dX10_weights_35 : decode cX10_weights 35 = .ok (.goto (-31), 3) := dk_167 255 225 (dk_at dksX10_weights_1 11 rfl rfl)
theorem dX10_weights_38 : decode cX10_weights 38 = .ok (.iload_n 1, 1) := dk_27 (dk_at dksX10_weights_1 14 rfl rfl)
theorem dX10_weights_39 : decode cX10_weights 39 = .ok (.ireturn, 1) := dk_172 (dk_at dksX10_weights_1 15 rfl rfl)
abbrev cX10_best : ByteArray := prog_26_method_118_code
def yX10_best : MethodName := ⟨RX10, "best", "(I)I"⟩
def dkwX10_best_3 : List UInt8 := [61, 21, 6, 29, 162, 0, 8, 21, 6, 167, 0, 4, 29, 62, 132, 4, 1, 167, 255, 193, 28, 172]
abbrev dktX10_best_3 : List UInt8 := dkwX10_best_3 ++ []
def dkwX10_best_2 : List UInt8 := [3, 46, 184, 0, 130, 54, 6, 21, 6, 29, 162, 0, 13, 21, 5, 155, 0, 8, 21, 4, 167, 0, 4, 28]
abbrev dktX10_best_2 : List UInt8 := dkwX10_best_2 ++ dktX10_best_3
def dkwX10_best_1 : List UInt8 := [54, 4, 21, 4, 16, 6, 162, 0, 62, 42, 21, 4, 27, 182, 1, 162, 54, 5, 42, 180, 0, 74, 3, 50]
abbrev dktX10_best_1 : List UInt8 := dkwX10_best_1 ++ dktX10_best_2
def dkwX10_best_0 : List UInt8 := [27, 133, 9, 20, 1, 145, 184, 0, 102, 154, 0, 9, 42, 4, 182, 0, 204, 172, 3, 61, 16, 13, 62, 3]
abbrev dktX10_best_0 : List UInt8 := dkwX10_best_0 ++ dktX10_best_1
theorem dksX10_best_0 : cX10_best.data.toList.drop 0 = dktX10_best_0 := by decide +kernel
theorem dksX10_best_1 : cX10_best.data.toList.drop 24 = dktX10_best_1 := dk_seg dksX10_best_0 24 rfl rfl
theorem dksX10_best_2 : cX10_best.data.toList.drop 48 = dktX10_best_2 := dk_seg dksX10_best_1 24 rfl rfl
theorem dksX10_best_3 : cX10_best.data.toList.drop 72 = dktX10_best_3 := dk_seg dksX10_best_2 24 rfl rfl
theorem dX10_best_0 : decode cX10_best 0 = .ok (.iload_n 1, 1) := dk_27 (dk_at dksX10_best_0 0 rfl rfl)
theorem dX10_best_1 : decode cX10_best 1 = .ok (.i2l, 1) := dk_133 (dk_at dksX10_best_0 1 rfl rfl)
theorem dX10_best_2 : decode cX10_best 2 = .ok (.lconst 0, 1) := dk_9 (dk_at dksX10_best_0 2 rfl rfl)
theorem dX10_best_3 : decode cX10_best 3 = .ok (.ldc2_w 401, 3) := dk_20 1 145 (dk_at dksX10_best_0 3 rfl rfl)
theorem dX10_best_6 : decode cX10_best 6 = .ok (.invokestatic 102, 3) := dk_184 0 102 (dk_at dksX10_best_0 6 rfl rfl)
theorem dX10_best_9 : decode cX10_best 9 = .ok (.ifCond .ne 9, 3) := dk_154 0 9 (dk_at dksX10_best_0 9 rfl rfl)
theorem dX10_best_12 : decode cX10_best 12 = .ok (.aload_n 0, 1) := dk_42 (dk_at dksX10_best_0 12 rfl rfl)
theorem dX10_best_13 : decode cX10_best 13 = .ok (.iconst 1, 1) := dk_4 (dk_at dksX10_best_0 13 rfl rfl)
theorem dX10_best_14 : decode cX10_best 14 = .ok (.invokevirtual 204, 3) := dk_182 0 204 (dk_at dksX10_best_0 14 rfl rfl)
theorem dX10_best_17 : decode cX10_best 17 = .ok (.ireturn, 1) := dk_172 (dk_at dksX10_best_0 17 rfl rfl)
theorem dX10_best_18 : decode cX10_best 18 = .ok (.iconst 0, 1) := dk_3 (dk_at dksX10_best_0 18 rfl rfl)
theorem dX10_best_19 : decode cX10_best 19 = .ok (.istore_n 2, 1) := dk_61 (dk_at dksX10_best_0 19 rfl rfl)
theorem dX10_best_20 : decode cX10_best 20 = .ok (.bipush 13, 2) := dk_16 13 (dk_at dksX10_best_0 20 rfl rfl)
theorem dX10_best_22 : decode cX10_best 22 = .ok (.istore_n 3, 1) := dk_62 (dk_at dksX10_best_0 22 rfl rfl)
theorem dX10_best_23 : decode cX10_best 23 = .ok (.iconst 0, 1) := dk_3 (dk_at dksX10_best_0 23 rfl rfl)
theorem dX10_best_24 : decode cX10_best 24 = .ok (.istore 4, 2) := dk_54 4 (dk_at dksX10_best_1 0 rfl rfl)
theorem dX10_best_26 : decode cX10_best 26 = .ok (.iload 4, 2) := dk_21 4 (dk_at dksX10_best_1 2 rfl rfl)
theorem dX10_best_28 : decode cX10_best 28 = .ok (.bipush 6, 2) := dk_16 6 (dk_at dksX10_best_1 4 rfl rfl)
theorem dX10_best_30 : decode cX10_best 30 = .ok (.if_icmp .ge 62, 3) := dk_162 0 62 (dk_at dksX10_best_1 6 rfl rfl)
theorem dX10_best_33 : decode cX10_best 33 = .ok (.aload_n 0, 1) := dk_42 (dk_at dksX10_best_1 9 rfl rfl)
theorem dX10_best_34 : decode cX10_best 34 = .ok (.iload 4, 2) := dk_21 4 (dk_at dksX10_best_1 10 rfl rfl)
theorem dX10_best_36 : decode cX10_best 36 = .ok (.iload_n 1, 1) := dk_27 (dk_at dksX10_best_1 12 rfl rfl)
theorem dX10_best_37 : decode cX10_best 37 = .ok (.invokevirtual 418, 3) := dk_182 1 162 (dk_at dksX10_best_1 13 rfl rfl)
theorem dX10_best_40 : decode cX10_best 40 = .ok (.istore 5, 2) := dk_54 5 (dk_at dksX10_best_1 16 rfl rfl)
theorem dX10_best_42 : decode cX10_best 42 = .ok (.aload_n 0, 1) := dk_42 (dk_at dksX10_best_1 18 rfl rfl)
theorem dX10_best_43 : decode cX10_best 43 = .ok (.getfield 74, 3) := dk_180 0 74 (dk_at dksX10_best_1 19 rfl rfl)
theorem dX10_best_46 : decode cX10_best 46 = .ok (.iconst 0, 1) := dk_3 (dk_at dksX10_best_1 22 rfl rfl)
theorem dX10_best_47 : decode cX10_best 47 = .ok (.aaload, 1) := dk_50 (dk_at dksX10_best_1 23 rfl rfl)
theorem dX10_best_48 : decode cX10_best 48 = .ok (.iconst 0, 1) := dk_3 (dk_at dksX10_best_2 0 rfl rfl)
theorem dX10_best_49 : decode cX10_best 49 = .ok (.iaload, 1) := dk_46 (dk_at dksX10_best_2 1 rfl rfl)
theorem dX10_best_50 : decode cX10_best 50 = .ok (.invokestatic 130, 3) := dk_184 0 130 (dk_at dksX10_best_2 2 rfl rfl)
theorem dX10_best_53 : decode cX10_best 53 = .ok (.istore 6, 2) := dk_54 6 (dk_at dksX10_best_2 5 rfl rfl)
theorem dX10_best_55 : decode cX10_best 55 = .ok (.iload 6, 2) := dk_21 6 (dk_at dksX10_best_2 7 rfl rfl)
theorem dX10_best_57 : decode cX10_best 57 = .ok (.iload_n 3, 1) := dk_29 (dk_at dksX10_best_2 9 rfl rfl)
theorem dX10_best_58 : decode cX10_best 58 = .ok (.if_icmp .ge 13, 3) := dk_162 0 13 (dk_at dksX10_best_2 10 rfl rfl)
theorem dX10_best_61 : decode cX10_best 61 = .ok (.iload 5, 2) := dk_21 5 (dk_at dksX10_best_2 13 rfl rfl)
theorem dX10_best_63 : decode cX10_best 63 = .ok (.ifCond .lt 8, 3) := dk_155 0 8 (dk_at dksX10_best_2 15 rfl rfl)
theorem dX10_best_66 : decode cX10_best 66 = .ok (.iload 4, 2) := dk_21 4 (dk_at dksX10_best_2 18 rfl rfl)
theorem dX10_best_68 : decode cX10_best 68 = .ok (.goto 4, 3) := dk_167 0 4 (dk_at dksX10_best_2 20 rfl rfl)
theorem dX10_best_71 : decode cX10_best 71 = .ok (.iload_n 2, 1) := dk_28 (dk_at dksX10_best_2 23 rfl rfl)
theorem dX10_best_72 : decode cX10_best 72 = .ok (.istore_n 2, 1) := dk_61 (dk_at dksX10_best_3 0 rfl rfl)
theorem dX10_best_73 : decode cX10_best 73 = .ok (.iload 6, 2) := dk_21 6 (dk_at dksX10_best_3 1 rfl rfl)
theorem dX10_best_75 : decode cX10_best 75 = .ok (.iload_n 3, 1) := dk_29 (dk_at dksX10_best_3 3 rfl rfl)
theorem dX10_best_76 : decode cX10_best 76 = .ok (.if_icmp .ge 8, 3) := dk_162 0 8 (dk_at dksX10_best_3 4 rfl rfl)
theorem dX10_best_79 : decode cX10_best 79 = .ok (.iload 6, 2) := dk_21 6 (dk_at dksX10_best_3 7 rfl rfl)
theorem dX10_best_81 : decode cX10_best 81 = .ok (.goto 4, 3) := dk_167 0 4 (dk_at dksX10_best_3 9 rfl rfl)
theorem dX10_best_84 : decode cX10_best 84 = .ok (.iload_n 3, 1) := dk_29 (dk_at dksX10_best_3 12 rfl rfl)
theorem dX10_best_85 : decode cX10_best 85 = .ok (.istore_n 3, 1) := dk_62 (dk_at dksX10_best_3 13 rfl rfl)
theorem dX10_best_86 : decode cX10_best 86 = .ok (.iinc 4 1, 3) := dk_132 4 1 (dk_at dksX10_best_3 14 rfl rfl)
theorem dX10_best_89 : decode cX10_best 89 = .ok (.goto (-63), 3) := dk_167 255 193 (dk_at dksX10_best_3 17 rfl rfl)
theorem dX10_best_92 : decode cX10_best 92 = .ok (.iload_n 2, 1) := dk_28 (dk_at dksX10_best_3 20 rfl rfl)
theorem dX10_best_93 : decode cX10_best 93 = .ok (.ireturn, 1) := dk_172 (dk_at dksX10_best_3 21 rfl rfl)
abbrev cX10_fewest : ByteArray := prog_26_method_120_code
def yX10_fewest : MethodName := ⟨RX10, "fewest", "(II)I"⟩
def dkwX10_fewest_4 : List UInt8 := [180, 1, 174, 172]
abbrev dktX10_fewest_4 : List UInt8 := dkwX10_fewest_4 ++ []
def dkwX10_fewest_3 : List UInt8 := [154, 0, 10, 42, 180, 1, 168, 167, 0, 19, 28, 4, 160, 0, 10, 42, 180, 1, 171, 167, 0, 7, 42]
abbrev dktX10_fewest_3 : List UInt8 := dkwX10_fewest_3 ++ dktX10_fewest_4
def dkwX10_fewest_2 : List UInt8 := [181, 1, 168, 42, 16, 9, 181, 1, 171, 42, 2, 181, 1, 174, 42, 3, 27, 2, 182, 1, 177, 28]
abbrev dktX10_fewest_2 : List UInt8 := dkwX10_fewest_2 ++ dktX10_fewest_3
def dkwX10_fewest_1 : List UInt8 := [42, 4, 182, 0, 204, 172, 42, 180, 0, 13, 42, 180, 0, 74, 3, 50, 184, 0, 188, 42, 16, 13]
abbrev dktX10_fewest_1 : List UInt8 := dkwX10_fewest_1 ++ dktX10_fewest_2
def dkwX10_fewest_0 : List UInt8 := [27, 133, 9, 20, 0, 211, 184, 0, 102, 153, 0, 15, 28, 133, 9, 20, 1, 20, 184, 0, 102, 154, 0, 9]
abbrev dktX10_fewest_0 : List UInt8 := dkwX10_fewest_0 ++ dktX10_fewest_1
theorem dksX10_fewest_0 : cX10_fewest.data.toList.drop 0 = dktX10_fewest_0 := by decide +kernel
theorem dksX10_fewest_1 : cX10_fewest.data.toList.drop 24 = dktX10_fewest_1 := dk_seg dksX10_fewest_0 24 rfl rfl
theorem dksX10_fewest_2 : cX10_fewest.data.toList.drop 46 = dktX10_fewest_2 := dk_seg dksX10_fewest_1 22 rfl rfl
theorem dksX10_fewest_3 : cX10_fewest.data.toList.drop 68 = dktX10_fewest_3 := dk_seg dksX10_fewest_2 22 rfl rfl
theorem dksX10_fewest_4 : cX10_fewest.data.toList.drop 91 = dktX10_fewest_4 := dk_seg dksX10_fewest_3 23 rfl rfl
theorem dX10_fewest_0 : decode cX10_fewest 0 = .ok (.iload_n 1, 1) := dk_27 (dk_at dksX10_fewest_0 0 rfl rfl)
theorem dX10_fewest_1 : decode cX10_fewest 1 = .ok (.i2l, 1) := dk_133 (dk_at dksX10_fewest_0 1 rfl rfl)
theorem dX10_fewest_2 : decode cX10_fewest 2 = .ok (.lconst 0, 1) := dk_9 (dk_at dksX10_fewest_0 2 rfl rfl)
theorem dX10_fewest_3 : decode cX10_fewest 3 = .ok (.ldc2_w 211, 3) := dk_20 0 211 (dk_at dksX10_fewest_0 3 rfl rfl)
theorem dX10_fewest_6 : decode cX10_fewest 6 = .ok (.invokestatic 102, 3) := dk_184 0 102 (dk_at dksX10_fewest_0 6 rfl rfl)
theorem dX10_fewest_9 : decode cX10_fewest 9 = .ok (.ifCond .eq 15, 3) := dk_153 0 15 (dk_at dksX10_fewest_0 9 rfl rfl)
theorem dX10_fewest_12 : decode cX10_fewest 12 = .ok (.iload_n 2, 1) := dk_28 (dk_at dksX10_fewest_0 12 rfl rfl)
theorem dX10_fewest_13 : decode cX10_fewest 13 = .ok (.i2l, 1) := dk_133 (dk_at dksX10_fewest_0 13 rfl rfl)
theorem dX10_fewest_14 : decode cX10_fewest 14 = .ok (.lconst 0, 1) := dk_9 (dk_at dksX10_fewest_0 14 rfl rfl)
theorem dX10_fewest_15 : decode cX10_fewest 15 = .ok (.ldc2_w 276, 3) := dk_20 1 20 (dk_at dksX10_fewest_0 15 rfl rfl)
theorem dX10_fewest_18 : decode cX10_fewest 18 = .ok (.invokestatic 102, 3) := dk_184 0 102 (dk_at dksX10_fewest_0 18 rfl rfl)
theorem dX10_fewest_21 : decode cX10_fewest 21 = .ok (.ifCond .ne 9, 3) := dk_154 0 9 (dk_at dksX10_fewest_0 21 rfl rfl)
theorem dX10_fewest_24 : decode cX10_fewest 24 = .ok (.aload_n 0, 1) := dk_42 (dk_at dksX10_fewest_1 0 rfl rfl)
theorem dX10_fewest_25 : decode cX10_fewest 25 = .ok (.iconst 1, 1) := dk_4 (dk_at dksX10_fewest_1 1 rfl rfl)
theorem dX10_fewest_26 : decode cX10_fewest 26 = .ok (.invokevirtual 204, 3) := dk_182 0 204 (dk_at dksX10_fewest_1 2 rfl rfl)
theorem dX10_fewest_29 : decode cX10_fewest 29 = .ok (.ireturn, 1) := dk_172 (dk_at dksX10_fewest_1 5 rfl rfl)
theorem dX10_fewest_30 : decode cX10_fewest 30 = .ok (.aload_n 0, 1) := dk_42 (dk_at dksX10_fewest_1 6 rfl rfl)
theorem dX10_fewest_31 : decode cX10_fewest 31 = .ok (.getfield 13, 3) := dk_180 0 13 (dk_at dksX10_fewest_1 7 rfl rfl)
theorem dX10_fewest_34 : decode cX10_fewest 34 = .ok (.aload_n 0, 1) := dk_42 (dk_at dksX10_fewest_1 10 rfl rfl)
theorem dX10_fewest_35 : decode cX10_fewest 35 = .ok (.getfield 74, 3) := dk_180 0 74 (dk_at dksX10_fewest_1 11 rfl rfl)
theorem dX10_fewest_38 : decode cX10_fewest 38 = .ok (.iconst 0, 1) := dk_3 (dk_at dksX10_fewest_1 14 rfl rfl)
theorem dX10_fewest_39 : decode cX10_fewest 39 = .ok (.aaload, 1) := dk_50 (dk_at dksX10_fewest_1 15 rfl rfl)
theorem dX10_fewest_40 : decode cX10_fewest 40 = .ok (.invokestatic 188, 3) := dk_184 0 188 (dk_at dksX10_fewest_1 16 rfl rfl)
theorem dX10_fewest_43 : decode cX10_fewest 43 = .ok (.aload_n 0, 1) := dk_42 (dk_at dksX10_fewest_1 19 rfl rfl)
theorem dX10_fewest_44 : decode cX10_fewest 44 = .ok (.bipush 13, 2) := dk_16 13 (dk_at dksX10_fewest_1 20 rfl rfl)
theorem dX10_fewest_46 : decode cX10_fewest 46 = .ok (.putfield 424, 3) := dk_181 1 168 (dk_at dksX10_fewest_2 0 rfl rfl)
theorem dX10_fewest_49 : decode cX10_fewest 49 = .ok (.aload_n 0, 1) := dk_42 (dk_at dksX10_fewest_2 3 rfl rfl)
theorem dX10_fewest_50 : decode cX10_fewest 50 = .ok (.bipush 9, 2) := dk_16 9 (dk_at dksX10_fewest_2 4 rfl rfl)
theorem dX10_fewest_52 : decode cX10_fewest 52 = .ok (.putfield 427, 3) := dk_181 1 171 (dk_at dksX10_fewest_2 6 rfl rfl)
theorem dX10_fewest_55 : decode cX10_fewest 55 = .ok (.aload_n 0, 1) := dk_42 (dk_at dksX10_fewest_2 9 rfl rfl)
theorem dX10_fewest_56 : decode cX10_fewest 56 = .ok (.iconst (-1), 1) := dk_2 (dk_at dksX10_fewest_2 10 rfl rfl)
theorem dX10_fewest_57 : decode cX10_fewest 57 = .ok (.putfield 430, 3) := dk_181 1 174 (dk_at dksX10_fewest_2 11 rfl rfl)
theorem dX10_fewest_60 : decode cX10_fewest 60 = .ok (.aload_n 0, 1) := dk_42 (dk_at dksX10_fewest_2 14 rfl rfl)
theorem dX10_fewest_61 : decode cX10_fewest 61 = .ok (.iconst 0, 1) := dk_3 (dk_at dksX10_fewest_2 15 rfl rfl)
theorem dX10_fewest_62 : decode cX10_fewest 62 = .ok (.iload_n 1, 1) := dk_27 (dk_at dksX10_fewest_2 16 rfl rfl)
theorem dX10_fewest_63 : decode cX10_fewest 63 = .ok (.iconst (-1), 1) := dk_2 (dk_at dksX10_fewest_2 17 rfl rfl)
theorem dX10_fewest_64 : decode cX10_fewest 64 = .ok (.invokevirtual 433, 3) := dk_182 1 177 (dk_at dksX10_fewest_2 18 rfl rfl)
theorem dX10_fewest_67 : decode cX10_fewest 67 = .ok (.iload_n 2, 1) := dk_28 (dk_at dksX10_fewest_2 21 rfl rfl)
theorem dX10_fewest_68 : decode cX10_fewest 68 = .ok (.ifCond .ne 10, 3) := dk_154 0 10 (dk_at dksX10_fewest_3 0 rfl rfl)
theorem dX10_fewest_71 : decode cX10_fewest 71 = .ok (.aload_n 0, 1) := dk_42 (dk_at dksX10_fewest_3 3 rfl rfl)
theorem dX10_fewest_72 : decode cX10_fewest 72 = .ok (.getfield 424, 3) := dk_180 1 168 (dk_at dksX10_fewest_3 4 rfl rfl)
theorem dX10_fewest_75 : decode cX10_fewest 75 = .ok (.goto 19, 3) := dk_167 0 19 (dk_at dksX10_fewest_3 7 rfl rfl)
theorem dX10_fewest_78 : decode cX10_fewest 78 = .ok (.iload_n 2, 1) := dk_28 (dk_at dksX10_fewest_3 10 rfl rfl)
theorem dX10_fewest_79 : decode cX10_fewest 79 = .ok (.iconst 1, 1) := dk_4 (dk_at dksX10_fewest_3 11 rfl rfl)
theorem dX10_fewest_80 : decode cX10_fewest 80 = .ok (.if_icmp .ne 10, 3) := dk_160 0 10 (dk_at dksX10_fewest_3 12 rfl rfl)
theorem dX10_fewest_83 : decode cX10_fewest 83 = .ok (.aload_n 0, 1) := dk_42 (dk_at dksX10_fewest_3 15 rfl rfl)
theorem dX10_fewest_84 : decode cX10_fewest 84 = .ok (.getfield 427, 3) := dk_180 1 171 (dk_at dksX10_fewest_3 16 rfl rfl)
theorem dX10_fewest_87 : decode cX10_fewest 87 = .ok (.goto 7, 3) := dk_167 0 7 (dk_at dksX10_fewest_3 19 rfl rfl)
theorem dX10_fewest_90 : decode cX10_fewest 90 = .ok (.aload_n 0, 1) := dk_42 (dk_at dksX10_fewest_3 22 rfl rfl)
theorem dX10_fewest_91 : decode cX10_fewest 91 = .ok (.getfield 430, 3) := dk_180 1 174 (dk_at dksX10_fewest_4 0 rfl rfl)
theorem dX10_fewest_94 : decode cX10_fewest 94 = .ok (.ireturn, 1) := dk_172 (dk_at dksX10_fewest_4 3 rfl rfl)
abbrev cX10_tries : ByteArray := prog_26_method_119_code
def yX10_tries : MethodName := ⟨RX10, "tries", "(III)V"⟩
def dkwX10_tries_8 : List UInt8 := [29, 182, 1, 177, 132, 6, 1, 167, 255, 122, 177]
abbrev dktX10_tries_8 : List UInt8 := dkwX10_tries_8 ++ []
def dkwX10_tries_7 : List UInt8 := [21, 7, 21, 6, 3, 3, 3, 184, 0, 196, 42, 27, 4, 96, 28, 27, 154, 0, 8, 21, 6, 167, 0, 4]
abbrev dktX10_tries_7 : List UInt8 := dkwX10_tries_7 ++ dktX10_tries_8
def dkwX10_tries_6 : List UInt8 := [154, 0, 52, 25, 4, 42, 180, 0, 74, 27, 4, 96, 50, 184, 0, 188, 42, 180, 0, 74, 27, 4, 96, 50]
abbrev dktX10_tries_6 : List UInt8 := dkwX10_tries_6 ++ dktX10_tries_7
def dkwX10_tries_5 : List UInt8 := [167, 0, 4, 2, 54, 7, 21, 7, 155, 0, 67, 25, 4, 21, 7, 21, 6, 3, 3, 3, 184, 0, 200]
abbrev dktX10_tries_5 : List UInt8 := dkwX10_tries_5 ++ dktX10_tries_6
def dkwX10_tries_4 : List UInt8 := [3, 167, 0, 27, 25, 4, 16, 13, 21, 6, 96, 46, 184, 0, 130, 5, 160, 0, 7, 7, 167, 0, 8, 8]
abbrev dktX10_tries_4 : List UInt8 := dkwX10_tries_4 ++ dktX10_tries_5
def dkwX10_tries_3 : List UInt8 := [28, 162, 0, 128, 25, 4, 21, 6, 184, 0, 106, 153, 0, 40, 25, 4, 4, 21, 6, 96, 46, 153, 0, 7]
abbrev dktX10_tries_3 : List UInt8 := dkwX10_tries_3 ++ dktX10_tries_4
def dkwX10_tries_2 : List UInt8 := [181, 1, 168, 42, 27, 181, 1, 171, 42, 29, 181, 1, 174, 3, 54, 6, 21, 6, 16, 12, 162, 0, 133, 27]
abbrev dktX10_tries_2 : List UInt8 := dkwX10_tries_2 ++ dktX10_tries_3
def dkwX10_tries_1 : List UInt8 := [161, 0, 20, 21, 5, 42, 180, 1, 168, 160, 0, 27, 27, 42, 180, 1, 171, 162, 0, 19, 42, 21, 5]
abbrev dktX10_tries_1 : List UInt8 := dkwX10_tries_1 ++ dktX10_tries_2
def dkwX10_tries_0 : List UInt8 := [42, 180, 0, 74, 27, 50, 58, 4, 25, 4, 3, 46, 184, 0, 130, 54, 5, 21, 5, 42, 180, 1, 168]
abbrev dktX10_tries_0 : List UInt8 := dkwX10_tries_0 ++ dktX10_tries_1
theorem dksX10_tries_0 : cX10_tries.data.toList.drop 0 = dktX10_tries_0 := by decide +kernel
theorem dksX10_tries_1 : cX10_tries.data.toList.drop 23 = dktX10_tries_1 := dk_seg dksX10_tries_0 23 rfl rfl
theorem dksX10_tries_2 : cX10_tries.data.toList.drop 46 = dktX10_tries_2 := dk_seg dksX10_tries_1 23 rfl rfl
theorem dksX10_tries_3 : cX10_tries.data.toList.drop 70 = dktX10_tries_3 := dk_seg dksX10_tries_2 24 rfl rfl
theorem dksX10_tries_4 : cX10_tries.data.toList.drop 94 = dktX10_tries_4 := dk_seg dksX10_tries_3 24 rfl rfl
theorem dksX10_tries_5 : cX10_tries.data.toList.drop 118 = dktX10_tries_5 := dk_seg dksX10_tries_4 24 rfl rfl
theorem dksX10_tries_6 : cX10_tries.data.toList.drop 141 = dktX10_tries_6 := dk_seg dksX10_tries_5 23 rfl rfl
theorem dksX10_tries_7 : cX10_tries.data.toList.drop 165 = dktX10_tries_7 := dk_seg dksX10_tries_6 24 rfl rfl
theorem dksX10_tries_8 : cX10_tries.data.toList.drop 189 = dktX10_tries_8 := dk_seg dksX10_tries_7 24 rfl rfl
theorem dX10_tries_0 : decode cX10_tries 0 = .ok (.aload_n 0, 1) := dk_42 (dk_at dksX10_tries_0 0 rfl rfl)
theorem dX10_tries_1 : decode cX10_tries 1 = .ok (.getfield 74, 3) := dk_180 0 74 (dk_at dksX10_tries_0 1 rfl rfl)
theorem dX10_tries_4 : decode cX10_tries 4 = .ok (.iload_n 1, 1) := dk_27 (dk_at dksX10_tries_0 4 rfl rfl)
theorem dX10_tries_5 : decode cX10_tries 5 = .ok (.aaload, 1) := dk_50 (dk_at dksX10_tries_0 5 rfl rfl)
theorem dX10_tries_6 : decode cX10_tries 6 = .ok (.astore 4, 2) := dk_58 4 (dk_at dksX10_tries_0 6 rfl rfl)
theorem dX10_tries_8 : decode cX10_tries 8 = .ok (.aload 4, 2) := dk_25 4 (dk_at dksX10_tries_0 8 rfl rfl)
theorem dX10_tries_10 : decode cX10_tries 10 = .ok (.iconst 0, 1) := dk_3 (dk_at dksX10_tries_0 10 rfl rfl)
theorem dX10_tries_11 : decode cX10_tries 11 = .ok (.iaload, 1) := dk_46 (dk_at dksX10_tries_0 11 rfl rfl)
theorem dX10_tries_12 : decode cX10_tries 12 = .ok (.invokestatic 130, 3) := dk_184 0 130 (dk_at dksX10_tries_0 12 rfl rfl)
theorem dX10_tries_15 : decode cX10_tries 15 = .ok (.istore 5, 2) := dk_54 5 (dk_at dksX10_tries_0 15 rfl rfl)
theorem dX10_tries_17 : decode cX10_tries 17 = .ok (.iload 5, 2) := dk_21 5 (dk_at dksX10_tries_0 17 rfl rfl)
theorem dX10_tries_19 : decode cX10_tries 19 = .ok (.aload_n 0, 1) := dk_42 (dk_at dksX10_tries_0 19 rfl rfl)
theorem dX10_tries_20 : decode cX10_tries 20 = .ok (.getfield 424, 3) := dk_180 1 168 (dk_at dksX10_tries_0 20 rfl rfl)
theorem dX10_tries_23 : decode cX10_tries 23 = .ok (.if_icmp .lt 20, 3) := dk_161 0 20 (dk_at dksX10_tries_1 0 rfl rfl)
theorem dX10_tries_26 : decode cX10_tries 26 = .ok (.iload 5, 2) := dk_21 5 (dk_at dksX10_tries_1 3 rfl rfl)
theorem dX10_tries_28 : decode cX10_tries 28 = .ok (.aload_n 0, 1) := dk_42 (dk_at dksX10_tries_1 5 rfl rfl)
theorem dX10_tries_29 : decode cX10_tries 29 = .ok (.getfield 424, 3) := dk_180 1 168 (dk_at dksX10_tries_1 6 rfl rfl)
theorem dX10_tries_32 : decode cX10_tries 32 = .ok (.if_icmp .ne 27, 3) := dk_160 0 27 (dk_at dksX10_tries_1 9 rfl rfl)
theorem dX10_tries_35 : decode cX10_tries 35 = .ok (.iload_n 1, 1) := dk_27 (dk_at dksX10_tries_1 12 rfl rfl)
theorem dX10_tries_36 : decode cX10_tries 36 = .ok (.aload_n 0, 1) := dk_42 (dk_at dksX10_tries_1 13 rfl rfl)
theorem dX10_tries_37 : decode cX10_tries 37 = .ok (.getfield 427, 3) := dk_180 1 171 (dk_at dksX10_tries_1 14 rfl rfl)
theorem dX10_tries_40 : decode cX10_tries 40 = .ok (.if_icmp .ge 19, 3) := dk_162 0 19 (dk_at dksX10_tries_1 17 rfl rfl)
theorem dX10_tries_43 : decode cX10_tries 43 = .ok (.aload_n 0, 1) := dk_42 (dk_at dksX10_tries_1 20 rfl rfl)
theorem dX10_tries_44 : decode cX10_tries 44 = .ok (.iload 5, 2) := dk_21 5 (dk_at dksX10_tries_1 21 rfl rfl)
theorem dX10_tries_46 : decode cX10_tries 46 = .ok (.putfield 424, 3) := dk_181 1 168 (dk_at dksX10_tries_2 0 rfl rfl)
theorem dX10_tries_49 : decode cX10_tries 49 = .ok (.aload_n 0, 1) := dk_42 (dk_at dksX10_tries_2 3 rfl rfl)
theorem dX10_tries_50 : decode cX10_tries 50 = .ok (.iload_n 1, 1) := dk_27 (dk_at dksX10_tries_2 4 rfl rfl)
theorem dX10_tries_51 : decode cX10_tries 51 = .ok (.putfield 427, 3) := dk_181 1 171 (dk_at dksX10_tries_2 5 rfl rfl)
theorem dX10_tries_54 : decode cX10_tries 54 = .ok (.aload_n 0, 1) := dk_42 (dk_at dksX10_tries_2 8 rfl rfl)
theorem dX10_tries_55 : decode cX10_tries 55 = .ok (.iload_n 3, 1) := dk_29 (dk_at dksX10_tries_2 9 rfl rfl)
theorem dX10_tries_56 : decode cX10_tries 56 = .ok (.putfield 430, 3) := dk_181 1 174 (dk_at dksX10_tries_2 10 rfl rfl)
theorem dX10_tries_59 : decode cX10_tries 59 = .ok (.iconst 0, 1) := dk_3 (dk_at dksX10_tries_2 13 rfl rfl)
theorem dX10_tries_60 : decode cX10_tries 60 = .ok (.istore 6, 2) := dk_54 6 (dk_at dksX10_tries_2 14 rfl rfl)
theorem dX10_tries_62 : decode cX10_tries 62 = .ok (.iload 6, 2) := dk_21 6 (dk_at dksX10_tries_2 16 rfl rfl)
theorem dX10_tries_64 : decode cX10_tries 64 = .ok (.bipush 12, 2) := dk_16 12 (dk_at dksX10_tries_2 18 rfl rfl)
theorem dX10_tries_66 : decode cX10_tries 66 = .ok (.if_icmp .ge 133, 3) := dk_162 0 133 (dk_at dksX10_tries_2 20 rfl rfl)
theorem dX10_tries_69 : decode cX10_tries 69 = .ok (.iload_n 1, 1) := dk_27 (dk_at dksX10_tries_2 23 rfl rfl)
theorem dX10_tries_70 : decode cX10_tries 70 = .ok (.iload_n 2, 1) := dk_28 (dk_at dksX10_tries_3 0 rfl rfl)
theorem dX10_tries_71 : decode cX10_tries 71 = .ok (.if_icmp .ge 128, 3) := dk_162 0 128 (dk_at dksX10_tries_3 1 rfl rfl)
theorem dX10_tries_74 : decode cX10_tries 74 = .ok (.aload 4, 2) := dk_25 4 (dk_at dksX10_tries_3 4 rfl rfl)
theorem dX10_tries_76 : decode cX10_tries 76 = .ok (.iload 6, 2) := dk_21 6 (dk_at dksX10_tries_3 6 rfl rfl)
theorem dX10_tries_78 : decode cX10_tries 78 = .ok (.invokestatic 106, 3) := dk_184 0 106 (dk_at dksX10_tries_3 8 rfl rfl)
theorem dX10_tries_81 : decode cX10_tries 81 = .ok (.ifCond .eq 40, 3) := dk_153 0 40 (dk_at dksX10_tries_3 11 rfl rfl)
theorem dX10_tries_84 : decode cX10_tries 84 = .ok (.aload 4, 2) := dk_25 4 (dk_at dksX10_tries_3 14 rfl rfl)
theorem dX10_tries_86 : decode cX10_tries 86 = .ok (.iconst 1, 1) := dk_4 (dk_at dksX10_tries_3 16 rfl rfl)
theorem dX10_tries_87 : decode cX10_tries 87 = .ok (.iload 6, 2) := dk_21 6 (dk_at dksX10_tries_3 17 rfl rfl)
theorem dX10_tries_89 : decode cX10_tries 89 = .ok (.iadd, 1) := dk_96 (dk_at dksX10_tries_3 19 rfl rfl)
theorem dX10_tries_90 : decode cX10_tries 90 = .ok (.iaload, 1) := dk_46 (dk_at dksX10_tries_3 20 rfl rfl)
theorem dX10_tries_91 : decode cX10_tries 91 = .ok (.ifCond .eq 7, 3) := dk_153 0 7 (dk_at dksX10_tries_3 21 rfl rfl)
theorem dX10_tries_94 : decode cX10_tries 94 = .ok (.iconst 0, 1) := dk_3 (dk_at dksX10_tries_4 0 rfl rfl)
theorem dX10_tries_95 : decode cX10_tries 95 = .ok (.goto 27, 3) := dk_167 0 27 (dk_at dksX10_tries_4 1 rfl rfl)
theorem dX10_tries_98 : decode cX10_tries 98 = .ok (.aload 4, 2) := dk_25 4 (dk_at dksX10_tries_4 4 rfl rfl)
theorem dX10_tries_100 : decode cX10_tries 100 = .ok (.bipush 13, 2) := dk_16 13 (dk_at dksX10_tries_4 6 rfl rfl)
theorem dX10_tries_102 : decode cX10_tries 102 = .ok (.iload 6, 2) := dk_21 6 (dk_at dksX10_tries_4 8 rfl rfl)
theorem dX10_tries_104 : decode cX10_tries 104 = .ok (.iadd, 1) := dk_96 (dk_at dksX10_tries_4 10 rfl rfl)
theorem dX10_tries_105 : decode cX10_tries 105 = .ok (.iaload, 1) := dk_46 (dk_at dksX10_tries_4 11 rfl rfl)
theorem dX10_tries_106 : decode cX10_tries 106 = .ok (.invokestatic 130, 3) := dk_184 0 130 (dk_at dksX10_tries_4 12 rfl rfl)
theorem dX10_tries_109 : decode cX10_tries 109 = .ok (.iconst 2, 1) := dk_5 (dk_at dksX10_tries_4 15 rfl rfl)
theorem dX10_tries_110 : decode cX10_tries 110 = .ok (.if_icmp .ne 7, 3) := dk_160 0 7 (dk_at dksX10_tries_4 16 rfl rfl)
theorem dX10_tries_113 : decode cX10_tries 113 = .ok (.iconst 4, 1) := dk_7 (dk_at dksX10_tries_4 19 rfl rfl)
theorem dX10_tries_114 : decode cX10_tries 114 = .ok (.goto 8, 3) := dk_167 0 8 (dk_at dksX10_tries_4 20 rfl rfl)
theorem dX10_tries_117 : decode cX10_tries 117 = .ok (.iconst 5, 1) := dk_8 (dk_at dksX10_tries_4 23 rfl rfl)
theorem dX10_tries_118 : decode cX10_tries 118 = .ok (.goto 4, 3) := dk_167 0 4 (dk_at dksX10_tries_5 0 rfl rfl)
theorem dX10_tries_121 : decode cX10_tries 121 = .ok (.iconst (-1), 1) := dk_2 (dk_at dksX10_tries_5 3 rfl rfl)
theorem dX10_tries_122 : decode cX10_tries 122 = .ok (.istore 7, 2) := dk_54 7 (dk_at dksX10_tries_5 4 rfl rfl)
theorem dX10_tries_124 : decode cX10_tries 124 = .ok (.iload 7, 2) := dk_21 7 (dk_at dksX10_tries_5 6 rfl rfl)
theorem dX10_tries_126 : decode cX10_tries 126 = .ok (.ifCond .lt 67, 3) := dk_155 0 67 (dk_at dksX10_tries_5 8 rfl rfl)
theorem dX10_tries_129 : decode cX10_tries 129 = .ok (.aload 4, 2) := dk_25 4 (dk_at dksX10_tries_5 11 rfl rfl)
theorem dX10_tries_131 : decode cX10_tries 131 = .ok (.iload 7, 2) := dk_21 7 (dk_at dksX10_tries_5 13 rfl rfl)
theorem dX10_tries_133 : decode cX10_tries 133 = .ok (.iload 6, 2) := dk_21 6 (dk_at dksX10_tries_5 15 rfl rfl)
theorem dX10_tries_135 : decode cX10_tries 135 = .ok (.iconst 0, 1) := dk_3 (dk_at dksX10_tries_5 17 rfl rfl)
theorem dX10_tries_136 : decode cX10_tries 136 = .ok (.iconst 0, 1) := dk_3 (dk_at dksX10_tries_5 18 rfl rfl)
theorem dX10_tries_137 : decode cX10_tries 137 = .ok (.iconst 0, 1) := dk_3 (dk_at dksX10_tries_5 19 rfl rfl)
theorem dX10_tries_138 : decode cX10_tries 138 = .ok (.invokestatic 200, 3) := dk_184 0 200 (dk_at dksX10_tries_5 20 rfl rfl)
theorem dX10_tries_141 : decode cX10_tries 141 = .ok (.ifCond .ne 52, 3) := dk_154 0 52 (dk_at dksX10_tries_6 0 rfl rfl)
theorem dX10_tries_144 : decode cX10_tries 144 = .ok (.aload 4, 2) := dk_25 4 (dk_at dksX10_tries_6 3 rfl rfl)
theorem dX10_tries_146 : decode cX10_tries 146 = .ok (.aload_n 0, 1) := dk_42 (dk_at dksX10_tries_6 5 rfl rfl)
theorem dX10_tries_147 : decode cX10_tries 147 = .ok (.getfield 74, 3) := dk_180 0 74 (dk_at dksX10_tries_6 6 rfl rfl)
theorem dX10_tries_150 : decode cX10_tries 150 = .ok (.iload_n 1, 1) := dk_27 (dk_at dksX10_tries_6 9 rfl rfl)
theorem dX10_tries_151 : decode cX10_tries 151 = .ok (.iconst 1, 1) := dk_4 (dk_at dksX10_tries_6 10 rfl rfl)
theorem dX10_tries_152 : decode cX10_tries 152 = .ok (.iadd, 1) := dk_96 (dk_at dksX10_tries_6 11 rfl rfl)
theorem dX10_tries_153 : decode cX10_tries 153 = .ok (.aaload, 1) := dk_50 (dk_at dksX10_tries_6 12 rfl rfl)
theorem dX10_tries_154 : decode cX10_tries 154 = .ok (.invokestatic 188, 3) := dk_184 0 188 (dk_at dksX10_tries_6 13 rfl rfl)
theorem dX10_tries_157 : decode cX10_tries 157 = .ok (.aload_n 0, 1) := dk_42 (dk_at dksX10_tries_6 16 rfl rfl)
theorem dX10_tries_158 : decode cX10_tries 158 = .ok (.getfield 74, 3) := dk_180 0 74 (dk_at dksX10_tries_6 17 rfl rfl)
theorem dX10_tries_161 : decode cX10_tries 161 = .ok (.iload_n 1, 1) := dk_27 (dk_at dksX10_tries_6 20 rfl rfl)
theorem dX10_tries_162 : decode cX10_tries 162 = .ok (.iconst 1, 1) := dk_4 (dk_at dksX10_tries_6 21 rfl rfl)
theorem dX10_tries_163 : decode cX10_tries 163 = .ok (.iadd, 1) := dk_96 (dk_at dksX10_tries_6 22 rfl rfl)
theorem dX10_tries_164 : decode cX10_tries 164 = .ok (.aaload, 1) := dk_50 (dk_at dksX10_tries_6 23 rfl rfl)
theorem dX10_tries_165 : decode cX10_tries 165 = .ok (.iload 7, 2) := dk_21 7 (dk_at dksX10_tries_7 0 rfl rfl)
theorem dX10_tries_167 : decode cX10_tries 167 = .ok (.iload 6, 2) := dk_21 6 (dk_at dksX10_tries_7 2 rfl rfl)
theorem dX10_tries_169 : decode cX10_tries 169 = .ok (.iconst 0, 1) := dk_3 (dk_at dksX10_tries_7 4 rfl rfl)
theorem dX10_tries_170 : decode cX10_tries 170 = .ok (.iconst 0, 1) := dk_3 (dk_at dksX10_tries_7 5 rfl rfl)
theorem dX10_tries_171 : decode cX10_tries 171 = .ok (.iconst 0, 1) := dk_3 (dk_at dksX10_tries_7 6 rfl rfl)
theorem dX10_tries_172 : decode cX10_tries 172 = .ok (.invokestatic 196, 3) := dk_184 0 196 (dk_at dksX10_tries_7 7 rfl rfl)
theorem dX10_tries_175 : decode cX10_tries 175 = .ok (.aload_n 0, 1) := dk_42 (dk_at dksX10_tries_7 10 rfl rfl)
theorem dX10_tries_176 : decode cX10_tries 176 = .ok (.iload_n 1, 1) := dk_27 (dk_at dksX10_tries_7 11 rfl rfl)
theorem dX10_tries_177 : decode cX10_tries 177 = .ok (.iconst 1, 1) := dk_4 (dk_at dksX10_tries_7 12 rfl rfl)
theorem dX10_tries_178 : decode cX10_tries 178 = .ok (.iadd, 1) := dk_96 (dk_at dksX10_tries_7 13 rfl rfl)
theorem dX10_tries_179 : decode cX10_tries 179 = .ok (.iload_n 2, 1) := dk_28 (dk_at dksX10_tries_7 14 rfl rfl)
theorem dX10_tries_180 : decode cX10_tries 180 = .ok (.iload_n 1, 1) := dk_27 (dk_at dksX10_tries_7 15 rfl rfl)
theorem dX10_tries_181 : decode cX10_tries 181 = .ok (.ifCond .ne 8, 3) := dk_154 0 8 (dk_at dksX10_tries_7 16 rfl rfl)
theorem dX10_tries_184 : decode cX10_tries 184 = .ok (.iload 6, 2) := dk_21 6 (dk_at dksX10_tries_7 19 rfl rfl)
theorem dX10_tries_186 : decode cX10_tries 186 = .ok (.goto 4, 3) := dk_167 0 4 (dk_at dksX10_tries_7 21 rfl rfl)
theorem dX10_tries_189 : decode cX10_tries 189 = .ok (.iload_n 3, 1) := dk_29 (dk_at dksX10_tries_8 0 rfl rfl)
theorem dX10_tries_190 : decode cX10_tries 190 = .ok (.invokevirtual 433, 3) := dk_182 1 177 (dk_at dksX10_tries_8 1 rfl rfl)
theorem dX10_tries_193 : decode cX10_tries 193 = .ok (.iinc 6 1, 3) := dk_132 6 1 (dk_at dksX10_tries_8 4 rfl rfl)
theorem dX10_tries_196 : decode cX10_tries 196 = .ok (.goto (-134), 3) := dk_167 255 122 (dk_at dksX10_tries_8 7 rfl rfl)
theorem dX10_tries_199 : decode cX10_tries 199 = .ok (.return_, 1) := dk_177 (dk_at dksX10_tries_8 10 rfl rfl)
abbrev cX10_reach : ByteArray := prog_26_method_122_code
def yX10_reach : MethodName := ⟨RX10, "reach", "(II)I"⟩
def dkwX10_reach_4 : List UInt8 := [167, 255, 226, 42, 5, 182, 0, 204, 172]
abbrev dktX10_reach_4 : List UInt8 := dkwX10_reach_4 ++ []
def dkwX10_reach_3 : List UInt8 := [3, 29, 42, 180, 0, 61, 27, 50, 3, 46, 184, 0, 130, 182, 1, 181, 153, 0, 5, 29, 172, 132, 3, 1]
abbrev dktX10_reach_3 : List UInt8 := dkwX10_reach_3 ++ dktX10_reach_4
def dkwX10_reach_2 : List UInt8 := [182, 1, 135, 42, 180, 0, 13, 42, 180, 0, 74, 3, 50, 184, 0, 188, 3, 62, 29, 28, 163, 0, 31, 42]
abbrev dktX10_reach_2 : List UInt8 := dkwX10_reach_2 ++ dktX10_reach_3
def dkwX10_reach_1 : List UInt8 := [172, 42, 180, 0, 64, 27, 51, 154, 0, 10, 42, 16, 7, 182, 0, 204, 172, 42, 42, 180, 0, 61, 27, 50]
abbrev dktX10_reach_1 : List UInt8 := dkwX10_reach_1 ++ dktX10_reach_2
def dkwX10_reach_0 : List UInt8 := [27, 184, 1, 129, 153, 0, 15, 28, 133, 9, 20, 0, 124, 184, 0, 102, 154, 0, 9, 42, 4, 182, 0, 204]
abbrev dktX10_reach_0 : List UInt8 := dkwX10_reach_0 ++ dktX10_reach_1
theorem dksX10_reach_0 : cX10_reach.data.toList.drop 0 = dktX10_reach_0 := by decide +kernel
theorem dksX10_reach_1 : cX10_reach.data.toList.drop 24 = dktX10_reach_1 := dk_seg dksX10_reach_0 24 rfl rfl
theorem dksX10_reach_2 : cX10_reach.data.toList.drop 48 = dktX10_reach_2 := dk_seg dksX10_reach_1 24 rfl rfl
theorem dksX10_reach_3 : cX10_reach.data.toList.drop 72 = dktX10_reach_3 := dk_seg dksX10_reach_2 24 rfl rfl
theorem dksX10_reach_4 : cX10_reach.data.toList.drop 96 = dktX10_reach_4 := dk_seg dksX10_reach_3 24 rfl rfl
theorem dX10_reach_0 : decode cX10_reach 0 = .ok (.iload_n 1, 1) := dk_27 (dk_at dksX10_reach_0 0 rfl rfl)
theorem dX10_reach_1 : decode cX10_reach 1 = .ok (.invokestatic 385, 3) := dk_184 1 129 (dk_at dksX10_reach_0 1 rfl rfl)
theorem dX10_reach_4 : decode cX10_reach 4 = .ok (.ifCond .eq 15, 3) := dk_153 0 15 (dk_at dksX10_reach_0 4 rfl rfl)
theorem dX10_reach_7 : decode cX10_reach 7 = .ok (.iload_n 2, 1) := dk_28 (dk_at dksX10_reach_0 7 rfl rfl)
theorem dX10_reach_8 : decode cX10_reach 8 = .ok (.i2l, 1) := dk_133 (dk_at dksX10_reach_0 8 rfl rfl)
theorem dX10_reach_9 : decode cX10_reach 9 = .ok (.lconst 0, 1) := dk_9 (dk_at dksX10_reach_0 9 rfl rfl)
theorem dX10_reach_10 : decode cX10_reach 10 = .ok (.ldc2_w 124, 3) := dk_20 0 124 (dk_at dksX10_reach_0 10 rfl rfl)
theorem dX10_reach_13 : decode cX10_reach 13 = .ok (.invokestatic 102, 3) := dk_184 0 102 (dk_at dksX10_reach_0 13 rfl rfl)
theorem dX10_reach_16 : decode cX10_reach 16 = .ok (.ifCond .ne 9, 3) := dk_154 0 9 (dk_at dksX10_reach_0 16 rfl rfl)
theorem dX10_reach_19 : decode cX10_reach 19 = .ok (.aload_n 0, 1) := dk_42 (dk_at dksX10_reach_0 19 rfl rfl)
theorem dX10_reach_20 : decode cX10_reach 20 = .ok (.iconst 1, 1) := dk_4 (dk_at dksX10_reach_0 20 rfl rfl)
theorem dX10_reach_21 : decode cX10_reach 21 = .ok (.invokevirtual 204, 3) := dk_182 0 204 (dk_at dksX10_reach_0 21 rfl rfl)
theorem dX10_reach_24 : decode cX10_reach 24 = .ok (.ireturn, 1) := dk_172 (dk_at dksX10_reach_1 0 rfl rfl)
theorem dX10_reach_25 : decode cX10_reach 25 = .ok (.aload_n 0, 1) := dk_42 (dk_at dksX10_reach_1 1 rfl rfl)
theorem dX10_reach_26 : decode cX10_reach 26 = .ok (.getfield 64, 3) := dk_180 0 64 (dk_at dksX10_reach_1 2 rfl rfl)
theorem dX10_reach_29 : decode cX10_reach 29 = .ok (.iload_n 1, 1) := dk_27 (dk_at dksX10_reach_1 5 rfl rfl)
theorem dX10_reach_30 : decode cX10_reach 30 = .ok (.baload, 1) := dk_51 (dk_at dksX10_reach_1 6 rfl rfl)
theorem dX10_reach_31 : decode cX10_reach 31 = .ok (.ifCond .ne 10, 3) := dk_154 0 10 (dk_at dksX10_reach_1 7 rfl rfl)
theorem dX10_reach_34 : decode cX10_reach 34 = .ok (.aload_n 0, 1) := dk_42 (dk_at dksX10_reach_1 10 rfl rfl)
theorem dX10_reach_35 : decode cX10_reach 35 = .ok (.bipush 7, 2) := dk_16 7 (dk_at dksX10_reach_1 11 rfl rfl)
theorem dX10_reach_37 : decode cX10_reach 37 = .ok (.invokevirtual 204, 3) := dk_182 0 204 (dk_at dksX10_reach_1 13 rfl rfl)
theorem dX10_reach_40 : decode cX10_reach 40 = .ok (.ireturn, 1) := dk_172 (dk_at dksX10_reach_1 16 rfl rfl)
theorem dX10_reach_41 : decode cX10_reach 41 = .ok (.aload_n 0, 1) := dk_42 (dk_at dksX10_reach_1 17 rfl rfl)
theorem dX10_reach_42 : decode cX10_reach 42 = .ok (.aload_n 0, 1) := dk_42 (dk_at dksX10_reach_1 18 rfl rfl)
theorem dX10_reach_43 : decode cX10_reach 43 = .ok (.getfield 61, 3) := dk_180 0 61 (dk_at dksX10_reach_1 19 rfl rfl)
theorem dX10_reach_46 : decode cX10_reach 46 = .ok (.iload_n 1, 1) := dk_27 (dk_at dksX10_reach_1 22 rfl rfl)
theorem dX10_reach_47 : decode cX10_reach 47 = .ok (.aaload, 1) := dk_50 (dk_at dksX10_reach_1 23 rfl rfl)
theorem dX10_reach_48 : decode cX10_reach 48 = .ok (.invokevirtual 391, 3) := dk_182 1 135 (dk_at dksX10_reach_2 0 rfl rfl)
theorem dX10_reach_51 : decode cX10_reach 51 = .ok (.aload_n 0, 1) := dk_42 (dk_at dksX10_reach_2 3 rfl rfl)
theorem dX10_reach_52 : decode cX10_reach 52 = .ok (.getfield 13, 3) := dk_180 0 13 (dk_at dksX10_reach_2 4 rfl rfl)
theorem dX10_reach_55 : decode cX10_reach 55 = .ok (.aload_n 0, 1) := dk_42 (dk_at dksX10_reach_2 7 rfl rfl)
theorem dX10_reach_56 : decode cX10_reach 56 = .ok (.getfield 74, 3) := dk_180 0 74 (dk_at dksX10_reach_2 8 rfl rfl)
theorem dX10_reach_59 : decode cX10_reach 59 = .ok (.iconst 0, 1) := dk_3 (dk_at dksX10_reach_2 11 rfl rfl)
theorem dX10_reach_60 : decode cX10_reach 60 = .ok (.aaload, 1) := dk_50 (dk_at dksX10_reach_2 12 rfl rfl)
theorem dX10_reach_61 : decode cX10_reach 61 = .ok (.invokestatic 188, 3) := dk_184 0 188 (dk_at dksX10_reach_2 13 rfl rfl)
theorem dX10_reach_64 : decode cX10_reach 64 = .ok (.iconst 0, 1) := dk_3 (dk_at dksX10_reach_2 16 rfl rfl)
theorem dX10_reach_65 : decode cX10_reach 65 = .ok (.istore_n 3, 1) := dk_62 (dk_at dksX10_reach_2 17 rfl rfl)
theorem dX10_reach_66 : decode cX10_reach 66 = .ok (.iload_n 3, 1) := dk_29 (dk_at dksX10_reach_2 18 rfl rfl)
theorem dX10_reach_67 : decode cX10_reach 67 = .ok (.iload_n 2, 1) := dk_28 (dk_at dksX10_reach_2 19 rfl rfl)
theorem dX10_reach_68 : decode cX10_reach 68 = .ok (.if_icmp .gt 31, 3) := dk_163 0 31 (dk_at dksX10_reach_2 20 rfl rfl)
theorem dX10_reach_71 : decode cX10_reach 71 = .ok (.aload_n 0, 1) := dk_42 (dk_at dksX10_reach_2 23 rfl rfl)
theorem dX10_reach_72 : decode cX10_reach 72 = .ok (.iconst 0, 1) := dk_3 (dk_at dksX10_reach_3 0 rfl rfl)
theorem dX10_reach_73 : decode cX10_reach 73 = .ok (.iload_n 3, 1) := dk_29 (dk_at dksX10_reach_3 1 rfl rfl)
theorem dX10_reach_74 : decode cX10_reach 74 = .ok (.aload_n 0, 1) := dk_42 (dk_at dksX10_reach_3 2 rfl rfl)
theorem dX10_reach_75 : decode cX10_reach 75 = .ok (.getfield 61, 3) := dk_180 0 61 (dk_at dksX10_reach_3 3 rfl rfl)
theorem dX10_reach_78 : decode cX10_reach 78 = .ok (.iload_n 1, 1) := dk_27 (dk_at dksX10_reach_3 6 rfl rfl)
theorem dX10_reach_79 : decode cX10_reach 79 = .ok (.aaload, 1) := dk_50 (dk_at dksX10_reach_3 7 rfl rfl)
theorem dX10_reach_80 : decode cX10_reach 80 = .ok (.iconst 0, 1) := dk_3 (dk_at dksX10_reach_3 8 rfl rfl)
theorem dX10_reach_81 : decode cX10_reach 81 = .ok (.iaload, 1) := dk_46 (dk_at dksX10_reach_3 9 rfl rfl)
theorem dX10_reach_82 : decode cX10_reach 82 = .ok (.invokestatic 130, 3) := dk_184 0 130 (dk_at dksX10_reach_3 10 rfl rfl)
theorem dX10_reach_85 : decode cX10_reach 85 = .ok (.invokevirtual 437, 3) := dk_182 1 181 (dk_at dksX10_reach_3 13 rfl rfl)
theorem dX10_reach_88 : decode cX10_reach 88 = .ok (.ifCond .eq 5, 3) := dk_153 0 5 (dk_at dksX10_reach_3 16 rfl rfl)
theorem dX10_reach_91 : decode cX10_reach 91 = .ok (.iload_n 3, 1) := dk_29 (dk_at dksX10_reach_3 19 rfl rfl)
theorem dX10_reach_92 : decode cX10_reach 92 = .ok (.ireturn, 1) := dk_172 (dk_at dksX10_reach_3 20 rfl rfl)
theorem dX10_reach_93 : decode cX10_reach 93 = .ok (.iinc 3 1, 3) := dk_132 3 1 (dk_at dksX10_reach_3 21 rfl rfl)
theorem dX10_reach_96 : decode cX10_reach 96 = .ok (.goto (-30), 3) := dk_167 255 226 (dk_at dksX10_reach_4 0 rfl rfl)
theorem dX10_reach_99 : decode cX10_reach 99 = .ok (.aload_n 0, 1) := dk_42 (dk_at dksX10_reach_4 3 rfl rfl)
theorem dX10_reach_100 : decode cX10_reach 100 = .ok (.iconst 2, 1) := dk_5 (dk_at dksX10_reach_4 4 rfl rfl)
theorem dX10_reach_101 : decode cX10_reach 101 = .ok (.invokevirtual 204, 3) := dk_182 0 204 (dk_at dksX10_reach_4 5 rfl rfl)
theorem dX10_reach_104 : decode cX10_reach 104 = .ok (.ireturn, 1) := dk_172 (dk_at dksX10_reach_4 8 rfl rfl)
abbrev cX10_comesTo : ByteArray := prog_26_method_121_code
def yX10_comesTo : MethodName := ⟨RX10, "comesTo", "(III)Z"⟩
def dkwX10_comesTo_8 : List UInt8 := [172]
abbrev dktX10_comesTo_8 : List UInt8 := dkwX10_comesTo_8 ++ []
def dkwX10_comesTo_7 : List UInt8 := [184, 0, 196, 42, 27, 4, 96, 28, 29, 182, 1, 181, 153, 0, 5, 4, 172, 132, 5, 1, 167, 255, 119, 3]
abbrev dktX10_comesTo_7 : List UInt8 := dkwX10_comesTo_7 ++ dktX10_comesTo_8
def dkwX10_comesTo_6 : List UInt8 := [27, 4, 96, 50, 184, 0, 188, 42, 180, 0, 74, 27, 4, 96, 50, 21, 6, 21, 5, 3, 3, 3]
abbrev dktX10_comesTo_6 : List UInt8 := dkwX10_comesTo_6 ++ dktX10_comesTo_7
def dkwX10_comesTo_5 : List UInt8 := [155, 0, 63, 25, 4, 21, 6, 21, 5, 3, 3, 3, 184, 0, 200, 154, 0, 48, 25, 4, 42, 180, 0, 74]
abbrev dktX10_comesTo_5 : List UInt8 := dkwX10_comesTo_5 ++ dktX10_comesTo_6
def dkwX10_comesTo_4 : List UInt8 := [16, 13, 21, 5, 96, 46, 184, 0, 130, 5, 160, 0, 7, 7, 167, 0, 4, 8, 54, 6, 21, 6]
abbrev dktX10_comesTo_4 : List UInt8 := dkwX10_comesTo_4 ++ dktX10_comesTo_5
def dkwX10_comesTo_3 : List UInt8 := [154, 0, 7, 2, 167, 0, 37, 25, 4, 4, 21, 5, 96, 46, 153, 0, 7, 3, 167, 0, 23, 25, 4]
abbrev dktX10_comesTo_3 : List UInt8 := dkwX10_comesTo_3 ++ dktX10_comesTo_4
def dkwX10_comesTo_2 : List UInt8 := [163, 0, 136, 21, 5, 16, 12, 160, 0, 8, 16, 6, 167, 0, 51, 25, 4, 21, 5, 184, 0, 106]
abbrev dktX10_comesTo_2 : List UInt8 := dkwX10_comesTo_2 ++ dktX10_comesTo_3
def dkwX10_comesTo_1 : List UInt8 := [42, 25, 4, 182, 1, 138, 153, 0, 7, 4, 167, 0, 4, 3, 172, 3, 54, 5, 21, 5, 16, 12]
abbrev dktX10_comesTo_1 : List UInt8 := dkwX10_comesTo_1 ++ dktX10_comesTo_2
def dkwX10_comesTo_0 : List UInt8 := [42, 180, 0, 74, 27, 50, 58, 4, 27, 28, 160, 0, 29, 25, 4, 3, 46, 184, 0, 130, 29, 160, 0, 16]
abbrev dktX10_comesTo_0 : List UInt8 := dkwX10_comesTo_0 ++ dktX10_comesTo_1
theorem dksX10_comesTo_0 : cX10_comesTo.data.toList.drop 0 = dktX10_comesTo_0 := by decide +kernel
theorem dksX10_comesTo_1 : cX10_comesTo.data.toList.drop 24 = dktX10_comesTo_1 := dk_seg dksX10_comesTo_0 24 rfl rfl
theorem dksX10_comesTo_2 : cX10_comesTo.data.toList.drop 46 = dktX10_comesTo_2 := dk_seg dksX10_comesTo_1 22 rfl rfl
theorem dksX10_comesTo_3 : cX10_comesTo.data.toList.drop 68 = dktX10_comesTo_3 := dk_seg dksX10_comesTo_2 22 rfl rfl
theorem dksX10_comesTo_4 : cX10_comesTo.data.toList.drop 91 = dktX10_comesTo_4 := dk_seg dksX10_comesTo_3 23 rfl rfl
theorem dksX10_comesTo_5 : cX10_comesTo.data.toList.drop 113 = dktX10_comesTo_5 := dk_seg dksX10_comesTo_4 22 rfl rfl
theorem dksX10_comesTo_6 : cX10_comesTo.data.toList.drop 137 = dktX10_comesTo_6 := dk_seg dksX10_comesTo_5 24 rfl rfl
theorem dksX10_comesTo_7 : cX10_comesTo.data.toList.drop 159 = dktX10_comesTo_7 := dk_seg dksX10_comesTo_6 22 rfl rfl
theorem dksX10_comesTo_8 : cX10_comesTo.data.toList.drop 183 = dktX10_comesTo_8 := dk_seg dksX10_comesTo_7 24 rfl rfl
theorem dX10_comesTo_0 : decode cX10_comesTo 0 = .ok (.aload_n 0, 1) := dk_42 (dk_at dksX10_comesTo_0 0 rfl rfl)
theorem dX10_comesTo_1 : decode cX10_comesTo 1 = .ok (.getfield 74, 3) := dk_180 0 74 (dk_at dksX10_comesTo_0 1 rfl rfl)
theorem dX10_comesTo_4 : decode cX10_comesTo 4 = .ok (.iload_n 1, 1) := dk_27 (dk_at dksX10_comesTo_0 4 rfl rfl)
theorem dX10_comesTo_5 : decode cX10_comesTo 5 = .ok (.aaload, 1) := dk_50 (dk_at dksX10_comesTo_0 5 rfl rfl)
theorem dX10_comesTo_6 : decode cX10_comesTo 6 = .ok (.astore 4, 2) := dk_58 4 (dk_at dksX10_comesTo_0 6 rfl rfl)
theorem dX10_comesTo_8 : decode cX10_comesTo 8 = .ok (.iload_n 1, 1) := dk_27 (dk_at dksX10_comesTo_0 8 rfl rfl)
theorem dX10_comesTo_9 : decode cX10_comesTo 9 = .ok (.iload_n 2, 1) := dk_28 (dk_at dksX10_comesTo_0 9 rfl rfl)
theorem dX10_comesTo_10 : decode cX10_comesTo 10 = .ok (.if_icmp .ne 29, 3) := dk_160 0 29 (dk_at dksX10_comesTo_0 10 rfl rfl)
theorem dX10_comesTo_13 : decode cX10_comesTo 13 = .ok (.aload 4, 2) := dk_25 4 (dk_at dksX10_comesTo_0 13 rfl rfl)
theorem dX10_comesTo_15 : decode cX10_comesTo 15 = .ok (.iconst 0, 1) := dk_3 (dk_at dksX10_comesTo_0 15 rfl rfl)
theorem dX10_comesTo_16 : decode cX10_comesTo 16 = .ok (.iaload, 1) := dk_46 (dk_at dksX10_comesTo_0 16 rfl rfl)
theorem dX10_comesTo_17 : decode cX10_comesTo 17 = .ok (.invokestatic 130, 3) := dk_184 0 130 (dk_at dksX10_comesTo_0 17 rfl rfl)
theorem dX10_comesTo_20 : decode cX10_comesTo 20 = .ok (.iload_n 3, 1) := dk_29 (dk_at dksX10_comesTo_0 20 rfl rfl)
theorem dX10_comesTo_21 : decode cX10_comesTo 21 = .ok (.if_icmp .ne 16, 3) := dk_160 0 16 (dk_at dksX10_comesTo_0 21 rfl rfl)
theorem dX10_comesTo_24 : decode cX10_comesTo 24 = .ok (.aload_n 0, 1) := dk_42 (dk_at dksX10_comesTo_1 0 rfl rfl)
theorem dX10_comesTo_25 : decode cX10_comesTo 25 = .ok (.aload 4, 2) := dk_25 4 (dk_at dksX10_comesTo_1 1 rfl rfl)
theorem dX10_comesTo_27 : decode cX10_comesTo 27 = .ok (.invokevirtual 394, 3) := dk_182 1 138 (dk_at dksX10_comesTo_1 3 rfl rfl)
theorem dX10_comesTo_30 : decode cX10_comesTo 30 = .ok (.ifCond .eq 7, 3) := dk_153 0 7 (dk_at dksX10_comesTo_1 6 rfl rfl)
theorem dX10_comesTo_33 : decode cX10_comesTo 33 = .ok (.iconst 1, 1) := dk_4 (dk_at dksX10_comesTo_1 9 rfl rfl)
theorem dX10_comesTo_34 : decode cX10_comesTo 34 = .ok (.goto 4, 3) := dk_167 0 4 (dk_at dksX10_comesTo_1 10 rfl rfl)
theorem dX10_comesTo_37 : decode cX10_comesTo 37 = .ok (.iconst 0, 1) := dk_3 (dk_at dksX10_comesTo_1 13 rfl rfl)
theorem dX10_comesTo_38 : decode cX10_comesTo 38 = .ok (.ireturn, 1) := dk_172 (dk_at dksX10_comesTo_1 14 rfl rfl)
theorem dX10_comesTo_39 : decode cX10_comesTo 39 = .ok (.iconst 0, 1) := dk_3 (dk_at dksX10_comesTo_1 15 rfl rfl)
theorem dX10_comesTo_40 : decode cX10_comesTo 40 = .ok (.istore 5, 2) := dk_54 5 (dk_at dksX10_comesTo_1 16 rfl rfl)
theorem dX10_comesTo_42 : decode cX10_comesTo 42 = .ok (.iload 5, 2) := dk_21 5 (dk_at dksX10_comesTo_1 18 rfl rfl)
theorem dX10_comesTo_44 : decode cX10_comesTo 44 = .ok (.bipush 12, 2) := dk_16 12 (dk_at dksX10_comesTo_1 20 rfl rfl)
theorem dX10_comesTo_46 : decode cX10_comesTo 46 = .ok (.if_icmp .gt 136, 3) := dk_163 0 136 (dk_at dksX10_comesTo_2 0 rfl rfl)
theorem dX10_comesTo_49 : decode cX10_comesTo 49 = .ok (.iload 5, 2) := dk_21 5 (dk_at dksX10_comesTo_2 3 rfl rfl)
theorem dX10_comesTo_51 : decode cX10_comesTo 51 = .ok (.bipush 12, 2) := dk_16 12 (dk_at dksX10_comesTo_2 5 rfl rfl)
theorem dX10_comesTo_53 : decode cX10_comesTo 53 = .ok (.if_icmp .ne 8, 3) := dk_160 0 8 (dk_at dksX10_comesTo_2 7 rfl rfl)
theorem dX10_comesTo_56 : decode cX10_comesTo 56 = .ok (.bipush 6, 2) := dk_16 6 (dk_at dksX10_comesTo_2 10 rfl rfl)
theorem dX10_comesTo_58 : decode cX10_comesTo 58 = .ok (.goto 51, 3) := dk_167 0 51 (dk_at dksX10_comesTo_2 12 rfl rfl)
theorem dX10_comesTo_61 : decode cX10_comesTo 61 = .ok (.aload 4, 2) := dk_25 4 (dk_at dksX10_comesTo_2 15 rfl rfl)
theorem dX10_comesTo_63 : decode cX10_comesTo 63 = .ok (.iload 5, 2) := dk_21 5 (dk_at dksX10_comesTo_2 17 rfl rfl)
theorem dX10_comesTo_65 : decode cX10_comesTo 65 = .ok (.invokestatic 106, 3) := dk_184 0 106 (dk_at dksX10_comesTo_2 19 rfl rfl)
theorem dX10_comesTo_68 : decode cX10_comesTo 68 = .ok (.ifCond .ne 7, 3) := dk_154 0 7 (dk_at dksX10_comesTo_3 0 rfl rfl)
theorem dX10_comesTo_71 : decode cX10_comesTo 71 = .ok (.iconst (-1), 1) := dk_2 (dk_at dksX10_comesTo_3 3 rfl rfl)
theorem dX10_comesTo_72 : decode cX10_comesTo 72 = .ok (.goto 37, 3) := dk_167 0 37 (dk_at dksX10_comesTo_3 4 rfl rfl)
theorem dX10_comesTo_75 : decode cX10_comesTo 75 = .ok (.aload 4, 2) := dk_25 4 (dk_at dksX10_comesTo_3 7 rfl rfl)
theorem dX10_comesTo_77 : decode cX10_comesTo 77 = .ok (.iconst 1, 1) := dk_4 (dk_at dksX10_comesTo_3 9 rfl rfl)
theorem dX10_comesTo_78 : decode cX10_comesTo 78 = .ok (.iload 5, 2) := dk_21 5 (dk_at dksX10_comesTo_3 10 rfl rfl)
theorem dX10_comesTo_80 : decode cX10_comesTo 80 = .ok (.iadd, 1) := dk_96 (dk_at dksX10_comesTo_3 12 rfl rfl)
theorem dX10_comesTo_81 : decode cX10_comesTo 81 = .ok (.iaload, 1) := dk_46 (dk_at dksX10_comesTo_3 13 rfl rfl)
theorem dX10_comesTo_82 : decode cX10_comesTo 82 = .ok (.ifCond .eq 7, 3) := dk_153 0 7 (dk_at dksX10_comesTo_3 14 rfl rfl)
theorem dX10_comesTo_85 : decode cX10_comesTo 85 = .ok (.iconst 0, 1) := dk_3 (dk_at dksX10_comesTo_3 17 rfl rfl)
theorem dX10_comesTo_86 : decode cX10_comesTo 86 = .ok (.goto 23, 3) := dk_167 0 23 (dk_at dksX10_comesTo_3 18 rfl rfl)
theorem dX10_comesTo_89 : decode cX10_comesTo 89 = .ok (.aload 4, 2) := dk_25 4 (dk_at dksX10_comesTo_3 21 rfl rfl)
theorem dX10_comesTo_91 : decode cX10_comesTo 91 = .ok (.bipush 13, 2) := dk_16 13 (dk_at dksX10_comesTo_4 0 rfl rfl)
theorem dX10_comesTo_93 : decode cX10_comesTo 93 = .ok (.iload 5, 2) := dk_21 5 (dk_at dksX10_comesTo_4 2 rfl rfl)
theorem dX10_comesTo_95 : decode cX10_comesTo 95 = .ok (.iadd, 1) := dk_96 (dk_at dksX10_comesTo_4 4 rfl rfl)
theorem dX10_comesTo_96 : decode cX10_comesTo 96 = .ok (.iaload, 1) := dk_46 (dk_at dksX10_comesTo_4 5 rfl rfl)
theorem dX10_comesTo_97 : decode cX10_comesTo 97 = .ok (.invokestatic 130, 3) := dk_184 0 130 (dk_at dksX10_comesTo_4 6 rfl rfl)
theorem dX10_comesTo_100 : decode cX10_comesTo 100 = .ok (.iconst 2, 1) := dk_5 (dk_at dksX10_comesTo_4 9 rfl rfl)
theorem dX10_comesTo_101 : decode cX10_comesTo 101 = .ok (.if_icmp .ne 7, 3) := dk_160 0 7 (dk_at dksX10_comesTo_4 10 rfl rfl)
theorem dX10_comesTo_104 : decode cX10_comesTo 104 = .ok (.iconst 4, 1) := dk_7 (dk_at dksX10_comesTo_4 13 rfl rfl)
theorem dX10_comesTo_105 : decode cX10_comesTo 105 = .ok (.goto 4, 3) := dk_167 0 4 (dk_at dksX10_comesTo_4 14 rfl rfl)
theorem dX10_comesTo_108 : decode cX10_comesTo 108 = .ok (.iconst 5, 1) := dk_8 (dk_at dksX10_comesTo_4 17 rfl rfl)
theorem dX10_comesTo_109 : decode cX10_comesTo 109 = .ok (.istore 6, 2) := dk_54 6 (dk_at dksX10_comesTo_4 18 rfl rfl)
theorem dX10_comesTo_111 : decode cX10_comesTo 111 = .ok (.iload 6, 2) := dk_21 6 (dk_at dksX10_comesTo_4 20 rfl rfl)
theorem dX10_comesTo_113 : decode cX10_comesTo 113 = .ok (.ifCond .lt 63, 3) := dk_155 0 63 (dk_at dksX10_comesTo_5 0 rfl rfl)
theorem dX10_comesTo_116 : decode cX10_comesTo 116 = .ok (.aload 4, 2) := dk_25 4 (dk_at dksX10_comesTo_5 3 rfl rfl)
theorem dX10_comesTo_118 : decode cX10_comesTo 118 = .ok (.iload 6, 2) := dk_21 6 (dk_at dksX10_comesTo_5 5 rfl rfl)
theorem dX10_comesTo_120 : decode cX10_comesTo 120 = .ok (.iload 5, 2) := dk_21 5 (dk_at dksX10_comesTo_5 7 rfl rfl)
theorem dX10_comesTo_122 : decode cX10_comesTo 122 = .ok (.iconst 0, 1) := dk_3 (dk_at dksX10_comesTo_5 9 rfl rfl)
theorem dX10_comesTo_123 : decode cX10_comesTo 123 = .ok (.iconst 0, 1) := dk_3 (dk_at dksX10_comesTo_5 10 rfl rfl)
theorem dX10_comesTo_124 : decode cX10_comesTo 124 = .ok (.iconst 0, 1) := dk_3 (dk_at dksX10_comesTo_5 11 rfl rfl)
theorem dX10_comesTo_125 : decode cX10_comesTo 125 = .ok (.invokestatic 200, 3) := dk_184 0 200 (dk_at dksX10_comesTo_5 12 rfl rfl)
theorem dX10_comesTo_128 : decode cX10_comesTo 128 = .ok (.ifCond .ne 48, 3) := dk_154 0 48 (dk_at dksX10_comesTo_5 15 rfl rfl)
theorem dX10_comesTo_131 : decode cX10_comesTo 131 = .ok (.aload 4, 2) := dk_25 4 (dk_at dksX10_comesTo_5 18 rfl rfl)
theorem dX10_comesTo_133 : decode cX10_comesTo 133 = .ok (.aload_n 0, 1) := dk_42 (dk_at dksX10_comesTo_5 20 rfl rfl)
theorem dX10_comesTo_134 : decode cX10_comesTo 134 = .ok (.getfield 74, 3) := dk_180 0 74 (dk_at dksX10_comesTo_5 21 rfl rfl)
theorem dX10_comesTo_137 : decode cX10_comesTo 137 = .ok (.iload_n 1, 1) := dk_27 (dk_at dksX10_comesTo_6 0 rfl rfl)
theorem dX10_comesTo_138 : decode cX10_comesTo 138 = .ok (.iconst 1, 1) := dk_4 (dk_at dksX10_comesTo_6 1 rfl rfl)
theorem dX10_comesTo_139 : decode cX10_comesTo 139 = .ok (.iadd, 1) := dk_96 (dk_at dksX10_comesTo_6 2 rfl rfl)
theorem dX10_comesTo_140 : decode cX10_comesTo 140 = .ok (.aaload, 1) := dk_50 (dk_at dksX10_comesTo_6 3 rfl rfl)
theorem dX10_comesTo_141 : decode cX10_comesTo 141 = .ok (.invokestatic 188, 3) := dk_184 0 188 (dk_at dksX10_comesTo_6 4 rfl rfl)
theorem dX10_comesTo_144 : decode cX10_comesTo 144 = .ok (.aload_n 0, 1) := dk_42 (dk_at dksX10_comesTo_6 7 rfl rfl)
theorem dX10_comesTo_145 : decode cX10_comesTo 145 = .ok (.getfield 74, 3) := dk_180 0 74 (dk_at dksX10_comesTo_6 8 rfl rfl)
theorem dX10_comesTo_148 : decode cX10_comesTo 148 = .ok (.iload_n 1, 1) := dk_27 (dk_at dksX10_comesTo_6 11 rfl rfl)
theorem dX10_comesTo_149 : decode cX10_comesTo 149 = .ok (.iconst 1, 1) := dk_4 (dk_at dksX10_comesTo_6 12 rfl rfl)
theorem dX10_comesTo_150 : decode cX10_comesTo 150 = .ok (.iadd, 1) := dk_96 (dk_at dksX10_comesTo_6 13 rfl rfl)
theorem dX10_comesTo_151 : decode cX10_comesTo 151 = .ok (.aaload, 1) := dk_50 (dk_at dksX10_comesTo_6 14 rfl rfl)
theorem dX10_comesTo_152 : decode cX10_comesTo 152 = .ok (.iload 6, 2) := dk_21 6 (dk_at dksX10_comesTo_6 15 rfl rfl)
theorem dX10_comesTo_154 : decode cX10_comesTo 154 = .ok (.iload 5, 2) := dk_21 5 (dk_at dksX10_comesTo_6 17 rfl rfl)
theorem dX10_comesTo_156 : decode cX10_comesTo 156 = .ok (.iconst 0, 1) := dk_3 (dk_at dksX10_comesTo_6 19 rfl rfl)
theorem dX10_comesTo_157 : decode cX10_comesTo 157 = .ok (.iconst 0, 1) := dk_3 (dk_at dksX10_comesTo_6 20 rfl rfl)
theorem dX10_comesTo_158 : decode cX10_comesTo 158 = .ok (.iconst 0, 1) := dk_3 (dk_at dksX10_comesTo_6 21 rfl rfl)
theorem dX10_comesTo_159 : decode cX10_comesTo 159 = .ok (.invokestatic 196, 3) := dk_184 0 196 (dk_at dksX10_comesTo_7 0 rfl rfl)
theorem dX10_comesTo_162 : decode cX10_comesTo 162 = .ok (.aload_n 0, 1) := dk_42 (dk_at dksX10_comesTo_7 3 rfl rfl)
theorem dX10_comesTo_163 : decode cX10_comesTo 163 = .ok (.iload_n 1, 1) := dk_27 (dk_at dksX10_comesTo_7 4 rfl rfl)
theorem dX10_comesTo_164 : decode cX10_comesTo 164 = .ok (.iconst 1, 1) := dk_4 (dk_at dksX10_comesTo_7 5 rfl rfl)
theorem dX10_comesTo_165 : decode cX10_comesTo 165 = .ok (.iadd, 1) := dk_96 (dk_at dksX10_comesTo_7 6 rfl rfl)
theorem dX10_comesTo_166 : decode cX10_comesTo 166 = .ok (.iload_n 2, 1) := dk_28 (dk_at dksX10_comesTo_7 7 rfl rfl)
theorem dX10_comesTo_167 : decode cX10_comesTo 167 = .ok (.iload_n 3, 1) := dk_29 (dk_at dksX10_comesTo_7 8 rfl rfl)
theorem dX10_comesTo_168 : decode cX10_comesTo 168 = .ok (.invokevirtual 437, 3) := dk_182 1 181 (dk_at dksX10_comesTo_7 9 rfl rfl)
theorem dX10_comesTo_171 : decode cX10_comesTo 171 = .ok (.ifCond .eq 5, 3) := dk_153 0 5 (dk_at dksX10_comesTo_7 12 rfl rfl)
theorem dX10_comesTo_174 : decode cX10_comesTo 174 = .ok (.iconst 1, 1) := dk_4 (dk_at dksX10_comesTo_7 15 rfl rfl)
theorem dX10_comesTo_175 : decode cX10_comesTo 175 = .ok (.ireturn, 1) := dk_172 (dk_at dksX10_comesTo_7 16 rfl rfl)
theorem dX10_comesTo_176 : decode cX10_comesTo 176 = .ok (.iinc 5 1, 3) := dk_132 5 1 (dk_at dksX10_comesTo_7 17 rfl rfl)
theorem dX10_comesTo_179 : decode cX10_comesTo 179 = .ok (.goto (-137), 3) := dk_167 255 119 (dk_at dksX10_comesTo_7 20 rfl rfl)
theorem dX10_comesTo_182 : decode cX10_comesTo 182 = .ok (.iconst 0, 1) := dk_3 (dk_at dksX10_comesTo_7 23 rfl rfl)
theorem dX10_comesTo_183 : decode cX10_comesTo 183 = .ok (.ireturn, 1) := dk_172 (dk_at dksX10_comesTo_8 0 rfl rfl)
abbrev cX10_sheet : ByteArray := prog_26_method_123_code
def yX10_sheet : MethodName := ⟨RX10, "sheet", "(III)I"⟩
def dkwX10_sheet_4 : List UInt8 := [162, 0, 22, 42, 180, 0, 83, 16, 24, 27, 104, 21, 4, 96, 3, 79, 132, 4, 1, 167, 255, 233, 4, 172]
abbrev dktX10_sheet_4 : List UInt8 := dkwX10_sheet_4 ++ []
def dkwX10_sheet_3 : List UInt8 := [42, 180, 0, 80, 27, 28, 158, 0, 7, 29, 167, 0, 4, 3, 79, 3, 54, 4, 21, 4, 16, 24]
abbrev dktX10_sheet_3 : List UInt8 := dkwX10_sheet_3 ++ dktX10_sheet_4
def dkwX10_sheet_2 : List UInt8 := [172, 28, 158, 0, 15, 29, 16, 24, 164, 0, 9, 42, 4, 182, 0, 204, 172, 42, 180, 0, 77, 27, 28, 79]
abbrev dktX10_sheet_2 : List UInt8 := dkwX10_sheet_2 ++ dktX10_sheet_3
def dkwX10_sheet_1 : List UInt8 := [16, 32, 159, 0, 9, 42, 4, 182, 0, 204, 172, 28, 158, 0, 13, 29, 156, 0, 9, 42, 6, 182, 0, 204]
abbrev dktX10_sheet_1 : List UInt8 := dkwX10_sheet_1 ++ dktX10_sheet_2
def dkwX10_sheet_0 : List UInt8 := [27, 184, 1, 129, 153, 0, 25, 28, 153, 0, 27, 28, 16, 8, 159, 0, 21, 28, 16, 16, 159, 0, 15, 28]
abbrev dktX10_sheet_0 : List UInt8 := dkwX10_sheet_0 ++ dktX10_sheet_1
theorem dksX10_sheet_0 : cX10_sheet.data.toList.drop 0 = dktX10_sheet_0 := by decide +kernel
theorem dksX10_sheet_1 : cX10_sheet.data.toList.drop 24 = dktX10_sheet_1 := dk_seg dksX10_sheet_0 24 rfl rfl
theorem dksX10_sheet_2 : cX10_sheet.data.toList.drop 48 = dktX10_sheet_2 := dk_seg dksX10_sheet_1 24 rfl rfl
theorem dksX10_sheet_3 : cX10_sheet.data.toList.drop 72 = dktX10_sheet_3 := dk_seg dksX10_sheet_2 24 rfl rfl
theorem dksX10_sheet_4 : cX10_sheet.data.toList.drop 94 = dktX10_sheet_4 := dk_seg dksX10_sheet_3 22 rfl rfl
theorem dX10_sheet_0 : decode cX10_sheet 0 = .ok (.iload_n 1, 1) := dk_27 (dk_at dksX10_sheet_0 0 rfl rfl)
theorem dX10_sheet_1 : decode cX10_sheet 1 = .ok (.invokestatic 385, 3) := dk_184 1 129 (dk_at dksX10_sheet_0 1 rfl rfl)
theorem dX10_sheet_4 : decode cX10_sheet 4 = .ok (.ifCond .eq 25, 3) := dk_153 0 25 (dk_at dksX10_sheet_0 4 rfl rfl)
theorem dX10_sheet_7 : decode cX10_sheet 7 = .ok (.iload_n 2, 1) := dk_28 (dk_at dksX10_sheet_0 7 rfl rfl)
theorem dX10_sheet_8 : decode cX10_sheet 8 = .ok (.ifCond .eq 27, 3) := dk_153 0 27 (dk_at dksX10_sheet_0 8 rfl rfl)
theorem dX10_sheet_11 : decode cX10_sheet 11 = .ok (.iload_n 2, 1) := dk_28 (dk_at dksX10_sheet_0 11 rfl rfl)
theorem dX10_sheet_12 : decode cX10_sheet 12 = .ok (.bipush 8, 2) := dk_16 8 (dk_at dksX10_sheet_0 12 rfl rfl)
theorem dX10_sheet_14 : decode cX10_sheet 14 = .ok (.if_icmp .eq 21, 3) := dk_159 0 21 (dk_at dksX10_sheet_0 14 rfl rfl)
theorem dX10_sheet_17 : decode cX10_sheet 17 = .ok (.iload_n 2, 1) := dk_28 (dk_at dksX10_sheet_0 17 rfl rfl)
theorem dX10_sheet_18 : decode cX10_sheet 18 = .ok (.bipush 16, 2) := dk_16 16 (dk_at dksX10_sheet_0 18 rfl rfl)
theorem dX10_sheet_20 : decode cX10_sheet 20 = .ok (.if_icmp .eq 15, 3) := dk_159 0 15 (dk_at dksX10_sheet_0 20 rfl rfl)
theorem dX10_sheet_23 : decode cX10_sheet 23 = .ok (.iload_n 2, 1) := dk_28 (dk_at dksX10_sheet_0 23 rfl rfl)
theorem dX10_sheet_24 : decode cX10_sheet 24 = .ok (.bipush 32, 2) := dk_16 32 (dk_at dksX10_sheet_1 0 rfl rfl)
theorem dX10_sheet_26 : decode cX10_sheet 26 = .ok (.if_icmp .eq 9, 3) := dk_159 0 9 (dk_at dksX10_sheet_1 2 rfl rfl)
theorem dX10_sheet_29 : decode cX10_sheet 29 = .ok (.aload_n 0, 1) := dk_42 (dk_at dksX10_sheet_1 5 rfl rfl)
theorem dX10_sheet_30 : decode cX10_sheet 30 = .ok (.iconst 1, 1) := dk_4 (dk_at dksX10_sheet_1 6 rfl rfl)
theorem dX10_sheet_31 : decode cX10_sheet 31 = .ok (.invokevirtual 204, 3) := dk_182 0 204 (dk_at dksX10_sheet_1 7 rfl rfl)
theorem dX10_sheet_34 : decode cX10_sheet 34 = .ok (.ireturn, 1) := dk_172 (dk_at dksX10_sheet_1 10 rfl rfl)
theorem dX10_sheet_35 : decode cX10_sheet 35 = .ok (.iload_n 2, 1) := dk_28 (dk_at dksX10_sheet_1 11 rfl rfl)
theorem dX10_sheet_36 : decode cX10_sheet 36 = .ok (.ifCond .le 13, 3) := dk_158 0 13 (dk_at dksX10_sheet_1 12 rfl rfl)
theorem dX10_sheet_39 : decode cX10_sheet 39 = .ok (.iload_n 3, 1) := dk_29 (dk_at dksX10_sheet_1 15 rfl rfl)
theorem dX10_sheet_40 : decode cX10_sheet 40 = .ok (.ifCond .ge 9, 3) := dk_156 0 9 (dk_at dksX10_sheet_1 16 rfl rfl)
theorem dX10_sheet_43 : decode cX10_sheet 43 = .ok (.aload_n 0, 1) := dk_42 (dk_at dksX10_sheet_1 19 rfl rfl)
theorem dX10_sheet_44 : decode cX10_sheet 44 = .ok (.iconst 3, 1) := dk_6 (dk_at dksX10_sheet_1 20 rfl rfl)
theorem dX10_sheet_45 : decode cX10_sheet 45 = .ok (.invokevirtual 204, 3) := dk_182 0 204 (dk_at dksX10_sheet_1 21 rfl rfl)
theorem dX10_sheet_48 : decode cX10_sheet 48 = .ok (.ireturn, 1) := dk_172 (dk_at dksX10_sheet_2 0 rfl rfl)
theorem dX10_sheet_49 : decode cX10_sheet 49 = .ok (.iload_n 2, 1) := dk_28 (dk_at dksX10_sheet_2 1 rfl rfl)
theorem dX10_sheet_50 : decode cX10_sheet 50 = .ok (.ifCond .le 15, 3) := dk_158 0 15 (dk_at dksX10_sheet_2 2 rfl rfl)
theorem dX10_sheet_53 : decode cX10_sheet 53 = .ok (.iload_n 3, 1) := dk_29 (dk_at dksX10_sheet_2 5 rfl rfl)
theorem dX10_sheet_54 : decode cX10_sheet 54 = .ok (.bipush 24, 2) := dk_16 24 (dk_at dksX10_sheet_2 6 rfl rfl)
theorem dX10_sheet_56 : decode cX10_sheet 56 = .ok (.if_icmp .le 9, 3) := dk_164 0 9 (dk_at dksX10_sheet_2 8 rfl rfl)
theorem dX10_sheet_59 : decode cX10_sheet 59 = .ok (.aload_n 0, 1) := dk_42 (dk_at dksX10_sheet_2 11 rfl rfl)
theorem dX10_sheet_60 : decode cX10_sheet 60 = .ok (.iconst 1, 1) := dk_4 (dk_at dksX10_sheet_2 12 rfl rfl)
theorem dX10_sheet_61 : decode cX10_sheet 61 = .ok (.invokevirtual 204, 3) := dk_182 0 204 (dk_at dksX10_sheet_2 13 rfl rfl)
theorem dX10_sheet_64 : decode cX10_sheet 64 = .ok (.ireturn, 1) := dk_172 (dk_at dksX10_sheet_2 16 rfl rfl)
theorem dX10_sheet_65 : decode cX10_sheet 65 = .ok (.aload_n 0, 1) := dk_42 (dk_at dksX10_sheet_2 17 rfl rfl)
theorem dX10_sheet_66 : decode cX10_sheet 66 = .ok (.getfield 77, 3) := dk_180 0 77 (dk_at dksX10_sheet_2 18 rfl rfl)
theorem dX10_sheet_69 : decode cX10_sheet 69 = .ok (.iload_n 1, 1) := dk_27 (dk_at dksX10_sheet_2 21 rfl rfl)
theorem dX10_sheet_70 : decode cX10_sheet 70 = .ok (.iload_n 2, 1) := dk_28 (dk_at dksX10_sheet_2 22 rfl rfl)
theorem dX10_sheet_71 : decode cX10_sheet 71 = .ok (.iastore, 1) := dk_79 (dk_at dksX10_sheet_2 23 rfl rfl)
theorem dX10_sheet_72 : decode cX10_sheet 72 = .ok (.aload_n 0, 1) := dk_42 (dk_at dksX10_sheet_3 0 rfl rfl)
theorem dX10_sheet_73 : decode cX10_sheet 73 = .ok (.getfield 80, 3) := dk_180 0 80 (dk_at dksX10_sheet_3 1 rfl rfl)
theorem dX10_sheet_76 : decode cX10_sheet 76 = .ok (.iload_n 1, 1) := dk_27 (dk_at dksX10_sheet_3 4 rfl rfl)
theorem dX10_sheet_77 : decode cX10_sheet 77 = .ok (.iload_n 2, 1) := dk_28 (dk_at dksX10_sheet_3 5 rfl rfl)
theorem dX10_sheet_78 : decode cX10_sheet 78 = .ok (.ifCond .le 7, 3) := dk_158 0 7 (dk_at dksX10_sheet_3 6 rfl rfl)
theorem dX10_sheet_81 : decode cX10_sheet 81 = .ok (.iload_n 3, 1) := dk_29 (dk_at dksX10_sheet_3 9 rfl rfl)
theorem dX10_sheet_82 : decode cX10_sheet 82 = .ok (.goto 4, 3) := dk_167 0 4 (dk_at dksX10_sheet_3 10 rfl rfl)
theorem dX10_sheet_85 : decode cX10_sheet 85 = .ok (.iconst 0, 1) := dk_3 (dk_at dksX10_sheet_3 13 rfl rfl)
theorem dX10_sheet_86 : decode cX10_sheet 86 = .ok (.iastore, 1) := dk_79 (dk_at dksX10_sheet_3 14 rfl rfl)
theorem dX10_sheet_87 : decode cX10_sheet 87 = .ok (.iconst 0, 1) := dk_3 (dk_at dksX10_sheet_3 15 rfl rfl)
theorem dX10_sheet_88 : decode cX10_sheet 88 = .ok (.istore 4, 2) := dk_54 4 (dk_at dksX10_sheet_3 16 rfl rfl)
theorem dX10_sheet_90 : decode cX10_sheet 90 = .ok (.iload 4, 2) := dk_21 4 (dk_at dksX10_sheet_3 18 rfl rfl)
theorem dX10_sheet_92 : decode cX10_sheet 92 = .ok (.bipush 24, 2) := dk_16 24 (dk_at dksX10_sheet_3 20 rfl rfl)
theorem dX10_sheet_94 : decode cX10_sheet 94 = .ok (.if_icmp .ge 22, 3) := dk_162 0 22 (dk_at dksX10_sheet_4 0 rfl rfl)
theorem dX10_sheet_97 : decode cX10_sheet 97 = .ok (.aload_n 0, 1) := dk_42 (dk_at dksX10_sheet_4 3 rfl rfl)
theorem dX10_sheet_98 : decode cX10_sheet 98 = .ok (.getfield 83, 3) := dk_180 0 83 (dk_at dksX10_sheet_4 4 rfl rfl)
theorem dX10_sheet_101 : decode cX10_sheet 101 = .ok (.bipush 24, 2) := dk_16 24 (dk_at dksX10_sheet_4 7 rfl rfl)
theorem dX10_sheet_103 : decode cX10_sheet 103 = .ok (.iload_n 1, 1) := dk_27 (dk_at dksX10_sheet_4 9 rfl rfl)
theorem dX10_sheet_104 : decode cX10_sheet 104 = .ok (.imul, 1) := dk_104 (dk_at dksX10_sheet_4 10 rfl rfl)
theorem dX10_sheet_105 : decode cX10_sheet 105 = .ok (.iload 4, 2) := dk_21 4 (dk_at dksX10_sheet_4 11 rfl rfl)
theorem dX10_sheet_107 : decode cX10_sheet 107 = .ok (.iadd, 1) := dk_96 (dk_at dksX10_sheet_4 13 rfl rfl)
theorem dX10_sheet_108 : decode cX10_sheet 108 = .ok (.iconst 0, 1) := dk_3 (dk_at dksX10_sheet_4 14 rfl rfl)
theorem dX10_sheet_109 : decode cX10_sheet 109 = .ok (.iastore, 1) := dk_79 (dk_at dksX10_sheet_4 15 rfl rfl)
theorem dX10_sheet_110 : decode cX10_sheet 110 = .ok (.iinc 4 1, 3) := dk_132 4 1 (dk_at dksX10_sheet_4 16 rfl rfl)
theorem dX10_sheet_113 : decode cX10_sheet 113 = .ok (.goto (-23), 3) := dk_167 255 233 (dk_at dksX10_sheet_4 19 rfl rfl)
theorem dX10_sheet_116 : decode cX10_sheet 116 = .ok (.iconst 1, 1) := dk_4 (dk_at dksX10_sheet_4 22 rfl rfl)
theorem dX10_sheet_117 : decode cX10_sheet 117 = .ok (.ireturn, 1) := dk_172 (dk_at dksX10_sheet_4 23 rfl rfl)
abbrev cX10_put : ByteArray := prog_26_method_126_code
def yX10_put : MethodName := ⟨RX10, "put", "(III)I"⟩
def dkwX10_put_1 : List UInt8 := [182, 1, 188, 4, 172]
abbrev dktX10_put_1 : List UInt8 := dkwX10_put_1 ++ []
def dkwX10_put_0 : List UInt8 := [42, 27, 28, 182, 1, 185, 54, 4, 21, 4, 158, 0, 10, 42, 21, 4, 182, 0, 204, 172, 42, 27, 28, 29]
abbrev dktX10_put_0 : List UInt8 := dkwX10_put_0 ++ dktX10_put_1
theorem dksX10_put_0 : cX10_put.data.toList.drop 0 = dktX10_put_0 := by decide +kernel
theorem dksX10_put_1 : cX10_put.data.toList.drop 24 = dktX10_put_1 := dk_seg dksX10_put_0 24 rfl rfl
theorem dX10_put_0 : decode cX10_put 0 = .ok (.aload_n 0, 1) := dk_42 (dk_at dksX10_put_0 0 rfl rfl)
theorem dX10_put_1 : decode cX10_put 1 = .ok (.iload_n 1, 1) := dk_27 (dk_at dksX10_put_0 1 rfl rfl)
theorem dX10_put_2 : decode cX10_put 2 = .ok (.iload_n 2, 1) := dk_28 (dk_at dksX10_put_0 2 rfl rfl)
theorem dX10_put_3 : decode cX10_put 3 = .ok (.invokevirtual 441, 3) := dk_182 1 185 (dk_at dksX10_put_0 3 rfl rfl)
theorem dX10_put_6 : decode cX10_put 6 = .ok (.istore 4, 2) := dk_54 4 (dk_at dksX10_put_0 6 rfl rfl)
theorem dX10_put_8 : decode cX10_put 8 = .ok (.iload 4, 2) := dk_21 4 (dk_at dksX10_put_0 8 rfl rfl)
theorem dX10_put_10 : decode cX10_put 10 = .ok (.ifCond .le 10, 3) := dk_158 0 10 (dk_at dksX10_put_0 10 rfl rfl)
theorem dX10_put_13 : decode cX10_put 13 = .ok (.aload_n 0, 1) := dk_42 (dk_at dksX10_put_0 13 rfl rfl)
theorem dX10_put_14 : decode cX10_put 14 = .ok (.iload 4, 2) := dk_21 4 (dk_at dksX10_put_0 14 rfl rfl)
theorem dX10_put_16 : decode cX10_put 16 = .ok (.invokevirtual 204, 3) := dk_182 0 204 (dk_at dksX10_put_0 16 rfl rfl)
theorem dX10_put_19 : decode cX10_put 19 = .ok (.ireturn, 1) := dk_172 (dk_at dksX10_put_0 19 rfl rfl)
theorem dX10_put_20 : decode cX10_put 20 = .ok (.aload_n 0, 1) := dk_42 (dk_at dksX10_put_0 20 rfl rfl)
theorem dX10_put_21 : decode cX10_put 21 = .ok (.iload_n 1, 1) := dk_27 (dk_at dksX10_put_0 21 rfl rfl)
theorem dX10_put_22 : decode cX10_put 22 = .ok (.iload_n 2, 1) := dk_28 (dk_at dksX10_put_0 22 rfl rfl)
theorem dX10_put_23 : decode cX10_put 23 = .ok (.iload_n 3, 1) := dk_29 (dk_at dksX10_put_0 23 rfl rfl)
theorem dX10_put_24 : decode cX10_put 24 = .ok (.invokevirtual 444, 3) := dk_182 1 188 (dk_at dksX10_put_1 0 rfl rfl)
theorem dX10_put_27 : decode cX10_put 27 = .ok (.iconst 1, 1) := dk_4 (dk_at dksX10_put_1 3 rfl rfl)
theorem dX10_put_28 : decode cX10_put 28 = .ok (.ireturn, 1) := dk_172 (dk_at dksX10_put_1 4 rfl rfl)
abbrev cX10_lacks : ByteArray := prog_26_method_124_code
def yX10_lacks : MethodName := ⟨RX10, "lacks", "(II)I"⟩
def dkwX10_lacks_1 : List UInt8 := [133, 9, 42, 180, 0, 80, 27, 46, 133, 10, 101, 184, 0, 102, 153, 0, 7, 3, 167, 0, 4, 4, 172]
abbrev dktX10_lacks_1 : List UInt8 := dkwX10_lacks_1 ++ []
def dkwX10_lacks_0 : List UInt8 := [27, 184, 1, 129, 154, 0, 5, 4, 172, 42, 180, 0, 77, 27, 46, 154, 0, 8, 16, 7, 167, 0, 26, 28]
abbrev dktX10_lacks_0 : List UInt8 := dkwX10_lacks_0 ++ dktX10_lacks_1
theorem dksX10_lacks_0 : cX10_lacks.data.toList.drop 0 = dktX10_lacks_0 := by decide +kernel
theorem dksX10_lacks_1 : cX10_lacks.data.toList.drop 24 = dktX10_lacks_1 := dk_seg dksX10_lacks_0 24 rfl rfl
theorem dX10_lacks_0 : decode cX10_lacks 0 = .ok (.iload_n 1, 1) := dk_27 (dk_at dksX10_lacks_0 0 rfl rfl)
theorem dX10_lacks_1 : decode cX10_lacks 1 = .ok (.invokestatic 385, 3) := dk_184 1 129 (dk_at dksX10_lacks_0 1 rfl rfl)
theorem dX10_lacks_4 : decode cX10_lacks 4 = .ok (.ifCond .ne 5, 3) := dk_154 0 5 (dk_at dksX10_lacks_0 4 rfl rfl)
theorem dX10_lacks_7 : decode cX10_lacks 7 = .ok (.iconst 1, 1) := dk_4 (dk_at dksX10_lacks_0 7 rfl rfl)
theorem dX10_lacks_8 : decode cX10_lacks 8 = .ok (.ireturn, 1) := dk_172 (dk_at dksX10_lacks_0 8 rfl rfl)
theorem dX10_lacks_9 : decode cX10_lacks 9 = .ok (.aload_n 0, 1) := dk_42 (dk_at dksX10_lacks_0 9 rfl rfl)
theorem dX10_lacks_10 : decode cX10_lacks 10 = .ok (.getfield 77, 3) := dk_180 0 77 (dk_at dksX10_lacks_0 10 rfl rfl)
theorem dX10_lacks_13 : decode cX10_lacks 13 = .ok (.iload_n 1, 1) := dk_27 (dk_at dksX10_lacks_0 13 rfl rfl)
theorem dX10_lacks_14 : decode cX10_lacks 14 = .ok (.iaload, 1) := dk_46 (dk_at dksX10_lacks_0 14 rfl rfl)
theorem dX10_lacks_15 : decode cX10_lacks 15 = .ok (.ifCond .ne 8, 3) := dk_154 0 8 (dk_at dksX10_lacks_0 15 rfl rfl)
theorem dX10_lacks_18 : decode cX10_lacks 18 = .ok (.bipush 7, 2) := dk_16 7 (dk_at dksX10_lacks_0 18 rfl rfl)
theorem dX10_lacks_20 : decode cX10_lacks 20 = .ok (.goto 26, 3) := dk_167 0 26 (dk_at dksX10_lacks_0 20 rfl rfl)
theorem dX10_lacks_23 : decode cX10_lacks 23 = .ok (.iload_n 2, 1) := dk_28 (dk_at dksX10_lacks_0 23 rfl rfl)
theorem dX10_lacks_24 : decode cX10_lacks 24 = .ok (.i2l, 1) := dk_133 (dk_at dksX10_lacks_1 0 rfl rfl)
theorem dX10_lacks_25 : decode cX10_lacks 25 = .ok (.lconst 0, 1) := dk_9 (dk_at dksX10_lacks_1 1 rfl rfl)
theorem dX10_lacks_26 : decode cX10_lacks 26 = .ok (.aload_n 0, 1) := dk_42 (dk_at dksX10_lacks_1 2 rfl rfl)
theorem dX10_lacks_27 : decode cX10_lacks 27 = .ok (.getfield 80, 3) := dk_180 0 80 (dk_at dksX10_lacks_1 3 rfl rfl)
theorem dX10_lacks_30 : decode cX10_lacks 30 = .ok (.iload_n 1, 1) := dk_27 (dk_at dksX10_lacks_1 6 rfl rfl)
theorem dX10_lacks_31 : decode cX10_lacks 31 = .ok (.iaload, 1) := dk_46 (dk_at dksX10_lacks_1 7 rfl rfl)
theorem dX10_lacks_32 : decode cX10_lacks 32 = .ok (.i2l, 1) := dk_133 (dk_at dksX10_lacks_1 8 rfl rfl)
theorem dX10_lacks_33 : decode cX10_lacks 33 = .ok (.lconst 1, 1) := dk_10 (dk_at dksX10_lacks_1 9 rfl rfl)
theorem dX10_lacks_34 : decode cX10_lacks 34 = .ok (.lsub, 1) := dk_101 (dk_at dksX10_lacks_1 10 rfl rfl)
theorem dX10_lacks_35 : decode cX10_lacks 35 = .ok (.invokestatic 102, 3) := dk_184 0 102 (dk_at dksX10_lacks_1 11 rfl rfl)
theorem dX10_lacks_38 : decode cX10_lacks 38 = .ok (.ifCond .eq 7, 3) := dk_153 0 7 (dk_at dksX10_lacks_1 14 rfl rfl)
theorem dX10_lacks_41 : decode cX10_lacks 41 = .ok (.iconst 0, 1) := dk_3 (dk_at dksX10_lacks_1 17 rfl rfl)
theorem dX10_lacks_42 : decode cX10_lacks 42 = .ok (.goto 4, 3) := dk_167 0 4 (dk_at dksX10_lacks_1 18 rfl rfl)
theorem dX10_lacks_45 : decode cX10_lacks 45 = .ok (.iconst 1, 1) := dk_4 (dk_at dksX10_lacks_1 21 rfl rfl)
theorem dX10_lacks_46 : decode cX10_lacks 46 = .ok (.ireturn, 1) := dk_172 (dk_at dksX10_lacks_1 22 rfl rfl)
abbrev cX10_lays : ByteArray := prog_26_method_125_code
def yX10_lays : MethodName := ⟨RX10, "lays", "(III)V"⟩
def dkwX10_lays_1 : List UInt8 := [160, 0, 8, 29, 145, 167, 0, 16, 21, 4, 16, 16, 160, 0, 8, 29, 147, 167, 0, 4, 29, 79, 177]
abbrev dktX10_lays_1 : List UInt8 := dkwX10_lays_1 ++ []
def dkwX10_lays_0 : List UInt8 := [42, 180, 0, 77, 27, 46, 54, 4, 42, 180, 0, 83, 16, 24, 27, 104, 28, 96, 21, 4, 16, 8]
abbrev dktX10_lays_0 : List UInt8 := dkwX10_lays_0 ++ dktX10_lays_1
theorem dksX10_lays_0 : cX10_lays.data.toList.drop 0 = dktX10_lays_0 := by decide +kernel
theorem dksX10_lays_1 : cX10_lays.data.toList.drop 22 = dktX10_lays_1 := dk_seg dksX10_lays_0 22 rfl rfl
theorem dX10_lays_0 : decode cX10_lays 0 = .ok (.aload_n 0, 1) := dk_42 (dk_at dksX10_lays_0 0 rfl rfl)
theorem dX10_lays_1 : decode cX10_lays 1 = .ok (.getfield 77, 3) := dk_180 0 77 (dk_at dksX10_lays_0 1 rfl rfl)
theorem dX10_lays_4 : decode cX10_lays 4 = .ok (.iload_n 1, 1) := dk_27 (dk_at dksX10_lays_0 4 rfl rfl)
theorem dX10_lays_5 : decode cX10_lays 5 = .ok (.iaload, 1) := dk_46 (dk_at dksX10_lays_0 5 rfl rfl)
theorem dX10_lays_6 : decode cX10_lays 6 = .ok (.istore 4, 2) := dk_54 4 (dk_at dksX10_lays_0 6 rfl rfl)
theorem dX10_lays_8 : decode cX10_lays 8 = .ok (.aload_n 0, 1) := dk_42 (dk_at dksX10_lays_0 8 rfl rfl)
theorem dX10_lays_9 : decode cX10_lays 9 = .ok (.getfield 83, 3) := dk_180 0 83 (dk_at dksX10_lays_0 9 rfl rfl)
theorem dX10_lays_12 : decode cX10_lays 12 = .ok (.bipush 24, 2) := dk_16 24 (dk_at dksX10_lays_0 12 rfl rfl)
theorem dX10_lays_14 : decode cX10_lays 14 = .ok (.iload_n 1, 1) := dk_27 (dk_at dksX10_lays_0 14 rfl rfl)
theorem dX10_lays_15 : decode cX10_lays 15 = .ok (.imul, 1) := dk_104 (dk_at dksX10_lays_0 15 rfl rfl)
theorem dX10_lays_16 : decode cX10_lays 16 = .ok (.iload_n 2, 1) := dk_28 (dk_at dksX10_lays_0 16 rfl rfl)
theorem dX10_lays_17 : decode cX10_lays 17 = .ok (.iadd, 1) := dk_96 (dk_at dksX10_lays_0 17 rfl rfl)
theorem dX10_lays_18 : decode cX10_lays 18 = .ok (.iload 4, 2) := dk_21 4 (dk_at dksX10_lays_0 18 rfl rfl)
theorem dX10_lays_20 : decode cX10_lays 20 = .ok (.bipush 8, 2) := dk_16 8 (dk_at dksX10_lays_0 20 rfl rfl)
theorem dX10_lays_22 : decode cX10_lays 22 = .ok (.if_icmp .ne 8, 3) := dk_160 0 8 (dk_at dksX10_lays_1 0 rfl rfl)
theorem dX10_lays_25 : decode cX10_lays 25 = .ok (.iload_n 3, 1) := dk_29 (dk_at dksX10_lays_1 3 rfl rfl)
theorem dX10_lays_26 : decode cX10_lays 26 = .ok (.i2b, 1) := dk_145 (dk_at dksX10_lays_1 4 rfl rfl)
theorem dX10_lays_27 : decode cX10_lays 27 = .ok (.goto 16, 3) := dk_167 0 16 (dk_at dksX10_lays_1 5 rfl rfl)
theorem dX10_lays_30 : decode cX10_lays 30 = .ok (.iload 4, 2) := dk_21 4 (dk_at dksX10_lays_1 8 rfl rfl)
theorem dX10_lays_32 : decode cX10_lays 32 = .ok (.bipush 16, 2) := dk_16 16 (dk_at dksX10_lays_1 10 rfl rfl)
theorem dX10_lays_34 : decode cX10_lays 34 = .ok (.if_icmp .ne 8, 3) := dk_160 0 8 (dk_at dksX10_lays_1 12 rfl rfl)
theorem dX10_lays_37 : decode cX10_lays 37 = .ok (.iload_n 3, 1) := dk_29 (dk_at dksX10_lays_1 15 rfl rfl)
theorem dX10_lays_38 : decode cX10_lays 38 = .ok (.i2s, 1) := dk_147 (dk_at dksX10_lays_1 16 rfl rfl)
theorem dX10_lays_39 : decode cX10_lays 39 = .ok (.goto 4, 3) := dk_167 0 4 (dk_at dksX10_lays_1 17 rfl rfl)
theorem dX10_lays_42 : decode cX10_lays 42 = .ok (.iload_n 3, 1) := dk_29 (dk_at dksX10_lays_1 20 rfl rfl)
theorem dX10_lays_43 : decode cX10_lays 43 = .ok (.iastore, 1) := dk_79 (dk_at dksX10_lays_1 21 rfl rfl)
theorem dX10_lays_44 : decode cX10_lays 44 = .ok (.return_, 1) := dk_177 (dk_at dksX10_lays_1 22 rfl rfl)
abbrev cX10_number : ByteArray := prog_26_method_127_code
def yX10_number : MethodName := ⟨RX10, "number", "(II)I"⟩
def dkwX10_number_1 : List UInt8 := [16, 24, 27, 104, 28, 96, 46, 172]
abbrev dktX10_number_1 : List UInt8 := dkwX10_number_1 ++ []
def dkwX10_number_0 : List UInt8 := [42, 27, 28, 182, 1, 185, 62, 29, 158, 0, 11, 42, 29, 182, 0, 204, 167, 0, 14, 42, 180, 0, 83]
abbrev dktX10_number_0 : List UInt8 := dkwX10_number_0 ++ dktX10_number_1
theorem dksX10_number_0 : cX10_number.data.toList.drop 0 = dktX10_number_0 := by decide +kernel
theorem dksX10_number_1 : cX10_number.data.toList.drop 23 = dktX10_number_1 := dk_seg dksX10_number_0 23 rfl rfl
theorem dX10_number_0 : decode cX10_number 0 = .ok (.aload_n 0, 1) := dk_42 (dk_at dksX10_number_0 0 rfl rfl)
theorem dX10_number_1 : decode cX10_number 1 = .ok (.iload_n 1, 1) := dk_27 (dk_at dksX10_number_0 1 rfl rfl)
theorem dX10_number_2 : decode cX10_number 2 = .ok (.iload_n 2, 1) := dk_28 (dk_at dksX10_number_0 2 rfl rfl)
theorem dX10_number_3 : decode cX10_number 3 = .ok (.invokevirtual 441, 3) := dk_182 1 185 (dk_at dksX10_number_0 3 rfl rfl)
theorem dX10_number_6 : decode cX10_number 6 = .ok (.istore_n 3, 1) := dk_62 (dk_at dksX10_number_0 6 rfl rfl)
theorem dX10_number_7 : decode cX10_number 7 = .ok (.iload_n 3, 1) := dk_29 (dk_at dksX10_number_0 7 rfl rfl)
theorem dX10_number_8 : decode cX10_number 8 = .ok (.ifCond .le 11, 3) := dk_158 0 11 (dk_at dksX10_number_0 8 rfl rfl)
theorem dX10_number_11 : decode cX10_number 11 = .ok (.aload_n 0, 1) := dk_42 (dk_at dksX10_number_0 11 rfl rfl)
theorem dX10_number_12 : decode cX10_number 12 = .ok (.iload_n 3, 1) := dk_29 (dk_at dksX10_number_0 12 rfl rfl)
theorem dX10_number_13 : decode cX10_number 13 = .ok (.invokevirtual 204, 3) := dk_182 0 204 (dk_at dksX10_number_0 13 rfl rfl)
theorem dX10_number_16 : decode cX10_number 16 = .ok (.goto 14, 3) := dk_167 0 14 (dk_at dksX10_number_0 16 rfl rfl)
theorem dX10_number_19 : decode cX10_number 19 = .ok (.aload_n 0, 1) := dk_42 (dk_at dksX10_number_0 19 rfl rfl)
theorem dX10_number_20 : decode cX10_number 20 = .ok (.getfield 83, 3) := dk_180 0 83 (dk_at dksX10_number_0 20 rfl rfl)
theorem dX10_number_23 : decode cX10_number 23 = .ok (.bipush 24, 2) := dk_16 24 (dk_at dksX10_number_1 0 rfl rfl)
theorem dX10_number_25 : decode cX10_number 25 = .ok (.iload_n 1, 1) := dk_27 (dk_at dksX10_number_1 2 rfl rfl)
theorem dX10_number_26 : decode cX10_number 26 = .ok (.imul, 1) := dk_104 (dk_at dksX10_number_1 3 rfl rfl)
theorem dX10_number_27 : decode cX10_number 27 = .ok (.iload_n 2, 1) := dk_28 (dk_at dksX10_number_1 4 rfl rfl)
theorem dX10_number_28 : decode cX10_number 28 = .ok (.iadd, 1) := dk_96 (dk_at dksX10_number_1 5 rfl rfl)
theorem dX10_number_29 : decode cX10_number 29 = .ok (.iaload, 1) := dk_46 (dk_at dksX10_number_1 6 rfl rfl)
theorem dX10_number_30 : decode cX10_number 30 = .ok (.ireturn, 1) := dk_172 (dk_at dksX10_number_1 7 rfl rfl)
abbrev cX10_copy : ByteArray := prog_26_method_128_code
def yX10_copy : MethodName := ⟨RX10, "copy", "(IIIII)I"⟩
def dkwX10_copy_8 : List UInt8 := [180, 0, 86, 21, 6, 46, 79, 132, 6, 1, 167, 255, 224, 21, 5, 172]
abbrev dktX10_copy_8 : List UInt8 := dkwX10_copy_8 ++ []
def dkwX10_copy_7 : List UInt8 := [21, 6, 21, 5, 162, 0, 31, 42, 180, 0, 83, 16, 24, 29, 104, 21, 4, 96, 21, 6, 96, 42]
abbrev dktX10_copy_7 : List UInt8 := dkwX10_copy_7 ++ dktX10_copy_8
def dkwX10_copy_6 : List UInt8 := [180, 0, 83, 16, 24, 27, 104, 28, 96, 21, 6, 96, 46, 79, 132, 6, 1, 167, 255, 225, 3, 54, 6]
abbrev dktX10_copy_6 : List UInt8 := dkwX10_copy_6 ++ dktX10_copy_7
def dkwX10_copy_5 : List UInt8 := [4, 182, 0, 204, 172, 3, 54, 6, 21, 6, 21, 5, 162, 0, 30, 42, 180, 0, 86, 21, 6, 42]
abbrev dktX10_copy_5 : List UInt8 := dkwX10_copy_5 ++ dktX10_copy_6
def dkwX10_copy_4 : List UInt8 := [133, 148, 157, 0, 21, 21, 4, 133, 21, 5, 133, 97, 42, 180, 0, 80, 29, 46, 133, 148, 158, 0, 9, 42]
abbrev dktX10_copy_4 : List UInt8 := dkwX10_copy_4 ++ dktX10_copy_5
def dkwX10_copy_3 : List UInt8 := [155, 0, 47, 28, 155, 0, 43, 21, 4, 155, 0, 38, 28, 133, 21, 5, 133, 97, 42, 180, 0, 80, 27, 46]
abbrev dktX10_copy_3 : List UInt8 := dkwX10_copy_3 ++ dktX10_copy_4
def dkwX10_copy_2 : List UInt8 := [180, 0, 77, 27, 46, 42, 180, 0, 77, 29, 46, 159, 0, 10, 42, 16, 6, 182, 0, 204, 172, 21, 5]
abbrev dktX10_copy_2 : List UInt8 := dkwX10_copy_2 ++ dktX10_copy_3
def dkwX10_copy_1 : List UInt8 := [27, 46, 153, 0, 12, 42, 180, 0, 77, 29, 46, 154, 0, 10, 42, 16, 7, 182, 0, 204, 172, 42]
abbrev dktX10_copy_1 : List UInt8 := dkwX10_copy_1 ++ dktX10_copy_2
def dkwX10_copy_0 : List UInt8 := [27, 184, 1, 129, 153, 0, 10, 29, 184, 1, 129, 154, 0, 9, 42, 4, 182, 0, 204, 172, 42, 180, 0, 77]
abbrev dktX10_copy_0 : List UInt8 := dkwX10_copy_0 ++ dktX10_copy_1
theorem dksX10_copy_0 : cX10_copy.data.toList.drop 0 = dktX10_copy_0 := by decide +kernel
theorem dksX10_copy_1 : cX10_copy.data.toList.drop 24 = dktX10_copy_1 := dk_seg dksX10_copy_0 24 rfl rfl
theorem dksX10_copy_2 : cX10_copy.data.toList.drop 46 = dktX10_copy_2 := dk_seg dksX10_copy_1 22 rfl rfl
theorem dksX10_copy_3 : cX10_copy.data.toList.drop 69 = dktX10_copy_3 := dk_seg dksX10_copy_2 23 rfl rfl
theorem dksX10_copy_4 : cX10_copy.data.toList.drop 93 = dktX10_copy_4 := dk_seg dksX10_copy_3 24 rfl rfl
theorem dksX10_copy_5 : cX10_copy.data.toList.drop 117 = dktX10_copy_5 := dk_seg dksX10_copy_4 24 rfl rfl
theorem dksX10_copy_6 : cX10_copy.data.toList.drop 139 = dktX10_copy_6 := dk_seg dksX10_copy_5 22 rfl rfl
theorem dksX10_copy_7 : cX10_copy.data.toList.drop 162 = dktX10_copy_7 := dk_seg dksX10_copy_6 23 rfl rfl
theorem dksX10_copy_8 : cX10_copy.data.toList.drop 184 = dktX10_copy_8 := dk_seg dksX10_copy_7 22 rfl rfl
theorem dX10_copy_0 : decode cX10_copy 0 = .ok (.iload_n 1, 1) := dk_27 (dk_at dksX10_copy_0 0 rfl rfl)
theorem dX10_copy_1 : decode cX10_copy 1 = .ok (.invokestatic 385, 3) := dk_184 1 129 (dk_at dksX10_copy_0 1 rfl rfl)
theorem dX10_copy_4 : decode cX10_copy 4 = .ok (.ifCond .eq 10, 3) := dk_153 0 10 (dk_at dksX10_copy_0 4 rfl rfl)
theorem dX10_copy_7 : decode cX10_copy 7 = .ok (.iload_n 3, 1) := dk_29 (dk_at dksX10_copy_0 7 rfl rfl)
theorem dX10_copy_8 : decode cX10_copy 8 = .ok (.invokestatic 385, 3) := dk_184 1 129 (dk_at dksX10_copy_0 8 rfl rfl)
theorem dX10_copy_11 : decode cX10_copy 11 = .ok (.ifCond .ne 9, 3) := dk_154 0 9 (dk_at dksX10_copy_0 11 rfl rfl)
theorem dX10_copy_14 : decode cX10_copy 14 = .ok (.aload_n 0, 1) := dk_42 (dk_at dksX10_copy_0 14 rfl rfl)
theorem dX10_copy_15 : decode cX10_copy 15 = .ok (.iconst 1, 1) := dk_4 (dk_at dksX10_copy_0 15 rfl rfl)
theorem dX10_copy_16 : decode cX10_copy 16 = .ok (.invokevirtual 204, 3) := dk_182 0 204 (dk_at dksX10_copy_0 16 rfl rfl)
theorem dX10_copy_19 : decode cX10_copy 19 = .ok (.ireturn, 1) := dk_172 (dk_at dksX10_copy_0 19 rfl rfl)
theorem dX10_copy_20 : decode cX10_copy 20 = .ok (.aload_n 0, 1) := dk_42 (dk_at dksX10_copy_0 20 rfl rfl)
theorem dX10_copy_21 : decode cX10_copy 21 = .ok (.getfield 77, 3) := dk_180 0 77 (dk_at dksX10_copy_0 21 rfl rfl)
theorem dX10_copy_24 : decode cX10_copy 24 = .ok (.iload_n 1, 1) := dk_27 (dk_at dksX10_copy_1 0 rfl rfl)
theorem dX10_copy_25 : decode cX10_copy 25 = .ok (.iaload, 1) := dk_46 (dk_at dksX10_copy_1 1 rfl rfl)
theorem dX10_copy_26 : decode cX10_copy 26 = .ok (.ifCond .eq 12, 3) := dk_153 0 12 (dk_at dksX10_copy_1 2 rfl rfl)
theorem dX10_copy_29 : decode cX10_copy 29 = .ok (.aload_n 0, 1) := dk_42 (dk_at dksX10_copy_1 5 rfl rfl)
theorem dX10_copy_30 : decode cX10_copy 30 = .ok (.getfield 77, 3) := dk_180 0 77 (dk_at dksX10_copy_1 6 rfl rfl)
theorem dX10_copy_33 : decode cX10_copy 33 = .ok (.iload_n 3, 1) := dk_29 (dk_at dksX10_copy_1 9 rfl rfl)
theorem dX10_copy_34 : decode cX10_copy 34 = .ok (.iaload, 1) := dk_46 (dk_at dksX10_copy_1 10 rfl rfl)
theorem dX10_copy_35 : decode cX10_copy 35 = .ok (.ifCond .ne 10, 3) := dk_154 0 10 (dk_at dksX10_copy_1 11 rfl rfl)
theorem dX10_copy_38 : decode cX10_copy 38 = .ok (.aload_n 0, 1) := dk_42 (dk_at dksX10_copy_1 14 rfl rfl)
theorem dX10_copy_39 : decode cX10_copy 39 = .ok (.bipush 7, 2) := dk_16 7 (dk_at dksX10_copy_1 15 rfl rfl)
theorem dX10_copy_41 : decode cX10_copy 41 = .ok (.invokevirtual 204, 3) := dk_182 0 204 (dk_at dksX10_copy_1 17 rfl rfl)
theorem dX10_copy_44 : decode cX10_copy 44 = .ok (.ireturn, 1) := dk_172 (dk_at dksX10_copy_1 20 rfl rfl)
theorem dX10_copy_45 : decode cX10_copy 45 = .ok (.aload_n 0, 1) := dk_42 (dk_at dksX10_copy_1 21 rfl rfl)
theorem dX10_copy_46 : decode cX10_copy 46 = .ok (.getfield 77, 3) := dk_180 0 77 (dk_at dksX10_copy_2 0 rfl rfl)
theorem dX10_copy_49 : decode cX10_copy 49 = .ok (.iload_n 1, 1) := dk_27 (dk_at dksX10_copy_2 3 rfl rfl)
theorem dX10_copy_50 : decode cX10_copy 50 = .ok (.iaload, 1) := dk_46 (dk_at dksX10_copy_2 4 rfl rfl)
theorem dX10_copy_51 : decode cX10_copy 51 = .ok (.aload_n 0, 1) := dk_42 (dk_at dksX10_copy_2 5 rfl rfl)
theorem dX10_copy_52 : decode cX10_copy 52 = .ok (.getfield 77, 3) := dk_180 0 77 (dk_at dksX10_copy_2 6 rfl rfl)
theorem dX10_copy_55 : decode cX10_copy 55 = .ok (.iload_n 3, 1) := dk_29 (dk_at dksX10_copy_2 9 rfl rfl)
theorem dX10_copy_56 : decode cX10_copy 56 = .ok (.iaload, 1) := dk_46 (dk_at dksX10_copy_2 10 rfl rfl)
theorem dX10_copy_57 : decode cX10_copy 57 = .ok (.if_icmp .eq 10, 3) := dk_159 0 10 (dk_at dksX10_copy_2 11 rfl rfl)
theorem dX10_copy_60 : decode cX10_copy 60 = .ok (.aload_n 0, 1) := dk_42 (dk_at dksX10_copy_2 14 rfl rfl)
theorem dX10_copy_61 : decode cX10_copy 61 = .ok (.bipush 6, 2) := dk_16 6 (dk_at dksX10_copy_2 15 rfl rfl)
theorem dX10_copy_63 : decode cX10_copy 63 = .ok (.invokevirtual 204, 3) := dk_182 0 204 (dk_at dksX10_copy_2 17 rfl rfl)
theorem dX10_copy_66 : decode cX10_copy 66 = .ok (.ireturn, 1) := dk_172 (dk_at dksX10_copy_2 20 rfl rfl)
theorem dX10_copy_67 : decode cX10_copy 67 = .ok (.iload 5, 2) := dk_21 5 (dk_at dksX10_copy_2 21 rfl rfl)
theorem dX10_copy_69 : decode cX10_copy 69 = .ok (.ifCond .lt 47, 3) := dk_155 0 47 (dk_at dksX10_copy_3 0 rfl rfl)
theorem dX10_copy_72 : decode cX10_copy 72 = .ok (.iload_n 2, 1) := dk_28 (dk_at dksX10_copy_3 3 rfl rfl)
theorem dX10_copy_73 : decode cX10_copy 73 = .ok (.ifCond .lt 43, 3) := dk_155 0 43 (dk_at dksX10_copy_3 4 rfl rfl)
theorem dX10_copy_76 : decode cX10_copy 76 = .ok (.iload 4, 2) := dk_21 4 (dk_at dksX10_copy_3 7 rfl rfl)
theorem dX10_copy_78 : decode cX10_copy 78 = .ok (.ifCond .lt 38, 3) := dk_155 0 38 (dk_at dksX10_copy_3 9 rfl rfl)
theorem dX10_copy_81 : decode cX10_copy 81 = .ok (.iload_n 2, 1) := dk_28 (dk_at dksX10_copy_3 12 rfl rfl)
theorem dX10_copy_82 : decode cX10_copy 82 = .ok (.i2l, 1) := dk_133 (dk_at dksX10_copy_3 13 rfl rfl)
theorem dX10_copy_83 : decode cX10_copy 83 = .ok (.iload 5, 2) := dk_21 5 (dk_at dksX10_copy_3 14 rfl rfl)
theorem dX10_copy_85 : decode cX10_copy 85 = .ok (.i2l, 1) := dk_133 (dk_at dksX10_copy_3 16 rfl rfl)
theorem dX10_copy_86 : decode cX10_copy 86 = .ok (.ladd, 1) := dk_97 (dk_at dksX10_copy_3 17 rfl rfl)
theorem dX10_copy_87 : decode cX10_copy 87 = .ok (.aload_n 0, 1) := dk_42 (dk_at dksX10_copy_3 18 rfl rfl)
theorem dX10_copy_88 : decode cX10_copy 88 = .ok (.getfield 80, 3) := dk_180 0 80 (dk_at dksX10_copy_3 19 rfl rfl)
theorem dX10_copy_91 : decode cX10_copy 91 = .ok (.iload_n 1, 1) := dk_27 (dk_at dksX10_copy_3 22 rfl rfl)
theorem dX10_copy_92 : decode cX10_copy 92 = .ok (.iaload, 1) := dk_46 (dk_at dksX10_copy_3 23 rfl rfl)
theorem dX10_copy_93 : decode cX10_copy 93 = .ok (.i2l, 1) := dk_133 (dk_at dksX10_copy_4 0 rfl rfl)
theorem dX10_copy_94 : decode cX10_copy 94 = .ok (.lcmp, 1) := dk_148 (dk_at dksX10_copy_4 1 rfl rfl)
theorem dX10_copy_95 : decode cX10_copy 95 = .ok (.ifCond .gt 21, 3) := dk_157 0 21 (dk_at dksX10_copy_4 2 rfl rfl)
theorem dX10_copy_98 : decode cX10_copy 98 = .ok (.iload 4, 2) := dk_21 4 (dk_at dksX10_copy_4 5 rfl rfl)
theorem dX10_copy_100 : decode cX10_copy 100 = .ok (.i2l, 1) := dk_133 (dk_at dksX10_copy_4 7 rfl rfl)
theorem dX10_copy_101 : decode cX10_copy 101 = .ok (.iload 5, 2) := dk_21 5 (dk_at dksX10_copy_4 8 rfl rfl)
theorem dX10_copy_103 : decode cX10_copy 103 = .ok (.i2l, 1) := dk_133 (dk_at dksX10_copy_4 10 rfl rfl)
theorem dX10_copy_104 : decode cX10_copy 104 = .ok (.ladd, 1) := dk_97 (dk_at dksX10_copy_4 11 rfl rfl)
theorem dX10_copy_105 : decode cX10_copy 105 = .ok (.aload_n 0, 1) := dk_42 (dk_at dksX10_copy_4 12 rfl rfl)
theorem dX10_copy_106 : decode cX10_copy 106 = .ok (.getfield 80, 3) := dk_180 0 80 (dk_at dksX10_copy_4 13 rfl rfl)
theorem dX10_copy_109 : decode cX10_copy 109 = .ok (.iload_n 3, 1) := dk_29 (dk_at dksX10_copy_4 16 rfl rfl)
theorem dX10_copy_110 : decode cX10_copy 110 = .ok (.iaload, 1) := dk_46 (dk_at dksX10_copy_4 17 rfl rfl)
theorem dX10_copy_111 : decode cX10_copy 111 = .ok (.i2l, 1) := dk_133 (dk_at dksX10_copy_4 18 rfl rfl)
theorem dX10_copy_112 : decode cX10_copy 112 = .ok (.lcmp, 1) := dk_148 (dk_at dksX10_copy_4 19 rfl rfl)
theorem dX10_copy_113 : decode cX10_copy 113 = .ok (.ifCond .le 9, 3) := dk_158 0 9 (dk_at dksX10_copy_4 20 rfl rfl)
theorem dX10_copy_116 : decode cX10_copy 116 = .ok (.aload_n 0, 1) := dk_42 (dk_at dksX10_copy_4 23 rfl rfl)
theorem dX10_copy_117 : decode cX10_copy 117 = .ok (.iconst 1, 1) := dk_4 (dk_at dksX10_copy_5 0 rfl rfl)
theorem dX10_copy_118 : decode cX10_copy 118 = .ok (.invokevirtual 204, 3) := dk_182 0 204 (dk_at dksX10_copy_5 1 rfl rfl)
theorem dX10_copy_121 : decode cX10_copy 121 = .ok (.ireturn, 1) := dk_172 (dk_at dksX10_copy_5 4 rfl rfl)
theorem dX10_copy_122 : decode cX10_copy 122 = .ok (.iconst 0, 1) := dk_3 (dk_at dksX10_copy_5 5 rfl rfl)
theorem dX10_copy_123 : decode cX10_copy 123 = .ok (.istore 6, 2) := dk_54 6 (dk_at dksX10_copy_5 6 rfl rfl)
theorem dX10_copy_125 : decode cX10_copy 125 = .ok (.iload 6, 2) := dk_21 6 (dk_at dksX10_copy_5 8 rfl rfl)
theorem dX10_copy_127 : decode cX10_copy 127 = .ok (.iload 5, 2) := dk_21 5 (dk_at dksX10_copy_5 10 rfl rfl)
theorem dX10_copy_129 : decode cX10_copy 129 = .ok (.if_icmp .ge 30, 3) := dk_162 0 30 (dk_at dksX10_copy_5 12 rfl rfl)
theorem dX10_copy_132 : decode cX10_copy 132 = .ok (.aload_n 0, 1) := dk_42 (dk_at dksX10_copy_5 15 rfl rfl)
theorem dX10_copy_133 : decode cX10_copy 133 = .ok (.getfield 86, 3) := dk_180 0 86 (dk_at dksX10_copy_5 16 rfl rfl)
theorem dX10_copy_136 : decode cX10_copy 136 = .ok (.iload 6, 2) := dk_21 6 (dk_at dksX10_copy_5 19 rfl rfl)
theorem dX10_copy_138 : decode cX10_copy 138 = .ok (.aload_n 0, 1) := dk_42 (dk_at dksX10_copy_5 21 rfl rfl)
theorem dX10_copy_139 : decode cX10_copy 139 = .ok (.getfield 83, 3) := dk_180 0 83 (dk_at dksX10_copy_6 0 rfl rfl)
theorem dX10_copy_142 : decode cX10_copy 142 = .ok (.bipush 24, 2) := dk_16 24 (dk_at dksX10_copy_6 3 rfl rfl)
theorem dX10_copy_144 : decode cX10_copy 144 = .ok (.iload_n 1, 1) := dk_27 (dk_at dksX10_copy_6 5 rfl rfl)
theorem dX10_copy_145 : decode cX10_copy 145 = .ok (.imul, 1) := dk_104 (dk_at dksX10_copy_6 6 rfl rfl)
theorem dX10_copy_146 : decode cX10_copy 146 = .ok (.iload_n 2, 1) := dk_28 (dk_at dksX10_copy_6 7 rfl rfl)
theorem dX10_copy_147 : decode cX10_copy 147 = .ok (.iadd, 1) := dk_96 (dk_at dksX10_copy_6 8 rfl rfl)
theorem dX10_copy_148 : decode cX10_copy 148 = .ok (.iload 6, 2) := dk_21 6 (dk_at dksX10_copy_6 9 rfl rfl)
theorem dX10_copy_150 : decode cX10_copy 150 = .ok (.iadd, 1) := dk_96 (dk_at dksX10_copy_6 11 rfl rfl)
theorem dX10_copy_151 : decode cX10_copy 151 = .ok (.iaload, 1) := dk_46 (dk_at dksX10_copy_6 12 rfl rfl)
theorem dX10_copy_152 : decode cX10_copy 152 = .ok (.iastore, 1) := dk_79 (dk_at dksX10_copy_6 13 rfl rfl)
theorem dX10_copy_153 : decode cX10_copy 153 = .ok (.iinc 6 1, 3) := dk_132 6 1 (dk_at dksX10_copy_6 14 rfl rfl)
theorem dX10_copy_156 : decode cX10_copy 156 = .ok (.goto (-31), 3) := dk_167 255 225 (dk_at dksX10_copy_6 17 rfl rfl)
theorem dX10_copy_159 : decode cX10_copy 159 = .ok (.iconst 0, 1) := dk_3 (dk_at dksX10_copy_6 20 rfl rfl)
theorem dX10_copy_160 : decode cX10_copy 160 = .ok (.istore 6, 2) := dk_54 6 (dk_at dksX10_copy_6 21 rfl rfl)
theorem dX10_copy_162 : decode cX10_copy 162 = .ok (.iload 6, 2) := dk_21 6 (dk_at dksX10_copy_7 0 rfl rfl)
theorem dX10_copy_164 : decode cX10_copy 164 = .ok (.iload 5, 2) := dk_21 5 (dk_at dksX10_copy_7 2 rfl rfl)
theorem dX10_copy_166 : decode cX10_copy 166 = .ok (.if_icmp .ge 31, 3) := dk_162 0 31 (dk_at dksX10_copy_7 4 rfl rfl)
theorem dX10_copy_169 : decode cX10_copy 169 = .ok (.aload_n 0, 1) := dk_42 (dk_at dksX10_copy_7 7 rfl rfl)
theorem dX10_copy_170 : decode cX10_copy 170 = .ok (.getfield 83, 3) := dk_180 0 83 (dk_at dksX10_copy_7 8 rfl rfl)
theorem dX10_copy_173 : decode cX10_copy 173 = .ok (.bipush 24, 2) := dk_16 24 (dk_at dksX10_copy_7 11 rfl rfl)
theorem dX10_copy_175 : decode cX10_copy 175 = .ok (.iload_n 3, 1) := dk_29 (dk_at dksX10_copy_7 13 rfl rfl)
theorem dX10_copy_176 : decode cX10_copy 176 = .ok (.imul, 1) := dk_104 (dk_at dksX10_copy_7 14 rfl rfl)
theorem dX10_copy_177 : decode cX10_copy 177 = .ok (.iload 4, 2) := dk_21 4 (dk_at dksX10_copy_7 15 rfl rfl)
theorem dX10_copy_179 : decode cX10_copy 179 = .ok (.iadd, 1) := dk_96 (dk_at dksX10_copy_7 17 rfl rfl)
theorem dX10_copy_180 : decode cX10_copy 180 = .ok (.iload 6, 2) := dk_21 6 (dk_at dksX10_copy_7 18 rfl rfl)
theorem dX10_copy_182 : decode cX10_copy 182 = .ok (.iadd, 1) := dk_96 (dk_at dksX10_copy_7 20 rfl rfl)
theorem dX10_copy_183 : decode cX10_copy 183 = .ok (.aload_n 0, 1) := dk_42 (dk_at dksX10_copy_7 21 rfl rfl)
theorem dX10_copy_184 : decode cX10_copy 184 = .ok (.getfield 86, 3) := dk_180 0 86 (dk_at dksX10_copy_8 0 rfl rfl)
theorem dX10_copy_187 : decode cX10_copy 187 = .ok (.iload 6, 2) := dk_21 6 (dk_at dksX10_copy_8 3 rfl rfl)
theorem dX10_copy_189 : decode cX10_copy 189 = .ok (.iaload, 1) := dk_46 (dk_at dksX10_copy_8 5 rfl rfl)
theorem dX10_copy_190 : decode cX10_copy 190 = .ok (.iastore, 1) := dk_79 (dk_at dksX10_copy_8 6 rfl rfl)
theorem dX10_copy_191 : decode cX10_copy 191 = .ok (.iinc 6 1, 3) := dk_132 6 1 (dk_at dksX10_copy_8 7 rfl rfl)
theorem dX10_copy_194 : decode cX10_copy 194 = .ok (.goto (-32), 3) := dk_167 255 224 (dk_at dksX10_copy_8 10 rfl rfl)
theorem dX10_copy_197 : decode cX10_copy 197 = .ok (.iload 5, 2) := dk_21 5 (dk_at dksX10_copy_8 13 rfl rfl)
theorem dX10_copy_199 : decode cX10_copy 199 = .ok (.ireturn, 1) := dk_172 (dk_at dksX10_copy_8 15 rfl rfl)
abbrev cX10_weighAll : ByteArray := prog_26_method_130_code
def yX10_weighAll : MethodName := ⟨RX10, "weighAll", "(I)I"⟩
def dkwX10_weighAll_3 : List UInt8 := [29, 96, 46, 79, 132, 3, 1, 167, 255, 199, 29, 172]
abbrev dktX10_weighAll_3 : List UInt8 := dkwX10_weighAll_3 ++ []
def dkwX10_weighAll_2 : List UInt8 := [29, 96, 46, 184, 0, 126, 153, 0, 28, 42, 180, 0, 13, 4, 29, 96, 42, 180, 0, 83, 16, 24, 27, 104]
abbrev dktX10_weighAll_2 : List UInt8 := dkwX10_weighAll_2 ++ dktX10_weighAll_3
def dkwX10_weighAll_1 : List UInt8 := [180, 0, 80, 27, 46, 162, 0, 53, 42, 29, 182, 0, 216, 153, 0, 45, 42, 180, 0, 83, 16, 24, 27, 104]
abbrev dktX10_weighAll_1 : List UInt8 := dkwX10_weighAll_1 ++ dktX10_weighAll_2
def dkwX10_weighAll_0 : List UInt8 := [42, 27, 182, 1, 191, 61, 28, 158, 0, 9, 42, 28, 182, 0, 204, 172, 42, 182, 0, 213, 3, 62, 29, 42]
abbrev dktX10_weighAll_0 : List UInt8 := dkwX10_weighAll_0 ++ dktX10_weighAll_1
theorem dksX10_weighAll_0 : cX10_weighAll.data.toList.drop 0 = dktX10_weighAll_0 := by decide +kernel
theorem dksX10_weighAll_1 : cX10_weighAll.data.toList.drop 24 = dktX10_weighAll_1 := dk_seg dksX10_weighAll_0 24 rfl rfl
theorem dksX10_weighAll_2 : cX10_weighAll.data.toList.drop 48 = dktX10_weighAll_2 := dk_seg dksX10_weighAll_1 24 rfl rfl
theorem dksX10_weighAll_3 : cX10_weighAll.data.toList.drop 72 = dktX10_weighAll_3 := dk_seg dksX10_weighAll_2 24 rfl rfl
theorem dX10_weighAll_0 : decode cX10_weighAll 0 = .ok (.aload_n 0, 1) := dk_42 (dk_at dksX10_weighAll_0 0 rfl rfl)
theorem dX10_weighAll_1 : decode cX10_weighAll 1 = .ok (.iload_n 1, 1) := dk_27 (dk_at dksX10_weighAll_0 1 rfl rfl)
theorem dX10_weighAll_2 : decode cX10_weighAll 2 = .ok (.invokevirtual 447, 3) := dk_182 1 191 (dk_at dksX10_weighAll_0 2 rfl rfl)
theorem dX10_weighAll_5 : decode cX10_weighAll 5 = .ok (.istore_n 2, 1) := dk_61 (dk_at dksX10_weighAll_0 5 rfl rfl)
theorem dX10_weighAll_6 : decode cX10_weighAll 6 = .ok (.iload_n 2, 1) := dk_28 (dk_at dksX10_weighAll_0 6 rfl rfl)
theorem dX10_weighAll_7 : decode cX10_weighAll 7 = .ok (.ifCond .le 9, 3) := dk_158 0 9 (dk_at dksX10_weighAll_0 7 rfl rfl)
theorem dX10_weighAll_10 : decode cX10_weighAll 10 = .ok (.aload_n 0, 1) := dk_42 (dk_at dksX10_weighAll_0 10 rfl rfl)
theorem dX10_weighAll_11 : decode cX10_weighAll 11 = .ok (.iload_n 2, 1) := dk_28 (dk_at dksX10_weighAll_0 11 rfl rfl)
theorem dX10_weighAll_12 : decode cX10_weighAll 12 = .ok (.invokevirtual 204, 3) := dk_182 0 204 (dk_at dksX10_weighAll_0 12 rfl rfl)
theorem dX10_weighAll_15 : decode cX10_weighAll 15 = .ok (.ireturn, 1) := dk_172 (dk_at dksX10_weighAll_0 15 rfl rfl)
theorem dX10_weighAll_16 : decode cX10_weighAll 16 = .ok (.aload_n 0, 1) := dk_42 (dk_at dksX10_weighAll_0 16 rfl rfl)
theorem dX10_weighAll_17 : decode cX10_weighAll 17 = .ok (.invokevirtual 213, 3) := dk_182 0 213 (dk_at dksX10_weighAll_0 17 rfl rfl)
theorem dX10_weighAll_20 : decode cX10_weighAll 20 = .ok (.iconst 0, 1) := dk_3 (dk_at dksX10_weighAll_0 20 rfl rfl)
theorem dX10_weighAll_21 : decode cX10_weighAll 21 = .ok (.istore_n 3, 1) := dk_62 (dk_at dksX10_weighAll_0 21 rfl rfl)
theorem dX10_weighAll_22 : decode cX10_weighAll 22 = .ok (.iload_n 3, 1) := dk_29 (dk_at dksX10_weighAll_0 22 rfl rfl)
theorem dX10_weighAll_23 : decode cX10_weighAll 23 = .ok (.aload_n 0, 1) := dk_42 (dk_at dksX10_weighAll_0 23 rfl rfl)
theorem dX10_weighAll_24 : decode cX10_weighAll 24 = .ok (.getfield 80, 3) := dk_180 0 80 (dk_at dksX10_weighAll_1 0 rfl rfl)
theorem dX10_weighAll_27 : decode cX10_weighAll 27 = .ok (.iload_n 1, 1) := dk_27 (dk_at dksX10_weighAll_1 3 rfl rfl)
theorem dX10_weighAll_28 : decode cX10_weighAll 28 = .ok (.iaload, 1) := dk_46 (dk_at dksX10_weighAll_1 4 rfl rfl)
theorem dX10_weighAll_29 : decode cX10_weighAll 29 = .ok (.if_icmp .ge 53, 3) := dk_162 0 53 (dk_at dksX10_weighAll_1 5 rfl rfl)
theorem dX10_weighAll_32 : decode cX10_weighAll 32 = .ok (.aload_n 0, 1) := dk_42 (dk_at dksX10_weighAll_1 8 rfl rfl)
theorem dX10_weighAll_33 : decode cX10_weighAll 33 = .ok (.iload_n 3, 1) := dk_29 (dk_at dksX10_weighAll_1 9 rfl rfl)
theorem dX10_weighAll_34 : decode cX10_weighAll 34 = .ok (.invokevirtual 216, 3) := dk_182 0 216 (dk_at dksX10_weighAll_1 10 rfl rfl)
theorem dX10_weighAll_37 : decode cX10_weighAll 37 = .ok (.ifCond .eq 45, 3) := dk_153 0 45 (dk_at dksX10_weighAll_1 13 rfl rfl)
theorem dX10_weighAll_40 : decode cX10_weighAll 40 = .ok (.aload_n 0, 1) := dk_42 (dk_at dksX10_weighAll_1 16 rfl rfl)
theorem dX10_weighAll_41 : decode cX10_weighAll 41 = .ok (.getfield 83, 3) := dk_180 0 83 (dk_at dksX10_weighAll_1 17 rfl rfl)
theorem dX10_weighAll_44 : decode cX10_weighAll 44 = .ok (.bipush 24, 2) := dk_16 24 (dk_at dksX10_weighAll_1 20 rfl rfl)
theorem dX10_weighAll_46 : decode cX10_weighAll 46 = .ok (.iload_n 1, 1) := dk_27 (dk_at dksX10_weighAll_1 22 rfl rfl)
theorem dX10_weighAll_47 : decode cX10_weighAll 47 = .ok (.imul, 1) := dk_104 (dk_at dksX10_weighAll_1 23 rfl rfl)
theorem dX10_weighAll_48 : decode cX10_weighAll 48 = .ok (.iload_n 3, 1) := dk_29 (dk_at dksX10_weighAll_2 0 rfl rfl)
theorem dX10_weighAll_49 : decode cX10_weighAll 49 = .ok (.iadd, 1) := dk_96 (dk_at dksX10_weighAll_2 1 rfl rfl)
theorem dX10_weighAll_50 : decode cX10_weighAll 50 = .ok (.iaload, 1) := dk_46 (dk_at dksX10_weighAll_2 2 rfl rfl)
theorem dX10_weighAll_51 : decode cX10_weighAll 51 = .ok (.invokestatic 126, 3) := dk_184 0 126 (dk_at dksX10_weighAll_2 3 rfl rfl)
theorem dX10_weighAll_54 : decode cX10_weighAll 54 = .ok (.ifCond .eq 28, 3) := dk_153 0 28 (dk_at dksX10_weighAll_2 6 rfl rfl)
theorem dX10_weighAll_57 : decode cX10_weighAll 57 = .ok (.aload_n 0, 1) := dk_42 (dk_at dksX10_weighAll_2 9 rfl rfl)
theorem dX10_weighAll_58 : decode cX10_weighAll 58 = .ok (.getfield 13, 3) := dk_180 0 13 (dk_at dksX10_weighAll_2 10 rfl rfl)
theorem dX10_weighAll_61 : decode cX10_weighAll 61 = .ok (.iconst 1, 1) := dk_4 (dk_at dksX10_weighAll_2 13 rfl rfl)
theorem dX10_weighAll_62 : decode cX10_weighAll 62 = .ok (.iload_n 3, 1) := dk_29 (dk_at dksX10_weighAll_2 14 rfl rfl)
theorem dX10_weighAll_63 : decode cX10_weighAll 63 = .ok (.iadd, 1) := dk_96 (dk_at dksX10_weighAll_2 15 rfl rfl)
theorem dX10_weighAll_64 : decode cX10_weighAll 64 = .ok (.aload_n 0, 1) := dk_42 (dk_at dksX10_weighAll_2 16 rfl rfl)
theorem dX10_weighAll_65 : decode cX10_weighAll 65 = .ok (.getfield 83, 3) := dk_180 0 83 (dk_at dksX10_weighAll_2 17 rfl rfl)
theorem dX10_weighAll_68 : decode cX10_weighAll 68 = .ok (.bipush 24, 2) := dk_16 24 (dk_at dksX10_weighAll_2 20 rfl rfl)
theorem dX10_weighAll_70 : decode cX10_weighAll 70 = .ok (.iload_n 1, 1) := dk_27 (dk_at dksX10_weighAll_2 22 rfl rfl)
theorem dX10_weighAll_71 : decode cX10_weighAll 71 = .ok (.imul, 1) := dk_104 (dk_at dksX10_weighAll_2 23 rfl rfl)
theorem dX10_weighAll_72 : decode cX10_weighAll 72 = .ok (.iload_n 3, 1) := dk_29 (dk_at dksX10_weighAll_3 0 rfl rfl)
theorem dX10_weighAll_73 : decode cX10_weighAll 73 = .ok (.iadd, 1) := dk_96 (dk_at dksX10_weighAll_3 1 rfl rfl)
theorem dX10_weighAll_74 : decode cX10_weighAll 74 = .ok (.iaload, 1) := dk_46 (dk_at dksX10_weighAll_3 2 rfl rfl)
theorem dX10_weighAll_75 : decode cX10_weighAll 75 = .ok (.iastore, 1) := dk_79 (dk_at dksX10_weighAll_3 3 rfl rfl)
theorem dX10_weighAll_76 : decode cX10_weighAll 76 = .ok (.iinc 3 1, 3) := dk_132 3 1 (dk_at dksX10_weighAll_3 4 rfl rfl)
theorem dX10_weighAll_79 : decode cX10_weighAll 79 = .ok (.goto (-57), 3) := dk_167 255 199 (dk_at dksX10_weighAll_3 7 rfl rfl)
theorem dX10_weighAll_82 : decode cX10_weighAll 82 = .ok (.iload_n 3, 1) := dk_29 (dk_at dksX10_weighAll_3 10 rfl rfl)
theorem dX10_weighAll_83 : decode cX10_weighAll 83 = .ok (.ireturn, 1) := dk_172 (dk_at dksX10_weighAll_3 11 rfl rfl)
abbrev cX10_notThere : ByteArray := prog_26_method_129_code
def yX10_notThere : MethodName := ⟨RX10, "notThere", "(I)I"⟩
def dkwX10_notThere_1 : List UInt8 := [167, 0, 4, 3, 172]
abbrev dktX10_notThere_1 : List UInt8 := dkwX10_notThere_1 ++ []
def dkwX10_notThere_0 : List UInt8 := [27, 184, 1, 129, 154, 0, 7, 4, 167, 0, 18, 42, 180, 0, 77, 27, 46, 154, 0, 8, 16, 7]
abbrev dktX10_notThere_0 : List UInt8 := dkwX10_notThere_0 ++ dktX10_notThere_1
theorem dksX10_notThere_0 : cX10_notThere.data.toList.drop 0 = dktX10_notThere_0 := by decide +kernel
theorem dksX10_notThere_1 : cX10_notThere.data.toList.drop 22 = dktX10_notThere_1 := dk_seg dksX10_notThere_0 22 rfl rfl
theorem dX10_notThere_0 : decode cX10_notThere 0 = .ok (.iload_n 1, 1) := dk_27 (dk_at dksX10_notThere_0 0 rfl rfl)
theorem dX10_notThere_1 : decode cX10_notThere 1 = .ok (.invokestatic 385, 3) := dk_184 1 129 (dk_at dksX10_notThere_0 1 rfl rfl)
theorem dX10_notThere_4 : decode cX10_notThere 4 = .ok (.ifCond .ne 7, 3) := dk_154 0 7 (dk_at dksX10_notThere_0 4 rfl rfl)
theorem dX10_notThere_7 : decode cX10_notThere 7 = .ok (.iconst 1, 1) := dk_4 (dk_at dksX10_notThere_0 7 rfl rfl)
theorem dX10_notThere_8 : decode cX10_notThere 8 = .ok (.goto 18, 3) := dk_167 0 18 (dk_at dksX10_notThere_0 8 rfl rfl)
theorem dX10_notThere_11 : decode cX10_notThere 11 = .ok (.aload_n 0, 1) := dk_42 (dk_at dksX10_notThere_0 11 rfl rfl)
theorem dX10_notThere_12 : decode cX10_notThere 12 = .ok (.getfield 77, 3) := dk_180 0 77 (dk_at dksX10_notThere_0 12 rfl rfl)
theorem dX10_notThere_15 : decode cX10_notThere 15 = .ok (.iload_n 1, 1) := dk_27 (dk_at dksX10_notThere_0 15 rfl rfl)
theorem dX10_notThere_16 : decode cX10_notThere 16 = .ok (.iaload, 1) := dk_46 (dk_at dksX10_notThere_0 16 rfl rfl)
theorem dX10_notThere_17 : decode cX10_notThere 17 = .ok (.ifCond .ne 8, 3) := dk_154 0 8 (dk_at dksX10_notThere_0 17 rfl rfl)
theorem dX10_notThere_20 : decode cX10_notThere 20 = .ok (.bipush 7, 2) := dk_16 7 (dk_at dksX10_notThere_0 20 rfl rfl)
theorem dX10_notThere_22 : decode cX10_notThere 22 = .ok (.goto 4, 3) := dk_167 0 4 (dk_at dksX10_notThere_1 0 rfl rfl)
theorem dX10_notThere_25 : decode cX10_notThere 25 = .ok (.iconst 0, 1) := dk_3 (dk_at dksX10_notThere_1 3 rfl rfl)
theorem dX10_notThere_26 : decode cX10_notThere 26 = .ok (.ireturn, 1) := dk_172 (dk_at dksX10_notThere_1 4 rfl rfl)
abbrev cX10_book : ByteArray := prog_26_method_131_code
def yX10_book : MethodName := ⟨RX10, "book", "(I)I"⟩
def dkwX10_book_3 : List UInt8 := [167, 0, 5, 16, 99, 182, 1, 188, 132, 4, 1, 167, 255, 217, 29, 172]
abbrev dktX10_book_3 : List UInt8 := dkwX10_book_3 ++ []
def dkwX10_book_2 : List UInt8 := [42, 27, 21, 4, 42, 21, 4, 182, 0, 216, 153, 0, 15, 42, 180, 0, 13, 4, 21, 4, 96, 46]
abbrev dktX10_book_2 : List UInt8 := dkwX10_book_2 ++ dktX10_book_3
def dkwX10_book_1 : List UInt8 := [162, 0, 12, 42, 180, 0, 80, 27, 46, 167, 0, 5, 16, 12, 62, 3, 54, 4, 21, 4, 29, 162, 0, 39]
abbrev dktX10_book_1 : List UInt8 := dkwX10_book_1 ++ dktX10_book_2
def dkwX10_book_0 : List UInt8 := [42, 27, 182, 1, 191, 61, 28, 158, 0, 9, 42, 28, 182, 0, 204, 172, 42, 180, 0, 80, 27, 46, 16, 12]
abbrev dktX10_book_0 : List UInt8 := dkwX10_book_0 ++ dktX10_book_1
theorem dksX10_book_0 : cX10_book.data.toList.drop 0 = dktX10_book_0 := by decide +kernel
theorem dksX10_book_1 : cX10_book.data.toList.drop 24 = dktX10_book_1 := dk_seg dksX10_book_0 24 rfl rfl
theorem dksX10_book_2 : cX10_book.data.toList.drop 48 = dktX10_book_2 := dk_seg dksX10_book_1 24 rfl rfl
theorem dksX10_book_3 : cX10_book.data.toList.drop 70 = dktX10_book_3 := dk_seg dksX10_book_2 22 rfl rfl
theorem dX10_book_0 : decode cX10_book 0 = .ok (.aload_n 0, 1) := dk_42 (dk_at dksX10_book_0 0 rfl rfl)
theorem dX10_book_1 : decode cX10_book 1 = .ok (.iload_n 1, 1) := dk_27 (dk_at dksX10_book_0 1 rfl rfl)
theorem dX10_book_2 : decode cX10_book 2 = .ok (.invokevirtual 447, 3) := dk_182 1 191 (dk_at dksX10_book_0 2 rfl rfl)
theorem dX10_book_5 : decode cX10_book 5 = .ok (.istore_n 2, 1) := dk_61 (dk_at dksX10_book_0 5 rfl rfl)
theorem dX10_book_6 : decode cX10_book 6 = .ok (.iload_n 2, 1) := dk_28 (dk_at dksX10_book_0 6 rfl rfl)
theorem dX10_book_7 : decode cX10_book 7 = .ok (.ifCond .le 9, 3) := dk_158 0 9 (dk_at dksX10_book_0 7 rfl rfl)
theorem dX10_book_10 : decode cX10_book 10 = .ok (.aload_n 0, 1) := dk_42 (dk_at dksX10_book_0 10 rfl rfl)
theorem dX10_book_11 : decode cX10_book 11 = .ok (.iload_n 2, 1) := dk_28 (dk_at dksX10_book_0 11 rfl rfl)
theorem dX10_book_12 : decode cX10_book 12 = .ok (.invokevirtual 204, 3) := dk_182 0 204 (dk_at dksX10_book_0 12 rfl rfl)
theorem dX10_book_15 : decode cX10_book 15 = .ok (.ireturn, 1) := dk_172 (dk_at dksX10_book_0 15 rfl rfl)
theorem dX10_book_16 : decode cX10_book 16 = .ok (.aload_n 0, 1) := dk_42 (dk_at dksX10_book_0 16 rfl rfl)
theorem dX10_book_17 : decode cX10_book 17 = .ok (.getfield 80, 3) := dk_180 0 80 (dk_at dksX10_book_0 17 rfl rfl)
theorem dX10_book_20 : decode cX10_book 20 = .ok (.iload_n 1, 1) := dk_27 (dk_at dksX10_book_0 20 rfl rfl)
theorem dX10_book_21 : decode cX10_book 21 = .ok (.iaload, 1) := dk_46 (dk_at dksX10_book_0 21 rfl rfl)
theorem dX10_book_22 : decode cX10_book 22 = .ok (.bipush 12, 2) := dk_16 12 (dk_at dksX10_book_0 22 rfl rfl)
theorem dX10_book_24 : decode cX10_book 24 = .ok (.if_icmp .ge 12, 3) := dk_162 0 12 (dk_at dksX10_book_1 0 rfl rfl)
theorem dX10_book_27 : decode cX10_book 27 = .ok (.aload_n 0, 1) := dk_42 (dk_at dksX10_book_1 3 rfl rfl)
theorem dX10_book_28 : decode cX10_book 28 = .ok (.getfield 80, 3) := dk_180 0 80 (dk_at dksX10_book_1 4 rfl rfl)
theorem dX10_book_31 : decode cX10_book 31 = .ok (.iload_n 1, 1) := dk_27 (dk_at dksX10_book_1 7 rfl rfl)
theorem dX10_book_32 : decode cX10_book 32 = .ok (.iaload, 1) := dk_46 (dk_at dksX10_book_1 8 rfl rfl)
theorem dX10_book_33 : decode cX10_book 33 = .ok (.goto 5, 3) := dk_167 0 5 (dk_at dksX10_book_1 9 rfl rfl)
theorem dX10_book_36 : decode cX10_book 36 = .ok (.bipush 12, 2) := dk_16 12 (dk_at dksX10_book_1 12 rfl rfl)
theorem dX10_book_38 : decode cX10_book 38 = .ok (.istore_n 3, 1) := dk_62 (dk_at dksX10_book_1 14 rfl rfl)
theorem dX10_book_39 : decode cX10_book 39 = .ok (.iconst 0, 1) := dk_3 (dk_at dksX10_book_1 15 rfl rfl)
theorem dX10_book_40 : decode cX10_book 40 = .ok (.istore 4, 2) := dk_54 4 (dk_at dksX10_book_1 16 rfl rfl)
theorem dX10_book_42 : decode cX10_book 42 = .ok (.iload 4, 2) := dk_21 4 (dk_at dksX10_book_1 18 rfl rfl)
theorem dX10_book_44 : decode cX10_book 44 = .ok (.iload_n 3, 1) := dk_29 (dk_at dksX10_book_1 20 rfl rfl)
theorem dX10_book_45 : decode cX10_book 45 = .ok (.if_icmp .ge 39, 3) := dk_162 0 39 (dk_at dksX10_book_1 21 rfl rfl)
theorem dX10_book_48 : decode cX10_book 48 = .ok (.aload_n 0, 1) := dk_42 (dk_at dksX10_book_2 0 rfl rfl)
theorem dX10_book_49 : decode cX10_book 49 = .ok (.iload_n 1, 1) := dk_27 (dk_at dksX10_book_2 1 rfl rfl)
theorem dX10_book_50 : decode cX10_book 50 = .ok (.iload 4, 2) := dk_21 4 (dk_at dksX10_book_2 2 rfl rfl)
theorem dX10_book_52 : decode cX10_book 52 = .ok (.aload_n 0, 1) := dk_42 (dk_at dksX10_book_2 4 rfl rfl)
theorem dX10_book_53 : decode cX10_book 53 = .ok (.iload 4, 2) := dk_21 4 (dk_at dksX10_book_2 5 rfl rfl)
theorem dX10_book_55 : decode cX10_book 55 = .ok (.invokevirtual 216, 3) := dk_182 0 216 (dk_at dksX10_book_2 7 rfl rfl)
theorem dX10_book_58 : decode cX10_book 58 = .ok (.ifCond .eq 15, 3) := dk_153 0 15 (dk_at dksX10_book_2 10 rfl rfl)
theorem dX10_book_61 : decode cX10_book 61 = .ok (.aload_n 0, 1) := dk_42 (dk_at dksX10_book_2 13 rfl rfl)
theorem dX10_book_62 : decode cX10_book 62 = .ok (.getfield 13, 3) := dk_180 0 13 (dk_at dksX10_book_2 14 rfl rfl)
theorem dX10_book_65 : decode cX10_book 65 = .ok (.iconst 1, 1) := dk_4 (dk_at dksX10_book_2 17 rfl rfl)
theorem dX10_book_66 : decode cX10_book 66 = .ok (.iload 4, 2) := dk_21 4 (dk_at dksX10_book_2 18 rfl rfl)
theorem dX10_book_68 : decode cX10_book 68 = .ok (.iadd, 1) := dk_96 (dk_at dksX10_book_2 20 rfl rfl)
theorem dX10_book_69 : decode cX10_book 69 = .ok (.iaload, 1) := dk_46 (dk_at dksX10_book_2 21 rfl rfl)
theorem dX10_book_70 : decode cX10_book 70 = .ok (.goto 5, 3) := dk_167 0 5 (dk_at dksX10_book_3 0 rfl rfl)
theorem dX10_book_73 : decode cX10_book 73 = .ok (.bipush 99, 2) := dk_16 99 (dk_at dksX10_book_3 3 rfl rfl)
theorem dX10_book_75 : decode cX10_book 75 = .ok (.invokevirtual 444, 3) := dk_182 1 188 (dk_at dksX10_book_3 5 rfl rfl)
theorem dX10_book_78 : decode cX10_book 78 = .ok (.iinc 4 1, 3) := dk_132 4 1 (dk_at dksX10_book_3 8 rfl rfl)
theorem dX10_book_81 : decode cX10_book 81 = .ok (.goto (-39), 3) := dk_167 255 217 (dk_at dksX10_book_3 11 rfl rfl)
theorem dX10_book_84 : decode cX10_book 84 = .ok (.iload_n 3, 1) := dk_29 (dk_at dksX10_book_3 14 rfl rfl)
theorem dX10_book_85 : decode cX10_book 85 = .ok (.ireturn, 1) := dk_172 (dk_at dksX10_book_3 15 rfl rfl)
abbrev cX10_plays : ByteArray := prog_26_method_132_code
def yX10_plays : MethodName := ⟨RX10, "plays", "(II)I"⟩
def dkwX10_plays_9 : List UInt8 := [28, 154, 0, 8, 21, 4, 167, 0, 9, 45, 3, 46, 184, 0, 130, 172]
abbrev dktX10_plays_9 : List UInt8 := dkwX10_plays_9 ++ []
def dkwX10_plays_8 : List UInt8 := [54, 5, 21, 5, 153, 0, 17, 45, 21, 7, 21, 8, 3, 3, 3, 184, 0, 196, 132, 4, 1, 167, 255, 106]
abbrev dktX10_plays_8 : List UInt8 := dkwX10_plays_8 ++ dktX10_plays_9
def dkwX10_plays_7 : List UInt8 := [16, 6, 160, 0, 21, 45, 21, 7, 21, 8, 3, 3, 3, 184, 0, 200, 154, 0, 7, 4, 167, 0, 4, 3]
abbrev dktX10_plays_7 : List UInt8 := dkwX10_plays_7 ++ dktX10_plays_8
def dkwX10_plays_6 : List UInt8 := [16, 100, 112, 54, 8, 21, 7, 153, 0, 22, 21, 7, 7, 159, 0, 16, 21, 7, 8, 159, 0, 10, 21, 7]
abbrev dktX10_plays_6 : List UInt8 := dkwX10_plays_6 ++ dktX10_plays_7
def dkwX10_plays_5 : List UInt8 := [16, 100, 108, 167, 0, 4, 2, 54, 7, 21, 6, 17, 2, 88, 160, 0, 7, 3, 167, 0, 8, 21, 6]
abbrev dktX10_plays_5 : List UInt8 := dkwX10_plays_5 ++ dktX10_plays_6
def dkwX10_plays_4 : List UInt8 := [160, 0, 8, 16, 6, 167, 0, 25, 21, 6, 133, 9, 20, 1, 194, 184, 0, 102, 153, 0, 11, 21, 6]
abbrev dktX10_plays_4 : List UInt8 := dkwX10_plays_4 ++ dktX10_plays_5
def dkwX10_plays_3 : List UInt8 := [21, 5, 153, 0, 140, 42, 180, 0, 83, 16, 24, 27, 104, 21, 4, 96, 46, 54, 6, 21, 6, 17, 2, 88]
abbrev dktX10_plays_3 : List UInt8 := dkwX10_plays_3 ++ dktX10_plays_4
def dkwX10_plays_2 : List UInt8 := [180, 0, 13, 45, 184, 0, 188, 3, 54, 4, 4, 54, 5, 21, 4, 42, 180, 0, 80, 27, 46, 162, 0, 145]
abbrev dktX10_plays_2 : List UInt8 := dkwX10_plays_2 ++ dktX10_plays_3
def dkwX10_plays_1 : List UInt8 := [180, 0, 77, 27, 46, 154, 0, 10, 42, 16, 7, 182, 0, 204, 172, 42, 180, 0, 74, 3, 50, 78, 42]
abbrev dktX10_plays_1 : List UInt8 := dkwX10_plays_1 ++ dktX10_plays_2
def dkwX10_plays_0 : List UInt8 := [27, 184, 1, 129, 153, 0, 13, 28, 133, 9, 10, 184, 0, 102, 154, 0, 9, 42, 4, 182, 0, 204, 172, 42]
abbrev dktX10_plays_0 : List UInt8 := dkwX10_plays_0 ++ dktX10_plays_1
theorem dksX10_plays_0 : cX10_plays.data.toList.drop 0 = dktX10_plays_0 := by decide +kernel
theorem dksX10_plays_1 : cX10_plays.data.toList.drop 24 = dktX10_plays_1 := dk_seg dksX10_plays_0 24 rfl rfl
theorem dksX10_plays_2 : cX10_plays.data.toList.drop 47 = dktX10_plays_2 := dk_seg dksX10_plays_1 23 rfl rfl
theorem dksX10_plays_3 : cX10_plays.data.toList.drop 71 = dktX10_plays_3 := dk_seg dksX10_plays_2 24 rfl rfl
theorem dksX10_plays_4 : cX10_plays.data.toList.drop 95 = dktX10_plays_4 := dk_seg dksX10_plays_3 24 rfl rfl
theorem dksX10_plays_5 : cX10_plays.data.toList.drop 118 = dktX10_plays_5 := dk_seg dksX10_plays_4 23 rfl rfl
theorem dksX10_plays_6 : cX10_plays.data.toList.drop 141 = dktX10_plays_6 := dk_seg dksX10_plays_5 23 rfl rfl
theorem dksX10_plays_7 : cX10_plays.data.toList.drop 165 = dktX10_plays_7 := dk_seg dksX10_plays_6 24 rfl rfl
theorem dksX10_plays_8 : cX10_plays.data.toList.drop 189 = dktX10_plays_8 := dk_seg dksX10_plays_7 24 rfl rfl
theorem dksX10_plays_9 : cX10_plays.data.toList.drop 213 = dktX10_plays_9 := dk_seg dksX10_plays_8 24 rfl rfl
theorem dX10_plays_0 : decode cX10_plays 0 = .ok (.iload_n 1, 1) := dk_27 (dk_at dksX10_plays_0 0 rfl rfl)
theorem dX10_plays_1 : decode cX10_plays 1 = .ok (.invokestatic 385, 3) := dk_184 1 129 (dk_at dksX10_plays_0 1 rfl rfl)
theorem dX10_plays_4 : decode cX10_plays 4 = .ok (.ifCond .eq 13, 3) := dk_153 0 13 (dk_at dksX10_plays_0 4 rfl rfl)
theorem dX10_plays_7 : decode cX10_plays 7 = .ok (.iload_n 2, 1) := dk_28 (dk_at dksX10_plays_0 7 rfl rfl)
theorem dX10_plays_8 : decode cX10_plays 8 = .ok (.i2l, 1) := dk_133 (dk_at dksX10_plays_0 8 rfl rfl)
theorem dX10_plays_9 : decode cX10_plays 9 = .ok (.lconst 0, 1) := dk_9 (dk_at dksX10_plays_0 9 rfl rfl)
theorem dX10_plays_10 : decode cX10_plays 10 = .ok (.lconst 1, 1) := dk_10 (dk_at dksX10_plays_0 10 rfl rfl)
theorem dX10_plays_11 : decode cX10_plays 11 = .ok (.invokestatic 102, 3) := dk_184 0 102 (dk_at dksX10_plays_0 11 rfl rfl)
theorem dX10_plays_14 : decode cX10_plays 14 = .ok (.ifCond .ne 9, 3) := dk_154 0 9 (dk_at dksX10_plays_0 14 rfl rfl)
theorem dX10_plays_17 : decode cX10_plays 17 = .ok (.aload_n 0, 1) := dk_42 (dk_at dksX10_plays_0 17 rfl rfl)
theorem dX10_plays_18 : decode cX10_plays 18 = .ok (.iconst 1, 1) := dk_4 (dk_at dksX10_plays_0 18 rfl rfl)
theorem dX10_plays_19 : decode cX10_plays 19 = .ok (.invokevirtual 204, 3) := dk_182 0 204 (dk_at dksX10_plays_0 19 rfl rfl)
theorem dX10_plays_22 : decode cX10_plays 22 = .ok (.ireturn, 1) := dk_172 (dk_at dksX10_plays_0 22 rfl rfl)
theorem dX10_plays_23 : decode cX10_plays 23 = .ok (.aload_n 0, 1) := dk_42 (dk_at dksX10_plays_0 23 rfl rfl)
theorem dX10_plays_24 : decode cX10_plays 24 = .ok (.getfield 77, 3) := dk_180 0 77 (dk_at dksX10_plays_1 0 rfl rfl)
theorem dX10_plays_27 : decode cX10_plays 27 = .ok (.iload_n 1, 1) := dk_27 (dk_at dksX10_plays_1 3 rfl rfl)
theorem dX10_plays_28 : decode cX10_plays 28 = .ok (.iaload, 1) := dk_46 (dk_at dksX10_plays_1 4 rfl rfl)
theorem dX10_plays_29 : decode cX10_plays 29 = .ok (.ifCond .ne 10, 3) := dk_154 0 10 (dk_at dksX10_plays_1 5 rfl rfl)
theorem dX10_plays_32 : decode cX10_plays 32 = .ok (.aload_n 0, 1) := dk_42 (dk_at dksX10_plays_1 8 rfl rfl)
theorem dX10_plays_33 : decode cX10_plays 33 = .ok (.bipush 7, 2) := dk_16 7 (dk_at dksX10_plays_1 9 rfl rfl)
theorem dX10_plays_35 : decode cX10_plays 35 = .ok (.invokevirtual 204, 3) := dk_182 0 204 (dk_at dksX10_plays_1 11 rfl rfl)
theorem dX10_plays_38 : decode cX10_plays 38 = .ok (.ireturn, 1) := dk_172 (dk_at dksX10_plays_1 14 rfl rfl)
theorem dX10_plays_39 : decode cX10_plays 39 = .ok (.aload_n 0, 1) := dk_42 (dk_at dksX10_plays_1 15 rfl rfl)
theorem dX10_plays_40 : decode cX10_plays 40 = .ok (.getfield 74, 3) := dk_180 0 74 (dk_at dksX10_plays_1 16 rfl rfl)
theorem dX10_plays_43 : decode cX10_plays 43 = .ok (.iconst 0, 1) := dk_3 (dk_at dksX10_plays_1 19 rfl rfl)
theorem dX10_plays_44 : decode cX10_plays 44 = .ok (.aaload, 1) := dk_50 (dk_at dksX10_plays_1 20 rfl rfl)
theorem dX10_plays_45 : decode cX10_plays 45 = .ok (.astore_n 3, 1) := dk_78 (dk_at dksX10_plays_1 21 rfl rfl)
theorem dX10_plays_46 : decode cX10_plays 46 = .ok (.aload_n 0, 1) := dk_42 (dk_at dksX10_plays_1 22 rfl rfl)
theorem dX10_plays_47 : decode cX10_plays 47 = .ok (.getfield 13, 3) := dk_180 0 13 (dk_at dksX10_plays_2 0 rfl rfl)
theorem dX10_plays_50 : decode cX10_plays 50 = .ok (.aload_n 3, 1) := dk_45 (dk_at dksX10_plays_2 3 rfl rfl)
theorem dX10_plays_51 : decode cX10_plays 51 = .ok (.invokestatic 188, 3) := dk_184 0 188 (dk_at dksX10_plays_2 4 rfl rfl)
theorem dX10_plays_54 : decode cX10_plays 54 = .ok (.iconst 0, 1) := dk_3 (dk_at dksX10_plays_2 7 rfl rfl)
theorem dX10_plays_55 : decode cX10_plays 55 = .ok (.istore 4, 2) := dk_54 4 (dk_at dksX10_plays_2 8 rfl rfl)
theorem dX10_plays_57 : decode cX10_plays 57 = .ok (.iconst 1, 1) := dk_4 (dk_at dksX10_plays_2 10 rfl rfl)
theorem dX10_plays_58 : decode cX10_plays 58 = .ok (.istore 5, 2) := dk_54 5 (dk_at dksX10_plays_2 11 rfl rfl)
theorem dX10_plays_60 : decode cX10_plays 60 = .ok (.iload 4, 2) := dk_21 4 (dk_at dksX10_plays_2 13 rfl rfl)
theorem dX10_plays_62 : decode cX10_plays 62 = .ok (.aload_n 0, 1) := dk_42 (dk_at dksX10_plays_2 15 rfl rfl)
theorem dX10_plays_63 : decode cX10_plays 63 = .ok (.getfield 80, 3) := dk_180 0 80 (dk_at dksX10_plays_2 16 rfl rfl)
theorem dX10_plays_66 : decode cX10_plays 66 = .ok (.iload_n 1, 1) := dk_27 (dk_at dksX10_plays_2 19 rfl rfl)
theorem dX10_plays_67 : decode cX10_plays 67 = .ok (.iaload, 1) := dk_46 (dk_at dksX10_plays_2 20 rfl rfl)
theorem dX10_plays_68 : decode cX10_plays 68 = .ok (.if_icmp .ge 145, 3) := dk_162 0 145 (dk_at dksX10_plays_2 21 rfl rfl)
theorem dX10_plays_71 : decode cX10_plays 71 = .ok (.iload 5, 2) := dk_21 5 (dk_at dksX10_plays_3 0 rfl rfl)
theorem dX10_plays_73 : decode cX10_plays 73 = .ok (.ifCond .eq 140, 3) := dk_153 0 140 (dk_at dksX10_plays_3 2 rfl rfl)
theorem dX10_plays_76 : decode cX10_plays 76 = .ok (.aload_n 0, 1) := dk_42 (dk_at dksX10_plays_3 5 rfl rfl)
theorem dX10_plays_77 : decode cX10_plays 77 = .ok (.getfield 83, 3) := dk_180 0 83 (dk_at dksX10_plays_3 6 rfl rfl)
theorem dX10_plays_80 : decode cX10_plays 80 = .ok (.bipush 24, 2) := dk_16 24 (dk_at dksX10_plays_3 9 rfl rfl)
theorem dX10_plays_82 : decode cX10_plays 82 = .ok (.iload_n 1, 1) := dk_27 (dk_at dksX10_plays_3 11 rfl rfl)
theorem dX10_plays_83 : decode cX10_plays 83 = .ok (.imul, 1) := dk_104 (dk_at dksX10_plays_3 12 rfl rfl)
theorem dX10_plays_84 : decode cX10_plays 84 = .ok (.iload 4, 2) := dk_21 4 (dk_at dksX10_plays_3 13 rfl rfl)
theorem dX10_plays_86 : decode cX10_plays 86 = .ok (.iadd, 1) := dk_96 (dk_at dksX10_plays_3 15 rfl rfl)
theorem dX10_plays_87 : decode cX10_plays 87 = .ok (.iaload, 1) := dk_46 (dk_at dksX10_plays_3 16 rfl rfl)
theorem dX10_plays_88 : decode cX10_plays 88 = .ok (.istore 6, 2) := dk_54 6 (dk_at dksX10_plays_3 17 rfl rfl)
theorem dX10_plays_90 : decode cX10_plays 90 = .ok (.iload 6, 2) := dk_21 6 (dk_at dksX10_plays_3 19 rfl rfl)
theorem dX10_plays_92 : decode cX10_plays 92 = .ok (.sipush 600, 3) := dk_17 2 88 (dk_at dksX10_plays_3 21 rfl rfl)
theorem dX10_plays_95 : decode cX10_plays 95 = .ok (.if_icmp .ne 8, 3) := dk_160 0 8 (dk_at dksX10_plays_4 0 rfl rfl)
theorem dX10_plays_98 : decode cX10_plays 98 = .ok (.bipush 6, 2) := dk_16 6 (dk_at dksX10_plays_4 3 rfl rfl)
theorem dX10_plays_100 : decode cX10_plays 100 = .ok (.goto 25, 3) := dk_167 0 25 (dk_at dksX10_plays_4 5 rfl rfl)
theorem dX10_plays_103 : decode cX10_plays 103 = .ok (.iload 6, 2) := dk_21 6 (dk_at dksX10_plays_4 8 rfl rfl)
theorem dX10_plays_105 : decode cX10_plays 105 = .ok (.i2l, 1) := dk_133 (dk_at dksX10_plays_4 10 rfl rfl)
theorem dX10_plays_106 : decode cX10_plays 106 = .ok (.lconst 0, 1) := dk_9 (dk_at dksX10_plays_4 11 rfl rfl)
theorem dX10_plays_107 : decode cX10_plays 107 = .ok (.ldc2_w 450, 3) := dk_20 1 194 (dk_at dksX10_plays_4 12 rfl rfl)
theorem dX10_plays_110 : decode cX10_plays 110 = .ok (.invokestatic 102, 3) := dk_184 0 102 (dk_at dksX10_plays_4 15 rfl rfl)
theorem dX10_plays_113 : decode cX10_plays 113 = .ok (.ifCond .eq 11, 3) := dk_153 0 11 (dk_at dksX10_plays_4 18 rfl rfl)
theorem dX10_plays_116 : decode cX10_plays 116 = .ok (.iload 6, 2) := dk_21 6 (dk_at dksX10_plays_4 21 rfl rfl)
theorem dX10_plays_118 : decode cX10_plays 118 = .ok (.bipush 100, 2) := dk_16 100 (dk_at dksX10_plays_5 0 rfl rfl)
theorem dX10_plays_120 : decode cX10_plays 120 = .ok (.idiv, 1) := dk_108 (dk_at dksX10_plays_5 2 rfl rfl)
theorem dX10_plays_121 : decode cX10_plays 121 = .ok (.goto 4, 3) := dk_167 0 4 (dk_at dksX10_plays_5 3 rfl rfl)
theorem dX10_plays_124 : decode cX10_plays 124 = .ok (.iconst (-1), 1) := dk_2 (dk_at dksX10_plays_5 6 rfl rfl)
theorem dX10_plays_125 : decode cX10_plays 125 = .ok (.istore 7, 2) := dk_54 7 (dk_at dksX10_plays_5 7 rfl rfl)
theorem dX10_plays_127 : decode cX10_plays 127 = .ok (.iload 6, 2) := dk_21 6 (dk_at dksX10_plays_5 9 rfl rfl)
theorem dX10_plays_129 : decode cX10_plays 129 = .ok (.sipush 600, 3) := dk_17 2 88 (dk_at dksX10_plays_5 11 rfl rfl)
theorem dX10_plays_132 : decode cX10_plays 132 = .ok (.if_icmp .ne 7, 3) := dk_160 0 7 (dk_at dksX10_plays_5 14 rfl rfl)
theorem dX10_plays_135 : decode cX10_plays 135 = .ok (.iconst 0, 1) := dk_3 (dk_at dksX10_plays_5 17 rfl rfl)
theorem dX10_plays_136 : decode cX10_plays 136 = .ok (.goto 8, 3) := dk_167 0 8 (dk_at dksX10_plays_5 18 rfl rfl)
theorem dX10_plays_139 : decode cX10_plays 139 = .ok (.iload 6, 2) := dk_21 6 (dk_at dksX10_plays_5 21 rfl rfl)
theorem dX10_plays_141 : decode cX10_plays 141 = .ok (.bipush 100, 2) := dk_16 100 (dk_at dksX10_plays_6 0 rfl rfl)
theorem dX10_plays_143 : decode cX10_plays 143 = .ok (.irem, 1) := dk_112 (dk_at dksX10_plays_6 2 rfl rfl)
theorem dX10_plays_144 : decode cX10_plays 144 = .ok (.istore 8, 2) := dk_54 8 (dk_at dksX10_plays_6 3 rfl rfl)
theorem dX10_plays_146 : decode cX10_plays 146 = .ok (.iload 7, 2) := dk_21 7 (dk_at dksX10_plays_6 5 rfl rfl)
theorem dX10_plays_148 : decode cX10_plays 148 = .ok (.ifCond .eq 22, 3) := dk_153 0 22 (dk_at dksX10_plays_6 7 rfl rfl)
theorem dX10_plays_151 : decode cX10_plays 151 = .ok (.iload 7, 2) := dk_21 7 (dk_at dksX10_plays_6 10 rfl rfl)
theorem dX10_plays_153 : decode cX10_plays 153 = .ok (.iconst 4, 1) := dk_7 (dk_at dksX10_plays_6 12 rfl rfl)
theorem dX10_plays_154 : decode cX10_plays 154 = .ok (.if_icmp .eq 16, 3) := dk_159 0 16 (dk_at dksX10_plays_6 13 rfl rfl)
theorem dX10_plays_157 : decode cX10_plays 157 = .ok (.iload 7, 2) := dk_21 7 (dk_at dksX10_plays_6 16 rfl rfl)
theorem dX10_plays_159 : decode cX10_plays 159 = .ok (.iconst 5, 1) := dk_8 (dk_at dksX10_plays_6 18 rfl rfl)
theorem dX10_plays_160 : decode cX10_plays 160 = .ok (.if_icmp .eq 10, 3) := dk_159 0 10 (dk_at dksX10_plays_6 19 rfl rfl)
theorem dX10_plays_163 : decode cX10_plays 163 = .ok (.iload 7, 2) := dk_21 7 (dk_at dksX10_plays_6 22 rfl rfl)
theorem dX10_plays_165 : decode cX10_plays 165 = .ok (.bipush 6, 2) := dk_16 6 (dk_at dksX10_plays_7 0 rfl rfl)
theorem dX10_plays_167 : decode cX10_plays 167 = .ok (.if_icmp .ne 21, 3) := dk_160 0 21 (dk_at dksX10_plays_7 2 rfl rfl)
theorem dX10_plays_170 : decode cX10_plays 170 = .ok (.aload_n 3, 1) := dk_45 (dk_at dksX10_plays_7 5 rfl rfl)
theorem dX10_plays_171 : decode cX10_plays 171 = .ok (.iload 7, 2) := dk_21 7 (dk_at dksX10_plays_7 6 rfl rfl)
theorem dX10_plays_173 : decode cX10_plays 173 = .ok (.iload 8, 2) := dk_21 8 (dk_at dksX10_plays_7 8 rfl rfl)
theorem dX10_plays_175 : decode cX10_plays 175 = .ok (.iconst 0, 1) := dk_3 (dk_at dksX10_plays_7 10 rfl rfl)
theorem dX10_plays_176 : decode cX10_plays 176 = .ok (.iconst 0, 1) := dk_3 (dk_at dksX10_plays_7 11 rfl rfl)
theorem dX10_plays_177 : decode cX10_plays 177 = .ok (.iconst 0, 1) := dk_3 (dk_at dksX10_plays_7 12 rfl rfl)
theorem dX10_plays_178 : decode cX10_plays 178 = .ok (.invokestatic 200, 3) := dk_184 0 200 (dk_at dksX10_plays_7 13 rfl rfl)
theorem dX10_plays_181 : decode cX10_plays 181 = .ok (.ifCond .ne 7, 3) := dk_154 0 7 (dk_at dksX10_plays_7 16 rfl rfl)
theorem dX10_plays_184 : decode cX10_plays 184 = .ok (.iconst 1, 1) := dk_4 (dk_at dksX10_plays_7 19 rfl rfl)
theorem dX10_plays_185 : decode cX10_plays 185 = .ok (.goto 4, 3) := dk_167 0 4 (dk_at dksX10_plays_7 20 rfl rfl)
theorem dX10_plays_188 : decode cX10_plays 188 = .ok (.iconst 0, 1) := dk_3 (dk_at dksX10_plays_7 23 rfl rfl)
theorem dX10_plays_189 : decode cX10_plays 189 = .ok (.istore 5, 2) := dk_54 5 (dk_at dksX10_plays_8 0 rfl rfl)
theorem dX10_plays_191 : decode cX10_plays 191 = .ok (.iload 5, 2) := dk_21 5 (dk_at dksX10_plays_8 2 rfl rfl)
theorem dX10_plays_193 : decode cX10_plays 193 = .ok (.ifCond .eq 17, 3) := dk_153 0 17 (dk_at dksX10_plays_8 4 rfl rfl)
theorem dX10_plays_196 : decode cX10_plays 196 = .ok (.aload_n 3, 1) := dk_45 (dk_at dksX10_plays_8 7 rfl rfl)
theorem dX10_plays_197 : decode cX10_plays 197 = .ok (.iload 7, 2) := dk_21 7 (dk_at dksX10_plays_8 8 rfl rfl)
theorem dX10_plays_199 : decode cX10_plays 199 = .ok (.iload 8, 2) := dk_21 8 (dk_at dksX10_plays_8 10 rfl rfl)
theorem dX10_plays_201 : decode cX10_plays 201 = .ok (.iconst 0, 1) := dk_3 (dk_at dksX10_plays_8 12 rfl rfl)
theorem dX10_plays_202 : decode cX10_plays 202 = .ok (.iconst 0, 1) := dk_3 (dk_at dksX10_plays_8 13 rfl rfl)
theorem dX10_plays_203 : decode cX10_plays 203 = .ok (.iconst 0, 1) := dk_3 (dk_at dksX10_plays_8 14 rfl rfl)
theorem dX10_plays_204 : decode cX10_plays 204 = .ok (.invokestatic 196, 3) := dk_184 0 196 (dk_at dksX10_plays_8 15 rfl rfl)
theorem dX10_plays_207 : decode cX10_plays 207 = .ok (.iinc 4 1, 3) := dk_132 4 1 (dk_at dksX10_plays_8 18 rfl rfl)
theorem dX10_plays_210 : decode cX10_plays 210 = .ok (.goto (-150), 3) := dk_167 255 106 (dk_at dksX10_plays_8 21 rfl rfl)
theorem dX10_plays_213 : decode cX10_plays 213 = .ok (.iload_n 2, 1) := dk_28 (dk_at dksX10_plays_9 0 rfl rfl)
theorem dX10_plays_214 : decode cX10_plays 214 = .ok (.ifCond .ne 8, 3) := dk_154 0 8 (dk_at dksX10_plays_9 1 rfl rfl)
theorem dX10_plays_217 : decode cX10_plays 217 = .ok (.iload 4, 2) := dk_21 4 (dk_at dksX10_plays_9 4 rfl rfl)
theorem dX10_plays_219 : decode cX10_plays 219 = .ok (.goto 9, 3) := dk_167 0 9 (dk_at dksX10_plays_9 6 rfl rfl)
theorem dX10_plays_222 : decode cX10_plays 222 = .ok (.aload_n 3, 1) := dk_45 (dk_at dksX10_plays_9 9 rfl rfl)
theorem dX10_plays_223 : decode cX10_plays 223 = .ok (.iconst 0, 1) := dk_3 (dk_at dksX10_plays_9 10 rfl rfl)
theorem dX10_plays_224 : decode cX10_plays 224 = .ok (.iaload, 1) := dk_46 (dk_at dksX10_plays_9 11 rfl rfl)
theorem dX10_plays_225 : decode cX10_plays 225 = .ok (.invokestatic 130, 3) := dk_184 0 130 (dk_at dksX10_plays_9 12 rfl rfl)
theorem dX10_plays_228 : decode cX10_plays 228 = .ok (.ireturn, 1) := dk_172 (dk_at dksX10_plays_9 15 rfl rfl)
abbrev cX10_image : ByteArray := prog_26_method_133_code
def yX10_image : MethodName := ⟨RX10, "image", "()I"⟩
def dkwX10_image_2 : List UInt8 := [181, 1, 199, 42, 180, 0, 13, 3, 46, 184, 0, 130, 172]
abbrev dktX10_image_2 : List UInt8 := dkwX10_image_2 ++ []
def dkwX10_image_1 : List UInt8 := [42, 180, 0, 71, 27, 46, 79, 132, 1, 1, 167, 255, 235, 42, 42, 180, 1, 142, 181, 1, 196, 42, 4]
abbrev dktX10_image_1 : List UInt8 := dkwX10_image_1 ++ dktX10_image_2
def dkwX10_image_0 : List UInt8 := [42, 180, 0, 13, 42, 180, 0, 89, 184, 0, 188, 3, 60, 27, 16, 18, 162, 0, 21, 42, 180, 0, 92, 27]
abbrev dktX10_image_0 : List UInt8 := dkwX10_image_0 ++ dktX10_image_1
theorem dksX10_image_0 : cX10_image.data.toList.drop 0 = dktX10_image_0 := by decide +kernel
theorem dksX10_image_1 : cX10_image.data.toList.drop 24 = dktX10_image_1 := dk_seg dksX10_image_0 24 rfl rfl
theorem dksX10_image_2 : cX10_image.data.toList.drop 47 = dktX10_image_2 := dk_seg dksX10_image_1 23 rfl rfl
theorem dX10_image_0 : decode cX10_image 0 = .ok (.aload_n 0, 1) := dk_42 (dk_at dksX10_image_0 0 rfl rfl)
theorem dX10_image_1 : decode cX10_image 1 = .ok (.getfield 13, 3) := dk_180 0 13 (dk_at dksX10_image_0 1 rfl rfl)
theorem dX10_image_4 : decode cX10_image 4 = .ok (.aload_n 0, 1) := dk_42 (dk_at dksX10_image_0 4 rfl rfl)
theorem dX10_image_5 : decode cX10_image 5 = .ok (.getfield 89, 3) := dk_180 0 89 (dk_at dksX10_image_0 5 rfl rfl)
theorem dX10_image_8 : decode cX10_image 8 = .ok (.invokestatic 188, 3) := dk_184 0 188 (dk_at dksX10_image_0 8 rfl rfl)
theorem dX10_image_11 : decode cX10_image 11 = .ok (.iconst 0, 1) := dk_3 (dk_at dksX10_image_0 11 rfl rfl)
theorem dX10_image_12 : decode cX10_image 12 = .ok (.istore_n 1, 1) := dk_60 (dk_at dksX10_image_0 12 rfl rfl)
theorem dX10_image_13 : decode cX10_image 13 = .ok (.iload_n 1, 1) := dk_27 (dk_at dksX10_image_0 13 rfl rfl)
theorem dX10_image_14 : decode cX10_image 14 = .ok (.bipush 18, 2) := dk_16 18 (dk_at dksX10_image_0 14 rfl rfl)
theorem dX10_image_16 : decode cX10_image 16 = .ok (.if_icmp .ge 21, 3) := dk_162 0 21 (dk_at dksX10_image_0 16 rfl rfl)
theorem dX10_image_19 : decode cX10_image 19 = .ok (.aload_n 0, 1) := dk_42 (dk_at dksX10_image_0 19 rfl rfl)
theorem dX10_image_20 : decode cX10_image 20 = .ok (.getfield 92, 3) := dk_180 0 92 (dk_at dksX10_image_0 20 rfl rfl)
theorem dX10_image_23 : decode cX10_image 23 = .ok (.iload_n 1, 1) := dk_27 (dk_at dksX10_image_0 23 rfl rfl)
theorem dX10_image_24 : decode cX10_image 24 = .ok (.aload_n 0, 1) := dk_42 (dk_at dksX10_image_1 0 rfl rfl)
theorem dX10_image_25 : decode cX10_image 25 = .ok (.getfield 71, 3) := dk_180 0 71 (dk_at dksX10_image_1 1 rfl rfl)
theorem dX10_image_28 : decode cX10_image 28 = .ok (.iload_n 1, 1) := dk_27 (dk_at dksX10_image_1 4 rfl rfl)
theorem dX10_image_29 : decode cX10_image 29 = .ok (.iaload, 1) := dk_46 (dk_at dksX10_image_1 5 rfl rfl)
theorem dX10_image_30 : decode cX10_image 30 = .ok (.iastore, 1) := dk_79 (dk_at dksX10_image_1 6 rfl rfl)
theorem dX10_image_31 : decode cX10_image 31 = .ok (.iinc 1 1, 3) := dk_132 1 1 (dk_at dksX10_image_1 7 rfl rfl)
theorem dX10_image_34 : decode cX10_image 34 = .ok (.goto (-21), 3) := dk_167 255 235 (dk_at dksX10_image_1 10 rfl rfl)
theorem dX10_image_37 : decode cX10_image 37 = .ok (.aload_n 0, 1) := dk_42 (dk_at dksX10_image_1 13 rfl rfl)
theorem dX10_image_38 : decode cX10_image 38 = .ok (.aload_n 0, 1) := dk_42 (dk_at dksX10_image_1 14 rfl rfl)
theorem dX10_image_39 : decode cX10_image 39 = .ok (.getfield 398, 3) := dk_180 1 142 (dk_at dksX10_image_1 15 rfl rfl)
theorem dX10_image_42 : decode cX10_image 42 = .ok (.putfield 452, 3) := dk_181 1 196 (dk_at dksX10_image_1 18 rfl rfl)
theorem dX10_image_45 : decode cX10_image 45 = .ok (.aload_n 0, 1) := dk_42 (dk_at dksX10_image_1 21 rfl rfl)
theorem dX10_image_46 : decode cX10_image 46 = .ok (.iconst 1, 1) := dk_4 (dk_at dksX10_image_1 22 rfl rfl)
theorem dX10_image_47 : decode cX10_image 47 = .ok (.putfield 455, 3) := dk_181 1 199 (dk_at dksX10_image_2 0 rfl rfl)
theorem dX10_image_50 : decode cX10_image 50 = .ok (.aload_n 0, 1) := dk_42 (dk_at dksX10_image_2 3 rfl rfl)
theorem dX10_image_51 : decode cX10_image 51 = .ok (.getfield 13, 3) := dk_180 0 13 (dk_at dksX10_image_2 4 rfl rfl)
theorem dX10_image_54 : decode cX10_image 54 = .ok (.iconst 0, 1) := dk_3 (dk_at dksX10_image_2 7 rfl rfl)
theorem dX10_image_55 : decode cX10_image 55 = .ok (.iaload, 1) := dk_46 (dk_at dksX10_image_2 8 rfl rfl)
theorem dX10_image_56 : decode cX10_image 56 = .ok (.invokestatic 130, 3) := dk_184 0 130 (dk_at dksX10_image_2 9 rfl rfl)
theorem dX10_image_59 : decode cX10_image 59 = .ok (.ireturn, 1) := dk_172 (dk_at dksX10_image_2 12 rfl rfl)
abbrev cX10_restore : ByteArray := prog_26_method_134_code
def yX10_restore : MethodName := ⟨RX10, "restore", "()I"⟩
def dkwX10_restore_3 : List UInt8 := [184, 0, 130, 172]
abbrev dktX10_restore_3 : List UInt8 := dkwX10_restore_3 ++ []
def dkwX10_restore_2 : List UInt8 := [46, 79, 132, 1, 1, 167, 255, 235, 42, 42, 180, 1, 196, 181, 1, 142, 42, 180, 0, 13, 3, 46]
abbrev dktX10_restore_2 : List UInt8 := dkwX10_restore_2 ++ dktX10_restore_3
def dkwX10_restore_1 : List UInt8 := [180, 0, 13, 184, 0, 188, 3, 60, 27, 16, 18, 162, 0, 21, 42, 180, 0, 71, 27, 42, 180, 0, 92, 27]
abbrev dktX10_restore_1 : List UInt8 := dkwX10_restore_1 ++ dktX10_restore_2
def dkwX10_restore_0 : List UInt8 := [42, 180, 1, 199, 154, 0, 9, 42, 5, 182, 0, 204, 172, 42, 182, 0, 213, 42, 180, 0, 89, 42]
abbrev dktX10_restore_0 : List UInt8 := dkwX10_restore_0 ++ dktX10_restore_1
theorem dksX10_restore_0 : cX10_restore.data.toList.drop 0 = dktX10_restore_0 := by decide +kernel
theorem dksX10_restore_1 : cX10_restore.data.toList.drop 22 = dktX10_restore_1 := dk_seg dksX10_restore_0 22 rfl rfl
theorem dksX10_restore_2 : cX10_restore.data.toList.drop 46 = dktX10_restore_2 := dk_seg dksX10_restore_1 24 rfl rfl
theorem dksX10_restore_3 : cX10_restore.data.toList.drop 68 = dktX10_restore_3 := dk_seg dksX10_restore_2 22 rfl rfl
theorem dX10_restore_0 : decode cX10_restore 0 = .ok (.aload_n 0, 1) := dk_42 (dk_at dksX10_restore_0 0 rfl rfl)
theorem dX10_restore_1 : decode cX10_restore 1 = .ok (.getfield 455, 3) := dk_180 1 199 (dk_at dksX10_restore_0 1 rfl rfl)
theorem dX10_restore_4 : decode cX10_restore 4 = .ok (.ifCond .ne 9, 3) := dk_154 0 9 (dk_at dksX10_restore_0 4 rfl rfl)
theorem dX10_restore_7 : decode cX10_restore 7 = .ok (.aload_n 0, 1) := dk_42 (dk_at dksX10_restore_0 7 rfl rfl)
theorem dX10_restore_8 : decode cX10_restore 8 = .ok (.iconst 2, 1) := dk_5 (dk_at dksX10_restore_0 8 rfl rfl)
theorem dX10_restore_9 : decode cX10_restore 9 = .ok (.invokevirtual 204, 3) := dk_182 0 204 (dk_at dksX10_restore_0 9 rfl rfl)
theorem dX10_restore_12 : decode cX10_restore 12 = .ok (.ireturn, 1) := dk_172 (dk_at dksX10_restore_0 12 rfl rfl)
theorem dX10_restore_13 : decode cX10_restore 13 = .ok (.aload_n 0, 1) := dk_42 (dk_at dksX10_restore_0 13 rfl rfl)
theorem dX10_restore_14 : decode cX10_restore 14 = .ok (.invokevirtual 213, 3) := dk_182 0 213 (dk_at dksX10_restore_0 14 rfl rfl)
theorem dX10_restore_17 : decode cX10_restore 17 = .ok (.aload_n 0, 1) := dk_42 (dk_at dksX10_restore_0 17 rfl rfl)
theorem dX10_restore_18 : decode cX10_restore 18 = .ok (.getfield 89, 3) := dk_180 0 89 (dk_at dksX10_restore_0 18 rfl rfl)
theorem dX10_restore_21 : decode cX10_restore 21 = .ok (.aload_n 0, 1) := dk_42 (dk_at dksX10_restore_0 21 rfl rfl)
theorem dX10_restore_22 : decode cX10_restore 22 = .ok (.getfield 13, 3) := dk_180 0 13 (dk_at dksX10_restore_1 0 rfl rfl)
theorem dX10_restore_25 : decode cX10_restore 25 = .ok (.invokestatic 188, 3) := dk_184 0 188 (dk_at dksX10_restore_1 3 rfl rfl)
theorem dX10_restore_28 : decode cX10_restore 28 = .ok (.iconst 0, 1) := dk_3 (dk_at dksX10_restore_1 6 rfl rfl)
theorem dX10_restore_29 : decode cX10_restore 29 = .ok (.istore_n 1, 1) := dk_60 (dk_at dksX10_restore_1 7 rfl rfl)
theorem dX10_restore_30 : decode cX10_restore 30 = .ok (.iload_n 1, 1) := dk_27 (dk_at dksX10_restore_1 8 rfl rfl)
theorem dX10_restore_31 : decode cX10_restore 31 = .ok (.bipush 18, 2) := dk_16 18 (dk_at dksX10_restore_1 9 rfl rfl)
theorem dX10_restore_33 : decode cX10_restore 33 = .ok (.if_icmp .ge 21, 3) := dk_162 0 21 (dk_at dksX10_restore_1 11 rfl rfl)
theorem dX10_restore_36 : decode cX10_restore 36 = .ok (.aload_n 0, 1) := dk_42 (dk_at dksX10_restore_1 14 rfl rfl)
theorem dX10_restore_37 : decode cX10_restore 37 = .ok (.getfield 71, 3) := dk_180 0 71 (dk_at dksX10_restore_1 15 rfl rfl)
theorem dX10_restore_40 : decode cX10_restore 40 = .ok (.iload_n 1, 1) := dk_27 (dk_at dksX10_restore_1 18 rfl rfl)
theorem dX10_restore_41 : decode cX10_restore 41 = .ok (.aload_n 0, 1) := dk_42 (dk_at dksX10_restore_1 19 rfl rfl)
theorem dX10_restore_42 : decode cX10_restore 42 = .ok (.getfield 92, 3) := dk_180 0 92 (dk_at dksX10_restore_1 20 rfl rfl)
theorem dX10_restore_45 : decode cX10_restore 45 = .ok (.iload_n 1, 1) := dk_27 (dk_at dksX10_restore_1 23 rfl rfl)
theorem dX10_restore_46 : decode cX10_restore 46 = .ok (.iaload, 1) := dk_46 (dk_at dksX10_restore_2 0 rfl rfl)
theorem dX10_restore_47 : decode cX10_restore 47 = .ok (.iastore, 1) := dk_79 (dk_at dksX10_restore_2 1 rfl rfl)
theorem dX10_restore_48 : decode cX10_restore 48 = .ok (.iinc 1 1, 3) := dk_132 1 1 (dk_at dksX10_restore_2 2 rfl rfl)
theorem dX10_restore_51 : decode cX10_restore 51 = .ok (.goto (-21), 3) := dk_167 255 235 (dk_at dksX10_restore_2 5 rfl rfl)
theorem dX10_restore_54 : decode cX10_restore 54 = .ok (.aload_n 0, 1) := dk_42 (dk_at dksX10_restore_2 8 rfl rfl)
theorem dX10_restore_55 : decode cX10_restore 55 = .ok (.aload_n 0, 1) := dk_42 (dk_at dksX10_restore_2 9 rfl rfl)
theorem dX10_restore_56 : decode cX10_restore 56 = .ok (.getfield 452, 3) := dk_180 1 196 (dk_at dksX10_restore_2 10 rfl rfl)
theorem dX10_restore_59 : decode cX10_restore 59 = .ok (.putfield 398, 3) := dk_181 1 142 (dk_at dksX10_restore_2 13 rfl rfl)
theorem dX10_restore_62 : decode cX10_restore 62 = .ok (.aload_n 0, 1) := dk_42 (dk_at dksX10_restore_2 16 rfl rfl)
theorem dX10_restore_63 : decode cX10_restore 63 = .ok (.getfield 13, 3) := dk_180 0 13 (dk_at dksX10_restore_2 17 rfl rfl)
theorem dX10_restore_66 : decode cX10_restore 66 = .ok (.iconst 0, 1) := dk_3 (dk_at dksX10_restore_2 20 rfl rfl)
theorem dX10_restore_67 : decode cX10_restore 67 = .ok (.iaload, 1) := dk_46 (dk_at dksX10_restore_2 21 rfl rfl)
theorem dX10_restore_68 : decode cX10_restore 68 = .ok (.invokestatic 130, 3) := dk_184 0 130 (dk_at dksX10_restore_3 0 rfl rfl)
theorem dX10_restore_71 : decode cX10_restore 71 = .ok (.ireturn, 1) := dk_172 (dk_at dksX10_restore_3 3 rfl rfl)
abbrev cX10_count : ByteArray := prog_26_method_138_code
def yX10_count : MethodName := ⟨RX10, "count", "(I)I"⟩
def dkwX10_count_5 : List UInt8 := [172]
abbrev dktX10_count_5 : List UInt8 := dkwX10_count_5 ++ []
def dkwX10_count_4 : List UInt8 := [180, 1, 142, 172, 42, 180, 1, 74, 172, 42, 182, 1, 205, 172, 42, 182, 1, 208, 172, 42, 4, 182, 0, 204]
abbrev dktX10_count_4 : List UInt8 := dkwX10_count_4 ++ dktX10_count_5
def dkwX10_count_3 : List UInt8 := [180, 0, 13, 184, 1, 165, 172, 42, 180, 0, 181, 172, 42, 180, 0, 185, 42, 180, 0, 181, 100, 172, 42]
abbrev dktX10_count_3 : List UInt8 := dkwX10_count_3 ++ dktX10_count_4
def dkwX10_count_2 : List UInt8 := [42, 180, 0, 13, 3, 46, 184, 0, 130, 172, 42, 180, 0, 13, 184, 0, 219, 172, 42, 182, 1, 202, 172, 42]
abbrev dktX10_count_2 : List UInt8 := dkwX10_count_2 ++ dktX10_count_3
def dkwX10_count_1 : List UInt8 := [170, 0, 0, 0, 0, 0, 121, 0, 0, 0, 0, 0, 0, 0, 9, 0, 0, 0, 55, 0, 0, 0, 65, 0, 0, 0, 73, 0, 0, 0, 78, 0, 0, 0, 86, 0, 0, 0, 91, 0, 0, 0, 101, 0, 0, 0, 106, 0, 0, 0, 111, 0, 0, 0, 116]
abbrev dktX10_count_1 : List UInt8 := dkwX10_count_1 ++ dktX10_count_2
def dkwX10_count_0 : List UInt8 := [27]
abbrev dktX10_count_0 : List UInt8 := dkwX10_count_0 ++ dktX10_count_1
theorem dksX10_count_0 : cX10_count.data.toList.drop 0 = dktX10_count_0 := by decide +kernel
theorem dksX10_count_1 : cX10_count.data.toList.drop 1 = dktX10_count_1 := dk_seg dksX10_count_0 1 rfl rfl
theorem dksX10_count_2 : cX10_count.data.toList.drop 56 = dktX10_count_2 := dk_seg dksX10_count_1 55 rfl rfl
theorem dksX10_count_3 : cX10_count.data.toList.drop 80 = dktX10_count_3 := dk_seg dksX10_count_2 24 rfl rfl
theorem dksX10_count_4 : cX10_count.data.toList.drop 103 = dktX10_count_4 := dk_seg dksX10_count_3 23 rfl rfl
theorem dksX10_count_5 : cX10_count.data.toList.drop 127 = dktX10_count_5 := dk_seg dksX10_count_4 24 rfl rfl
theorem dX10_count_0 : decode cX10_count 0 = .ok (.iload_n 1, 1) := dk_27 (dk_at dksX10_count_0 0 rfl rfl)
theorem dX10_count_1 : decode cX10_count 1 = .ok (.tableswitch 121 0 9 #[55, 65, 73, 78, 86, 91, 101, 106, 111, 116], 55) := by decide +kernel
theorem dX10_count_56 : decode cX10_count 56 = .ok (.aload_n 0, 1) := dk_42 (dk_at dksX10_count_2 0 rfl rfl)
theorem dX10_count_57 : decode cX10_count 57 = .ok (.getfield 13, 3) := dk_180 0 13 (dk_at dksX10_count_2 1 rfl rfl)
theorem dX10_count_60 : decode cX10_count 60 = .ok (.iconst 0, 1) := dk_3 (dk_at dksX10_count_2 4 rfl rfl)
theorem dX10_count_61 : decode cX10_count 61 = .ok (.iaload, 1) := dk_46 (dk_at dksX10_count_2 5 rfl rfl)
theorem dX10_count_62 : decode cX10_count 62 = .ok (.invokestatic 130, 3) := dk_184 0 130 (dk_at dksX10_count_2 6 rfl rfl)
theorem dX10_count_65 : decode cX10_count 65 = .ok (.ireturn, 1) := dk_172 (dk_at dksX10_count_2 9 rfl rfl)
theorem dX10_count_66 : decode cX10_count 66 = .ok (.aload_n 0, 1) := dk_42 (dk_at dksX10_count_2 10 rfl rfl)
theorem dX10_count_67 : decode cX10_count 67 = .ok (.getfield 13, 3) := dk_180 0 13 (dk_at dksX10_count_2 11 rfl rfl)
theorem dX10_count_70 : decode cX10_count 70 = .ok (.invokestatic 219, 3) := dk_184 0 219 (dk_at dksX10_count_2 14 rfl rfl)
theorem dX10_count_73 : decode cX10_count 73 = .ok (.ireturn, 1) := dk_172 (dk_at dksX10_count_2 17 rfl rfl)
theorem dX10_count_74 : decode cX10_count 74 = .ok (.aload_n 0, 1) := dk_42 (dk_at dksX10_count_2 18 rfl rfl)
theorem dX10_count_75 : decode cX10_count 75 = .ok (.invokevirtual 458, 3) := dk_182 1 202 (dk_at dksX10_count_2 19 rfl rfl)
theorem dX10_count_78 : decode cX10_count 78 = .ok (.ireturn, 1) := dk_172 (dk_at dksX10_count_2 22 rfl rfl)
theorem dX10_count_79 : decode cX10_count 79 = .ok (.aload_n 0, 1) := dk_42 (dk_at dksX10_count_2 23 rfl rfl)
theorem dX10_count_80 : decode cX10_count 80 = .ok (.getfield 13, 3) := dk_180 0 13 (dk_at dksX10_count_3 0 rfl rfl)
theorem dX10_count_83 : decode cX10_count 83 = .ok (.invokestatic 421, 3) := dk_184 1 165 (dk_at dksX10_count_3 3 rfl rfl)
theorem dX10_count_86 : decode cX10_count 86 = .ok (.ireturn, 1) := dk_172 (dk_at dksX10_count_3 6 rfl rfl)
theorem dX10_count_87 : decode cX10_count 87 = .ok (.aload_n 0, 1) := dk_42 (dk_at dksX10_count_3 7 rfl rfl)
theorem dX10_count_88 : decode cX10_count 88 = .ok (.getfield 181, 3) := dk_180 0 181 (dk_at dksX10_count_3 8 rfl rfl)
theorem dX10_count_91 : decode cX10_count 91 = .ok (.ireturn, 1) := dk_172 (dk_at dksX10_count_3 11 rfl rfl)
theorem dX10_count_92 : decode cX10_count 92 = .ok (.aload_n 0, 1) := dk_42 (dk_at dksX10_count_3 12 rfl rfl)
theorem dX10_count_93 : decode cX10_count 93 = .ok (.getfield 185, 3) := dk_180 0 185 (dk_at dksX10_count_3 13 rfl rfl)
theorem dX10_count_96 : decode cX10_count 96 = .ok (.aload_n 0, 1) := dk_42 (dk_at dksX10_count_3 16 rfl rfl)
theorem dX10_count_97 : decode cX10_count 97 = .ok (.getfield 181, 3) := dk_180 0 181 (dk_at dksX10_count_3 17 rfl rfl)
theorem dX10_count_100 : decode cX10_count 100 = .ok (.isub, 1) := dk_100 (dk_at dksX10_count_3 20 rfl rfl)
theorem dX10_count_101 : decode cX10_count 101 = .ok (.ireturn, 1) := dk_172 (dk_at dksX10_count_3 21 rfl rfl)
theorem dX10_count_102 : decode cX10_count 102 = .ok (.aload_n 0, 1) := dk_42 (dk_at dksX10_count_3 22 rfl rfl)
theorem dX10_count_103 : decode cX10_count 103 = .ok (.getfield 398, 3) := dk_180 1 142 (dk_at dksX10_count_4 0 rfl rfl)
theorem dX10_count_106 : decode cX10_count 106 = .ok (.ireturn, 1) := dk_172 (dk_at dksX10_count_4 3 rfl rfl)
theorem dX10_count_107 : decode cX10_count 107 = .ok (.aload_n 0, 1) := dk_42 (dk_at dksX10_count_4 4 rfl rfl)
theorem dX10_count_108 : decode cX10_count 108 = .ok (.getfield 330, 3) := dk_180 1 74 (dk_at dksX10_count_4 5 rfl rfl)
theorem dX10_count_111 : decode cX10_count 111 = .ok (.ireturn, 1) := dk_172 (dk_at dksX10_count_4 8 rfl rfl)
theorem dX10_count_112 : decode cX10_count 112 = .ok (.aload_n 0, 1) := dk_42 (dk_at dksX10_count_4 9 rfl rfl)
theorem dX10_count_113 : decode cX10_count 113 = .ok (.invokevirtual 461, 3) := dk_182 1 205 (dk_at dksX10_count_4 10 rfl rfl)
theorem dX10_count_116 : decode cX10_count 116 = .ok (.ireturn, 1) := dk_172 (dk_at dksX10_count_4 13 rfl rfl)
theorem dX10_count_117 : decode cX10_count 117 = .ok (.aload_n 0, 1) := dk_42 (dk_at dksX10_count_4 14 rfl rfl)
theorem dX10_count_118 : decode cX10_count 118 = .ok (.invokevirtual 464, 3) := dk_182 1 208 (dk_at dksX10_count_4 15 rfl rfl)
theorem dX10_count_121 : decode cX10_count 121 = .ok (.ireturn, 1) := dk_172 (dk_at dksX10_count_4 18 rfl rfl)
theorem dX10_count_122 : decode cX10_count 122 = .ok (.aload_n 0, 1) := dk_42 (dk_at dksX10_count_4 19 rfl rfl)
theorem dX10_count_123 : decode cX10_count 123 = .ok (.iconst 1, 1) := dk_4 (dk_at dksX10_count_4 20 rfl rfl)
theorem dX10_count_124 : decode cX10_count 124 = .ok (.invokevirtual 204, 3) := dk_182 0 204 (dk_at dksX10_count_4 21 rfl rfl)
theorem dX10_count_127 : decode cX10_count 127 = .ok (.ireturn, 1) := dk_172 (dk_at dksX10_count_5 0 rfl rfl)
abbrev cX10_edges : ByteArray := prog_26_method_135_code
def yX10_edges : MethodName := ⟨RX10, "edges", "()I"⟩
def dkwX10_edges_1 : List UInt8 := [60, 132, 2, 1, 167, 255, 232, 27, 5, 108, 172]
abbrev dktX10_edges_1 : List UInt8 := dkwX10_edges_1 ++ []
def dkwX10_edges_0 : List UInt8 := [3, 60, 3, 61, 28, 16, 12, 162, 0, 24, 27, 42, 180, 0, 13, 16, 13, 28, 96, 46, 184, 0, 130, 96]
abbrev dktX10_edges_0 : List UInt8 := dkwX10_edges_0 ++ dktX10_edges_1
theorem dksX10_edges_0 : cX10_edges.data.toList.drop 0 = dktX10_edges_0 := by decide +kernel
theorem dksX10_edges_1 : cX10_edges.data.toList.drop 24 = dktX10_edges_1 := dk_seg dksX10_edges_0 24 rfl rfl
theorem dX10_edges_0 : decode cX10_edges 0 = .ok (.iconst 0, 1) := dk_3 (dk_at dksX10_edges_0 0 rfl rfl)
theorem dX10_edges_1 : decode cX10_edges 1 = .ok (.istore_n 1, 1) := dk_60 (dk_at dksX10_edges_0 1 rfl rfl)
theorem dX10_edges_2 : decode cX10_edges 2 = .ok (.iconst 0, 1) := dk_3 (dk_at dksX10_edges_0 2 rfl rfl)
theorem dX10_edges_3 : decode cX10_edges 3 = .ok (.istore_n 2, 1) := dk_61 (dk_at dksX10_edges_0 3 rfl rfl)
theorem dX10_edges_4 : decode cX10_edges 4 = .ok (.iload_n 2, 1) := dk_28 (dk_at dksX10_edges_0 4 rfl rfl)
theorem dX10_edges_5 : decode cX10_edges 5 = .ok (.bipush 12, 2) := dk_16 12 (dk_at dksX10_edges_0 5 rfl rfl)
theorem dX10_edges_7 : decode cX10_edges 7 = .ok (.if_icmp .ge 24, 3) := dk_162 0 24 (dk_at dksX10_edges_0 7 rfl rfl)
theorem dX10_edges_10 : decode cX10_edges 10 = .ok (.iload_n 1, 1) := dk_27 (dk_at dksX10_edges_0 10 rfl rfl)
theorem dX10_edges_11 : decode cX10_edges 11 = .ok (.aload_n 0, 1) := dk_42 (dk_at dksX10_edges_0 11 rfl rfl)
theorem dX10_edges_12 : decode cX10_edges 12 = .ok (.getfield 13, 3) := dk_180 0 13 (dk_at dksX10_edges_0 12 rfl rfl)
theorem dX10_edges_15 : decode cX10_edges 15 = .ok (.bipush 13, 2) := dk_16 13 (dk_at dksX10_edges_0 15 rfl rfl)
theorem dX10_edges_17 : decode cX10_edges 17 = .ok (.iload_n 2, 1) := dk_28 (dk_at dksX10_edges_0 17 rfl rfl)
theorem dX10_edges_18 : decode cX10_edges 18 = .ok (.iadd, 1) := dk_96 (dk_at dksX10_edges_0 18 rfl rfl)
theorem dX10_edges_19 : decode cX10_edges 19 = .ok (.iaload, 1) := dk_46 (dk_at dksX10_edges_0 19 rfl rfl)
theorem dX10_edges_20 : decode cX10_edges 20 = .ok (.invokestatic 130, 3) := dk_184 0 130 (dk_at dksX10_edges_0 20 rfl rfl)
theorem dX10_edges_23 : decode cX10_edges 23 = .ok (.iadd, 1) := dk_96 (dk_at dksX10_edges_0 23 rfl rfl)
theorem dX10_edges_24 : decode cX10_edges 24 = .ok (.istore_n 1, 1) := dk_60 (dk_at dksX10_edges_1 0 rfl rfl)
theorem dX10_edges_25 : decode cX10_edges 25 = .ok (.iinc 2 1, 3) := dk_132 2 1 (dk_at dksX10_edges_1 1 rfl rfl)
theorem dX10_edges_28 : decode cX10_edges 28 = .ok (.goto (-24), 3) := dk_167 255 232 (dk_at dksX10_edges_1 4 rfl rfl)
theorem dX10_edges_31 : decode cX10_edges 31 = .ok (.iload_n 1, 1) := dk_27 (dk_at dksX10_edges_1 7 rfl rfl)
theorem dX10_edges_32 : decode cX10_edges 32 = .ok (.iconst 2, 1) := dk_5 (dk_at dksX10_edges_1 8 rfl rfl)
theorem dX10_edges_33 : decode cX10_edges 33 = .ok (.idiv, 1) := dk_108 (dk_at dksX10_edges_1 9 rfl rfl)
theorem dX10_edges_34 : decode cX10_edges 34 = .ok (.ireturn, 1) := dk_172 (dk_at dksX10_edges_1 10 rfl rfl)
abbrev cX10_heldOnes : ByteArray := prog_26_method_136_code
def yX10_heldOnes : MethodName := ⟨RX10, "heldOnes", "()I"⟩
def dkwX10_heldOnes_1 : List UInt8 := [96, 60, 132, 2, 1, 167, 255, 231, 27, 172]
abbrev dktX10_heldOnes_1 : List UInt8 := dkwX10_heldOnes_1 ++ []
def dkwX10_heldOnes_0 : List UInt8 := [3, 60, 3, 61, 28, 7, 162, 0, 26, 27, 42, 180, 0, 64, 28, 51, 153, 0, 7, 4, 167, 0, 4, 3]
abbrev dktX10_heldOnes_0 : List UInt8 := dkwX10_heldOnes_0 ++ dktX10_heldOnes_1
theorem dksX10_heldOnes_0 : cX10_heldOnes.data.toList.drop 0 = dktX10_heldOnes_0 := by decide +kernel
theorem dksX10_heldOnes_1 : cX10_heldOnes.data.toList.drop 24 = dktX10_heldOnes_1 := dk_seg dksX10_heldOnes_0 24 rfl rfl
theorem dX10_heldOnes_0 : decode cX10_heldOnes 0 = .ok (.iconst 0, 1) := dk_3 (dk_at dksX10_heldOnes_0 0 rfl rfl)
theorem dX10_heldOnes_1 : decode cX10_heldOnes 1 = .ok (.istore_n 1, 1) := dk_60 (dk_at dksX10_heldOnes_0 1 rfl rfl)
theorem dX10_heldOnes_2 : decode cX10_heldOnes 2 = .ok (.iconst 0, 1) := dk_3 (dk_at dksX10_heldOnes_0 2 rfl rfl)
theorem dX10_heldOnes_3 : decode cX10_heldOnes 3 = .ok (.istore_n 2, 1) := dk_61 (dk_at dksX10_heldOnes_0 3 rfl rfl)
theorem dX10_heldOnes_4 : decode cX10_heldOnes 4 = .ok (.iload_n 2, 1) := dk_28 (dk_at dksX10_heldOnes_0 4 rfl rfl)
theorem dX10_heldOnes_5 : decode cX10_heldOnes 5 = .ok (.iconst 4, 1) := dk_7 (dk_at dksX10_heldOnes_0 5 rfl rfl)
theorem dX10_heldOnes_6 : decode cX10_heldOnes 6 = .ok (.if_icmp .ge 26, 3) := dk_162 0 26 (dk_at dksX10_heldOnes_0 6 rfl rfl)
theorem dX10_heldOnes_9 : decode cX10_heldOnes 9 = .ok (.iload_n 1, 1) := dk_27 (dk_at dksX10_heldOnes_0 9 rfl rfl)
theorem dX10_heldOnes_10 : decode cX10_heldOnes 10 = .ok (.aload_n 0, 1) := dk_42 (dk_at dksX10_heldOnes_0 10 rfl rfl)
theorem dX10_heldOnes_11 : decode cX10_heldOnes 11 = .ok (.getfield 64, 3) := dk_180 0 64 (dk_at dksX10_heldOnes_0 11 rfl rfl)
theorem dX10_heldOnes_14 : decode cX10_heldOnes 14 = .ok (.iload_n 2, 1) := dk_28 (dk_at dksX10_heldOnes_0 14 rfl rfl)
theorem dX10_heldOnes_15 : decode cX10_heldOnes 15 = .ok (.baload, 1) := dk_51 (dk_at dksX10_heldOnes_0 15 rfl rfl)
theorem dX10_heldOnes_16 : decode cX10_heldOnes 16 = .ok (.ifCond .eq 7, 3) := dk_153 0 7 (dk_at dksX10_heldOnes_0 16 rfl rfl)
theorem dX10_heldOnes_19 : decode cX10_heldOnes 19 = .ok (.iconst 1, 1) := dk_4 (dk_at dksX10_heldOnes_0 19 rfl rfl)
theorem dX10_heldOnes_20 : decode cX10_heldOnes 20 = .ok (.goto 4, 3) := dk_167 0 4 (dk_at dksX10_heldOnes_0 20 rfl rfl)
theorem dX10_heldOnes_23 : decode cX10_heldOnes 23 = .ok (.iconst 0, 1) := dk_3 (dk_at dksX10_heldOnes_0 23 rfl rfl)
theorem dX10_heldOnes_24 : decode cX10_heldOnes 24 = .ok (.iadd, 1) := dk_96 (dk_at dksX10_heldOnes_1 0 rfl rfl)
theorem dX10_heldOnes_25 : decode cX10_heldOnes 25 = .ok (.istore_n 1, 1) := dk_60 (dk_at dksX10_heldOnes_1 1 rfl rfl)
theorem dX10_heldOnes_26 : decode cX10_heldOnes 26 = .ok (.iinc 2 1, 3) := dk_132 2 1 (dk_at dksX10_heldOnes_1 2 rfl rfl)
theorem dX10_heldOnes_29 : decode cX10_heldOnes 29 = .ok (.goto (-25), 3) := dk_167 255 231 (dk_at dksX10_heldOnes_1 5 rfl rfl)
theorem dX10_heldOnes_32 : decode cX10_heldOnes 32 = .ok (.iload_n 1, 1) := dk_27 (dk_at dksX10_heldOnes_1 8 rfl rfl)
theorem dX10_heldOnes_33 : decode cX10_heldOnes 33 = .ok (.ireturn, 1) := dk_172 (dk_at dksX10_heldOnes_1 9 rfl rfl)
abbrev cX10_allJobs : ByteArray := prog_26_method_137_code
def yX10_allJobs : MethodName := ⟨RX10, "allJobs", "()I"⟩
def dkwX10_allJobs_1 : List UInt8 := [60, 132, 2, 1, 167, 255, 232, 27, 172]
abbrev dktX10_allJobs_1 : List UInt8 := dkwX10_allJobs_1 ++ []
def dkwX10_allJobs_0 : List UInt8 := [3, 60, 3, 61, 28, 42, 180, 1, 142, 162, 0, 22, 27, 42, 180, 0, 71, 6, 28, 104, 5, 96, 46, 96]
abbrev dktX10_allJobs_0 : List UInt8 := dkwX10_allJobs_0 ++ dktX10_allJobs_1
theorem dksX10_allJobs_0 : cX10_allJobs.data.toList.drop 0 = dktX10_allJobs_0 := by decide +kernel
theorem dksX10_allJobs_1 : cX10_allJobs.data.toList.drop 24 = dktX10_allJobs_1 := dk_seg dksX10_allJobs_0 24 rfl rfl
theorem dX10_allJobs_0 : decode cX10_allJobs 0 = .ok (.iconst 0, 1) := dk_3 (dk_at dksX10_allJobs_0 0 rfl rfl)
theorem dX10_allJobs_1 : decode cX10_allJobs 1 = .ok (.istore_n 1, 1) := dk_60 (dk_at dksX10_allJobs_0 1 rfl rfl)
theorem dX10_allJobs_2 : decode cX10_allJobs 2 = .ok (.iconst 0, 1) := dk_3 (dk_at dksX10_allJobs_0 2 rfl rfl)
theorem dX10_allJobs_3 : decode cX10_allJobs 3 = .ok (.istore_n 2, 1) := dk_61 (dk_at dksX10_allJobs_0 3 rfl rfl)
theorem dX10_allJobs_4 : decode cX10_allJobs 4 = .ok (.iload_n 2, 1) := dk_28 (dk_at dksX10_allJobs_0 4 rfl rfl)
theorem dX10_allJobs_5 : decode cX10_allJobs 5 = .ok (.aload_n 0, 1) := dk_42 (dk_at dksX10_allJobs_0 5 rfl rfl)
theorem dX10_allJobs_6 : decode cX10_allJobs 6 = .ok (.getfield 398, 3) := dk_180 1 142 (dk_at dksX10_allJobs_0 6 rfl rfl)
theorem dX10_allJobs_9 : decode cX10_allJobs 9 = .ok (.if_icmp .ge 22, 3) := dk_162 0 22 (dk_at dksX10_allJobs_0 9 rfl rfl)
theorem dX10_allJobs_12 : decode cX10_allJobs 12 = .ok (.iload_n 1, 1) := dk_27 (dk_at dksX10_allJobs_0 12 rfl rfl)
theorem dX10_allJobs_13 : decode cX10_allJobs 13 = .ok (.aload_n 0, 1) := dk_42 (dk_at dksX10_allJobs_0 13 rfl rfl)
theorem dX10_allJobs_14 : decode cX10_allJobs 14 = .ok (.getfield 71, 3) := dk_180 0 71 (dk_at dksX10_allJobs_0 14 rfl rfl)
theorem dX10_allJobs_17 : decode cX10_allJobs 17 = .ok (.iconst 3, 1) := dk_6 (dk_at dksX10_allJobs_0 17 rfl rfl)
theorem dX10_allJobs_18 : decode cX10_allJobs 18 = .ok (.iload_n 2, 1) := dk_28 (dk_at dksX10_allJobs_0 18 rfl rfl)
theorem dX10_allJobs_19 : decode cX10_allJobs 19 = .ok (.imul, 1) := dk_104 (dk_at dksX10_allJobs_0 19 rfl rfl)
theorem dX10_allJobs_20 : decode cX10_allJobs 20 = .ok (.iconst 2, 1) := dk_5 (dk_at dksX10_allJobs_0 20 rfl rfl)
theorem dX10_allJobs_21 : decode cX10_allJobs 21 = .ok (.iadd, 1) := dk_96 (dk_at dksX10_allJobs_0 21 rfl rfl)
theorem dX10_allJobs_22 : decode cX10_allJobs 22 = .ok (.iaload, 1) := dk_46 (dk_at dksX10_allJobs_0 22 rfl rfl)
theorem dX10_allJobs_23 : decode cX10_allJobs 23 = .ok (.iadd, 1) := dk_96 (dk_at dksX10_allJobs_0 23 rfl rfl)
theorem dX10_allJobs_24 : decode cX10_allJobs 24 = .ok (.istore_n 1, 1) := dk_60 (dk_at dksX10_allJobs_1 0 rfl rfl)
theorem dX10_allJobs_25 : decode cX10_allJobs 25 = .ok (.iinc 2 1, 3) := dk_132 2 1 (dk_at dksX10_allJobs_1 1 rfl rfl)
theorem dX10_allJobs_28 : decode cX10_allJobs 28 = .ok (.goto (-24), 3) := dk_167 255 232 (dk_at dksX10_allJobs_1 4 rfl rfl)
theorem dX10_allJobs_31 : decode cX10_allJobs 31 = .ok (.iload_n 1, 1) := dk_27 (dk_at dksX10_allJobs_1 7 rfl rfl)
theorem dX10_allJobs_32 : decode cX10_allJobs 32 = .ok (.ireturn, 1) := dk_172 (dk_at dksX10_allJobs_1 8 rfl rfl)
abbrev cX10_told : ByteArray := prog_26_method_139_code
def yX10_told : MethodName := ⟨RX10, "told", "(I)I"⟩
def dkwX10_told_1 : List UInt8 := [182, 0, 204, 172]
abbrev dktX10_told_1 : List UInt8 := dkwX10_told_1 ++ []
def dkwX10_told_0 : List UInt8 := [27, 133, 10, 20, 0, 122, 184, 0, 102, 153, 0, 12, 42, 180, 0, 7, 27, 46, 167, 0, 8, 42, 4]
abbrev dktX10_told_0 : List UInt8 := dkwX10_told_0 ++ dktX10_told_1
theorem dksX10_told_0 : cX10_told.data.toList.drop 0 = dktX10_told_0 := by decide +kernel
theorem dksX10_told_1 : cX10_told.data.toList.drop 23 = dktX10_told_1 := dk_seg dksX10_told_0 23 rfl rfl
theorem dX10_told_0 : decode cX10_told 0 = .ok (.iload_n 1, 1) := dk_27 (dk_at dksX10_told_0 0 rfl rfl)
theorem dX10_told_1 : decode cX10_told 1 = .ok (.i2l, 1) := dk_133 (dk_at dksX10_told_0 1 rfl rfl)
theorem dX10_told_2 : decode cX10_told 2 = .ok (.lconst 1, 1) := dk_10 (dk_at dksX10_told_0 2 rfl rfl)
theorem dX10_told_3 : decode cX10_told 3 = .ok (.ldc2_w 122, 3) := dk_20 0 122 (dk_at dksX10_told_0 3 rfl rfl)
theorem dX10_told_6 : decode cX10_told 6 = .ok (.invokestatic 102, 3) := dk_184 0 102 (dk_at dksX10_told_0 6 rfl rfl)
theorem dX10_told_9 : decode cX10_told 9 = .ok (.ifCond .eq 12, 3) := dk_153 0 12 (dk_at dksX10_told_0 9 rfl rfl)
theorem dX10_told_12 : decode cX10_told 12 = .ok (.aload_n 0, 1) := dk_42 (dk_at dksX10_told_0 12 rfl rfl)
theorem dX10_told_13 : decode cX10_told 13 = .ok (.getfield 7, 3) := dk_180 0 7 (dk_at dksX10_told_0 13 rfl rfl)
theorem dX10_told_16 : decode cX10_told 16 = .ok (.iload_n 1, 1) := dk_27 (dk_at dksX10_told_0 16 rfl rfl)
theorem dX10_told_17 : decode cX10_told 17 = .ok (.iaload, 1) := dk_46 (dk_at dksX10_told_0 17 rfl rfl)
theorem dX10_told_18 : decode cX10_told 18 = .ok (.goto 8, 3) := dk_167 0 8 (dk_at dksX10_told_0 18 rfl rfl)
theorem dX10_told_21 : decode cX10_told 21 = .ok (.aload_n 0, 1) := dk_42 (dk_at dksX10_told_0 21 rfl rfl)
theorem dX10_told_22 : decode cX10_told 22 = .ok (.iconst 1, 1) := dk_4 (dk_at dksX10_told_0 22 rfl rfl)
theorem dX10_told_23 : decode cX10_told 23 = .ok (.invokevirtual 204, 3) := dk_182 0 204 (dk_at dksX10_told_1 0 rfl rfl)
theorem dX10_told_26 : decode cX10_told 26 = .ok (.ireturn, 1) := dk_172 (dk_at dksX10_told_1 3 rfl rfl)
theorem q101 : (Jvm.Cond.initialized "RoomTreesModel") ∈ lw_all := lw_g (lw_at lw_m1 14 rfl) rfl
theorem q1130 : (Jvm.Cond.selects "RoomTreesModel" ({ cls := "java/lang/Object", name := "getClass", desc := "()Ljava/lang/Class;" } : Jvm.MethodName) ({ cls := "java/lang/Object", name := "getClass", desc := "()Ljava/lang/Class;" } : Jvm.MethodName)) ∈ lw_all := lw_g (lw_at lw_m5 83 rfl) rfl
theorem q1868 : (Jvm.Cond.instantiable "RoomTreesModel" (40 : Nat)) ∈ lw_all := lw_g (lw_at lw_m8 101 rfl) rfl
theorem q1870 : (Jvm.Cond.instanceMethod ({ cls := "RoomTreesModel", name := "<init>", desc := "()V" } : Jvm.MethodName)) ∈ lw_all := lw_g (lw_at lw_m8 103 rfl) rfl
theorem q1871 : (Jvm.Cond.code ({ cls := "RoomTreesModel", name := "<init>", desc := "()V" } : Jvm.MethodName) prog_26_method_1_code (1 : Nat) (Option.none : Option Jvm.ClassFile.FieldType)) ∈ lw_all := lw_g (lw_at lw_m8 104 rfl) rfl
theorem q1872 : (Jvm.Cond.methodLink "RoomTreesModel" (1 : Nat) ({ cls := "java/lang/Object", name := "<init>", desc := "()V" } : Jvm.MethodName)) ∈ lw_all := lw_g (lw_at lw_m8 105 rfl) rfl
theorem q1873 : (Jvm.Cond.classLink "RoomTreesModel" (16 : Nat) "[[I") ∈ lw_all := lw_g (lw_at lw_m8 106 rfl) rfl
theorem q1875 : (Jvm.Cond.fieldLink "RoomTreesModel" (7 : Nat) "RoomTreesModel" "errors" "[I") ∈ lw_all := lw_g (lw_at lw_m8 108 rfl) rfl
theorem q1876 : (Jvm.Cond.fieldLink "RoomTreesModel" (13 : Nat) "RoomTreesModel" "f" "[I") ∈ lw_all := lw_g (lw_at lw_m8 109 rfl) rfl
theorem q1877 : (Jvm.Cond.fieldLink "RoomTreesModel" (18 : Nat) "RoomTreesModel" "past" "[[I") ∈ lw_all := lw_g (lw_at lw_m8 110 rfl) rfl
theorem q1878 : (Jvm.Cond.fieldLink "RoomTreesModel" (21 : Nat) "RoomTreesModel" "deeds" "[I") ∈ lw_all := lw_g (lw_at lw_m8 111 rfl) rfl
theorem q1879 : (Jvm.Cond.fieldLink "RoomTreesModel" (181 : Nat) "RoomTreesModel" "done" "I") ∈ lw_all := lw_g (lw_at lw_m8 112 rfl) rfl
theorem q1880 : (Jvm.Cond.fieldLink "RoomTreesModel" (185 : Nat) "RoomTreesModel" "all" "I") ∈ lw_all := lw_g (lw_at lw_m8 113 rfl) rfl
theorem q1881 : (Jvm.Cond.fieldLink "RoomTreesModel" (24 : Nat) "RoomTreesModel" "minors" "[J") ∈ lw_all := lw_g (lw_at lw_m8 114 rfl) rfl
theorem q1882 : (Jvm.Cond.fieldLink "RoomTreesModel" (28 : Nat) "RoomTreesModel" "sums" "[J") ∈ lw_all := lw_g (lw_at lw_m8 115 rfl) rfl
theorem q1883 : (Jvm.Cond.fieldLink "RoomTreesModel" (31 : Nat) "RoomTreesModel" "terms" "[J") ∈ lw_all := lw_g (lw_at lw_m8 116 rfl) rfl
theorem q1884 : (Jvm.Cond.fieldLink "RoomTreesModel" (34 : Nat) "RoomTreesModel" "rows" "[[I") ∈ lw_all := lw_g (lw_at lw_m8 117 rfl) rfl
theorem q1885 : (Jvm.Cond.fieldLink "RoomTreesModel" (37 : Nat) "RoomTreesModel" "tape" "[I") ∈ lw_all := lw_g (lw_at lw_m8 118 rfl) rfl
theorem q1886 : (Jvm.Cond.fieldLink "RoomTreesModel" (330 : Nat) "RoomTreesModel" "taped" "I") ∈ lw_all := lw_g (lw_at lw_m8 119 rfl) rfl
theorem q1887 : (Jvm.Cond.fieldLink "RoomTreesModel" (335 : Nat) "RoomTreesModel" "at" "I") ∈ lw_all := lw_g (lw_at lw_m8 120 rfl) rfl
theorem q1888 : (Jvm.Cond.fieldLink "RoomTreesModel" (351 : Nat) "RoomTreesModel" "isWrong" "Z") ∈ lw_all := lw_g (lw_at lw_m8 121 rfl) rfl
theorem q1889 : (Jvm.Cond.fieldLink "RoomTreesModel" (40 : Nat) "RoomTreesModel" "read" "[I") ∈ lw_all := lw_g (lw_at lw_m8 122 rfl) rfl
theorem q1890 : (Jvm.Cond.fieldLink "RoomTreesModel" (43 : Nat) "RoomTreesModel" "open" "[I") ∈ lw_all := lw_g (lw_at lw_m8 123 rfl) rfl
theorem q1891 : (Jvm.Cond.fieldLink "RoomTreesModel" (46 : Nat) "RoomTreesModel" "hang" "[[I") ∈ lw_all := lw_g (lw_at lw_m8 124 rfl) rfl
theorem q1892 : (Jvm.Cond.fieldLink "RoomTreesModel" (49 : Nat) "RoomTreesModel" "hangs" "[I") ∈ lw_all := lw_g (lw_at lw_m8 125 rfl) rfl
theorem q1893 : (Jvm.Cond.fieldLink "RoomTreesModel" (52 : Nat) "RoomTreesModel" "best" "[[I") ∈ lw_all := lw_g (lw_at lw_m8 126 rfl) rfl
theorem q1894 : (Jvm.Cond.fieldLink "RoomTreesModel" (55 : Nat) "RoomTreesModel" "bests" "[I") ∈ lw_all := lw_g (lw_at lw_m8 127 rfl) rfl
theorem q1895 : (Jvm.Cond.fieldLink "RoomTreesModel" (58 : Nat) "RoomTreesModel" "text" "[I") ∈ lw_all := lw_g (lw_at lw_m8 128 rfl) rfl
theorem q1896 : (Jvm.Cond.fieldLink "RoomTreesModel" (378 : Nat) "RoomTreesModel" "texted" "I") ∈ lw_all := lw_g (lw_at lw_m8 129 rfl) rfl
theorem q1897 : (Jvm.Cond.fieldLink "RoomTreesModel" (61 : Nat) "RoomTreesModel" "shelves" "[[I") ∈ lw_all := lw_g (lw_at lw_m8 130 rfl) rfl
theorem q1898 : (Jvm.Cond.fieldLink "RoomTreesModel" (64 : Nat) "RoomTreesModel" "isHeld" "[Z") ∈ lw_all := lw_g (lw_at lw_m8 131 rfl) rfl
theorem q1899 : (Jvm.Cond.fieldLink "RoomTreesModel" (68 : Nat) "RoomTreesModel" "due" "[I") ∈ lw_all := lw_g (lw_at lw_m8 132 rfl) rfl
theorem q1900 : (Jvm.Cond.fieldLink "RoomTreesModel" (388 : Nat) "RoomTreesModel" "dues" "I") ∈ lw_all := lw_g (lw_at lw_m8 133 rfl) rfl
theorem q1901 : (Jvm.Cond.fieldLink "RoomTreesModel" (71 : Nat) "RoomTreesModel" "workers" "[I") ∈ lw_all := lw_g (lw_at lw_m8 134 rfl) rfl
theorem q1902 : (Jvm.Cond.fieldLink "RoomTreesModel" (398 : Nat) "RoomTreesModel" "hired" "I") ∈ lw_all := lw_g (lw_at lw_m8 135 rfl) rfl
theorem q1903 : (Jvm.Cond.fieldLink "RoomTreesModel" (74 : Nat) "RoomTreesModel" "thought" "[[I") ∈ lw_all := lw_g (lw_at lw_m8 136 rfl) rfl
theorem q1904 : (Jvm.Cond.fieldLink "RoomTreesModel" (424 : Nat) "RoomTreesModel" "fewestLeft" "I") ∈ lw_all := lw_g (lw_at lw_m8 137 rfl) rfl
theorem q1905 : (Jvm.Cond.fieldLink "RoomTreesModel" (427 : Nat) "RoomTreesModel" "fewestMoves" "I") ∈ lw_all := lw_g (lw_at lw_m8 138 rfl) rfl
theorem q1906 : (Jvm.Cond.fieldLink "RoomTreesModel" (430 : Nat) "RoomTreesModel" "fewestFirst" "I") ∈ lw_all := lw_g (lw_at lw_m8 139 rfl) rfl
theorem q1907 : (Jvm.Cond.fieldLink "RoomTreesModel" (77 : Nat) "RoomTreesModel" "bitsOf" "[I") ∈ lw_all := lw_g (lw_at lw_m8 140 rfl) rfl
theorem q1908 : (Jvm.Cond.fieldLink "RoomTreesModel" (80 : Nat) "RoomTreesModel" "sizeOf" "[I") ∈ lw_all := lw_g (lw_at lw_m8 141 rfl) rfl
theorem q1909 : (Jvm.Cond.fieldLink "RoomTreesModel" (83 : Nat) "RoomTreesModel" "numbers" "[I") ∈ lw_all := lw_g (lw_at lw_m8 142 rfl) rfl
theorem q1910 : (Jvm.Cond.fieldLink "RoomTreesModel" (86 : Nat) "RoomTreesModel" "passing" "[I") ∈ lw_all := lw_g (lw_at lw_m8 143 rfl) rfl
theorem q1911 : (Jvm.Cond.fieldLink "RoomTreesModel" (89 : Nat) "RoomTreesModel" "kept" "[I") ∈ lw_all := lw_g (lw_at lw_m8 144 rfl) rfl
theorem q1912 : (Jvm.Cond.fieldLink "RoomTreesModel" (92 : Nat) "RoomTreesModel" "keptWorkers" "[I") ∈ lw_all := lw_g (lw_at lw_m8 145 rfl) rfl
theorem q1913 : (Jvm.Cond.fieldLink "RoomTreesModel" (452 : Nat) "RoomTreesModel" "keptHired" "I") ∈ lw_all := lw_g (lw_at lw_m8 146 rfl) rfl
theorem q1914 : (Jvm.Cond.fieldLink "RoomTreesModel" (455 : Nat) "RoomTreesModel" "isKept" "Z") ∈ lw_all := lw_g (lw_at lw_m8 147 rfl) rfl
theorem q1915 : (Jvm.Cond.laysFinal "RoomTreesModel" "RoomTreesModel" "errors" "[I") ∈ lw_all := lw_g (lw_at lw_m8 148 rfl) rfl
theorem q1916 : (Jvm.Cond.soleField "RoomTreesModel" "errors") ∈ lw_all := lw_g (lw_at lw_m8 149 rfl) rfl
theorem q1917 : (Jvm.Cond.laysFinal "RoomTreesModel" "RoomTreesModel" "f" "[I") ∈ lw_all := lw_g (lw_at lw_m8 150 rfl) rfl
theorem q1918 : (Jvm.Cond.soleField "RoomTreesModel" "f") ∈ lw_all := lw_g (lw_at lw_m8 151 rfl) rfl
theorem q1919 : (Jvm.Cond.laysFinal "RoomTreesModel" "RoomTreesModel" "past" "[[I") ∈ lw_all := lw_g (lw_at lw_m8 152 rfl) rfl
theorem q1920 : (Jvm.Cond.soleField "RoomTreesModel" "past") ∈ lw_all := lw_g (lw_at lw_m8 153 rfl) rfl
theorem q1921 : (Jvm.Cond.laysFinal "RoomTreesModel" "RoomTreesModel" "deeds" "[I") ∈ lw_all := lw_g (lw_at lw_m8 154 rfl) rfl
theorem q1922 : (Jvm.Cond.soleField "RoomTreesModel" "deeds") ∈ lw_all := lw_g (lw_at lw_m8 155 rfl) rfl
theorem q1923 : (Jvm.Cond.lays "RoomTreesModel" "RoomTreesModel" "done" "I") ∈ lw_all := lw_g (lw_at lw_m8 156 rfl) rfl
theorem q1924 : (Jvm.Cond.soleField "RoomTreesModel" "done") ∈ lw_all := lw_g (lw_at lw_m8 157 rfl) rfl
theorem q1925 : (Jvm.Cond.lays "RoomTreesModel" "RoomTreesModel" "all" "I") ∈ lw_all := lw_g (lw_at lw_m8 158 rfl) rfl
theorem q1926 : (Jvm.Cond.soleField "RoomTreesModel" "all") ∈ lw_all := lw_g (lw_at lw_m8 159 rfl) rfl
theorem q1927 : (Jvm.Cond.laysFinal "RoomTreesModel" "RoomTreesModel" "minors" "[J") ∈ lw_all := lw_g (lw_at lw_m8 160 rfl) rfl
theorem q1928 : (Jvm.Cond.soleField "RoomTreesModel" "minors") ∈ lw_all := lw_g (lw_at lw_m8 161 rfl) rfl
theorem q1929 : (Jvm.Cond.laysFinal "RoomTreesModel" "RoomTreesModel" "sums" "[J") ∈ lw_all := lw_g (lw_at lw_m8 162 rfl) rfl
theorem q1930 : (Jvm.Cond.soleField "RoomTreesModel" "sums") ∈ lw_all := lw_g (lw_at lw_m8 163 rfl) rfl
theorem q1931 : (Jvm.Cond.laysFinal "RoomTreesModel" "RoomTreesModel" "terms" "[J") ∈ lw_all := lw_g (lw_at lw_m8 164 rfl) rfl
theorem q1932 : (Jvm.Cond.soleField "RoomTreesModel" "terms") ∈ lw_all := lw_g (lw_at lw_m8 165 rfl) rfl
theorem q1933 : (Jvm.Cond.laysFinal "RoomTreesModel" "RoomTreesModel" "rows" "[[I") ∈ lw_all := lw_g (lw_at lw_m8 166 rfl) rfl
theorem q1934 : (Jvm.Cond.soleField "RoomTreesModel" "rows") ∈ lw_all := lw_g (lw_at lw_m8 167 rfl) rfl
theorem q1935 : (Jvm.Cond.laysFinal "RoomTreesModel" "RoomTreesModel" "tape" "[I") ∈ lw_all := lw_g (lw_at lw_m8 168 rfl) rfl
theorem q1936 : (Jvm.Cond.soleField "RoomTreesModel" "tape") ∈ lw_all := lw_g (lw_at lw_m8 169 rfl) rfl
theorem q1937 : (Jvm.Cond.lays "RoomTreesModel" "RoomTreesModel" "taped" "I") ∈ lw_all := lw_g (lw_at lw_m8 170 rfl) rfl
theorem q1938 : (Jvm.Cond.soleField "RoomTreesModel" "taped") ∈ lw_all := lw_g (lw_at lw_m8 171 rfl) rfl
theorem q1939 : (Jvm.Cond.lays "RoomTreesModel" "RoomTreesModel" "at" "I") ∈ lw_all := lw_g (lw_at lw_m8 172 rfl) rfl
theorem q1940 : (Jvm.Cond.soleField "RoomTreesModel" "at") ∈ lw_all := lw_g (lw_at lw_m8 173 rfl) rfl
theorem q1941 : (Jvm.Cond.lays "RoomTreesModel" "RoomTreesModel" "isWrong" "Z") ∈ lw_all := lw_g (lw_at lw_m8 174 rfl) rfl
theorem q1942 : (Jvm.Cond.soleField "RoomTreesModel" "isWrong") ∈ lw_all := lw_g (lw_at lw_m8 175 rfl) rfl
theorem q1943 : (Jvm.Cond.laysFinal "RoomTreesModel" "RoomTreesModel" "read" "[I") ∈ lw_all := lw_g (lw_at lw_m8 176 rfl) rfl
theorem q1944 : (Jvm.Cond.soleField "RoomTreesModel" "read") ∈ lw_all := lw_g (lw_at lw_m8 177 rfl) rfl
theorem q1945 : (Jvm.Cond.laysFinal "RoomTreesModel" "RoomTreesModel" "open" "[I") ∈ lw_all := lw_g (lw_at lw_m8 178 rfl) rfl
theorem q1946 : (Jvm.Cond.soleField "RoomTreesModel" "open") ∈ lw_all := lw_g (lw_at lw_m8 179 rfl) rfl
theorem q1947 : (Jvm.Cond.laysFinal "RoomTreesModel" "RoomTreesModel" "hang" "[[I") ∈ lw_all := lw_g (lw_at lw_m8 180 rfl) rfl
theorem q1948 : (Jvm.Cond.soleField "RoomTreesModel" "hang") ∈ lw_all := lw_g (lw_at lw_m8 181 rfl) rfl
theorem q1949 : (Jvm.Cond.laysFinal "RoomTreesModel" "RoomTreesModel" "hangs" "[I") ∈ lw_all := lw_g (lw_at lw_m8 182 rfl) rfl
theorem q1950 : (Jvm.Cond.soleField "RoomTreesModel" "hangs") ∈ lw_all := lw_g (lw_at lw_m8 183 rfl) rfl
theorem q1951 : (Jvm.Cond.laysFinal "RoomTreesModel" "RoomTreesModel" "best" "[[I") ∈ lw_all := lw_g (lw_at lw_m8 184 rfl) rfl
theorem q1952 : (Jvm.Cond.soleField "RoomTreesModel" "best") ∈ lw_all := lw_g (lw_at lw_m8 185 rfl) rfl
theorem q1953 : (Jvm.Cond.laysFinal "RoomTreesModel" "RoomTreesModel" "bests" "[I") ∈ lw_all := lw_g (lw_at lw_m8 186 rfl) rfl
theorem q1954 : (Jvm.Cond.soleField "RoomTreesModel" "bests") ∈ lw_all := lw_g (lw_at lw_m8 187 rfl) rfl
theorem q1955 : (Jvm.Cond.laysFinal "RoomTreesModel" "RoomTreesModel" "text" "[I") ∈ lw_all := lw_g (lw_at lw_m8 188 rfl) rfl
theorem q1956 : (Jvm.Cond.soleField "RoomTreesModel" "text") ∈ lw_all := lw_g (lw_at lw_m8 189 rfl) rfl
theorem q1957 : (Jvm.Cond.lays "RoomTreesModel" "RoomTreesModel" "texted" "I") ∈ lw_all := lw_g (lw_at lw_m8 190 rfl) rfl
theorem q1958 : (Jvm.Cond.soleField "RoomTreesModel" "texted") ∈ lw_all := lw_g (lw_at lw_m8 191 rfl) rfl
theorem q1959 : (Jvm.Cond.laysFinal "RoomTreesModel" "RoomTreesModel" "shelves" "[[I") ∈ lw_all := lw_g (lw_at lw_m8 192 rfl) rfl
theorem q1960 : (Jvm.Cond.soleField "RoomTreesModel" "shelves") ∈ lw_all := lw_g (lw_at lw_m8 193 rfl) rfl
theorem q1961 : (Jvm.Cond.laysFinal "RoomTreesModel" "RoomTreesModel" "isHeld" "[Z") ∈ lw_all := lw_g (lw_at lw_m8 194 rfl) rfl
theorem q1962 : (Jvm.Cond.soleField "RoomTreesModel" "isHeld") ∈ lw_all := lw_g (lw_at lw_m8 195 rfl) rfl
theorem q1963 : (Jvm.Cond.laysFinal "RoomTreesModel" "RoomTreesModel" "due" "[I") ∈ lw_all := lw_g (lw_at lw_m8 196 rfl) rfl
theorem q1964 : (Jvm.Cond.soleField "RoomTreesModel" "due") ∈ lw_all := lw_g (lw_at lw_m8 197 rfl) rfl
theorem q1965 : (Jvm.Cond.lays "RoomTreesModel" "RoomTreesModel" "dues" "I") ∈ lw_all := lw_g (lw_at lw_m8 198 rfl) rfl
theorem q1966 : (Jvm.Cond.soleField "RoomTreesModel" "dues") ∈ lw_all := lw_g (lw_at lw_m8 199 rfl) rfl
theorem q1967 : (Jvm.Cond.laysFinal "RoomTreesModel" "RoomTreesModel" "workers" "[I") ∈ lw_all := lw_g (lw_at lw_m8 200 rfl) rfl
theorem q1968 : (Jvm.Cond.soleField "RoomTreesModel" "workers") ∈ lw_all := lw_g (lw_at lw_m8 201 rfl) rfl
theorem q1969 : (Jvm.Cond.lays "RoomTreesModel" "RoomTreesModel" "hired" "I") ∈ lw_all := lw_g (lw_at lw_m8 202 rfl) rfl
theorem q1970 : (Jvm.Cond.soleField "RoomTreesModel" "hired") ∈ lw_all := lw_g (lw_at lw_m8 203 rfl) rfl
theorem q1971 : (Jvm.Cond.laysFinal "RoomTreesModel" "RoomTreesModel" "thought" "[[I") ∈ lw_all := lw_g (lw_at lw_m8 204 rfl) rfl
theorem q1972 : (Jvm.Cond.soleField "RoomTreesModel" "thought") ∈ lw_all := lw_g (lw_at lw_m8 205 rfl) rfl
theorem q1973 : (Jvm.Cond.lays "RoomTreesModel" "RoomTreesModel" "fewestLeft" "I") ∈ lw_all := lw_g (lw_at lw_m8 206 rfl) rfl
theorem q1974 : (Jvm.Cond.soleField "RoomTreesModel" "fewestLeft") ∈ lw_all := lw_g (lw_at lw_m8 207 rfl) rfl
theorem q1975 : (Jvm.Cond.lays "RoomTreesModel" "RoomTreesModel" "fewestMoves" "I") ∈ lw_all := lw_g (lw_at lw_m8 208 rfl) rfl
theorem q1976 : (Jvm.Cond.soleField "RoomTreesModel" "fewestMoves") ∈ lw_all := lw_g (lw_at lw_m8 209 rfl) rfl
theorem q1977 : (Jvm.Cond.lays "RoomTreesModel" "RoomTreesModel" "fewestFirst" "I") ∈ lw_all := lw_g (lw_at lw_m8 210 rfl) rfl
theorem q1978 : (Jvm.Cond.soleField "RoomTreesModel" "fewestFirst") ∈ lw_all := lw_g (lw_at lw_m8 211 rfl) rfl
theorem q1979 : (Jvm.Cond.laysFinal "RoomTreesModel" "RoomTreesModel" "bitsOf" "[I") ∈ lw_all := lw_g (lw_at lw_m8 212 rfl) rfl
theorem q1980 : (Jvm.Cond.soleField "RoomTreesModel" "bitsOf") ∈ lw_all := lw_g (lw_at lw_m8 213 rfl) rfl
theorem q1981 : (Jvm.Cond.laysFinal "RoomTreesModel" "RoomTreesModel" "sizeOf" "[I") ∈ lw_all := lw_g (lw_at lw_m8 214 rfl) rfl
theorem q1982 : (Jvm.Cond.soleField "RoomTreesModel" "sizeOf") ∈ lw_all := lw_g (lw_at lw_m8 215 rfl) rfl
theorem q1983 : (Jvm.Cond.laysFinal "RoomTreesModel" "RoomTreesModel" "numbers" "[I") ∈ lw_all := lw_g (lw_at lw_m8 216 rfl) rfl
theorem q1984 : (Jvm.Cond.soleField "RoomTreesModel" "numbers") ∈ lw_all := lw_g (lw_at lw_m8 217 rfl) rfl
theorem q1985 : (Jvm.Cond.laysFinal "RoomTreesModel" "RoomTreesModel" "passing" "[I") ∈ lw_all := lw_g (lw_at lw_m8 218 rfl) rfl
theorem q1986 : (Jvm.Cond.soleField "RoomTreesModel" "passing") ∈ lw_all := lw_g (lw_at lw_m8 219 rfl) rfl
theorem q1987 : (Jvm.Cond.laysFinal "RoomTreesModel" "RoomTreesModel" "kept" "[I") ∈ lw_all := lw_g (lw_at lw_m8 220 rfl) rfl
theorem q1988 : (Jvm.Cond.soleField "RoomTreesModel" "kept") ∈ lw_all := lw_g (lw_at lw_m8 221 rfl) rfl
theorem q1989 : (Jvm.Cond.laysFinal "RoomTreesModel" "RoomTreesModel" "keptWorkers" "[I") ∈ lw_all := lw_g (lw_at lw_m8 222 rfl) rfl
theorem q1990 : (Jvm.Cond.soleField "RoomTreesModel" "keptWorkers") ∈ lw_all := lw_g (lw_at lw_m8 223 rfl) rfl
theorem q1991 : (Jvm.Cond.lays "RoomTreesModel" "RoomTreesModel" "keptHired" "I") ∈ lw_all := lw_g (lw_at lw_m8 224 rfl) rfl
theorem q1992 : (Jvm.Cond.soleField "RoomTreesModel" "keptHired") ∈ lw_all := lw_g (lw_at lw_m8 225 rfl) rfl
theorem q1993 : (Jvm.Cond.lays "RoomTreesModel" "RoomTreesModel" "isKept" "Z") ∈ lw_all := lw_g (lw_at lw_m8 226 rfl) rfl
theorem q1994 : (Jvm.Cond.soleField "RoomTreesModel" "isKept") ∈ lw_all := lw_g (lw_at lw_m8 227 rfl) rfl
theorem q1995 : (Jvm.Cond.superclass "RoomTreesModel" "java/lang/Object") ∈ lw_all := lw_g (lw_at lw_m8 228 rfl) rfl
theorem q1997 : (Jvm.Cond.instanceMethod ({ cls := "RoomTreesModel", name := "move", desc := "(IIIII)I" } : Jvm.MethodName)) ∈ lw_all := lw_g (lw_at lw_m8 230 rfl) rfl
theorem q1998 : (Jvm.Cond.selects "RoomTreesModel" ({ cls := "RoomTreesModel", name := "move", desc := "(IIIII)I" } : Jvm.MethodName) ({ cls := "RoomTreesModel", name := "move", desc := "(IIIII)I" } : Jvm.MethodName)) ∈ lw_all := lw_g (lw_at lw_m8 231 rfl) rfl
theorem q1999 : (Jvm.Cond.code ({ cls := "RoomTreesModel", name := "move", desc := "(IIIII)I" } : Jvm.MethodName) prog_26_method_32_code (7 : Nat) (Option.some Jvm.ClassFile.FieldType.int)) ∈ lw_all := lw_g (lw_at lw_m8 232 rfl) rfl
theorem q2000 : (Jvm.Cond.methodLink "RoomTreesModel" (200 : Nat) ({ cls := "RoomTreesModel", name := "refused", desc := "([IIIIII)I" } : Jvm.MethodName)) ∈ lw_all := lw_g (lw_at lw_m8 233 rfl) rfl
theorem q2001 : (Jvm.Cond.static ({ cls := "RoomTreesModel", name := "refused", desc := "([IIIIII)I" } : Jvm.MethodName)) ∈ lw_all := lw_g (lw_at lw_m8 234 rfl) rfl
theorem q2002 : (Jvm.Cond.code ({ cls := "RoomTreesModel", name := "refused", desc := "([IIIIII)I" } : Jvm.MethodName) prog_26_method_23_code (6 : Nat) (Option.some Jvm.ClassFile.FieldType.int)) ∈ lw_all := lw_g (lw_at lw_m8 235 rfl) rfl
theorem q2003 : (Jvm.Cond.methodLink "RoomTreesModel" (139 : Nat) ({ cls := "RoomTreesModel", name := "isAsTold", desc := "([IIIIII)Z" } : Jvm.MethodName)) ∈ lw_all := lw_g (lw_at lw_m8 236 rfl) rfl
theorem q2004 : (Jvm.Cond.static ({ cls := "RoomTreesModel", name := "isAsTold", desc := "([IIIIII)Z" } : Jvm.MethodName)) ∈ lw_all := lw_g (lw_at lw_m8 237 rfl) rfl
theorem q2005 : (Jvm.Cond.code ({ cls := "RoomTreesModel", name := "isAsTold", desc := "([IIIIII)Z" } : Jvm.MethodName) prog_26_method_19_code (6 : Nat) (Option.some Jvm.ClassFile.FieldType.boolean)) ∈ lw_all := lw_g (lw_at lw_m8 238 rfl) rfl
theorem q2006 : (Jvm.Cond.constantLong "RoomTreesModel" (122 : Nat) (7 : Int64)) ∈ lw_all := lw_g (lw_at lw_m8 239 rfl) rfl
theorem q2007 : (Jvm.Cond.methodLink "RoomTreesModel" (102 : Nat) ({ cls := "RoomTreesModel", name := "in", desc := "(JJJ)Z" } : Jvm.MethodName)) ∈ lw_all := lw_g (lw_at lw_m9 0 rfl) rfl
theorem q2008 : (Jvm.Cond.static ({ cls := "RoomTreesModel", name := "in", desc := "(JJJ)Z" } : Jvm.MethodName)) ∈ lw_all := lw_g (lw_at lw_m9 1 rfl) rfl
theorem q2009 : (Jvm.Cond.code ({ cls := "RoomTreesModel", name := "in", desc := "(JJJ)Z" } : Jvm.MethodName) prog_26_method_2_code (6 : Nat) (Option.some Jvm.ClassFile.FieldType.boolean)) ∈ lw_all := lw_g (lw_at lw_m9 2 rfl) rfl
theorem q2010 : (Jvm.Cond.methodLink "RoomTreesModel" (106 : Nat) ({ cls := "RoomTreesModel", name := "isThere", desc := "([II)Z" } : Jvm.MethodName)) ∈ lw_all := lw_g (lw_at lw_m9 3 rfl) rfl
theorem q2011 : (Jvm.Cond.static ({ cls := "RoomTreesModel", name := "isThere", desc := "([II)Z" } : Jvm.MethodName)) ∈ lw_all := lw_g (lw_at lw_m9 4 rfl) rfl
theorem q2012 : (Jvm.Cond.code ({ cls := "RoomTreesModel", name := "isThere", desc := "([II)Z" } : Jvm.MethodName) prog_26_method_8_code (2 : Nat) (Option.some Jvm.ClassFile.FieldType.boolean)) ∈ lw_all := lw_g (lw_at lw_m9 5 rfl) rfl
theorem q2013 : (Jvm.Cond.constantLong "RoomTreesModel" (100 : Nat) (11 : Int64)) ∈ lw_all := lw_g (lw_at lw_m9 6 rfl) rfl
theorem q2014 : (Jvm.Cond.methodLink "RoomTreesModel" (96 : Nat) ({ cls := "RoomTreesModel", name := "has", desc := "(II)Z" } : Jvm.MethodName)) ∈ lw_all := lw_g (lw_at lw_m9 7 rfl) rfl
theorem q2015 : (Jvm.Cond.static ({ cls := "RoomTreesModel", name := "has", desc := "(II)Z" } : Jvm.MethodName)) ∈ lw_all := lw_g (lw_at lw_m9 8 rfl) rfl
theorem q2016 : (Jvm.Cond.code ({ cls := "RoomTreesModel", name := "has", desc := "(II)Z" } : Jvm.MethodName) prog_26_method_5_code (2 : Nat) (Option.some Jvm.ClassFile.FieldType.boolean)) ∈ lw_all := lw_g (lw_at lw_m9 9 rfl) rfl
theorem q2017 : (Jvm.Cond.constantLong "RoomTreesModel" (124 : Nat) (3 : Int64)) ∈ lw_all := lw_g (lw_at lw_m9 10 rfl) rfl
theorem q2018 : (Jvm.Cond.methodLink "RoomTreesModel" (126 : Nat) ({ cls := "RoomTreesModel", name := "isWeight", desc := "(I)Z" } : Jvm.MethodName)) ∈ lw_all := lw_g (lw_at lw_m9 11 rfl) rfl
theorem q2019 : (Jvm.Cond.static ({ cls := "RoomTreesModel", name := "isWeight", desc := "(I)Z" } : Jvm.MethodName)) ∈ lw_all := lw_g (lw_at lw_m9 12 rfl) rfl
theorem q2020 : (Jvm.Cond.code ({ cls := "RoomTreesModel", name := "isWeight", desc := "(I)Z" } : Jvm.MethodName) prog_26_method_10_code (1 : Nat) (Option.some Jvm.ClassFile.FieldType.boolean)) ∈ lw_all := lw_g (lw_at lw_m9 13 rfl) rfl
theorem q2021 : (Jvm.Cond.constantLong "RoomTreesModel" (110 : Nat) (-30 : Int64)) ∈ lw_all := lw_g (lw_at lw_m9 14 rfl) rfl
theorem q2022 : (Jvm.Cond.constantLong "RoomTreesModel" (112 : Nat) (30 : Int64)) ∈ lw_all := lw_g (lw_at lw_m9 15 rfl) rfl
theorem q2023 : (Jvm.Cond.methodLink "RoomTreesModel" (143 : Nat) ({ cls := "RoomTreesModel", name := "canBe", desc := "([IIII)Z" } : Jvm.MethodName)) ∈ lw_all := lw_g (lw_at lw_m9 16 rfl) rfl
theorem q2024 : (Jvm.Cond.static ({ cls := "RoomTreesModel", name := "canBe", desc := "([IIII)Z" } : Jvm.MethodName)) ∈ lw_all := lw_g (lw_at lw_m9 17 rfl) rfl
theorem q2025 : (Jvm.Cond.code ({ cls := "RoomTreesModel", name := "canBe", desc := "([IIII)Z" } : Jvm.MethodName) prog_26_method_20_code (6 : Nat) (Option.some Jvm.ClassFile.FieldType.boolean)) ∈ lw_all := lw_g (lw_at lw_m9 18 rfl) rfl
theorem q2026 : (Jvm.Cond.methodLink "RoomTreesModel" (130 : Nat) ({ cls := "RoomTreesModel", name := "many", desc := "(I)I" } : Jvm.MethodName)) ∈ lw_all := lw_g (lw_at lw_m9 19 rfl) rfl
theorem q2027 : (Jvm.Cond.static ({ cls := "RoomTreesModel", name := "many", desc := "(I)I" } : Jvm.MethodName)) ∈ lw_all := lw_g (lw_at lw_m9 20 rfl) rfl
theorem q2028 : (Jvm.Cond.code ({ cls := "RoomTreesModel", name := "many", desc := "(I)I" } : Jvm.MethodName) prog_26_method_6_code (3 : Nat) (Option.some Jvm.ClassFile.FieldType.int)) ∈ lw_all := lw_g (lw_at lw_m9 21 rfl) rfl
theorem q2029 : (Jvm.Cond.methodLink "RoomTreesModel" (147 : Nat) ({ cls := "RoomTreesModel", name := "room", desc := "(I)I" } : Jvm.MethodName)) ∈ lw_all := lw_g (lw_at lw_m9 22 rfl) rfl
theorem q2030 : (Jvm.Cond.static ({ cls := "RoomTreesModel", name := "room", desc := "(I)I" } : Jvm.MethodName)) ∈ lw_all := lw_g (lw_at lw_m9 23 rfl) rfl
theorem q2031 : (Jvm.Cond.code ({ cls := "RoomTreesModel", name := "room", desc := "(I)I" } : Jvm.MethodName) prog_26_method_21_code (1 : Nat) (Option.some Jvm.ClassFile.FieldType.int)) ∈ lw_all := lw_g (lw_at lw_m9 24 rfl) rfl
theorem q2032 : (Jvm.Cond.methodLink "RoomTreesModel" (150 : Nat) ({ cls := "RoomTreesModel", name := "isLight", desc := "([IIIII)Z" } : Jvm.MethodName)) ∈ lw_all := lw_g (lw_at lw_m9 25 rfl) rfl
theorem q2033 : (Jvm.Cond.static ({ cls := "RoomTreesModel", name := "isLight", desc := "([IIIII)Z" } : Jvm.MethodName)) ∈ lw_all := lw_g (lw_at lw_m9 26 rfl) rfl
theorem q2034 : (Jvm.Cond.code ({ cls := "RoomTreesModel", name := "isLight", desc := "([IIIII)Z" } : Jvm.MethodName) prog_26_method_22_code (7 : Nat) (Option.some Jvm.ClassFile.FieldType.boolean)) ∈ lw_all := lw_g (lw_at lw_m9 27 rfl) rfl
theorem q2035 : (Jvm.Cond.methodLink "RoomTreesModel" (133 : Nat) ({ cls := "RoomTreesModel", name := "lightest", desc := "([II)I" } : Jvm.MethodName)) ∈ lw_all := lw_g (lw_at lw_m9 28 rfl) rfl
theorem q2036 : (Jvm.Cond.static ({ cls := "RoomTreesModel", name := "lightest", desc := "([II)I" } : Jvm.MethodName)) ∈ lw_all := lw_g (lw_at lw_m9 29 rfl) rfl
theorem q2037 : (Jvm.Cond.code ({ cls := "RoomTreesModel", name := "lightest", desc := "([II)I" } : Jvm.MethodName) prog_26_method_17_code (2 : Nat) (Option.some Jvm.ClassFile.FieldType.int)) ∈ lw_all := lw_g (lw_at lw_m9 30 rfl) rfl
theorem q2038 : (Jvm.Cond.methodLink "RoomTreesModel" (114 : Nat) ({ cls := "RoomTreesModel", name := "lowest", desc := "(I)I" } : Jvm.MethodName)) ∈ lw_all := lw_g (lw_at lw_m9 31 rfl) rfl
theorem q2039 : (Jvm.Cond.static ({ cls := "RoomTreesModel", name := "lowest", desc := "(I)I" } : Jvm.MethodName)) ∈ lw_all := lw_g (lw_at lw_m9 32 rfl) rfl
theorem q2040 : (Jvm.Cond.code ({ cls := "RoomTreesModel", name := "lowest", desc := "(I)I" } : Jvm.MethodName) prog_26_method_7_code (2 : Nat) (Option.some Jvm.ClassFile.FieldType.int)) ∈ lw_all := lw_g (lw_at lw_m9 33 rfl) rfl
theorem q2041 : (Jvm.Cond.methodLink "RoomTreesModel" (136 : Nat) ({ cls := "RoomTreesModel", name := "other", desc := "([II)I" } : Jvm.MethodName)) ∈ lw_all := lw_g (lw_at lw_m9 34 rfl) rfl
theorem q2042 : (Jvm.Cond.static ({ cls := "RoomTreesModel", name := "other", desc := "([II)I" } : Jvm.MethodName)) ∈ lw_all := lw_g (lw_at lw_m9 35 rfl) rfl
theorem q2043 : (Jvm.Cond.code ({ cls := "RoomTreesModel", name := "other", desc := "([II)I" } : Jvm.MethodName) prog_26_method_18_code (2 : Nat) (Option.some Jvm.ClassFile.FieldType.int)) ∈ lw_all := lw_g (lw_at lw_m9 36 rfl) rfl
theorem q2044 : (Jvm.Cond.methodLink "RoomTreesModel" (204 : Nat) ({ cls := "RoomTreesModel", name := "error", desc := "(I)I" } : Jvm.MethodName)) ∈ lw_all := lw_g (lw_at lw_m9 37 rfl) rfl
theorem q2045 : (Jvm.Cond.privateMethod ({ cls := "RoomTreesModel", name := "error", desc := "(I)I" } : Jvm.MethodName)) ∈ lw_tbl := lw_at lw_m9 38 rfl
theorem q2046 : (Jvm.Cond.instanceMethod ({ cls := "RoomTreesModel", name := "error", desc := "(I)I" } : Jvm.MethodName)) ∈ lw_all := lw_g (lw_at lw_m9 39 rfl) rfl
theorem q2047 : (Jvm.Cond.code ({ cls := "RoomTreesModel", name := "error", desc := "(I)I" } : Jvm.MethodName) prog_26_method_3_code (2 : Nat) (Option.some Jvm.ClassFile.FieldType.int)) ∈ lw_all := lw_g (lw_at lw_m9 40 rfl) rfl
theorem q2048 : (Jvm.Cond.constant "RoomTreesModel" (95 : Nat) (-1100000000 : Int32)) ∈ lw_all := lw_g (lw_at lw_m9 41 rfl) rfl
theorem q2049 : (Jvm.Cond.methodLink "RoomTreesModel" (207 : Nat) ({ cls := "RoomTreesModel", name := "goes", desc := "(IIIII)V" } : Jvm.MethodName)) ∈ lw_all := lw_g (lw_at lw_m9 42 rfl) rfl
theorem q2050 : (Jvm.Cond.privateMethod ({ cls := "RoomTreesModel", name := "goes", desc := "(IIIII)V" } : Jvm.MethodName)) ∈ lw_tbl := lw_at lw_m9 43 rfl
theorem q2051 : (Jvm.Cond.instanceMethod ({ cls := "RoomTreesModel", name := "goes", desc := "(IIIII)V" } : Jvm.MethodName)) ∈ lw_all := lw_g (lw_at lw_m9 44 rfl) rfl
theorem q2052 : (Jvm.Cond.code ({ cls := "RoomTreesModel", name := "goes", desc := "(IIIII)V" } : Jvm.MethodName) prog_26_method_31_code (7 : Nat) (Option.none : Option Jvm.ClassFile.FieldType)) ∈ lw_all := lw_g (lw_at lw_m9 45 rfl) rfl
theorem q2053 : (Jvm.Cond.methodLink "RoomTreesModel" (188 : Nat) ({ cls := "RoomTreesModel", name := "copies", desc := "([I[I)V" } : Jvm.MethodName)) ∈ lw_all := lw_g (lw_at lw_m9 46 rfl) rfl
theorem q2054 : (Jvm.Cond.static ({ cls := "RoomTreesModel", name := "copies", desc := "([I[I)V" } : Jvm.MethodName)) ∈ lw_all := lw_g (lw_at lw_m9 47 rfl) rfl
theorem q2055 : (Jvm.Cond.code ({ cls := "RoomTreesModel", name := "copies", desc := "([I[I)V" } : Jvm.MethodName) prog_26_method_4_code (3 : Nat) (Option.none : Option Jvm.ClassFile.FieldType)) ∈ lw_all := lw_g (lw_at lw_m9 48 rfl) rfl
theorem q2056 : (Jvm.Cond.methodLink "RoomTreesModel" (192 : Nat) ({ cls := "RoomTreesModel", name := "signOf", desc := "([IIII)I" } : Jvm.MethodName)) ∈ lw_all := lw_g (lw_at lw_m9 49 rfl) rfl
theorem q2057 : (Jvm.Cond.static ({ cls := "RoomTreesModel", name := "signOf", desc := "([IIII)I" } : Jvm.MethodName)) ∈ lw_all := lw_g (lw_at lw_m9 50 rfl) rfl
theorem q2058 : (Jvm.Cond.code ({ cls := "RoomTreesModel", name := "signOf", desc := "([IIII)I" } : Jvm.MethodName) prog_26_method_24_code (4 : Nat) (Option.some Jvm.ClassFile.FieldType.int)) ∈ lw_all := lw_g (lw_at lw_m9 51 rfl) rfl
theorem q2059 : (Jvm.Cond.methodLink "RoomTreesModel" (196 : Nat) ({ cls := "RoomTreesModel", name := "does", desc := "([IIIIII)V" } : Jvm.MethodName)) ∈ lw_all := lw_g (lw_at lw_m9 52 rfl) rfl
theorem q2060 : (Jvm.Cond.static ({ cls := "RoomTreesModel", name := "does", desc := "([IIIIII)V" } : Jvm.MethodName)) ∈ lw_all := lw_g (lw_at lw_m9 53 rfl) rfl
theorem q2061 : (Jvm.Cond.code ({ cls := "RoomTreesModel", name := "does", desc := "([IIIIII)V" } : Jvm.MethodName) prog_26_method_29_code (7 : Nat) (Option.none : Option Jvm.ClassFile.FieldType)) ∈ lw_all := lw_g (lw_at lw_m9 54 rfl) rfl
theorem q2062 : (Jvm.Cond.methodLink "RoomTreesModel" (168 : Nat) ({ cls := "RoomTreesModel", name := "goesDown", desc := "([II)V" } : Jvm.MethodName)) ∈ lw_all := lw_g (lw_at lw_m9 55 rfl) rfl
theorem q2063 : (Jvm.Cond.static ({ cls := "RoomTreesModel", name := "goesDown", desc := "([II)V" } : Jvm.MethodName)) ∈ lw_all := lw_g (lw_at lw_m9 56 rfl) rfl
theorem q2064 : (Jvm.Cond.code ({ cls := "RoomTreesModel", name := "goesDown", desc := "([II)V" } : Jvm.MethodName) prog_26_method_25_code (5 : Nat) (Option.none : Option Jvm.ClassFile.FieldType)) ∈ lw_all := lw_g (lw_at lw_m9 57 rfl) rfl
theorem q2065 : (Jvm.Cond.methodLink "RoomTreesModel" (154 : Nat) ({ cls := "RoomTreesModel", name := "leaves", desc := "([II)V" } : Jvm.MethodName)) ∈ lw_all := lw_g (lw_at lw_m9 58 rfl) rfl
theorem q2066 : (Jvm.Cond.static ({ cls := "RoomTreesModel", name := "leaves", desc := "([II)V" } : Jvm.MethodName)) ∈ lw_all := lw_g (lw_at lw_m9 59 rfl) rfl
theorem q2067 : (Jvm.Cond.code ({ cls := "RoomTreesModel", name := "leaves", desc := "([II)V" } : Jvm.MethodName) prog_26_method_14_code (3 : Nat) (Option.none : Option Jvm.ClassFile.FieldType)) ∈ lw_all := lw_g (lw_at lw_m9 60 rfl) rfl
theorem q2068 : (Jvm.Cond.methodLink "RoomTreesModel" (158 : Nat) ({ cls := "RoomTreesModel", name := "ties", desc := "([III)V" } : Jvm.MethodName)) ∈ lw_all := lw_g (lw_at lw_m9 61 rfl) rfl
theorem q2069 : (Jvm.Cond.static ({ cls := "RoomTreesModel", name := "ties", desc := "([III)V" } : Jvm.MethodName)) ∈ lw_all := lw_g (lw_at lw_m9 62 rfl) rfl
theorem q2070 : (Jvm.Cond.code ({ cls := "RoomTreesModel", name := "ties", desc := "([III)V" } : Jvm.MethodName) prog_26_method_12_code (3 : Nat) (Option.none : Option Jvm.ClassFile.FieldType)) ∈ lw_all := lw_g (lw_at lw_m9 63 rfl) rfl
theorem q2071 : (Jvm.Cond.methodLink "RoomTreesModel" (171 : Nat) ({ cls := "RoomTreesModel", name := "goesUp", desc := "([IIII)V" } : Jvm.MethodName)) ∈ lw_all := lw_g (lw_at lw_m9 64 rfl) rfl
theorem q2072 : (Jvm.Cond.static ({ cls := "RoomTreesModel", name := "goesUp", desc := "([IIII)V" } : Jvm.MethodName)) ∈ lw_all := lw_g (lw_at lw_m9 65 rfl) rfl
theorem q2073 : (Jvm.Cond.code ({ cls := "RoomTreesModel", name := "goesUp", desc := "([IIII)V" } : Jvm.MethodName) prog_26_method_26_code (5 : Nat) (Option.none : Option Jvm.ClassFile.FieldType)) ∈ lw_all := lw_g (lw_at lw_m9 66 rfl) rfl
theorem q2074 : (Jvm.Cond.methodLink "RoomTreesModel" (162 : Nat) ({ cls := "RoomTreesModel", name := "cuts", desc := "([III)V" } : Jvm.MethodName)) ∈ lw_all := lw_g (lw_at lw_m9 67 rfl) rfl
theorem q2075 : (Jvm.Cond.static ({ cls := "RoomTreesModel", name := "cuts", desc := "([III)V" } : Jvm.MethodName)) ∈ lw_all := lw_g (lw_at lw_m9 68 rfl) rfl
theorem q2076 : (Jvm.Cond.code ({ cls := "RoomTreesModel", name := "cuts", desc := "([III)V" } : Jvm.MethodName) prog_26_method_13_code (3 : Nat) (Option.none : Option Jvm.ClassFile.FieldType)) ∈ lw_all := lw_g (lw_at lw_m9 69 rfl) rfl
theorem q2077 : (Jvm.Cond.methodLink "RoomTreesModel" (165 : Nat) ({ cls := "RoomTreesModel", name := "comes", desc := "([II)I" } : Jvm.MethodName)) ∈ lw_all := lw_g (lw_at lw_m9 70 rfl) rfl
theorem q2078 : (Jvm.Cond.static ({ cls := "RoomTreesModel", name := "comes", desc := "([II)I" } : Jvm.MethodName)) ∈ lw_all := lw_g (lw_at lw_m9 71 rfl) rfl
theorem q2079 : (Jvm.Cond.code ({ cls := "RoomTreesModel", name := "comes", desc := "([II)I" } : Jvm.MethodName) prog_26_method_11_code (3 : Nat) (Option.some Jvm.ClassFile.FieldType.int)) ∈ lw_all := lw_g (lw_at lw_m9 72 rfl) rfl
theorem q2080 : (Jvm.Cond.methodLink "RoomTreesModel" (175 : Nat) ({ cls := "RoomTreesModel", name := "absorbs", desc := "([II)V" } : Jvm.MethodName)) ∈ lw_all := lw_g (lw_at lw_m9 73 rfl) rfl
theorem q2081 : (Jvm.Cond.static ({ cls := "RoomTreesModel", name := "absorbs", desc := "([II)V" } : Jvm.MethodName)) ∈ lw_all := lw_g (lw_at lw_m9 74 rfl) rfl
theorem q2082 : (Jvm.Cond.code ({ cls := "RoomTreesModel", name := "absorbs", desc := "([II)V" } : Jvm.MethodName) prog_26_method_27_code (6 : Nat) (Option.none : Option Jvm.ClassFile.FieldType)) ∈ lw_all := lw_g (lw_at lw_m9 75 rfl) rfl
theorem q2083 : (Jvm.Cond.methodLink "RoomTreesModel" (178 : Nat) ({ cls := "RoomTreesModel", name := "draws", desc := "([IIII)V" } : Jvm.MethodName)) ∈ lw_all := lw_g (lw_at lw_m9 76 rfl) rfl
theorem q2084 : (Jvm.Cond.static ({ cls := "RoomTreesModel", name := "draws", desc := "([IIII)V" } : Jvm.MethodName)) ∈ lw_all := lw_g (lw_at lw_m9 77 rfl) rfl
theorem q2085 : (Jvm.Cond.code ({ cls := "RoomTreesModel", name := "draws", desc := "([IIII)V" } : Jvm.MethodName) prog_26_method_28_code (7 : Nat) (Option.none : Option Jvm.ClassFile.FieldType)) ∈ lw_all := lw_g (lw_at lw_m9 78 rfl) rfl
theorem q2087 : (Jvm.Cond.instanceMethod ({ cls := "RoomTreesModel", name := "undo", desc := "()I" } : Jvm.MethodName)) ∈ lw_all := lw_g (lw_at lw_m9 80 rfl) rfl
theorem q2088 : (Jvm.Cond.selects "RoomTreesModel" ({ cls := "RoomTreesModel", name := "undo", desc := "()I" } : Jvm.MethodName) ({ cls := "RoomTreesModel", name := "undo", desc := "()I" } : Jvm.MethodName)) ∈ lw_all := lw_g (lw_at lw_m9 81 rfl) rfl
theorem q2089 : (Jvm.Cond.code ({ cls := "RoomTreesModel", name := "undo", desc := "()I" } : Jvm.MethodName) prog_26_method_33_code (1 : Nat) (Option.some Jvm.ClassFile.FieldType.int)) ∈ lw_all := lw_g (lw_at lw_m9 82 rfl) rfl
theorem q2091 : (Jvm.Cond.instanceMethod ({ cls := "RoomTreesModel", name := "redo", desc := "()I" } : Jvm.MethodName)) ∈ lw_all := lw_g (lw_at lw_m9 84 rfl) rfl
theorem q2092 : (Jvm.Cond.selects "RoomTreesModel" ({ cls := "RoomTreesModel", name := "redo", desc := "()I" } : Jvm.MethodName) ({ cls := "RoomTreesModel", name := "redo", desc := "()I" } : Jvm.MethodName)) ∈ lw_all := lw_g (lw_at lw_m9 85 rfl) rfl
theorem q2093 : (Jvm.Cond.code ({ cls := "RoomTreesModel", name := "redo", desc := "()I" } : Jvm.MethodName) prog_26_method_34_code (1 : Nat) (Option.some Jvm.ClassFile.FieldType.int)) ∈ lw_all := lw_g (lw_at lw_m9 86 rfl) rfl
theorem q2095 : (Jvm.Cond.instanceMethod ({ cls := "RoomTreesModel", name := "trail", desc := "(II)I" } : Jvm.MethodName)) ∈ lw_all := lw_g (lw_at lw_m9 88 rfl) rfl
theorem q2096 : (Jvm.Cond.selects "RoomTreesModel" ({ cls := "RoomTreesModel", name := "trail", desc := "(II)I" } : Jvm.MethodName) ({ cls := "RoomTreesModel", name := "trail", desc := "(II)I" } : Jvm.MethodName)) ∈ lw_all := lw_g (lw_at lw_m9 89 rfl) rfl
theorem q2097 : (Jvm.Cond.code ({ cls := "RoomTreesModel", name := "trail", desc := "(II)I" } : Jvm.MethodName) prog_26_method_35_code (3 : Nat) (Option.some Jvm.ClassFile.FieldType.int)) ∈ lw_all := lw_g (lw_at lw_m9 90 rfl) rfl
theorem q2098 : (Jvm.Cond.constantLong "RoomTreesModel" (211 : Nat) (4 : Int64)) ∈ lw_all := lw_g (lw_at lw_m9 91 rfl) rfl
theorem q2100 : (Jvm.Cond.instanceMethod ({ cls := "RoomTreesModel", name := "factor", desc := "()I" } : Jvm.MethodName)) ∈ lw_all := lw_g (lw_at lw_m9 93 rfl) rfl
theorem q2101 : (Jvm.Cond.selects "RoomTreesModel" ({ cls := "RoomTreesModel", name := "factor", desc := "()I" } : Jvm.MethodName) ({ cls := "RoomTreesModel", name := "factor", desc := "()I" } : Jvm.MethodName)) ∈ lw_all := lw_g (lw_at lw_m9 94 rfl) rfl
theorem q2102 : (Jvm.Cond.code ({ cls := "RoomTreesModel", name := "factor", desc := "()I" } : Jvm.MethodName) prog_26_method_36_code (3 : Nat) (Option.some Jvm.ClassFile.FieldType.int)) ∈ lw_all := lw_g (lw_at lw_m9 95 rfl) rfl
theorem q2104 : (Jvm.Cond.instanceMethod ({ cls := "RoomTreesModel", name := "vertex", desc := "(I)I" } : Jvm.MethodName)) ∈ lw_all := lw_g (lw_at lw_m9 97 rfl) rfl
theorem q2105 : (Jvm.Cond.selects "RoomTreesModel" ({ cls := "RoomTreesModel", name := "vertex", desc := "(I)I" } : Jvm.MethodName) ({ cls := "RoomTreesModel", name := "vertex", desc := "(I)I" } : Jvm.MethodName)) ∈ lw_all := lw_g (lw_at lw_m9 98 rfl) rfl
theorem q2106 : (Jvm.Cond.code ({ cls := "RoomTreesModel", name := "vertex", desc := "(I)I" } : Jvm.MethodName) prog_26_method_37_code (2 : Nat) (Option.some Jvm.ClassFile.FieldType.int)) ∈ lw_all := lw_g (lw_at lw_m9 99 rfl) rfl
theorem q2107 : (Jvm.Cond.methodLink "RoomTreesModel" (213 : Nat) ({ cls := "RoomTreesModel", name := "byHand", desc := "()V" } : Jvm.MethodName)) ∈ lw_all := lw_g (lw_at lw_m9 100 rfl) rfl
theorem q2108 : (Jvm.Cond.privateMethod ({ cls := "RoomTreesModel", name := "byHand", desc := "()V" } : Jvm.MethodName)) ∈ lw_tbl := lw_at lw_m9 101 rfl
theorem q2109 : (Jvm.Cond.instanceMethod ({ cls := "RoomTreesModel", name := "byHand", desc := "()V" } : Jvm.MethodName)) ∈ lw_all := lw_g (lw_at lw_m9 102 rfl) rfl
theorem q2110 : (Jvm.Cond.code ({ cls := "RoomTreesModel", name := "byHand", desc := "()V" } : Jvm.MethodName) prog_26_method_30_code (1 : Nat) (Option.none : Option Jvm.ClassFile.FieldType)) ∈ lw_all := lw_g (lw_at lw_m9 103 rfl) rfl
theorem q2112 : (Jvm.Cond.instanceMethod ({ cls := "RoomTreesModel", name := "weigh", desc := "(II)I" } : Jvm.MethodName)) ∈ lw_all := lw_g (lw_at lw_m9 105 rfl) rfl
theorem q2113 : (Jvm.Cond.selects "RoomTreesModel" ({ cls := "RoomTreesModel", name := "weigh", desc := "(II)I" } : Jvm.MethodName) ({ cls := "RoomTreesModel", name := "weigh", desc := "(II)I" } : Jvm.MethodName)) ∈ lw_all := lw_g (lw_at lw_m9 106 rfl) rfl
theorem q2114 : (Jvm.Cond.code ({ cls := "RoomTreesModel", name := "weigh", desc := "(II)I" } : Jvm.MethodName) prog_26_method_38_code (4 : Nat) (Option.some Jvm.ClassFile.FieldType.int)) ∈ lw_all := lw_g (lw_at lw_m9 107 rfl) rfl
theorem q2115 : (Jvm.Cond.methodLink "RoomTreesModel" (216 : Nat) ({ cls := "RoomTreesModel", name := "isVertex", desc := "(I)Z" } : Jvm.MethodName)) ∈ lw_all := lw_g (lw_at lw_m9 108 rfl) rfl
theorem q2116 : (Jvm.Cond.privateMethod ({ cls := "RoomTreesModel", name := "isVertex", desc := "(I)Z" } : Jvm.MethodName)) ∈ lw_tbl := lw_at lw_m9 109 rfl
theorem q2117 : (Jvm.Cond.instanceMethod ({ cls := "RoomTreesModel", name := "isVertex", desc := "(I)Z" } : Jvm.MethodName)) ∈ lw_all := lw_g (lw_at lw_m9 110 rfl) rfl
theorem q2118 : (Jvm.Cond.code ({ cls := "RoomTreesModel", name := "isVertex", desc := "(I)Z" } : Jvm.MethodName) prog_26_method_9_code (2 : Nat) (Option.some Jvm.ClassFile.FieldType.boolean)) ∈ lw_all := lw_g (lw_at lw_m9 111 rfl) rfl
theorem q2120 : (Jvm.Cond.instanceMethod ({ cls := "RoomTreesModel", name := "tie", desc := "(II)I" } : Jvm.MethodName)) ∈ lw_all := lw_g (lw_at lw_m9 113 rfl) rfl
theorem q2121 : (Jvm.Cond.selects "RoomTreesModel" ({ cls := "RoomTreesModel", name := "tie", desc := "(II)I" } : Jvm.MethodName) ({ cls := "RoomTreesModel", name := "tie", desc := "(II)I" } : Jvm.MethodName)) ∈ lw_all := lw_g (lw_at lw_m9 114 rfl) rfl
theorem q2122 : (Jvm.Cond.code ({ cls := "RoomTreesModel", name := "tie", desc := "(II)I" } : Jvm.MethodName) prog_26_method_39_code (3 : Nat) (Option.some Jvm.ClassFile.FieldType.int)) ∈ lw_all := lw_g (lw_at lw_m9 115 rfl) rfl
theorem q2123 : (Jvm.Cond.methodLink "RoomTreesModel" (118 : Nat) ({ cls := "RoomTreesModel", name := "treeOf", desc := "([II)I" } : Jvm.MethodName)) ∈ lw_all := lw_g (lw_at lw_m9 116 rfl) rfl
theorem q2124 : (Jvm.Cond.static ({ cls := "RoomTreesModel", name := "treeOf", desc := "([II)I" } : Jvm.MethodName)) ∈ lw_all := lw_g (lw_at lw_m9 117 rfl) rfl
theorem q2125 : (Jvm.Cond.code ({ cls := "RoomTreesModel", name := "treeOf", desc := "([II)I" } : Jvm.MethodName) prog_26_method_15_code (5 : Nat) (Option.some Jvm.ClassFile.FieldType.int)) ∈ lw_all := lw_g (lw_at lw_m9 118 rfl) rfl
theorem q2126 : (Jvm.Cond.methodLink "RoomTreesModel" (219 : Nat) ({ cls := "RoomTreesModel", name := "trees", desc := "([I)I" } : Jvm.MethodName)) ∈ lw_all := lw_g (lw_at lw_m9 119 rfl) rfl
theorem q2127 : (Jvm.Cond.static ({ cls := "RoomTreesModel", name := "trees", desc := "([I)I" } : Jvm.MethodName)) ∈ lw_all := lw_g (lw_at lw_m9 120 rfl) rfl
theorem q2128 : (Jvm.Cond.code ({ cls := "RoomTreesModel", name := "trees", desc := "([I)I" } : Jvm.MethodName) prog_26_method_16_code (3 : Nat) (Option.some Jvm.ClassFile.FieldType.int)) ∈ lw_all := lw_g (lw_at lw_m9 121 rfl) rfl
theorem q2130 : (Jvm.Cond.instanceMethod ({ cls := "RoomTreesModel", name := "cut", desc := "(II)I" } : Jvm.MethodName)) ∈ lw_all := lw_g (lw_at lw_m9 123 rfl) rfl
theorem q2131 : (Jvm.Cond.selects "RoomTreesModel" ({ cls := "RoomTreesModel", name := "cut", desc := "(II)I" } : Jvm.MethodName) ({ cls := "RoomTreesModel", name := "cut", desc := "(II)I" } : Jvm.MethodName)) ∈ lw_all := lw_g (lw_at lw_m9 124 rfl) rfl
theorem q2132 : (Jvm.Cond.code ({ cls := "RoomTreesModel", name := "cut", desc := "(II)I" } : Jvm.MethodName) prog_26_method_40_code (3 : Nat) (Option.some Jvm.ClassFile.FieldType.int)) ∈ lw_all := lw_g (lw_at lw_m9 125 rfl) rfl
theorem q2134 : (Jvm.Cond.instanceMethod ({ cls := "RoomTreesModel", name := "take", desc := "(I)I" } : Jvm.MethodName)) ∈ lw_all := lw_g (lw_at lw_m9 127 rfl) rfl
theorem q2135 : (Jvm.Cond.selects "RoomTreesModel" ({ cls := "RoomTreesModel", name := "take", desc := "(I)I" } : Jvm.MethodName) ({ cls := "RoomTreesModel", name := "take", desc := "(I)I" } : Jvm.MethodName)) ∈ lw_all := lw_g (lw_at lw_m9 128 rfl) rfl
theorem q2136 : (Jvm.Cond.code ({ cls := "RoomTreesModel", name := "take", desc := "(I)I" } : Jvm.MethodName) prog_26_method_41_code (3 : Nat) (Option.some Jvm.ClassFile.FieldType.int)) ∈ lw_all := lw_g (lw_at lw_m9 129 rfl) rfl
theorem q2138 : (Jvm.Cond.instanceMethod ({ cls := "RoomTreesModel", name := "at", desc := "(II)I" } : Jvm.MethodName)) ∈ lw_all := lw_g (lw_at lw_m9 131 rfl) rfl
theorem q2139 : (Jvm.Cond.selects "RoomTreesModel" ({ cls := "RoomTreesModel", name := "at", desc := "(II)I" } : Jvm.MethodName) ({ cls := "RoomTreesModel", name := "at", desc := "(II)I" } : Jvm.MethodName)) ∈ lw_all := lw_g (lw_at lw_m9 132 rfl) rfl
theorem q2140 : (Jvm.Cond.code ({ cls := "RoomTreesModel", name := "at", desc := "(II)I" } : Jvm.MethodName) prog_26_method_44_code (3 : Nat) (Option.some Jvm.ClassFile.FieldType.int)) ∈ lw_all := lw_g (lw_at lw_m9 133 rfl) rfl
theorem q2141 : (Jvm.Cond.constantLong "RoomTreesModel" (223 : Nat) (5 : Int64)) ∈ lw_all := lw_g (lw_at lw_m9 134 rfl) rfl
theorem q2142 : (Jvm.Cond.methodLink "RoomTreesModel" (225 : Nat) ({ cls := "RoomTreesModel", name := "possible", desc := "(I)I" } : Jvm.MethodName)) ∈ lw_all := lw_g (lw_at lw_m9 135 rfl) rfl
theorem q2143 : (Jvm.Cond.privateMethod ({ cls := "RoomTreesModel", name := "possible", desc := "(I)I" } : Jvm.MethodName)) ∈ lw_tbl := lw_at lw_m9 136 rfl
theorem q2144 : (Jvm.Cond.instanceMethod ({ cls := "RoomTreesModel", name := "possible", desc := "(I)I" } : Jvm.MethodName)) ∈ lw_all := lw_g (lw_at lw_m9 137 rfl) rfl
theorem q2145 : (Jvm.Cond.code ({ cls := "RoomTreesModel", name := "possible", desc := "(I)I" } : Jvm.MethodName) prog_26_method_42_code (2 : Nat) (Option.some Jvm.ClassFile.FieldType.int)) ∈ lw_all := lw_g (lw_at lw_m9 138 rfl) rfl
theorem q2146 : (Jvm.Cond.methodLink "RoomTreesModel" (228 : Nat) ({ cls := "RoomTreesModel", name := "farthest", desc := "(I)I" } : Jvm.MethodName)) ∈ lw_all := lw_g (lw_at lw_m9 139 rfl) rfl
theorem q2147 : (Jvm.Cond.privateMethod ({ cls := "RoomTreesModel", name := "farthest", desc := "(I)I" } : Jvm.MethodName)) ∈ lw_tbl := lw_at lw_m9 140 rfl
theorem q2148 : (Jvm.Cond.instanceMethod ({ cls := "RoomTreesModel", name := "farthest", desc := "(I)I" } : Jvm.MethodName)) ∈ lw_all := lw_g (lw_at lw_m9 141 rfl) rfl
theorem q2149 : (Jvm.Cond.code ({ cls := "RoomTreesModel", name := "farthest", desc := "(I)I" } : Jvm.MethodName) prog_26_method_43_code (7 : Nat) (Option.some Jvm.ClassFile.FieldType.int)) ∈ lw_all := lw_g (lw_at lw_m9 142 rfl) rfl
theorem q2151 : (Jvm.Cond.instanceMethod ({ cls := "RoomTreesModel", name := "table", desc := "(II)I" } : Jvm.MethodName)) ∈ lw_all := lw_g (lw_at lw_m9 144 rfl) rfl
theorem q2152 : (Jvm.Cond.selects "RoomTreesModel" ({ cls := "RoomTreesModel", name := "table", desc := "(II)I" } : Jvm.MethodName) ({ cls := "RoomTreesModel", name := "table", desc := "(II)I" } : Jvm.MethodName)) ∈ lw_all := lw_g (lw_at lw_m9 145 rfl) rfl
theorem q2153 : (Jvm.Cond.code ({ cls := "RoomTreesModel", name := "table", desc := "(II)I" } : Jvm.MethodName) prog_26_method_46_code (3 : Nat) (Option.some Jvm.ClassFile.FieldType.int)) ∈ lw_all := lw_g (lw_at lw_m9 146 rfl) rfl
theorem q2154 : (Jvm.Cond.methodLink "RoomTreesModel" (231 : Nat) ({ cls := "RoomTreesModel", name := "pair", desc := "(II)I" } : Jvm.MethodName)) ∈ lw_all := lw_g (lw_at lw_m9 147 rfl) rfl
theorem q2155 : (Jvm.Cond.privateMethod ({ cls := "RoomTreesModel", name := "pair", desc := "(II)I" } : Jvm.MethodName)) ∈ lw_tbl := lw_at lw_m9 148 rfl
theorem q2156 : (Jvm.Cond.instanceMethod ({ cls := "RoomTreesModel", name := "pair", desc := "(II)I" } : Jvm.MethodName)) ∈ lw_all := lw_g (lw_at lw_m9 149 rfl) rfl
theorem q2157 : (Jvm.Cond.code ({ cls := "RoomTreesModel", name := "pair", desc := "(II)I" } : Jvm.MethodName) prog_26_method_45_code (3 : Nat) (Option.some Jvm.ClassFile.FieldType.int)) ∈ lw_all := lw_g (lw_at lw_m9 150 rfl) rfl
theorem q2159 : (Jvm.Cond.instanceMethod ({ cls := "RoomTreesModel", name := "minor", desc := "(I)I" } : Jvm.MethodName)) ∈ lw_all := lw_g (lw_at lw_m9 152 rfl) rfl
theorem q2160 : (Jvm.Cond.selects "RoomTreesModel" ({ cls := "RoomTreesModel", name := "minor", desc := "(I)I" } : Jvm.MethodName) ({ cls := "RoomTreesModel", name := "minor", desc := "(I)I" } : Jvm.MethodName)) ∈ lw_all := lw_g (lw_at lw_m9 153 rfl) rfl
theorem q2161 : (Jvm.Cond.code ({ cls := "RoomTreesModel", name := "minor", desc := "(I)I" } : Jvm.MethodName) prog_26_method_50_code (2 : Nat) (Option.some Jvm.ClassFile.FieldType.int)) ∈ lw_all := lw_g (lw_at lw_m9 154 rfl) rfl
theorem q2162 : (Jvm.Cond.constantLong "RoomTreesModel" (242 : Nat) (4095 : Int64)) ∈ lw_all := lw_g (lw_at lw_m9 155 rfl) rfl
theorem q2163 : (Jvm.Cond.methodLink "RoomTreesModel" (244 : Nat) ({ cls := "RoomTreesModel", name := "minorOf", desc := "(I)J" } : Jvm.MethodName)) ∈ lw_all := lw_g (lw_at lw_m9 156 rfl) rfl
theorem q2164 : (Jvm.Cond.privateMethod ({ cls := "RoomTreesModel", name := "minorOf", desc := "(I)J" } : Jvm.MethodName)) ∈ lw_tbl := lw_at lw_m9 157 rfl
theorem q2165 : (Jvm.Cond.instanceMethod ({ cls := "RoomTreesModel", name := "minorOf", desc := "(I)J" } : Jvm.MethodName)) ∈ lw_all := lw_g (lw_at lw_m9 158 rfl) rfl
theorem q2166 : (Jvm.Cond.code ({ cls := "RoomTreesModel", name := "minorOf", desc := "(I)J" } : Jvm.MethodName) prog_26_method_48_code (2 : Nat) (Option.some Jvm.ClassFile.FieldType.long)) ∈ lw_all := lw_g (lw_at lw_m9 159 rfl) rfl
theorem q2167 : (Jvm.Cond.methodLink "RoomTreesModel" (235 : Nat) ({ cls := "RoomTreesModel", name := "layMinors", desc := "()V" } : Jvm.MethodName)) ∈ lw_all := lw_g (lw_at lw_m9 160 rfl) rfl
theorem q2168 : (Jvm.Cond.privateMethod ({ cls := "RoomTreesModel", name := "layMinors", desc := "()V" } : Jvm.MethodName)) ∈ lw_tbl := lw_at lw_m9 161 rfl
theorem q2169 : (Jvm.Cond.instanceMethod ({ cls := "RoomTreesModel", name := "layMinors", desc := "()V" } : Jvm.MethodName)) ∈ lw_all := lw_g (lw_at lw_m9 162 rfl) rfl
theorem q2170 : (Jvm.Cond.code ({ cls := "RoomTreesModel", name := "layMinors", desc := "()V" } : Jvm.MethodName) prog_26_method_47_code (7 : Nat) (Option.none : Option Jvm.ClassFile.FieldType)) ∈ lw_all := lw_g (lw_at lw_m9 163 rfl) rfl
theorem q2171 : (Jvm.Cond.methodLink "RoomTreesModel" (248 : Nat) ({ cls := "RoomTreesModel", name := "orOver", desc := "(J)I" } : Jvm.MethodName)) ∈ lw_all := lw_g (lw_at lw_m9 164 rfl) rfl
theorem q2172 : (Jvm.Cond.privateMethod ({ cls := "RoomTreesModel", name := "orOver", desc := "(J)I" } : Jvm.MethodName)) ∈ lw_tbl := lw_at lw_m9 165 rfl
theorem q2173 : (Jvm.Cond.instanceMethod ({ cls := "RoomTreesModel", name := "orOver", desc := "(J)I" } : Jvm.MethodName)) ∈ lw_all := lw_g (lw_at lw_m9 166 rfl) rfl
theorem q2174 : (Jvm.Cond.code ({ cls := "RoomTreesModel", name := "orOver", desc := "(J)I" } : Jvm.MethodName) prog_26_method_49_code (3 : Nat) (Option.some Jvm.ClassFile.FieldType.int)) ∈ lw_all := lw_g (lw_at lw_m9 167 rfl) rfl
theorem q2175 : (Jvm.Cond.constantLong "RoomTreesModel" (238 : Nat) (-1073741824 : Int64)) ∈ lw_all := lw_g (lw_at lw_m9 168 rfl) rfl
theorem q2176 : (Jvm.Cond.constantLong "RoomTreesModel" (240 : Nat) (1073741823 : Int64)) ∈ lw_all := lw_g (lw_at lw_m9 169 rfl) rfl
theorem q2178 : (Jvm.Cond.instanceMethod ({ cls := "RoomTreesModel", name := "det", desc := "()I" } : Jvm.MethodName)) ∈ lw_all := lw_g (lw_at lw_m9 171 rfl) rfl
theorem q2179 : (Jvm.Cond.selects "RoomTreesModel" ({ cls := "RoomTreesModel", name := "det", desc := "()I" } : Jvm.MethodName) ({ cls := "RoomTreesModel", name := "det", desc := "()I" } : Jvm.MethodName)) ∈ lw_all := lw_g (lw_at lw_m9 172 rfl) rfl
theorem q2180 : (Jvm.Cond.code ({ cls := "RoomTreesModel", name := "det", desc := "()I" } : Jvm.MethodName) prog_26_method_51_code (1 : Nat) (Option.some Jvm.ClassFile.FieldType.int)) ∈ lw_all := lw_g (lw_at lw_m9 173 rfl) rfl
theorem q2182 : (Jvm.Cond.instanceMethod ({ cls := "RoomTreesModel", name := "link", desc := "(III)I" } : Jvm.MethodName)) ∈ lw_all := lw_g (lw_at lw_m9 175 rfl) rfl
theorem q2183 : (Jvm.Cond.selects "RoomTreesModel" ({ cls := "RoomTreesModel", name := "link", desc := "(III)I" } : Jvm.MethodName) ({ cls := "RoomTreesModel", name := "link", desc := "(III)I" } : Jvm.MethodName)) ∈ lw_all := lw_g (lw_at lw_m9 176 rfl) rfl
theorem q2184 : (Jvm.Cond.code ({ cls := "RoomTreesModel", name := "link", desc := "(III)I" } : Jvm.MethodName) prog_26_method_56_code (10 : Nat) (Option.some Jvm.ClassFile.FieldType.int)) ∈ lw_all := lw_g (lw_at lw_m9 177 rfl) rfl
theorem q2185 : (Jvm.Cond.methodLink "RoomTreesModel" (255 : Nat) ({ cls := "RoomTreesModel", name := "without", desc := "(II)J" } : Jvm.MethodName)) ∈ lw_all := lw_g (lw_at lw_m9 178 rfl) rfl
theorem q2186 : (Jvm.Cond.privateMethod ({ cls := "RoomTreesModel", name := "without", desc := "(II)J" } : Jvm.MethodName)) ∈ lw_tbl := lw_at lw_m9 179 rfl
theorem q2187 : (Jvm.Cond.instanceMethod ({ cls := "RoomTreesModel", name := "without", desc := "(II)J" } : Jvm.MethodName)) ∈ lw_all := lw_g (lw_at lw_m9 180 rfl) rfl
theorem q2188 : (Jvm.Cond.code ({ cls := "RoomTreesModel", name := "without", desc := "(II)J" } : Jvm.MethodName) prog_26_method_52_code (13 : Nat) (Option.some Jvm.ClassFile.FieldType.long)) ∈ lw_all := lw_g (lw_at lw_m9 181 rfl) rfl
theorem q2189 : (Jvm.Cond.methodLink "RoomTreesModel" (252 : Nat) ({ cls := "RoomTreesModel", name := "place", desc := "(II)I" } : Jvm.MethodName)) ∈ lw_all := lw_g (lw_at lw_m9 182 rfl) rfl
theorem q2190 : (Jvm.Cond.static ({ cls := "RoomTreesModel", name := "place", desc := "(II)I" } : Jvm.MethodName)) ∈ lw_all := lw_g (lw_at lw_m9 183 rfl) rfl
theorem q2191 : (Jvm.Cond.code ({ cls := "RoomTreesModel", name := "place", desc := "(II)I" } : Jvm.MethodName) prog_26_method_53_code (4 : Nat) (Option.some Jvm.ClassFile.FieldType.int)) ∈ lw_all := lw_g (lw_at lw_m9 184 rfl) rfl
theorem q2192 : (Jvm.Cond.methodLink "RoomTreesModel" (259 : Nat) ({ cls := "RoomTreesModel", name := "behind", desc := "(II)I" } : Jvm.MethodName)) ∈ lw_all := lw_g (lw_at lw_m9 185 rfl) rfl
theorem q2193 : (Jvm.Cond.static ({ cls := "RoomTreesModel", name := "behind", desc := "(II)I" } : Jvm.MethodName)) ∈ lw_all := lw_g (lw_at lw_m9 186 rfl) rfl
theorem q2194 : (Jvm.Cond.code ({ cls := "RoomTreesModel", name := "behind", desc := "(II)I" } : Jvm.MethodName) prog_26_method_54_code (2 : Nat) (Option.some Jvm.ClassFile.FieldType.int)) ∈ lw_all := lw_g (lw_at lw_m9 187 rfl) rfl
theorem q2195 : (Jvm.Cond.methodLink "RoomTreesModel" (262 : Nat) ({ cls := "RoomTreesModel", name := "divisor", desc := "(JJ)J" } : Jvm.MethodName)) ∈ lw_all := lw_g (lw_at lw_m9 188 rfl) rfl
theorem q2196 : (Jvm.Cond.static ({ cls := "RoomTreesModel", name := "divisor", desc := "(JJ)J" } : Jvm.MethodName)) ∈ lw_all := lw_g (lw_at lw_m9 189 rfl) rfl
theorem q2197 : (Jvm.Cond.code ({ cls := "RoomTreesModel", name := "divisor", desc := "(JJ)J" } : Jvm.MethodName) prog_26_method_55_code (10 : Nat) (Option.some Jvm.ClassFile.FieldType.long)) ∈ lw_all := lw_g (lw_at lw_m9 190 rfl) rfl
theorem q2199 : (Jvm.Cond.instanceMethod ({ cls := "RoomTreesModel", name := "inertia", desc := "(I)I" } : Jvm.MethodName)) ∈ lw_all := lw_g (lw_at lw_m9 192 rfl) rfl
theorem q2200 : (Jvm.Cond.selects "RoomTreesModel" ({ cls := "RoomTreesModel", name := "inertia", desc := "(I)I" } : Jvm.MethodName) ({ cls := "RoomTreesModel", name := "inertia", desc := "(I)I" } : Jvm.MethodName)) ∈ lw_all := lw_g (lw_at lw_m9 193 rfl) rfl
theorem q2201 : (Jvm.Cond.code ({ cls := "RoomTreesModel", name := "inertia", desc := "(I)I" } : Jvm.MethodName) prog_26_method_61_code (2 : Nat) (Option.some Jvm.ClassFile.FieldType.int)) ∈ lw_all := lw_g (lw_at lw_m9 194 rfl) rfl
theorem q2202 : (Jvm.Cond.constantLong "RoomTreesModel" (276 : Nat) (2 : Int64)) ∈ lw_all := lw_g (lw_at lw_m9 195 rfl) rfl
theorem q2203 : (Jvm.Cond.methodLink "RoomTreesModel" (278 : Nat) ({ cls := "RoomTreesModel", name := "inertiaOf", desc := "(I)I" } : Jvm.MethodName)) ∈ lw_all := lw_g (lw_at lw_m9 196 rfl) rfl
theorem q2204 : (Jvm.Cond.privateMethod ({ cls := "RoomTreesModel", name := "inertiaOf", desc := "(I)I" } : Jvm.MethodName)) ∈ lw_tbl := lw_at lw_m9 197 rfl
theorem q2205 : (Jvm.Cond.instanceMethod ({ cls := "RoomTreesModel", name := "inertiaOf", desc := "(I)I" } : Jvm.MethodName)) ∈ lw_all := lw_g (lw_at lw_m9 198 rfl) rfl
theorem q2206 : (Jvm.Cond.code ({ cls := "RoomTreesModel", name := "inertiaOf", desc := "(I)I" } : Jvm.MethodName) prog_26_method_60_code (4 : Nat) (Option.some Jvm.ClassFile.FieldType.int)) ∈ lw_all := lw_g (lw_at lw_m9 199 rfl) rfl
theorem q2207 : (Jvm.Cond.methodLink "RoomTreesModel" (269 : Nat) ({ cls := "RoomTreesModel", name := "above", desc := "()I" } : Jvm.MethodName)) ∈ lw_all := lw_g (lw_at lw_m9 200 rfl) rfl
theorem q2208 : (Jvm.Cond.privateMethod ({ cls := "RoomTreesModel", name := "above", desc := "()I" } : Jvm.MethodName)) ∈ lw_tbl := lw_at lw_m9 201 rfl
theorem q2209 : (Jvm.Cond.instanceMethod ({ cls := "RoomTreesModel", name := "above", desc := "()I" } : Jvm.MethodName)) ∈ lw_all := lw_g (lw_at lw_m9 202 rfl) rfl
theorem q2210 : (Jvm.Cond.code ({ cls := "RoomTreesModel", name := "above", desc := "()I" } : Jvm.MethodName) prog_26_method_58_code (7 : Nat) (Option.some Jvm.ClassFile.FieldType.int)) ∈ lw_all := lw_g (lw_at lw_m9 203 rfl) rfl
theorem q2211 : (Jvm.Cond.methodLink "RoomTreesModel" (266 : Nat) ({ cls := "RoomTreesModel", name := "layTerms", desc := "()V" } : Jvm.MethodName)) ∈ lw_all := lw_g (lw_at lw_m9 204 rfl) rfl
theorem q2212 : (Jvm.Cond.privateMethod ({ cls := "RoomTreesModel", name := "layTerms", desc := "()V" } : Jvm.MethodName)) ∈ lw_tbl := lw_at lw_m9 205 rfl
theorem q2213 : (Jvm.Cond.instanceMethod ({ cls := "RoomTreesModel", name := "layTerms", desc := "()V" } : Jvm.MethodName)) ∈ lw_all := lw_g (lw_at lw_m9 206 rfl) rfl
theorem q2214 : (Jvm.Cond.code ({ cls := "RoomTreesModel", name := "layTerms", desc := "()V" } : Jvm.MethodName) prog_26_method_57_code (2 : Nat) (Option.none : Option Jvm.ClassFile.FieldType)) ∈ lw_all := lw_g (lw_at lw_m9 207 rfl) rfl
theorem q2215 : (Jvm.Cond.methodLink "RoomTreesModel" (273 : Nat) ({ cls := "RoomTreesModel", name := "noughts", desc := "()I" } : Jvm.MethodName)) ∈ lw_all := lw_g (lw_at lw_m9 208 rfl) rfl
theorem q2216 : (Jvm.Cond.privateMethod ({ cls := "RoomTreesModel", name := "noughts", desc := "()I" } : Jvm.MethodName)) ∈ lw_tbl := lw_at lw_m9 209 rfl
theorem q2217 : (Jvm.Cond.instanceMethod ({ cls := "RoomTreesModel", name := "noughts", desc := "()I" } : Jvm.MethodName)) ∈ lw_all := lw_g (lw_at lw_m9 210 rfl) rfl
theorem q2218 : (Jvm.Cond.code ({ cls := "RoomTreesModel", name := "noughts", desc := "()I" } : Jvm.MethodName) prog_26_method_59_code (2 : Nat) (Option.some Jvm.ClassFile.FieldType.int)) ∈ lw_all := lw_g (lw_at lw_m9 211 rfl) rfl
theorem q2220 : (Jvm.Cond.instanceMethod ({ cls := "RoomTreesModel", name := "kernel", desc := "(I)I" } : Jvm.MethodName)) ∈ lw_all := lw_g (lw_at lw_m9 213 rfl) rfl
theorem q2221 : (Jvm.Cond.selects "RoomTreesModel" ({ cls := "RoomTreesModel", name := "kernel", desc := "(I)I" } : Jvm.MethodName) ({ cls := "RoomTreesModel", name := "kernel", desc := "(I)I" } : Jvm.MethodName)) ∈ lw_all := lw_g (lw_at lw_m9 214 rfl) rfl
theorem q2222 : (Jvm.Cond.code ({ cls := "RoomTreesModel", name := "kernel", desc := "(I)I" } : Jvm.MethodName) prog_26_method_66_code (3 : Nat) (Option.some Jvm.ClassFile.FieldType.int)) ∈ lw_all := lw_g (lw_at lw_m9 215 rfl) rfl
theorem q2223 : (Jvm.Cond.methodLink "RoomTreesModel" (291 : Nat) ({ cls := "RoomTreesModel", name := "kernelOf", desc := "(I)I" } : Jvm.MethodName)) ∈ lw_all := lw_g (lw_at lw_m9 216 rfl) rfl
theorem q2224 : (Jvm.Cond.privateMethod ({ cls := "RoomTreesModel", name := "kernelOf", desc := "(I)I" } : Jvm.MethodName)) ∈ lw_tbl := lw_at lw_m9 217 rfl
theorem q2225 : (Jvm.Cond.instanceMethod ({ cls := "RoomTreesModel", name := "kernelOf", desc := "(I)I" } : Jvm.MethodName)) ∈ lw_all := lw_g (lw_at lw_m9 218 rfl) rfl
theorem q2226 : (Jvm.Cond.code ({ cls := "RoomTreesModel", name := "kernelOf", desc := "(I)I" } : Jvm.MethodName) prog_26_method_65_code (9 : Nat) (Option.some Jvm.ClassFile.FieldType.int)) ∈ lw_all := lw_g (lw_at lw_m9 219 rfl) rfl
theorem q2227 : (Jvm.Cond.methodLink "RoomTreesModel" (284 : Nat) ({ cls := "RoomTreesModel", name := "layRows", desc := "(I)V" } : Jvm.MethodName)) ∈ lw_all := lw_g (lw_at lw_m9 220 rfl) rfl
theorem q2228 : (Jvm.Cond.privateMethod ({ cls := "RoomTreesModel", name := "layRows", desc := "(I)V" } : Jvm.MethodName)) ∈ lw_tbl := lw_at lw_m9 221 rfl
theorem q2229 : (Jvm.Cond.instanceMethod ({ cls := "RoomTreesModel", name := "layRows", desc := "(I)V" } : Jvm.MethodName)) ∈ lw_all := lw_g (lw_at lw_m9 222 rfl) rfl
theorem q2230 : (Jvm.Cond.code ({ cls := "RoomTreesModel", name := "layRows", desc := "(I)V" } : Jvm.MethodName) prog_26_method_64_code (4 : Nat) (Option.none : Option Jvm.ClassFile.FieldType)) ∈ lw_all := lw_g (lw_at lw_m9 223 rfl) rfl
theorem q2231 : (Jvm.Cond.methodLink "RoomTreesModel" (281 : Nat) ({ cls := "RoomTreesModel", name := "mod", desc := "(II)I" } : Jvm.MethodName)) ∈ lw_all := lw_g (lw_at lw_m9 224 rfl) rfl
theorem q2232 : (Jvm.Cond.static ({ cls := "RoomTreesModel", name := "mod", desc := "(II)I" } : Jvm.MethodName)) ∈ lw_all := lw_g (lw_at lw_m9 225 rfl) rfl
theorem q2233 : (Jvm.Cond.code ({ cls := "RoomTreesModel", name := "mod", desc := "(II)I" } : Jvm.MethodName) prog_26_method_63_code (3 : Nat) (Option.some Jvm.ClassFile.FieldType.int)) ∈ lw_all := lw_g (lw_at lw_m9 226 rfl) rfl
theorem q2234 : (Jvm.Cond.methodLink "RoomTreesModel" (288 : Nat) ({ cls := "RoomTreesModel", name := "inverse", desc := "(II)I" } : Jvm.MethodName)) ∈ lw_all := lw_g (lw_at lw_m9 227 rfl) rfl
theorem q2235 : (Jvm.Cond.static ({ cls := "RoomTreesModel", name := "inverse", desc := "(II)I" } : Jvm.MethodName)) ∈ lw_all := lw_g (lw_at lw_m9 228 rfl) rfl
theorem q2236 : (Jvm.Cond.code ({ cls := "RoomTreesModel", name := "inverse", desc := "(II)I" } : Jvm.MethodName) prog_26_method_62_code (3 : Nat) (Option.some Jvm.ClassFile.FieldType.int)) ∈ lw_all := lw_g (lw_at lw_m9 229 rfl) rfl
theorem q2238 : (Jvm.Cond.instanceMethod ({ cls := "RoomTreesModel", name := "wu", desc := "(I)I" } : Jvm.MethodName)) ∈ lw_all := lw_g (lw_at lw_m9 231 rfl) rfl
theorem q2239 : (Jvm.Cond.selects "RoomTreesModel" ({ cls := "RoomTreesModel", name := "wu", desc := "(I)I" } : Jvm.MethodName) ({ cls := "RoomTreesModel", name := "wu", desc := "(I)I" } : Jvm.MethodName)) ∈ lw_all := lw_g (lw_at lw_m9 232 rfl) rfl
theorem q2240 : (Jvm.Cond.code ({ cls := "RoomTreesModel", name := "wu", desc := "(I)I" } : Jvm.MethodName) prog_26_method_70_code (2 : Nat) (Option.some Jvm.ClassFile.FieldType.int)) ∈ lw_all := lw_g (lw_at lw_m9 233 rfl) rfl
theorem q2241 : (Jvm.Cond.methodLink "RoomTreesModel" (297 : Nat) ({ cls := "RoomTreesModel", name := "manyWu", desc := "()I" } : Jvm.MethodName)) ∈ lw_all := lw_g (lw_at lw_m9 234 rfl) rfl
theorem q2242 : (Jvm.Cond.privateMethod ({ cls := "RoomTreesModel", name := "manyWu", desc := "()I" } : Jvm.MethodName)) ∈ lw_tbl := lw_at lw_m9 235 rfl
theorem q2243 : (Jvm.Cond.instanceMethod ({ cls := "RoomTreesModel", name := "manyWu", desc := "()I" } : Jvm.MethodName)) ∈ lw_all := lw_g (lw_at lw_m9 236 rfl) rfl
theorem q2244 : (Jvm.Cond.code ({ cls := "RoomTreesModel", name := "manyWu", desc := "()I" } : Jvm.MethodName) prog_26_method_69_code (3 : Nat) (Option.some Jvm.ClassFile.FieldType.int)) ∈ lw_all := lw_g (lw_at lw_m9 237 rfl) rfl
theorem q2245 : (Jvm.Cond.methodLink "RoomTreesModel" (294 : Nat) ({ cls := "RoomTreesModel", name := "isWu", desc := "(I)Z" } : Jvm.MethodName)) ∈ lw_all := lw_g (lw_at lw_m9 238 rfl) rfl
theorem q2246 : (Jvm.Cond.privateMethod ({ cls := "RoomTreesModel", name := "isWu", desc := "(I)Z" } : Jvm.MethodName)) ∈ lw_tbl := lw_at lw_m9 239 rfl
theorem q2247 : (Jvm.Cond.instanceMethod ({ cls := "RoomTreesModel", name := "isWu", desc := "(I)Z" } : Jvm.MethodName)) ∈ lw_all := lw_g (lw_at lw_m10 0 rfl) rfl
theorem q2248 : (Jvm.Cond.code ({ cls := "RoomTreesModel", name := "isWu", desc := "(I)Z" } : Jvm.MethodName) prog_26_method_67_code (4 : Nat) (Option.some Jvm.ClassFile.FieldType.boolean)) ∈ lw_all := lw_g (lw_at lw_m10 1 rfl) rfl
theorem q2249 : (Jvm.Cond.methodLink "RoomTreesModel" (300 : Nat) ({ cls := "RoomTreesModel", name := "leastWu", desc := "()I" } : Jvm.MethodName)) ∈ lw_all := lw_g (lw_at lw_m10 2 rfl) rfl
theorem q2250 : (Jvm.Cond.privateMethod ({ cls := "RoomTreesModel", name := "leastWu", desc := "()I" } : Jvm.MethodName)) ∈ lw_tbl := lw_at lw_m10 3 rfl
theorem q2251 : (Jvm.Cond.instanceMethod ({ cls := "RoomTreesModel", name := "leastWu", desc := "()I" } : Jvm.MethodName)) ∈ lw_all := lw_g (lw_at lw_m10 4 rfl) rfl
theorem q2252 : (Jvm.Cond.code ({ cls := "RoomTreesModel", name := "leastWu", desc := "()I" } : Jvm.MethodName) prog_26_method_68_code (2 : Nat) (Option.some Jvm.ClassFile.FieldType.int)) ∈ lw_all := lw_g (lw_at lw_m10 5 rfl) rfl
theorem q2254 : (Jvm.Cond.instanceMethod ({ cls := "RoomTreesModel", name := "mu", desc := "()I" } : Jvm.MethodName)) ∈ lw_all := lw_g (lw_at lw_m10 7 rfl) rfl
theorem q2255 : (Jvm.Cond.selects "RoomTreesModel" ({ cls := "RoomTreesModel", name := "mu", desc := "()I" } : Jvm.MethodName) ({ cls := "RoomTreesModel", name := "mu", desc := "()I" } : Jvm.MethodName)) ∈ lw_all := lw_g (lw_at lw_m10 8 rfl) rfl
theorem q2256 : (Jvm.Cond.code ({ cls := "RoomTreesModel", name := "mu", desc := "()I" } : Jvm.MethodName) prog_26_method_71_code (5 : Nat) (Option.some Jvm.ClassFile.FieldType.int)) ∈ lw_all := lw_g (lw_at lw_m10 9 rfl) rfl
theorem q2258 : (Jvm.Cond.instanceMethod ({ cls := "RoomTreesModel", name := "fraction", desc := "(III)I" } : Jvm.MethodName)) ∈ lw_all := lw_g (lw_at lw_m10 11 rfl) rfl
theorem q2259 : (Jvm.Cond.selects "RoomTreesModel" ({ cls := "RoomTreesModel", name := "fraction", desc := "(III)I" } : Jvm.MethodName) ({ cls := "RoomTreesModel", name := "fraction", desc := "(III)I" } : Jvm.MethodName)) ∈ lw_all := lw_g (lw_at lw_m10 12 rfl) rfl
theorem q2260 : (Jvm.Cond.code ({ cls := "RoomTreesModel", name := "fraction", desc := "(III)I" } : Jvm.MethodName) prog_26_method_73_code (11 : Nat) (Option.some Jvm.ClassFile.FieldType.int)) ∈ lw_all := lw_g (lw_at lw_m10 13 rfl) rfl
theorem q2261 : (Jvm.Cond.methodLink "RoomTreesModel" (303 : Nat) ({ cls := "RoomTreesModel", name := "way", desc := "(II)I" } : Jvm.MethodName)) ∈ lw_all := lw_g (lw_at lw_m10 14 rfl) rfl
theorem q2262 : (Jvm.Cond.privateMethod ({ cls := "RoomTreesModel", name := "way", desc := "(II)I" } : Jvm.MethodName)) ∈ lw_tbl := lw_at lw_m10 15 rfl
theorem q2263 : (Jvm.Cond.instanceMethod ({ cls := "RoomTreesModel", name := "way", desc := "(II)I" } : Jvm.MethodName)) ∈ lw_all := lw_g (lw_at lw_m10 16 rfl) rfl
theorem q2264 : (Jvm.Cond.code ({ cls := "RoomTreesModel", name := "way", desc := "(II)I" } : Jvm.MethodName) prog_26_method_72_code (7 : Nat) (Option.some Jvm.ClassFile.FieldType.int)) ∈ lw_all := lw_g (lw_at lw_m10 17 rfl) rfl
theorem q2266 : (Jvm.Cond.instanceMethod ({ cls := "RoomTreesModel", name := "room", desc := "(II)I" } : Jvm.MethodName)) ∈ lw_all := lw_g (lw_at lw_m10 19 rfl) rfl
theorem q2267 : (Jvm.Cond.selects "RoomTreesModel" ({ cls := "RoomTreesModel", name := "room", desc := "(II)I" } : Jvm.MethodName) ({ cls := "RoomTreesModel", name := "room", desc := "(II)I" } : Jvm.MethodName)) ∈ lw_all := lw_g (lw_at lw_m10 20 rfl) rfl
theorem q2268 : (Jvm.Cond.code ({ cls := "RoomTreesModel", name := "room", desc := "(II)I" } : Jvm.MethodName) prog_26_method_78_code (4 : Nat) (Option.some Jvm.ClassFile.FieldType.int)) ∈ lw_all := lw_g (lw_at lw_m10 21 rfl) rfl
theorem q2269 : (Jvm.Cond.methodLink "RoomTreesModel" (306 : Nat) ({ cls := "RoomTreesModel", name := "isLine", desc := "(I)Z" } : Jvm.MethodName)) ∈ lw_all := lw_g (lw_at lw_m10 22 rfl) rfl
theorem q2270 : (Jvm.Cond.privateMethod ({ cls := "RoomTreesModel", name := "isLine", desc := "(I)Z" } : Jvm.MethodName)) ∈ lw_tbl := lw_at lw_m10 23 rfl
theorem q2271 : (Jvm.Cond.instanceMethod ({ cls := "RoomTreesModel", name := "isLine", desc := "(I)Z" } : Jvm.MethodName)) ∈ lw_all := lw_g (lw_at lw_m10 24 rfl) rfl
theorem q2272 : (Jvm.Cond.code ({ cls := "RoomTreesModel", name := "isLine", desc := "(I)Z" } : Jvm.MethodName) prog_26_method_74_code (3 : Nat) (Option.some Jvm.ClassFile.FieldType.boolean)) ∈ lw_all := lw_g (lw_at lw_m10 25 rfl) rfl
theorem q2273 : (Jvm.Cond.methodLink "RoomTreesModel" (309 : Nat) ({ cls := "RoomTreesModel", name := "roomN", desc := "(I)J" } : Jvm.MethodName)) ∈ lw_all := lw_g (lw_at lw_m10 26 rfl) rfl
theorem q2274 : (Jvm.Cond.privateMethod ({ cls := "RoomTreesModel", name := "roomN", desc := "(I)J" } : Jvm.MethodName)) ∈ lw_tbl := lw_at lw_m10 27 rfl
theorem q2275 : (Jvm.Cond.instanceMethod ({ cls := "RoomTreesModel", name := "roomN", desc := "(I)J" } : Jvm.MethodName)) ∈ lw_all := lw_g (lw_at lw_m10 28 rfl) rfl
theorem q2276 : (Jvm.Cond.code ({ cls := "RoomTreesModel", name := "roomN", desc := "(I)J" } : Jvm.MethodName) prog_26_method_75_code (4 : Nat) (Option.some Jvm.ClassFile.FieldType.long)) ∈ lw_all := lw_g (lw_at lw_m10 29 rfl) rfl
theorem q2277 : (Jvm.Cond.methodLink "RoomTreesModel" (312 : Nat) ({ cls := "RoomTreesModel", name := "isOver", desc := "(J)Z" } : Jvm.MethodName)) ∈ lw_all := lw_g (lw_at lw_m10 30 rfl) rfl
theorem q2278 : (Jvm.Cond.static ({ cls := "RoomTreesModel", name := "isOver", desc := "(J)Z" } : Jvm.MethodName)) ∈ lw_all := lw_g (lw_at lw_m10 31 rfl) rfl
theorem q2279 : (Jvm.Cond.code ({ cls := "RoomTreesModel", name := "isOver", desc := "(J)Z" } : Jvm.MethodName) prog_26_method_77_code (2 : Nat) (Option.some Jvm.ClassFile.FieldType.boolean)) ∈ lw_all := lw_g (lw_at lw_m10 32 rfl) rfl
theorem q2280 : (Jvm.Cond.methodLink "RoomTreesModel" (316 : Nat) ({ cls := "RoomTreesModel", name := "roomM", desc := "(I)J" } : Jvm.MethodName)) ∈ lw_all := lw_g (lw_at lw_m10 33 rfl) rfl
theorem q2281 : (Jvm.Cond.privateMethod ({ cls := "RoomTreesModel", name := "roomM", desc := "(I)J" } : Jvm.MethodName)) ∈ lw_tbl := lw_at lw_m10 34 rfl
theorem q2282 : (Jvm.Cond.instanceMethod ({ cls := "RoomTreesModel", name := "roomM", desc := "(I)J" } : Jvm.MethodName)) ∈ lw_all := lw_g (lw_at lw_m10 35 rfl) rfl
theorem q2283 : (Jvm.Cond.code ({ cls := "RoomTreesModel", name := "roomM", desc := "(I)J" } : Jvm.MethodName) prog_26_method_76_code (11 : Nat) (Option.some Jvm.ClassFile.FieldType.long)) ∈ lw_all := lw_g (lw_at lw_m10 36 rfl) rfl
theorem q2285 : (Jvm.Cond.instanceMethod ({ cls := "RoomTreesModel", name := "oneRoom", desc := "(II)I" } : Jvm.MethodName)) ∈ lw_all := lw_g (lw_at lw_m10 38 rfl) rfl
theorem q2286 : (Jvm.Cond.selects "RoomTreesModel" ({ cls := "RoomTreesModel", name := "oneRoom", desc := "(II)I" } : Jvm.MethodName) ({ cls := "RoomTreesModel", name := "oneRoom", desc := "(II)I" } : Jvm.MethodName)) ∈ lw_all := lw_g (lw_at lw_m10 39 rfl) rfl
theorem q2287 : (Jvm.Cond.code ({ cls := "RoomTreesModel", name := "oneRoom", desc := "(II)I" } : Jvm.MethodName) prog_26_method_79_code (7 : Nat) (Option.some Jvm.ClassFile.FieldType.int)) ∈ lw_all := lw_g (lw_at lw_m10 40 rfl) rfl
theorem q2289 : (Jvm.Cond.instanceMethod ({ cls := "RoomTreesModel", name := "chain", desc := "(III)I" } : Jvm.MethodName)) ∈ lw_all := lw_g (lw_at lw_m10 42 rfl) rfl
theorem q2290 : (Jvm.Cond.selects "RoomTreesModel" ({ cls := "RoomTreesModel", name := "chain", desc := "(III)I" } : Jvm.MethodName) ({ cls := "RoomTreesModel", name := "chain", desc := "(III)I" } : Jvm.MethodName)) ∈ lw_all := lw_g (lw_at lw_m10 43 rfl) rfl
theorem q2291 : (Jvm.Cond.code ({ cls := "RoomTreesModel", name := "chain", desc := "(III)I" } : Jvm.MethodName) prog_26_method_82_code (5 : Nat) (Option.some Jvm.ClassFile.FieldType.int)) ∈ lw_all := lw_g (lw_at lw_m10 44 rfl) rfl
theorem q2292 : (Jvm.Cond.methodLink "RoomTreesModel" (321 : Nat) ({ cls := "RoomTreesModel", name := "isChain", desc := "(II)Z" } : Jvm.MethodName)) ∈ lw_all := lw_g (lw_at lw_m10 45 rfl) rfl
theorem q2293 : (Jvm.Cond.static ({ cls := "RoomTreesModel", name := "isChain", desc := "(II)Z" } : Jvm.MethodName)) ∈ lw_all := lw_g (lw_at lw_m10 46 rfl) rfl
theorem q2294 : (Jvm.Cond.code ({ cls := "RoomTreesModel", name := "isChain", desc := "(II)Z" } : Jvm.MethodName) prog_26_method_80_code (2 : Nat) (Option.some Jvm.ClassFile.FieldType.boolean)) ∈ lw_all := lw_g (lw_at lw_m10 47 rfl) rfl
theorem q2295 : (Jvm.Cond.constantLong "RoomTreesModel" (319 : Nat) (999 : Int64)) ∈ lw_all := lw_g (lw_at lw_m10 48 rfl) rfl
theorem q2296 : (Jvm.Cond.methodLink "RoomTreesModel" (324 : Nat) ({ cls := "RoomTreesModel", name := "chained", desc := "(III)I" } : Jvm.MethodName)) ∈ lw_all := lw_g (lw_at lw_m10 49 rfl) rfl
theorem q2297 : (Jvm.Cond.static ({ cls := "RoomTreesModel", name := "chained", desc := "(III)I" } : Jvm.MethodName)) ∈ lw_all := lw_g (lw_at lw_m10 50 rfl) rfl
theorem q2298 : (Jvm.Cond.code ({ cls := "RoomTreesModel", name := "chained", desc := "(III)I" } : Jvm.MethodName) prog_26_method_81_code (8 : Nat) (Option.some Jvm.ClassFile.FieldType.int)) ∈ lw_all := lw_g (lw_at lw_m10 51 rfl) rfl
theorem q2300 : (Jvm.Cond.instanceMethod ({ cls := "RoomTreesModel", name := "plant", desc := "(II)I" } : Jvm.MethodName)) ∈ lw_all := lw_g (lw_at lw_m10 53 rfl) rfl
theorem q2301 : (Jvm.Cond.selects "RoomTreesModel" ({ cls := "RoomTreesModel", name := "plant", desc := "(II)I" } : Jvm.MethodName) ({ cls := "RoomTreesModel", name := "plant", desc := "(II)I" } : Jvm.MethodName)) ∈ lw_all := lw_g (lw_at lw_m10 54 rfl) rfl
theorem q2302 : (Jvm.Cond.code ({ cls := "RoomTreesModel", name := "plant", desc := "(II)I" } : Jvm.MethodName) prog_26_method_83_code (8 : Nat) (Option.some Jvm.ClassFile.FieldType.int)) ∈ lw_all := lw_g (lw_at lw_m10 55 rfl) rfl
theorem q2304 : (Jvm.Cond.instanceMethod ({ cls := "RoomTreesModel", name := "feed", desc := "(JI)I" } : Jvm.MethodName)) ∈ lw_all := lw_g (lw_at lw_m10 57 rfl) rfl
theorem q2305 : (Jvm.Cond.selects "RoomTreesModel" ({ cls := "RoomTreesModel", name := "feed", desc := "(JI)I" } : Jvm.MethodName) ({ cls := "RoomTreesModel", name := "feed", desc := "(JI)I" } : Jvm.MethodName)) ∈ lw_all := lw_g (lw_at lw_m10 58 rfl) rfl
theorem q2306 : (Jvm.Cond.code ({ cls := "RoomTreesModel", name := "feed", desc := "(JI)I" } : Jvm.MethodName) prog_26_method_84_code (5 : Nat) (Option.some Jvm.ClassFile.FieldType.int)) ∈ lw_all := lw_g (lw_at lw_m10 59 rfl) rfl
theorem q2307 : (Jvm.Cond.constantLong "RoomTreesModel" (328 : Nat) (8 : Int64)) ∈ lw_all := lw_g (lw_at lw_m10 60 rfl) rfl
theorem q2308 : (Jvm.Cond.constantLong "RoomTreesModel" (333 : Nat) (255 : Int64)) ∈ lw_all := lw_g (lw_at lw_m10 61 rfl) rfl
theorem q2310 : (Jvm.Cond.instanceMethod ({ cls := "RoomTreesModel", name := "forest", desc := "()I" } : Jvm.MethodName)) ∈ lw_all := lw_g (lw_at lw_m10 63 rfl) rfl
theorem q2311 : (Jvm.Cond.selects "RoomTreesModel" ({ cls := "RoomTreesModel", name := "forest", desc := "()I" } : Jvm.MethodName) ({ cls := "RoomTreesModel", name := "forest", desc := "()I" } : Jvm.MethodName)) ∈ lw_all := lw_g (lw_at lw_m10 64 rfl) rfl
theorem q2312 : (Jvm.Cond.code ({ cls := "RoomTreesModel", name := "forest", desc := "()I" } : Jvm.MethodName) prog_26_method_91_code (2 : Nat) (Option.some Jvm.ClassFile.FieldType.int)) ∈ lw_all := lw_g (lw_at lw_m10 65 rfl) rfl
theorem q2313 : (Jvm.Cond.methodLink "RoomTreesModel" (361 : Nat) ({ cls := "RoomTreesModel", name := "forestHere", desc := "()V" } : Jvm.MethodName)) ∈ lw_all := lw_g (lw_at lw_m10 66 rfl) rfl
theorem q2314 : (Jvm.Cond.privateMethod ({ cls := "RoomTreesModel", name := "forestHere", desc := "()V" } : Jvm.MethodName)) ∈ lw_tbl := lw_at lw_m10 67 rfl
theorem q2315 : (Jvm.Cond.instanceMethod ({ cls := "RoomTreesModel", name := "forestHere", desc := "()V" } : Jvm.MethodName)) ∈ lw_all := lw_g (lw_at lw_m10 68 rfl) rfl
theorem q2316 : (Jvm.Cond.code ({ cls := "RoomTreesModel", name := "forestHere", desc := "()V" } : Jvm.MethodName) prog_26_method_90_code (3 : Nat) (Option.none : Option Jvm.ClassFile.FieldType)) ∈ lw_all := lw_g (lw_at lw_m10 69 rfl) rfl
theorem q2317 : (Jvm.Cond.methodLink "RoomTreesModel" (342 : Nat) ({ cls := "RoomTreesModel", name := "here", desc := "()I" } : Jvm.MethodName)) ∈ lw_all := lw_g (lw_at lw_m10 70 rfl) rfl
theorem q2318 : (Jvm.Cond.privateMethod ({ cls := "RoomTreesModel", name := "here", desc := "()I" } : Jvm.MethodName)) ∈ lw_tbl := lw_at lw_m10 71 rfl
theorem q2319 : (Jvm.Cond.instanceMethod ({ cls := "RoomTreesModel", name := "here", desc := "()I" } : Jvm.MethodName)) ∈ lw_all := lw_g (lw_at lw_m10 72 rfl) rfl
theorem q2320 : (Jvm.Cond.code ({ cls := "RoomTreesModel", name := "here", desc := "()I" } : Jvm.MethodName) prog_26_method_85_code (1 : Nat) (Option.some Jvm.ClassFile.FieldType.int)) ∈ lw_all := lw_g (lw_at lw_m10 73 rfl) rfl
theorem q2321 : (Jvm.Cond.methodLink "RoomTreesModel" (358 : Nat) ({ cls := "RoomTreesModel", name := "opensHere", desc := "(I)I" } : Jvm.MethodName)) ∈ lw_all := lw_g (lw_at lw_m10 74 rfl) rfl
theorem q2322 : (Jvm.Cond.privateMethod ({ cls := "RoomTreesModel", name := "opensHere", desc := "(I)I" } : Jvm.MethodName)) ∈ lw_tbl := lw_at lw_m10 75 rfl
theorem q2323 : (Jvm.Cond.instanceMethod ({ cls := "RoomTreesModel", name := "opensHere", desc := "(I)I" } : Jvm.MethodName)) ∈ lw_all := lw_g (lw_at lw_m10 76 rfl) rfl
theorem q2324 : (Jvm.Cond.code ({ cls := "RoomTreesModel", name := "opensHere", desc := "(I)I" } : Jvm.MethodName) prog_26_method_89_code (4 : Nat) (Option.some Jvm.ClassFile.FieldType.int)) ∈ lw_all := lw_g (lw_at lw_m10 77 rfl) rfl
theorem q2325 : (Jvm.Cond.methodLink "RoomTreesModel" (355 : Nat) ({ cls := "RoomTreesModel", name := "weightHere", desc := "()I" } : Jvm.MethodName)) ∈ lw_all := lw_g (lw_at lw_m10 78 rfl) rfl
theorem q2326 : (Jvm.Cond.privateMethod ({ cls := "RoomTreesModel", name := "weightHere", desc := "()I" } : Jvm.MethodName)) ∈ lw_tbl := lw_at lw_m10 79 rfl
theorem q2327 : (Jvm.Cond.instanceMethod ({ cls := "RoomTreesModel", name := "weightHere", desc := "()I" } : Jvm.MethodName)) ∈ lw_all := lw_g (lw_at lw_m10 80 rfl) rfl
theorem q2328 : (Jvm.Cond.code ({ cls := "RoomTreesModel", name := "weightHere", desc := "()I" } : Jvm.MethodName) prog_26_method_88_code (5 : Nat) (Option.some Jvm.ClassFile.FieldType.int)) ∈ lw_all := lw_g (lw_at lw_m10 81 rfl) rfl
theorem q2329 : (Jvm.Cond.methodLink "RoomTreesModel" (345 : Nat) ({ cls := "RoomTreesModel", name := "byteAt", desc := "(I)I" } : Jvm.MethodName)) ∈ lw_all := lw_g (lw_at lw_m10 82 rfl) rfl
theorem q2330 : (Jvm.Cond.privateMethod ({ cls := "RoomTreesModel", name := "byteAt", desc := "(I)I" } : Jvm.MethodName)) ∈ lw_tbl := lw_at lw_m10 83 rfl
theorem q2331 : (Jvm.Cond.instanceMethod ({ cls := "RoomTreesModel", name := "byteAt", desc := "(I)I" } : Jvm.MethodName)) ∈ lw_all := lw_g (lw_at lw_m10 84 rfl) rfl
theorem q2332 : (Jvm.Cond.code ({ cls := "RoomTreesModel", name := "byteAt", desc := "(I)I" } : Jvm.MethodName) prog_26_method_86_code (2 : Nat) (Option.some Jvm.ClassFile.FieldType.int)) ∈ lw_all := lw_g (lw_at lw_m10 85 rfl) rfl
theorem q2333 : (Jvm.Cond.methodLink "RoomTreesModel" (348 : Nat) ({ cls := "RoomTreesModel", name := "isDigit", desc := "(I)Z" } : Jvm.MethodName)) ∈ lw_all := lw_g (lw_at lw_m10 86 rfl) rfl
theorem q2334 : (Jvm.Cond.static ({ cls := "RoomTreesModel", name := "isDigit", desc := "(I)Z" } : Jvm.MethodName)) ∈ lw_all := lw_g (lw_at lw_m10 87 rfl) rfl
theorem q2335 : (Jvm.Cond.code ({ cls := "RoomTreesModel", name := "isDigit", desc := "(I)Z" } : Jvm.MethodName) prog_26_method_87_code (1 : Nat) (Option.some Jvm.ClassFile.FieldType.boolean)) ∈ lw_all := lw_g (lw_at lw_m10 88 rfl) rfl
theorem q2336 : (Jvm.Cond.constantLong "RoomTreesModel" (338 : Nat) (48 : Int64)) ∈ lw_all := lw_g (lw_at lw_m10 89 rfl) rfl
theorem q2337 : (Jvm.Cond.constantLong "RoomTreesModel" (340 : Nat) (57 : Int64)) ∈ lw_all := lw_g (lw_at lw_m10 90 rfl) rfl
theorem q2339 : (Jvm.Cond.instanceMethod ({ cls := "RoomTreesModel", name := "least", desc := "(I)I" } : Jvm.MethodName)) ∈ lw_all := lw_g (lw_at lw_m10 92 rfl) rfl
theorem q2340 : (Jvm.Cond.selects "RoomTreesModel" ({ cls := "RoomTreesModel", name := "least", desc := "(I)I" } : Jvm.MethodName) ({ cls := "RoomTreesModel", name := "least", desc := "(I)I" } : Jvm.MethodName)) ∈ lw_all := lw_g (lw_at lw_m10 93 rfl) rfl
theorem q2341 : (Jvm.Cond.code ({ cls := "RoomTreesModel", name := "least", desc := "(I)I" } : Jvm.MethodName) prog_26_method_97_code (2 : Nat) (Option.some Jvm.ClassFile.FieldType.int)) ∈ lw_all := lw_g (lw_at lw_m10 94 rfl) rfl
theorem q2342 : (Jvm.Cond.methodLink "RoomTreesModel" (381 : Nat) ({ cls := "RoomTreesModel", name := "layText", desc := "([I)V" } : Jvm.MethodName)) ∈ lw_all := lw_g (lw_at lw_m10 95 rfl) rfl
theorem q2343 : (Jvm.Cond.privateMethod ({ cls := "RoomTreesModel", name := "layText", desc := "([I)V" } : Jvm.MethodName)) ∈ lw_tbl := lw_at lw_m10 96 rfl
theorem q2344 : (Jvm.Cond.instanceMethod ({ cls := "RoomTreesModel", name := "layText", desc := "([I)V" } : Jvm.MethodName)) ∈ lw_all := lw_g (lw_at lw_m10 97 rfl) rfl
theorem q2345 : (Jvm.Cond.code ({ cls := "RoomTreesModel", name := "layText", desc := "([I)V" } : Jvm.MethodName) prog_26_method_96_code (5 : Nat) (Option.none : Option Jvm.ClassFile.FieldType)) ∈ lw_all := lw_g (lw_at lw_m10 98 rfl) rfl
theorem q2346 : (Jvm.Cond.methodLink "RoomTreesModel" (375 : Nat) ({ cls := "RoomTreesModel", name := "layTree", desc := "([II)V" } : Jvm.MethodName)) ∈ lw_all := lw_g (lw_at lw_m10 99 rfl) rfl
theorem q2347 : (Jvm.Cond.privateMethod ({ cls := "RoomTreesModel", name := "layTree", desc := "([II)V" } : Jvm.MethodName)) ∈ lw_tbl := lw_at lw_m10 100 rfl
theorem q2348 : (Jvm.Cond.instanceMethod ({ cls := "RoomTreesModel", name := "layTree", desc := "([II)V" } : Jvm.MethodName)) ∈ lw_all := lw_g (lw_at lw_m10 101 rfl) rfl
theorem q2349 : (Jvm.Cond.code ({ cls := "RoomTreesModel", name := "layTree", desc := "([II)V" } : Jvm.MethodName) prog_26_method_95_code (6 : Nat) (Option.none : Option Jvm.ClassFile.FieldType)) ∈ lw_all := lw_g (lw_at lw_m10 102 rfl) rfl
theorem q2350 : (Jvm.Cond.methodLink "RoomTreesModel" (364 : Nat) ({ cls := "RoomTreesModel", name := "layHang", desc := "([III)V" } : Jvm.MethodName)) ∈ lw_all := lw_g (lw_at lw_m10 103 rfl) rfl
theorem q2351 : (Jvm.Cond.privateMethod ({ cls := "RoomTreesModel", name := "layHang", desc := "([III)V" } : Jvm.MethodName)) ∈ lw_tbl := lw_at lw_m10 104 rfl
theorem q2352 : (Jvm.Cond.instanceMethod ({ cls := "RoomTreesModel", name := "layHang", desc := "([III)V" } : Jvm.MethodName)) ∈ lw_all := lw_g (lw_at lw_m10 105 rfl) rfl
theorem q2353 : (Jvm.Cond.code ({ cls := "RoomTreesModel", name := "layHang", desc := "([III)V" } : Jvm.MethodName) prog_26_method_94_code (9 : Nat) (Option.none : Option Jvm.ClassFile.FieldType)) ∈ lw_all := lw_g (lw_at lw_m10 106 rfl) rfl
theorem q2354 : (Jvm.Cond.methodLink "RoomTreesModel" (367 : Nat) ({ cls := "RoomTreesModel", name := "laysWeight", desc := "([III)I" } : Jvm.MethodName)) ∈ lw_all := lw_g (lw_at lw_m10 107 rfl) rfl
theorem q2355 : (Jvm.Cond.static ({ cls := "RoomTreesModel", name := "laysWeight", desc := "([III)I" } : Jvm.MethodName)) ∈ lw_all := lw_g (lw_at lw_m10 108 rfl) rfl
theorem q2356 : (Jvm.Cond.code ({ cls := "RoomTreesModel", name := "laysWeight", desc := "([III)I" } : Jvm.MethodName) prog_26_method_93_code (5 : Nat) (Option.some Jvm.ClassFile.FieldType.int)) ∈ lw_all := lw_g (lw_at lw_m10 109 rfl) rfl
theorem q2357 : (Jvm.Cond.methodLink "RoomTreesModel" (371 : Nat) ({ cls := "RoomTreesModel", name := "isAhead", desc := "([II[II)Z" } : Jvm.MethodName)) ∈ lw_all := lw_g (lw_at lw_m10 110 rfl) rfl
theorem q2358 : (Jvm.Cond.static ({ cls := "RoomTreesModel", name := "isAhead", desc := "([II[II)Z" } : Jvm.MethodName)) ∈ lw_all := lw_g (lw_at lw_m10 111 rfl) rfl
theorem q2359 : (Jvm.Cond.code ({ cls := "RoomTreesModel", name := "isAhead", desc := "([II[II)Z" } : Jvm.MethodName) prog_26_method_92_code (5 : Nat) (Option.some Jvm.ClassFile.FieldType.boolean)) ∈ lw_all := lw_g (lw_at lw_m10 112 rfl) rfl
theorem q2361 : (Jvm.Cond.instanceMethod ({ cls := "RoomTreesModel", name := "keep", desc := "(I)I" } : Jvm.MethodName)) ∈ lw_all := lw_g (lw_at lw_m10 114 rfl) rfl
theorem q2362 : (Jvm.Cond.selects "RoomTreesModel" ({ cls := "RoomTreesModel", name := "keep", desc := "(I)I" } : Jvm.MethodName) ({ cls := "RoomTreesModel", name := "keep", desc := "(I)I" } : Jvm.MethodName)) ∈ lw_all := lw_g (lw_at lw_m10 115 rfl) rfl
theorem q2363 : (Jvm.Cond.code ({ cls := "RoomTreesModel", name := "keep", desc := "(I)I" } : Jvm.MethodName) prog_26_method_99_code (2 : Nat) (Option.some Jvm.ClassFile.FieldType.int)) ∈ lw_all := lw_g (lw_at lw_m10 116 rfl) rfl
theorem q2364 : (Jvm.Cond.methodLink "RoomTreesModel" (385 : Nat) ({ cls := "RoomTreesModel", name := "isFour", desc := "(I)Z" } : Jvm.MethodName)) ∈ lw_all := lw_g (lw_at lw_m10 117 rfl) rfl
theorem q2365 : (Jvm.Cond.static ({ cls := "RoomTreesModel", name := "isFour", desc := "(I)Z" } : Jvm.MethodName)) ∈ lw_all := lw_g (lw_at lw_m10 118 rfl) rfl
theorem q2366 : (Jvm.Cond.code ({ cls := "RoomTreesModel", name := "isFour", desc := "(I)Z" } : Jvm.MethodName) prog_26_method_98_code (1 : Nat) (Option.some Jvm.ClassFile.FieldType.boolean)) ∈ lw_all := lw_g (lw_at lw_m10 119 rfl) rfl
theorem q2368 : (Jvm.Cond.instanceMethod ({ cls := "RoomTreesModel", name := "fetch", desc := "(I)I" } : Jvm.MethodName)) ∈ lw_all := lw_g (lw_at lw_m10 121 rfl) rfl
theorem q2369 : (Jvm.Cond.selects "RoomTreesModel" ({ cls := "RoomTreesModel", name := "fetch", desc := "(I)I" } : Jvm.MethodName) ({ cls := "RoomTreesModel", name := "fetch", desc := "(I)I" } : Jvm.MethodName)) ∈ lw_all := lw_g (lw_at lw_m10 122 rfl) rfl
theorem q2370 : (Jvm.Cond.code ({ cls := "RoomTreesModel", name := "fetch", desc := "(I)I" } : Jvm.MethodName) prog_26_method_100_code (2 : Nat) (Option.some Jvm.ClassFile.FieldType.int)) ∈ lw_all := lw_g (lw_at lw_m10 123 rfl) rfl
theorem q2372 : (Jvm.Cond.instanceMethod ({ cls := "RoomTreesModel", name := "drop", desc := "(I)I" } : Jvm.MethodName)) ∈ lw_all := lw_g (lw_at lw_m10 125 rfl) rfl
theorem q2373 : (Jvm.Cond.selects "RoomTreesModel" ({ cls := "RoomTreesModel", name := "drop", desc := "(I)I" } : Jvm.MethodName) ({ cls := "RoomTreesModel", name := "drop", desc := "(I)I" } : Jvm.MethodName)) ∈ lw_all := lw_g (lw_at lw_m10 126 rfl) rfl
theorem q2374 : (Jvm.Cond.code ({ cls := "RoomTreesModel", name := "drop", desc := "(I)I" } : Jvm.MethodName) prog_26_method_101_code (3 : Nat) (Option.some Jvm.ClassFile.FieldType.int)) ∈ lw_all := lw_g (lw_at lw_m10 127 rfl) rfl
theorem q2376 : (Jvm.Cond.instanceMethod ({ cls := "RoomTreesModel", name := "alike", desc := "(I)I" } : Jvm.MethodName)) ∈ lw_all := lw_g (lw_at lw_m10 129 rfl) rfl
theorem q2377 : (Jvm.Cond.selects "RoomTreesModel" ({ cls := "RoomTreesModel", name := "alike", desc := "(I)I" } : Jvm.MethodName) ({ cls := "RoomTreesModel", name := "alike", desc := "(I)I" } : Jvm.MethodName)) ∈ lw_all := lw_g (lw_at lw_m10 130 rfl) rfl
theorem q2378 : (Jvm.Cond.code ({ cls := "RoomTreesModel", name := "alike", desc := "(I)I" } : Jvm.MethodName) prog_26_method_104_code (2 : Nat) (Option.some Jvm.ClassFile.FieldType.int)) ∈ lw_all := lw_g (lw_at lw_m10 131 rfl) rfl
theorem q2379 : (Jvm.Cond.methodLink "RoomTreesModel" (391 : Nat) ({ cls := "RoomTreesModel", name := "layDue", desc := "([I)V" } : Jvm.MethodName)) ∈ lw_all := lw_g (lw_at lw_m10 132 rfl) rfl
theorem q2380 : (Jvm.Cond.privateMethod ({ cls := "RoomTreesModel", name := "layDue", desc := "([I)V" } : Jvm.MethodName)) ∈ lw_tbl := lw_at lw_m10 133 rfl
theorem q2381 : (Jvm.Cond.instanceMethod ({ cls := "RoomTreesModel", name := "layDue", desc := "([I)V" } : Jvm.MethodName)) ∈ lw_all := lw_g (lw_at lw_m10 134 rfl) rfl
theorem q2382 : (Jvm.Cond.code ({ cls := "RoomTreesModel", name := "layDue", desc := "([I)V" } : Jvm.MethodName) prog_26_method_102_code (3 : Nat) (Option.none : Option Jvm.ClassFile.FieldType)) ∈ lw_all := lw_g (lw_at lw_m10 135 rfl) rfl
theorem q2383 : (Jvm.Cond.methodLink "RoomTreesModel" (394 : Nat) ({ cls := "RoomTreesModel", name := "isDue", desc := "([I)Z" } : Jvm.MethodName)) ∈ lw_all := lw_g (lw_at lw_m10 136 rfl) rfl
theorem q2384 : (Jvm.Cond.privateMethod ({ cls := "RoomTreesModel", name := "isDue", desc := "([I)Z" } : Jvm.MethodName)) ∈ lw_tbl := lw_at lw_m10 137 rfl
theorem q2385 : (Jvm.Cond.instanceMethod ({ cls := "RoomTreesModel", name := "isDue", desc := "([I)Z" } : Jvm.MethodName)) ∈ lw_all := lw_g (lw_at lw_m10 138 rfl) rfl
theorem q2386 : (Jvm.Cond.code ({ cls := "RoomTreesModel", name := "isDue", desc := "([I)Z" } : Jvm.MethodName) prog_26_method_103_code (4 : Nat) (Option.some Jvm.ClassFile.FieldType.boolean)) ∈ lw_all := lw_g (lw_at lw_m10 139 rfl) rfl
theorem q2388 : (Jvm.Cond.instanceMethod ({ cls := "RoomTreesModel", name := "worker", desc := "(II)I" } : Jvm.MethodName)) ∈ lw_all := lw_g (lw_at lw_m10 141 rfl) rfl
theorem q2389 : (Jvm.Cond.selects "RoomTreesModel" ({ cls := "RoomTreesModel", name := "worker", desc := "(II)I" } : Jvm.MethodName) ({ cls := "RoomTreesModel", name := "worker", desc := "(II)I" } : Jvm.MethodName)) ∈ lw_all := lw_g (lw_at lw_m10 142 rfl) rfl
theorem q2390 : (Jvm.Cond.code ({ cls := "RoomTreesModel", name := "worker", desc := "(II)I" } : Jvm.MethodName) prog_26_method_106_code (3 : Nat) (Option.some Jvm.ClassFile.FieldType.int)) ∈ lw_all := lw_g (lw_at lw_m10 143 rfl) rfl
theorem q2391 : (Jvm.Cond.constantLong "RoomTreesModel" (401 : Nat) (9 : Int64)) ∈ lw_all := lw_g (lw_at lw_m10 144 rfl) rfl
theorem q2393 : (Jvm.Cond.instanceMethod ({ cls := "RoomTreesModel", name := "workerIs", desc := "(II)I" } : Jvm.MethodName)) ∈ lw_all := lw_g (lw_at lw_m10 146 rfl) rfl
theorem q2394 : (Jvm.Cond.selects "RoomTreesModel" ({ cls := "RoomTreesModel", name := "workerIs", desc := "(II)I" } : Jvm.MethodName) ({ cls := "RoomTreesModel", name := "workerIs", desc := "(II)I" } : Jvm.MethodName)) ∈ lw_all := lw_g (lw_at lw_m10 147 rfl) rfl
theorem q2395 : (Jvm.Cond.code ({ cls := "RoomTreesModel", name := "workerIs", desc := "(II)I" } : Jvm.MethodName) prog_26_method_108_code (3 : Nat) (Option.some Jvm.ClassFile.FieldType.int)) ∈ lw_all := lw_g (lw_at lw_m10 148 rfl) rfl
theorem q2396 : (Jvm.Cond.methodLink "RoomTreesModel" (403 : Nat) ({ cls := "RoomTreesModel", name := "isWorker", desc := "(I)Z" } : Jvm.MethodName)) ∈ lw_all := lw_g (lw_at lw_m10 149 rfl) rfl
theorem q2397 : (Jvm.Cond.privateMethod ({ cls := "RoomTreesModel", name := "isWorker", desc := "(I)Z" } : Jvm.MethodName)) ∈ lw_tbl := lw_at lw_m10 150 rfl
theorem q2398 : (Jvm.Cond.instanceMethod ({ cls := "RoomTreesModel", name := "isWorker", desc := "(I)Z" } : Jvm.MethodName)) ∈ lw_all := lw_g (lw_at lw_m10 151 rfl) rfl
theorem q2399 : (Jvm.Cond.code ({ cls := "RoomTreesModel", name := "isWorker", desc := "(I)Z" } : Jvm.MethodName) prog_26_method_105_code (2 : Nat) (Option.some Jvm.ClassFile.FieldType.boolean)) ∈ lw_all := lw_g (lw_at lw_m10 152 rfl) rfl
theorem q2400 : (Jvm.Cond.methodLink "RoomTreesModel" (406 : Nat) ({ cls := "RoomTreesModel", name := "cost", desc := "(II)I" } : Jvm.MethodName)) ∈ lw_all := lw_g (lw_at lw_m10 153 rfl) rfl
theorem q2401 : (Jvm.Cond.static ({ cls := "RoomTreesModel", name := "cost", desc := "(II)I" } : Jvm.MethodName)) ∈ lw_all := lw_g (lw_at lw_m10 154 rfl) rfl
theorem q2402 : (Jvm.Cond.code ({ cls := "RoomTreesModel", name := "cost", desc := "(II)I" } : Jvm.MethodName) prog_26_method_107_code (2 : Nat) (Option.some Jvm.ClassFile.FieldType.int)) ∈ lw_all := lw_g (lw_at lw_m10 155 rfl) rfl
theorem q2404 : (Jvm.Cond.instanceMethod ({ cls := "RoomTreesModel", name := "become", desc := "(II)I" } : Jvm.MethodName)) ∈ lw_all := lw_g (lw_at lw_m10 157 rfl) rfl
theorem q2405 : (Jvm.Cond.selects "RoomTreesModel" ({ cls := "RoomTreesModel", name := "become", desc := "(II)I" } : Jvm.MethodName) ({ cls := "RoomTreesModel", name := "become", desc := "(II)I" } : Jvm.MethodName)) ∈ lw_all := lw_g (lw_at lw_m10 158 rfl) rfl
theorem q2406 : (Jvm.Cond.code ({ cls := "RoomTreesModel", name := "become", desc := "(II)I" } : Jvm.MethodName) prog_26_method_109_code (4 : Nat) (Option.some Jvm.ClassFile.FieldType.int)) ∈ lw_all := lw_g (lw_at lw_m10 159 rfl) rfl
theorem q2408 : (Jvm.Cond.instanceMethod ({ cls := "RoomTreesModel", name := "as", desc := "(II)I" } : Jvm.MethodName)) ∈ lw_all := lw_g (lw_at lw_m10 161 rfl) rfl
theorem q2409 : (Jvm.Cond.selects "RoomTreesModel" ({ cls := "RoomTreesModel", name := "as", desc := "(II)I" } : Jvm.MethodName) ({ cls := "RoomTreesModel", name := "as", desc := "(II)I" } : Jvm.MethodName)) ∈ lw_all := lw_g (lw_at lw_m10 162 rfl) rfl
theorem q2410 : (Jvm.Cond.code ({ cls := "RoomTreesModel", name := "as", desc := "(II)I" } : Jvm.MethodName) prog_26_method_110_code (5 : Nat) (Option.some Jvm.ClassFile.FieldType.int)) ∈ lw_all := lw_g (lw_at lw_m10 163 rfl) rfl
theorem q2412 : (Jvm.Cond.instanceMethod ({ cls := "RoomTreesModel", name := "next", desc := "(II)I" } : Jvm.MethodName)) ∈ lw_all := lw_g (lw_at lw_m10 165 rfl) rfl
theorem q2413 : (Jvm.Cond.selects "RoomTreesModel" ({ cls := "RoomTreesModel", name := "next", desc := "(II)I" } : Jvm.MethodName) ({ cls := "RoomTreesModel", name := "next", desc := "(II)I" } : Jvm.MethodName)) ∈ lw_all := lw_g (lw_at lw_m10 166 rfl) rfl
theorem q2414 : (Jvm.Cond.code ({ cls := "RoomTreesModel", name := "next", desc := "(II)I" } : Jvm.MethodName) prog_26_method_113_code (4 : Nat) (Option.some Jvm.ClassFile.FieldType.int)) ∈ lw_all := lw_g (lw_at lw_m10 167 rfl) rfl
theorem q2415 : (Jvm.Cond.methodLink "RoomTreesModel" (413 : Nat) ({ cls := "RoomTreesModel", name := "nextOf", desc := "([III)I" } : Jvm.MethodName)) ∈ lw_all := lw_g (lw_at lw_m10 168 rfl) rfl
theorem q2416 : (Jvm.Cond.static ({ cls := "RoomTreesModel", name := "nextOf", desc := "([III)I" } : Jvm.MethodName)) ∈ lw_all := lw_g (lw_at lw_m10 169 rfl) rfl
theorem q2417 : (Jvm.Cond.code ({ cls := "RoomTreesModel", name := "nextOf", desc := "([III)I" } : Jvm.MethodName) prog_26_method_112_code (4 : Nat) (Option.some Jvm.ClassFile.FieldType.int)) ∈ lw_all := lw_g (lw_at lw_m10 170 rfl) rfl
theorem q2418 : (Jvm.Cond.methodLink "RoomTreesModel" (409 : Nat) ({ cls := "RoomTreesModel", name := "found", desc := "([IIIIIZ)I" } : Jvm.MethodName)) ∈ lw_all := lw_g (lw_at lw_m10 171 rfl) rfl
theorem q2419 : (Jvm.Cond.static ({ cls := "RoomTreesModel", name := "found", desc := "([IIIIIZ)I" } : Jvm.MethodName)) ∈ lw_all := lw_g (lw_at lw_m10 172 rfl) rfl
theorem q2420 : (Jvm.Cond.code ({ cls := "RoomTreesModel", name := "found", desc := "([IIIIIZ)I" } : Jvm.MethodName) prog_26_method_111_code (9 : Nat) (Option.some Jvm.ClassFile.FieldType.int)) ∈ lw_all := lw_g (lw_at lw_m10 173 rfl) rfl
theorem q2422 : (Jvm.Cond.instanceMethod ({ cls := "RoomTreesModel", name := "work", desc := "(II)I" } : Jvm.MethodName)) ∈ lw_all := lw_g (lw_at lw_m10 175 rfl) rfl
theorem q2423 : (Jvm.Cond.selects "RoomTreesModel" ({ cls := "RoomTreesModel", name := "work", desc := "(II)I" } : Jvm.MethodName) ({ cls := "RoomTreesModel", name := "work", desc := "(II)I" } : Jvm.MethodName)) ∈ lw_all := lw_g (lw_at lw_m10 176 rfl) rfl
theorem q2424 : (Jvm.Cond.code ({ cls := "RoomTreesModel", name := "work", desc := "(II)I" } : Jvm.MethodName) prog_26_method_114_code (6 : Nat) (Option.some Jvm.ClassFile.FieldType.int)) ∈ lw_all := lw_g (lw_at lw_m10 177 rfl) rfl
theorem q2425 : (Jvm.Cond.constantLong "RoomTreesModel" (416 : Nat) (12 : Int64)) ∈ lw_all := lw_g (lw_at lw_m10 178 rfl) rfl
theorem q2427 : (Jvm.Cond.instanceMethod ({ cls := "RoomTreesModel", name := "rest", desc := "(II)I" } : Jvm.MethodName)) ∈ lw_all := lw_g (lw_at lw_m10 180 rfl) rfl
theorem q2428 : (Jvm.Cond.selects "RoomTreesModel" ({ cls := "RoomTreesModel", name := "rest", desc := "(II)I" } : Jvm.MethodName) ({ cls := "RoomTreesModel", name := "rest", desc := "(II)I" } : Jvm.MethodName)) ∈ lw_all := lw_g (lw_at lw_m10 181 rfl) rfl
theorem q2429 : (Jvm.Cond.code ({ cls := "RoomTreesModel", name := "rest", desc := "(II)I" } : Jvm.MethodName) prog_26_method_117_code (4 : Nat) (Option.some Jvm.ClassFile.FieldType.int)) ∈ lw_all := lw_g (lw_at lw_m10 182 rfl) rfl
theorem q2430 : (Jvm.Cond.methodLink "RoomTreesModel" (418 : Nat) ({ cls := "RoomTreesModel", name := "toTheEnd", desc := "(II)I" } : Jvm.MethodName)) ∈ lw_all := lw_g (lw_at lw_m10 183 rfl) rfl
theorem q2431 : (Jvm.Cond.privateMethod ({ cls := "RoomTreesModel", name := "toTheEnd", desc := "(II)I" } : Jvm.MethodName)) ∈ lw_tbl := lw_at lw_m10 184 rfl
theorem q2432 : (Jvm.Cond.instanceMethod ({ cls := "RoomTreesModel", name := "toTheEnd", desc := "(II)I" } : Jvm.MethodName)) ∈ lw_all := lw_g (lw_at lw_m10 185 rfl) rfl
theorem q2433 : (Jvm.Cond.code ({ cls := "RoomTreesModel", name := "toTheEnd", desc := "(II)I" } : Jvm.MethodName) prog_26_method_115_code (6 : Nat) (Option.some Jvm.ClassFile.FieldType.int)) ∈ lw_all := lw_g (lw_at lw_m10 186 rfl) rfl
theorem q2434 : (Jvm.Cond.methodLink "RoomTreesModel" (421 : Nat) ({ cls := "RoomTreesModel", name := "weights", desc := "([I)I" } : Jvm.MethodName)) ∈ lw_all := lw_g (lw_at lw_m10 187 rfl) rfl
theorem q2435 : (Jvm.Cond.static ({ cls := "RoomTreesModel", name := "weights", desc := "([I)I" } : Jvm.MethodName)) ∈ lw_all := lw_g (lw_at lw_m10 188 rfl) rfl
theorem q2436 : (Jvm.Cond.code ({ cls := "RoomTreesModel", name := "weights", desc := "([I)I" } : Jvm.MethodName) prog_26_method_116_code (3 : Nat) (Option.some Jvm.ClassFile.FieldType.int)) ∈ lw_all := lw_g (lw_at lw_m10 189 rfl) rfl
theorem q2438 : (Jvm.Cond.instanceMethod ({ cls := "RoomTreesModel", name := "best", desc := "(I)I" } : Jvm.MethodName)) ∈ lw_all := lw_g (lw_at lw_m10 191 rfl) rfl
theorem q2439 : (Jvm.Cond.selects "RoomTreesModel" ({ cls := "RoomTreesModel", name := "best", desc := "(I)I" } : Jvm.MethodName) ({ cls := "RoomTreesModel", name := "best", desc := "(I)I" } : Jvm.MethodName)) ∈ lw_all := lw_g (lw_at lw_m10 192 rfl) rfl
theorem q2440 : (Jvm.Cond.code ({ cls := "RoomTreesModel", name := "best", desc := "(I)I" } : Jvm.MethodName) prog_26_method_118_code (7 : Nat) (Option.some Jvm.ClassFile.FieldType.int)) ∈ lw_all := lw_g (lw_at lw_m10 193 rfl) rfl
theorem q2442 : (Jvm.Cond.instanceMethod ({ cls := "RoomTreesModel", name := "fewest", desc := "(II)I" } : Jvm.MethodName)) ∈ lw_all := lw_g (lw_at lw_m10 195 rfl) rfl
theorem q2443 : (Jvm.Cond.selects "RoomTreesModel" ({ cls := "RoomTreesModel", name := "fewest", desc := "(II)I" } : Jvm.MethodName) ({ cls := "RoomTreesModel", name := "fewest", desc := "(II)I" } : Jvm.MethodName)) ∈ lw_all := lw_g (lw_at lw_m10 196 rfl) rfl
theorem q2444 : (Jvm.Cond.code ({ cls := "RoomTreesModel", name := "fewest", desc := "(II)I" } : Jvm.MethodName) prog_26_method_120_code (3 : Nat) (Option.some Jvm.ClassFile.FieldType.int)) ∈ lw_all := lw_g (lw_at lw_m10 197 rfl) rfl
theorem q2445 : (Jvm.Cond.methodLink "RoomTreesModel" (433 : Nat) ({ cls := "RoomTreesModel", name := "tries", desc := "(III)V" } : Jvm.MethodName)) ∈ lw_all := lw_g (lw_at lw_m10 198 rfl) rfl
theorem q2446 : (Jvm.Cond.privateMethod ({ cls := "RoomTreesModel", name := "tries", desc := "(III)V" } : Jvm.MethodName)) ∈ lw_tbl := lw_at lw_m10 199 rfl
theorem q2447 : (Jvm.Cond.instanceMethod ({ cls := "RoomTreesModel", name := "tries", desc := "(III)V" } : Jvm.MethodName)) ∈ lw_all := lw_g (lw_at lw_m10 200 rfl) rfl
theorem q2448 : (Jvm.Cond.code ({ cls := "RoomTreesModel", name := "tries", desc := "(III)V" } : Jvm.MethodName) prog_26_method_119_code (8 : Nat) (Option.none : Option Jvm.ClassFile.FieldType)) ∈ lw_all := lw_g (lw_at lw_m10 201 rfl) rfl
theorem q2450 : (Jvm.Cond.instanceMethod ({ cls := "RoomTreesModel", name := "reach", desc := "(II)I" } : Jvm.MethodName)) ∈ lw_all := lw_g (lw_at lw_m10 203 rfl) rfl
theorem q2451 : (Jvm.Cond.selects "RoomTreesModel" ({ cls := "RoomTreesModel", name := "reach", desc := "(II)I" } : Jvm.MethodName) ({ cls := "RoomTreesModel", name := "reach", desc := "(II)I" } : Jvm.MethodName)) ∈ lw_all := lw_g (lw_at lw_m10 204 rfl) rfl
theorem q2452 : (Jvm.Cond.code ({ cls := "RoomTreesModel", name := "reach", desc := "(II)I" } : Jvm.MethodName) prog_26_method_122_code (4 : Nat) (Option.some Jvm.ClassFile.FieldType.int)) ∈ lw_all := lw_g (lw_at lw_m10 205 rfl) rfl
theorem q2453 : (Jvm.Cond.methodLink "RoomTreesModel" (437 : Nat) ({ cls := "RoomTreesModel", name := "comesTo", desc := "(III)Z" } : Jvm.MethodName)) ∈ lw_all := lw_g (lw_at lw_m10 206 rfl) rfl
theorem q2454 : (Jvm.Cond.privateMethod ({ cls := "RoomTreesModel", name := "comesTo", desc := "(III)Z" } : Jvm.MethodName)) ∈ lw_tbl := lw_at lw_m10 207 rfl
theorem q2455 : (Jvm.Cond.instanceMethod ({ cls := "RoomTreesModel", name := "comesTo", desc := "(III)Z" } : Jvm.MethodName)) ∈ lw_all := lw_g (lw_at lw_m10 208 rfl) rfl
theorem q2456 : (Jvm.Cond.code ({ cls := "RoomTreesModel", name := "comesTo", desc := "(III)Z" } : Jvm.MethodName) prog_26_method_121_code (7 : Nat) (Option.some Jvm.ClassFile.FieldType.boolean)) ∈ lw_all := lw_g (lw_at lw_m10 209 rfl) rfl
theorem q2458 : (Jvm.Cond.instanceMethod ({ cls := "RoomTreesModel", name := "sheet", desc := "(III)I" } : Jvm.MethodName)) ∈ lw_all := lw_g (lw_at lw_m10 211 rfl) rfl
theorem q2459 : (Jvm.Cond.selects "RoomTreesModel" ({ cls := "RoomTreesModel", name := "sheet", desc := "(III)I" } : Jvm.MethodName) ({ cls := "RoomTreesModel", name := "sheet", desc := "(III)I" } : Jvm.MethodName)) ∈ lw_all := lw_g (lw_at lw_m10 212 rfl) rfl
theorem q2460 : (Jvm.Cond.code ({ cls := "RoomTreesModel", name := "sheet", desc := "(III)I" } : Jvm.MethodName) prog_26_method_123_code (5 : Nat) (Option.some Jvm.ClassFile.FieldType.int)) ∈ lw_all := lw_g (lw_at lw_m10 213 rfl) rfl
theorem q2462 : (Jvm.Cond.instanceMethod ({ cls := "RoomTreesModel", name := "put", desc := "(III)I" } : Jvm.MethodName)) ∈ lw_all := lw_g (lw_at lw_m10 215 rfl) rfl
theorem q2463 : (Jvm.Cond.selects "RoomTreesModel" ({ cls := "RoomTreesModel", name := "put", desc := "(III)I" } : Jvm.MethodName) ({ cls := "RoomTreesModel", name := "put", desc := "(III)I" } : Jvm.MethodName)) ∈ lw_all := lw_g (lw_at lw_m10 216 rfl) rfl
theorem q2464 : (Jvm.Cond.code ({ cls := "RoomTreesModel", name := "put", desc := "(III)I" } : Jvm.MethodName) prog_26_method_126_code (5 : Nat) (Option.some Jvm.ClassFile.FieldType.int)) ∈ lw_all := lw_g (lw_at lw_m10 217 rfl) rfl
theorem q2465 : (Jvm.Cond.methodLink "RoomTreesModel" (441 : Nat) ({ cls := "RoomTreesModel", name := "lacks", desc := "(II)I" } : Jvm.MethodName)) ∈ lw_all := lw_g (lw_at lw_m10 218 rfl) rfl
theorem q2466 : (Jvm.Cond.privateMethod ({ cls := "RoomTreesModel", name := "lacks", desc := "(II)I" } : Jvm.MethodName)) ∈ lw_tbl := lw_at lw_m10 219 rfl
theorem q2467 : (Jvm.Cond.instanceMethod ({ cls := "RoomTreesModel", name := "lacks", desc := "(II)I" } : Jvm.MethodName)) ∈ lw_all := lw_g (lw_at lw_m10 220 rfl) rfl
theorem q2468 : (Jvm.Cond.code ({ cls := "RoomTreesModel", name := "lacks", desc := "(II)I" } : Jvm.MethodName) prog_26_method_124_code (3 : Nat) (Option.some Jvm.ClassFile.FieldType.int)) ∈ lw_all := lw_g (lw_at lw_m10 221 rfl) rfl
theorem q2469 : (Jvm.Cond.methodLink "RoomTreesModel" (444 : Nat) ({ cls := "RoomTreesModel", name := "lays", desc := "(III)V" } : Jvm.MethodName)) ∈ lw_all := lw_g (lw_at lw_m10 222 rfl) rfl
theorem q2470 : (Jvm.Cond.privateMethod ({ cls := "RoomTreesModel", name := "lays", desc := "(III)V" } : Jvm.MethodName)) ∈ lw_tbl := lw_at lw_m10 223 rfl
theorem q2471 : (Jvm.Cond.instanceMethod ({ cls := "RoomTreesModel", name := "lays", desc := "(III)V" } : Jvm.MethodName)) ∈ lw_all := lw_g (lw_at lw_m10 224 rfl) rfl
theorem q2472 : (Jvm.Cond.code ({ cls := "RoomTreesModel", name := "lays", desc := "(III)V" } : Jvm.MethodName) prog_26_method_125_code (5 : Nat) (Option.none : Option Jvm.ClassFile.FieldType)) ∈ lw_all := lw_g (lw_at lw_m10 225 rfl) rfl
theorem q2474 : (Jvm.Cond.instanceMethod ({ cls := "RoomTreesModel", name := "number", desc := "(II)I" } : Jvm.MethodName)) ∈ lw_all := lw_g (lw_at lw_m10 227 rfl) rfl
theorem q2475 : (Jvm.Cond.selects "RoomTreesModel" ({ cls := "RoomTreesModel", name := "number", desc := "(II)I" } : Jvm.MethodName) ({ cls := "RoomTreesModel", name := "number", desc := "(II)I" } : Jvm.MethodName)) ∈ lw_all := lw_g (lw_at lw_m10 228 rfl) rfl
theorem q2476 : (Jvm.Cond.code ({ cls := "RoomTreesModel", name := "number", desc := "(II)I" } : Jvm.MethodName) prog_26_method_127_code (4 : Nat) (Option.some Jvm.ClassFile.FieldType.int)) ∈ lw_all := lw_g (lw_at lw_m10 229 rfl) rfl
theorem q2478 : (Jvm.Cond.instanceMethod ({ cls := "RoomTreesModel", name := "copy", desc := "(IIIII)I" } : Jvm.MethodName)) ∈ lw_all := lw_g (lw_at lw_m10 231 rfl) rfl
theorem q2479 : (Jvm.Cond.selects "RoomTreesModel" ({ cls := "RoomTreesModel", name := "copy", desc := "(IIIII)I" } : Jvm.MethodName) ({ cls := "RoomTreesModel", name := "copy", desc := "(IIIII)I" } : Jvm.MethodName)) ∈ lw_all := lw_g (lw_at lw_m10 232 rfl) rfl
theorem q2480 : (Jvm.Cond.code ({ cls := "RoomTreesModel", name := "copy", desc := "(IIIII)I" } : Jvm.MethodName) prog_26_method_128_code (7 : Nat) (Option.some Jvm.ClassFile.FieldType.int)) ∈ lw_all := lw_g (lw_at lw_m10 233 rfl) rfl
theorem q2482 : (Jvm.Cond.instanceMethod ({ cls := "RoomTreesModel", name := "weighAll", desc := "(I)I" } : Jvm.MethodName)) ∈ lw_all := lw_g (lw_at lw_m10 235 rfl) rfl
theorem q2483 : (Jvm.Cond.selects "RoomTreesModel" ({ cls := "RoomTreesModel", name := "weighAll", desc := "(I)I" } : Jvm.MethodName) ({ cls := "RoomTreesModel", name := "weighAll", desc := "(I)I" } : Jvm.MethodName)) ∈ lw_all := lw_g (lw_at lw_m10 236 rfl) rfl
theorem q2484 : (Jvm.Cond.code ({ cls := "RoomTreesModel", name := "weighAll", desc := "(I)I" } : Jvm.MethodName) prog_26_method_130_code (4 : Nat) (Option.some Jvm.ClassFile.FieldType.int)) ∈ lw_all := lw_g (lw_at lw_m10 237 rfl) rfl
theorem q2485 : (Jvm.Cond.methodLink "RoomTreesModel" (447 : Nat) ({ cls := "RoomTreesModel", name := "notThere", desc := "(I)I" } : Jvm.MethodName)) ∈ lw_all := lw_g (lw_at lw_m10 238 rfl) rfl
theorem q2486 : (Jvm.Cond.privateMethod ({ cls := "RoomTreesModel", name := "notThere", desc := "(I)I" } : Jvm.MethodName)) ∈ lw_tbl := lw_at lw_m10 239 rfl
theorem q2487 : (Jvm.Cond.instanceMethod ({ cls := "RoomTreesModel", name := "notThere", desc := "(I)I" } : Jvm.MethodName)) ∈ lw_all := lw_g (lw_at lw_m11 0 rfl) rfl
theorem q2488 : (Jvm.Cond.code ({ cls := "RoomTreesModel", name := "notThere", desc := "(I)I" } : Jvm.MethodName) prog_26_method_129_code (2 : Nat) (Option.some Jvm.ClassFile.FieldType.int)) ∈ lw_all := lw_g (lw_at lw_m11 1 rfl) rfl
theorem q2490 : (Jvm.Cond.instanceMethod ({ cls := "RoomTreesModel", name := "book", desc := "(I)I" } : Jvm.MethodName)) ∈ lw_all := lw_g (lw_at lw_m11 3 rfl) rfl
theorem q2491 : (Jvm.Cond.selects "RoomTreesModel" ({ cls := "RoomTreesModel", name := "book", desc := "(I)I" } : Jvm.MethodName) ({ cls := "RoomTreesModel", name := "book", desc := "(I)I" } : Jvm.MethodName)) ∈ lw_all := lw_g (lw_at lw_m11 4 rfl) rfl
theorem q2492 : (Jvm.Cond.code ({ cls := "RoomTreesModel", name := "book", desc := "(I)I" } : Jvm.MethodName) prog_26_method_131_code (5 : Nat) (Option.some Jvm.ClassFile.FieldType.int)) ∈ lw_all := lw_g (lw_at lw_m11 5 rfl) rfl
theorem q2494 : (Jvm.Cond.instanceMethod ({ cls := "RoomTreesModel", name := "plays", desc := "(II)I" } : Jvm.MethodName)) ∈ lw_all := lw_g (lw_at lw_m11 7 rfl) rfl
theorem q2495 : (Jvm.Cond.selects "RoomTreesModel" ({ cls := "RoomTreesModel", name := "plays", desc := "(II)I" } : Jvm.MethodName) ({ cls := "RoomTreesModel", name := "plays", desc := "(II)I" } : Jvm.MethodName)) ∈ lw_all := lw_g (lw_at lw_m11 8 rfl) rfl
theorem q2496 : (Jvm.Cond.code ({ cls := "RoomTreesModel", name := "plays", desc := "(II)I" } : Jvm.MethodName) prog_26_method_132_code (9 : Nat) (Option.some Jvm.ClassFile.FieldType.int)) ∈ lw_all := lw_g (lw_at lw_m11 9 rfl) rfl
theorem q2497 : (Jvm.Cond.constantLong "RoomTreesModel" (450 : Nat) (599 : Int64)) ∈ lw_all := lw_g (lw_at lw_m11 10 rfl) rfl
theorem q2499 : (Jvm.Cond.instanceMethod ({ cls := "RoomTreesModel", name := "image", desc := "()I" } : Jvm.MethodName)) ∈ lw_all := lw_g (lw_at lw_m11 12 rfl) rfl
theorem q2500 : (Jvm.Cond.selects "RoomTreesModel" ({ cls := "RoomTreesModel", name := "image", desc := "()I" } : Jvm.MethodName) ({ cls := "RoomTreesModel", name := "image", desc := "()I" } : Jvm.MethodName)) ∈ lw_all := lw_g (lw_at lw_m11 13 rfl) rfl
theorem q2501 : (Jvm.Cond.code ({ cls := "RoomTreesModel", name := "image", desc := "()I" } : Jvm.MethodName) prog_26_method_133_code (2 : Nat) (Option.some Jvm.ClassFile.FieldType.int)) ∈ lw_all := lw_g (lw_at lw_m11 14 rfl) rfl
theorem q2503 : (Jvm.Cond.instanceMethod ({ cls := "RoomTreesModel", name := "restore", desc := "()I" } : Jvm.MethodName)) ∈ lw_all := lw_g (lw_at lw_m11 16 rfl) rfl
theorem q2504 : (Jvm.Cond.selects "RoomTreesModel" ({ cls := "RoomTreesModel", name := "restore", desc := "()I" } : Jvm.MethodName) ({ cls := "RoomTreesModel", name := "restore", desc := "()I" } : Jvm.MethodName)) ∈ lw_all := lw_g (lw_at lw_m11 17 rfl) rfl
theorem q2505 : (Jvm.Cond.code ({ cls := "RoomTreesModel", name := "restore", desc := "()I" } : Jvm.MethodName) prog_26_method_134_code (2 : Nat) (Option.some Jvm.ClassFile.FieldType.int)) ∈ lw_all := lw_g (lw_at lw_m11 18 rfl) rfl
theorem q2507 : (Jvm.Cond.instanceMethod ({ cls := "RoomTreesModel", name := "count", desc := "(I)I" } : Jvm.MethodName)) ∈ lw_all := lw_g (lw_at lw_m11 20 rfl) rfl
theorem q2508 : (Jvm.Cond.selects "RoomTreesModel" ({ cls := "RoomTreesModel", name := "count", desc := "(I)I" } : Jvm.MethodName) ({ cls := "RoomTreesModel", name := "count", desc := "(I)I" } : Jvm.MethodName)) ∈ lw_all := lw_g (lw_at lw_m11 21 rfl) rfl
theorem q2509 : (Jvm.Cond.code ({ cls := "RoomTreesModel", name := "count", desc := "(I)I" } : Jvm.MethodName) prog_26_method_138_code (2 : Nat) (Option.some Jvm.ClassFile.FieldType.int)) ∈ lw_all := lw_g (lw_at lw_m11 22 rfl) rfl
theorem q2510 : (Jvm.Cond.methodLink "RoomTreesModel" (458 : Nat) ({ cls := "RoomTreesModel", name := "edges", desc := "()I" } : Jvm.MethodName)) ∈ lw_all := lw_g (lw_at lw_m11 23 rfl) rfl
theorem q2511 : (Jvm.Cond.privateMethod ({ cls := "RoomTreesModel", name := "edges", desc := "()I" } : Jvm.MethodName)) ∈ lw_tbl := lw_at lw_m11 24 rfl
theorem q2512 : (Jvm.Cond.instanceMethod ({ cls := "RoomTreesModel", name := "edges", desc := "()I" } : Jvm.MethodName)) ∈ lw_all := lw_g (lw_at lw_m11 25 rfl) rfl
theorem q2513 : (Jvm.Cond.code ({ cls := "RoomTreesModel", name := "edges", desc := "()I" } : Jvm.MethodName) prog_26_method_135_code (3 : Nat) (Option.some Jvm.ClassFile.FieldType.int)) ∈ lw_all := lw_g (lw_at lw_m11 26 rfl) rfl
theorem q2514 : (Jvm.Cond.methodLink "RoomTreesModel" (461 : Nat) ({ cls := "RoomTreesModel", name := "heldOnes", desc := "()I" } : Jvm.MethodName)) ∈ lw_all := lw_g (lw_at lw_m11 27 rfl) rfl
theorem q2515 : (Jvm.Cond.privateMethod ({ cls := "RoomTreesModel", name := "heldOnes", desc := "()I" } : Jvm.MethodName)) ∈ lw_tbl := lw_at lw_m11 28 rfl
theorem q2516 : (Jvm.Cond.instanceMethod ({ cls := "RoomTreesModel", name := "heldOnes", desc := "()I" } : Jvm.MethodName)) ∈ lw_all := lw_g (lw_at lw_m11 29 rfl) rfl
theorem q2517 : (Jvm.Cond.code ({ cls := "RoomTreesModel", name := "heldOnes", desc := "()I" } : Jvm.MethodName) prog_26_method_136_code (3 : Nat) (Option.some Jvm.ClassFile.FieldType.int)) ∈ lw_all := lw_g (lw_at lw_m11 30 rfl) rfl
theorem q2518 : (Jvm.Cond.methodLink "RoomTreesModel" (464 : Nat) ({ cls := "RoomTreesModel", name := "allJobs", desc := "()I" } : Jvm.MethodName)) ∈ lw_all := lw_g (lw_at lw_m11 31 rfl) rfl
theorem q2519 : (Jvm.Cond.privateMethod ({ cls := "RoomTreesModel", name := "allJobs", desc := "()I" } : Jvm.MethodName)) ∈ lw_tbl := lw_at lw_m11 32 rfl
theorem q2520 : (Jvm.Cond.instanceMethod ({ cls := "RoomTreesModel", name := "allJobs", desc := "()I" } : Jvm.MethodName)) ∈ lw_all := lw_g (lw_at lw_m11 33 rfl) rfl
theorem q2521 : (Jvm.Cond.code ({ cls := "RoomTreesModel", name := "allJobs", desc := "()I" } : Jvm.MethodName) prog_26_method_137_code (3 : Nat) (Option.some Jvm.ClassFile.FieldType.int)) ∈ lw_all := lw_g (lw_at lw_m11 34 rfl) rfl
theorem q2523 : (Jvm.Cond.instanceMethod ({ cls := "RoomTreesModel", name := "told", desc := "(I)I" } : Jvm.MethodName)) ∈ lw_all := lw_g (lw_at lw_m11 36 rfl) rfl
theorem q2524 : (Jvm.Cond.selects "RoomTreesModel" ({ cls := "RoomTreesModel", name := "told", desc := "(I)I" } : Jvm.MethodName) ({ cls := "RoomTreesModel", name := "told", desc := "(I)I" } : Jvm.MethodName)) ∈ lw_all := lw_g (lw_at lw_m11 37 rfl) rfl
theorem q2525 : (Jvm.Cond.code ({ cls := "RoomTreesModel", name := "told", desc := "(I)I" } : Jvm.MethodName) prog_26_method_139_code (2 : Nat) (Option.some Jvm.ClassFile.FieldType.int)) ∈ lw_all := lw_g (lw_at lw_m11 38 rfl) rfl
theorem q2562 : (Jvm.Cond.castable "RoomTreesModel" "java/lang/Object") ∈ lw_tbl := lw_at lw_m11 75 rfl
theorem in_X10 : ∀ w ∈ wsX100, w ∈ lw_all := lw_in wsX100 [1915, 1917, 1919, 1921, 1923, 1925, 1927, 1929, 1931, 1933, 1935, 1937, 1939, 1941, 1943, 1945, 1947, 1949, 1951, 1953, 1955, 1957, 1959, 1961, 1963, 1965, 1967, 1969, 1971, 1973, 1975, 1977, 1979, 1981, 1983, 1985, 1987, 1989, 1991, 1993] (by decide +kernel) (by decide +kernel)
