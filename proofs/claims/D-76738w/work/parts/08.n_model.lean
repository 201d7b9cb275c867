/-! EditsMeetModel -/
set_option maxRecDepth 100000
def RX12 : String := "EditsMeetModel"
def TX12 : u_T := fun k => match k with
  | 0 => ("EditsMeetModel", "rows", "[[I", true)
  | 1 => ("EditsMeetModel", "size", "[I", true)
  | 2 => ("EditsMeetModel", "isThere", "[Z", true)
  | 3 => ("EditsMeetModel", "texts", "[[I", true)
  | 4 => ("EditsMeetModel", "lengths", "[I", true)
  | 5 => ("EditsMeetModel", "state", "[I", true)
  | 6 => ("EditsMeetModel", "by", "[I", true)
  | 7 => ("EditsMeetModel", "single", "[I", true)
  | 8 => ("EditsMeetModel", "refusals", "[I", true)
  | 9 => ("EditsMeetModel", "work", "[[I", true)
  | 10 => ("EditsMeetModel", "worked", "[I", true)
  | 11 => ("EditsMeetModel", "aside", "[I", true)
  | 12 => ("EditsMeetModel", "tape", "[I", true)
  | 13 => ("EditsMeetModel", "taped", "I", false)
  | 14 => ("EditsMeetModel", "place", "I", false)
  | 15 => ("EditsMeetModel", "number", "I", false)
  | 16 => ("EditsMeetModel", "texted", "I", false)
  | 17 => ("EditsMeetModel", "asked", "I", false)
  | 18 => ("EditsMeetModel", "found", "I", false)
  | 19 => ("EditsMeetModel", "sorts", "[I", true)
  | 20 => ("EditsMeetModel", "sizes", "[I", true)
  | 21 => ("EditsMeetModel", "elements", "[J", true)
  | 22 => ("EditsMeetModel", "partKind", "[I", true)
  | 23 => ("EditsMeetModel", "partMany", "[I", true)
  | 24 => ("EditsMeetModel", "partAbout", "[I", true)
  | 25 => ("EditsMeetModel", "keptRows", "[[I", true)
  | 26 => ("EditsMeetModel", "keptSize", "[I", true)
  | 27 => ("EditsMeetModel", "keptTexts", "[[I", true)
  | 28 => ("EditsMeetModel", "keptLengths", "[I", true)
  | 29 => ("EditsMeetModel", "keptState", "[I", true)
  | 30 => ("EditsMeetModel", "keptBy", "[I", true)
  | 31 => ("EditsMeetModel", "keptSingle", "[I", true)
  | _ => ("EditsMeetModel", "hasImage", "Z", false)
def tyX12 : Nat → FieldType := fun k => match k with
  | 0 => .array (.array .int)
  | 1 => .array .int
  | 2 => .array .boolean
  | 3 => .array (.array .int)
  | 4 => .array .int
  | 5 => .array .int
  | 6 => .array .int
  | 7 => .array .int
  | 8 => .array .int
  | 9 => .array (.array .int)
  | 10 => .array .int
  | 11 => .array .int
  | 12 => .array .int
  | 13 => .int
  | 14 => .int
  | 15 => .int
  | 16 => .int
  | 17 => .int
  | 18 => .int
  | 19 => .array .int
  | 20 => .array .int
  | 21 => .array .long
  | 22 => .array .int
  | 23 => .array .int
  | 24 => .array .int
  | 25 => .array (.array .int)
  | 26 => .array .int
  | 27 => .array (.array .int)
  | 28 => .array .int
  | 29 => .array .int
  | 30 => .array .int
  | 31 => .array .int
  | _ => .boolean
abbrev wsX120 : List Cond := u_ws RX12 TX12 33
set_option maxRecDepth 100000 in
theorem nmX12 : ∀ a, a < 33 → ∀ b, b < 33 → a ≠ b → (TX12 a).2.1 ≠ (TX12 b).2.1 := by decide +kernel
set_option maxRecDepth 100000 in
theorem tyX12_ok : ∀ k, k < 33 → parseFieldDescriptor (TX12 k).2.2.1 = some (tyX12 k) := by decide +kernel
abbrev cX12_init : ByteArray := prog_24_method_1_code
def yX12_init : MethodName := ⟨RX12, "<init>", "()V"⟩
def dkwX12_init_11 : List UInt8 := [42, 16, 91, 188, 10, 181, 0, 86, 42, 5, 188, 10, 181, 0, 89, 177]
abbrev dktX12_init_11 : List UInt8 := dkwX12_init_11 ++ []
def dkwX12_init_10 : List UInt8 := [16, 64, 197, 0, 9, 2, 181, 0, 77, 42, 8, 188, 10, 181, 0, 80, 42, 16, 32, 188, 10, 181, 0, 83]
abbrev dktX12_init_10 : List UInt8 := dkwX12_init_10 ++ dktX12_init_11
def dkwX12_init_9 : List UInt8 := [42, 17, 1, 20, 7, 197, 0, 9, 2, 181, 0, 71, 42, 17, 1, 20, 188, 10, 181, 0, 74, 42, 8]
abbrev dktX12_init_9 : List UInt8 := dkwX12_init_9 ++ dktX12_init_10
def dkwX12_init_8 : List UInt8 := [42, 16, 8, 188, 10, 181, 0, 62, 42, 16, 8, 188, 10, 181, 0, 65, 42, 16, 8, 188, 10, 181, 0, 68]
abbrev dktX12_init_8 : List UInt8 := dkwX12_init_8 ++ dktX12_init_9
def dkwX12_init_7 : List UInt8 := [16, 7, 2, 79, 181, 0, 52, 42, 16, 8, 188, 10, 181, 0, 55, 42, 17, 1, 64, 188, 11, 181, 0, 58]
abbrev dktX12_init_7 : List UInt8 := dkwX12_init_7 ++ dktX12_init_8
def dkwX12_init_6 : List UInt8 := [79, 89, 5, 2, 79, 89, 6, 2, 79, 89, 7, 2, 79, 89, 8, 2, 79, 89, 16, 6, 2, 79, 89]
abbrev dktX12_init_6 : List UInt8 := dkwX12_init_6 ++ dktX12_init_7
def dkwX12_init_5 : List UInt8 := [181, 0, 46, 42, 17, 0, 250, 188, 10, 181, 0, 49, 42, 16, 8, 188, 10, 89, 3, 2, 79, 89, 4, 2]
abbrev dktX12_init_5 : List UInt8 := dkwX12_init_5 ++ dktX12_init_6
def dkwX12_init_4 : List UInt8 := [17, 93, 192, 197, 0, 9, 2, 181, 0, 40, 42, 7, 188, 10, 181, 0, 43, 42, 17, 93, 192, 188, 10]
abbrev dktX12_init_4 : List UInt8 := dkwX12_init_4 ++ dktX12_init_5
def dkwX12_init_3 : List UInt8 := [188, 10, 89, 3, 3, 79, 89, 4, 4, 79, 181, 0, 34, 42, 16, 7, 188, 10, 181, 0, 37, 42, 7]
abbrev dktX12_init_3 : List UInt8 := dkwX12_init_3 ++ dktX12_init_4
def dkwX12_init_2 : List UInt8 := [188, 10, 181, 0, 25, 42, 16, 32, 188, 10, 181, 0, 28, 42, 16, 91, 188, 10, 181, 0, 31, 42, 5]
abbrev dktX12_init_2 : List UInt8 := dkwX12_init_2 ++ dktX12_init_3
def dkwX12_init_1 : List UInt8 := [181, 0, 14, 42, 16, 12, 188, 4, 181, 0, 18, 42, 8, 16, 64, 197, 0, 9, 2, 181, 0, 22, 42, 8]
abbrev dktX12_init_1 : List UInt8 := dkwX12_init_1 ++ dktX12_init_2
def dkwX12_init_0 : List UInt8 := [42, 183, 0, 1, 42, 17, 1, 20, 7, 197, 0, 9, 2, 181, 0, 11, 42, 17, 1, 20, 188, 10]
abbrev dktX12_init_0 : List UInt8 := dkwX12_init_0 ++ dktX12_init_1
theorem dksX12_init_0 : cX12_init.data.toList.drop 0 = dktX12_init_0 := by decide +kernel
theorem dksX12_init_1 : cX12_init.data.toList.drop 22 = dktX12_init_1 := dk_seg dksX12_init_0 22 rfl rfl
theorem dksX12_init_2 : cX12_init.data.toList.drop 46 = dktX12_init_2 := dk_seg dksX12_init_1 24 rfl rfl
theorem dksX12_init_3 : cX12_init.data.toList.drop 69 = dktX12_init_3 := dk_seg dksX12_init_2 23 rfl rfl
theorem dksX12_init_4 : cX12_init.data.toList.drop 92 = dktX12_init_4 := dk_seg dksX12_init_3 23 rfl rfl
theorem dksX12_init_5 : cX12_init.data.toList.drop 115 = dktX12_init_5 := dk_seg dksX12_init_4 23 rfl rfl
theorem dksX12_init_6 : cX12_init.data.toList.drop 139 = dktX12_init_6 := dk_seg dksX12_init_5 24 rfl rfl
theorem dksX12_init_7 : cX12_init.data.toList.drop 162 = dktX12_init_7 := dk_seg dksX12_init_6 23 rfl rfl
theorem dksX12_init_8 : cX12_init.data.toList.drop 186 = dktX12_init_8 := dk_seg dksX12_init_7 24 rfl rfl
theorem dksX12_init_9 : cX12_init.data.toList.drop 210 = dktX12_init_9 := dk_seg dksX12_init_8 24 rfl rfl
theorem dksX12_init_10 : cX12_init.data.toList.drop 233 = dktX12_init_10 := dk_seg dksX12_init_9 23 rfl rfl
theorem dksX12_init_11 : cX12_init.data.toList.drop 257 = dktX12_init_11 := dk_seg dksX12_init_10 24 rfl rfl
theorem dX12_init_0 : decode cX12_init 0 = .ok (.aload_n 0, 1) := dk_42 (dk_at dksX12_init_0 0 rfl rfl)
theorem dX12_init_1 : decode cX12_init 1 = .ok (.invokespecial 1, 3) := dk_183 0 1 (dk_at dksX12_init_0 1 rfl rfl)
theorem dX12_init_4 : decode cX12_init 4 = .ok (.aload_n 0, 1) := dk_42 (dk_at dksX12_init_0 4 rfl rfl)
theorem dX12_init_5 : decode cX12_init 5 = .ok (.sipush 276, 3) := dk_17 1 20 (dk_at dksX12_init_0 5 rfl rfl)
theorem dX12_init_8 : decode cX12_init 8 = .ok (.iconst 4, 1) := dk_7 (dk_at dksX12_init_0 8 rfl rfl)
theorem dX12_init_9 : decode cX12_init 9 = .ok (.multianewarray 9 2, 4) := by decide +kernel
theorem dX12_init_13 : decode cX12_init 13 = .ok (.putfield 11, 3) := dk_181 0 11 (dk_at dksX12_init_0 13 rfl rfl)
theorem dX12_init_16 : decode cX12_init 16 = .ok (.aload_n 0, 1) := dk_42 (dk_at dksX12_init_0 16 rfl rfl)
theorem dX12_init_17 : decode cX12_init 17 = .ok (.sipush 276, 3) := dk_17 1 20 (dk_at dksX12_init_0 17 rfl rfl)
theorem dX12_init_20 : decode cX12_init 20 = .ok (.newarray .int, 2) := dk_188_10 (dk_at dksX12_init_0 20 rfl rfl)
theorem dX12_init_22 : decode cX12_init 22 = .ok (.putfield 14, 3) := dk_181 0 14 (dk_at dksX12_init_1 0 rfl rfl)
theorem dX12_init_25 : decode cX12_init 25 = .ok (.aload_n 0, 1) := dk_42 (dk_at dksX12_init_1 3 rfl rfl)
theorem dX12_init_26 : decode cX12_init 26 = .ok (.bipush 12, 2) := dk_16 12 (dk_at dksX12_init_1 4 rfl rfl)
theorem dX12_init_28 : decode cX12_init 28 = .ok (.newarray .boolean, 2) := dk_188_4 (dk_at dksX12_init_1 6 rfl rfl)
theorem dX12_init_30 : decode cX12_init 30 = .ok (.putfield 18, 3) := dk_181 0 18 (dk_at dksX12_init_1 8 rfl rfl)
theorem dX12_init_33 : decode cX12_init 33 = .ok (.aload_n 0, 1) := dk_42 (dk_at dksX12_init_1 11 rfl rfl)
theorem dX12_init_34 : decode cX12_init 34 = .ok (.iconst 5, 1) := dk_8 (dk_at dksX12_init_1 12 rfl rfl)
theorem dX12_init_35 : decode cX12_init 35 = .ok (.bipush 64, 2) := dk_16 64 (dk_at dksX12_init_1 13 rfl rfl)
theorem dX12_init_37 : decode cX12_init 37 = .ok (.multianewarray 9 2, 4) := by decide +kernel
theorem dX12_init_41 : decode cX12_init 41 = .ok (.putfield 22, 3) := dk_181 0 22 (dk_at dksX12_init_1 19 rfl rfl)
theorem dX12_init_44 : decode cX12_init 44 = .ok (.aload_n 0, 1) := dk_42 (dk_at dksX12_init_1 22 rfl rfl)
theorem dX12_init_45 : decode cX12_init 45 = .ok (.iconst 5, 1) := dk_8 (dk_at dksX12_init_1 23 rfl rfl)
theorem dX12_init_46 : decode cX12_init 46 = .ok (.newarray .int, 2) := dk_188_10 (dk_at dksX12_init_2 0 rfl rfl)
theorem dX12_init_48 : decode cX12_init 48 = .ok (.putfield 25, 3) := dk_181 0 25 (dk_at dksX12_init_2 2 rfl rfl)
theorem dX12_init_51 : decode cX12_init 51 = .ok (.aload_n 0, 1) := dk_42 (dk_at dksX12_init_2 5 rfl rfl)
theorem dX12_init_52 : decode cX12_init 52 = .ok (.bipush 32, 2) := dk_16 32 (dk_at dksX12_init_2 6 rfl rfl)
theorem dX12_init_54 : decode cX12_init 54 = .ok (.newarray .int, 2) := dk_188_10 (dk_at dksX12_init_2 8 rfl rfl)
theorem dX12_init_56 : decode cX12_init 56 = .ok (.putfield 28, 3) := dk_181 0 28 (dk_at dksX12_init_2 10 rfl rfl)
theorem dX12_init_59 : decode cX12_init 59 = .ok (.aload_n 0, 1) := dk_42 (dk_at dksX12_init_2 13 rfl rfl)
theorem dX12_init_60 : decode cX12_init 60 = .ok (.bipush 91, 2) := dk_16 91 (dk_at dksX12_init_2 14 rfl rfl)
theorem dX12_init_62 : decode cX12_init 62 = .ok (.newarray .int, 2) := dk_188_10 (dk_at dksX12_init_2 16 rfl rfl)
theorem dX12_init_64 : decode cX12_init 64 = .ok (.putfield 31, 3) := dk_181 0 31 (dk_at dksX12_init_2 18 rfl rfl)
theorem dX12_init_67 : decode cX12_init 67 = .ok (.aload_n 0, 1) := dk_42 (dk_at dksX12_init_2 21 rfl rfl)
theorem dX12_init_68 : decode cX12_init 68 = .ok (.iconst 2, 1) := dk_5 (dk_at dksX12_init_2 22 rfl rfl)
theorem dX12_init_69 : decode cX12_init 69 = .ok (.newarray .int, 2) := dk_188_10 (dk_at dksX12_init_3 0 rfl rfl)
theorem dX12_init_71 : decode cX12_init 71 = .ok (.dup, 1) := dk_89 (dk_at dksX12_init_3 2 rfl rfl)
theorem dX12_init_72 : decode cX12_init 72 = .ok (.iconst 0, 1) := dk_3 (dk_at dksX12_init_3 3 rfl rfl)
theorem dX12_init_73 : decode cX12_init 73 = .ok (.iconst 0, 1) := dk_3 (dk_at dksX12_init_3 4 rfl rfl)
theorem dX12_init_74 : decode cX12_init 74 = .ok (.iastore, 1) := dk_79 (dk_at dksX12_init_3 5 rfl rfl)
theorem dX12_init_75 : decode cX12_init 75 = .ok (.dup, 1) := dk_89 (dk_at dksX12_init_3 6 rfl rfl)
theorem dX12_init_76 : decode cX12_init 76 = .ok (.iconst 1, 1) := dk_4 (dk_at dksX12_init_3 7 rfl rfl)
theorem dX12_init_77 : decode cX12_init 77 = .ok (.iconst 1, 1) := dk_4 (dk_at dksX12_init_3 8 rfl rfl)
theorem dX12_init_78 : decode cX12_init 78 = .ok (.iastore, 1) := dk_79 (dk_at dksX12_init_3 9 rfl rfl)
theorem dX12_init_79 : decode cX12_init 79 = .ok (.putfield 34, 3) := dk_181 0 34 (dk_at dksX12_init_3 10 rfl rfl)
theorem dX12_init_82 : decode cX12_init 82 = .ok (.aload_n 0, 1) := dk_42 (dk_at dksX12_init_3 13 rfl rfl)
theorem dX12_init_83 : decode cX12_init 83 = .ok (.bipush 7, 2) := dk_16 7 (dk_at dksX12_init_3 14 rfl rfl)
theorem dX12_init_85 : decode cX12_init 85 = .ok (.newarray .int, 2) := dk_188_10 (dk_at dksX12_init_3 16 rfl rfl)
theorem dX12_init_87 : decode cX12_init 87 = .ok (.putfield 37, 3) := dk_181 0 37 (dk_at dksX12_init_3 18 rfl rfl)
theorem dX12_init_90 : decode cX12_init 90 = .ok (.aload_n 0, 1) := dk_42 (dk_at dksX12_init_3 21 rfl rfl)
theorem dX12_init_91 : decode cX12_init 91 = .ok (.iconst 4, 1) := dk_7 (dk_at dksX12_init_3 22 rfl rfl)
theorem dX12_init_92 : decode cX12_init 92 = .ok (.sipush 24000, 3) := dk_17 93 192 (dk_at dksX12_init_4 0 rfl rfl)
theorem dX12_init_95 : decode cX12_init 95 = .ok (.multianewarray 9 2, 4) := by decide +kernel
theorem dX12_init_99 : decode cX12_init 99 = .ok (.putfield 40, 3) := dk_181 0 40 (dk_at dksX12_init_4 7 rfl rfl)
theorem dX12_init_102 : decode cX12_init 102 = .ok (.aload_n 0, 1) := dk_42 (dk_at dksX12_init_4 10 rfl rfl)
theorem dX12_init_103 : decode cX12_init 103 = .ok (.iconst 4, 1) := dk_7 (dk_at dksX12_init_4 11 rfl rfl)
theorem dX12_init_104 : decode cX12_init 104 = .ok (.newarray .int, 2) := dk_188_10 (dk_at dksX12_init_4 12 rfl rfl)
theorem dX12_init_106 : decode cX12_init 106 = .ok (.putfield 43, 3) := dk_181 0 43 (dk_at dksX12_init_4 14 rfl rfl)
theorem dX12_init_109 : decode cX12_init 109 = .ok (.aload_n 0, 1) := dk_42 (dk_at dksX12_init_4 17 rfl rfl)
theorem dX12_init_110 : decode cX12_init 110 = .ok (.sipush 24000, 3) := dk_17 93 192 (dk_at dksX12_init_4 18 rfl rfl)
theorem dX12_init_113 : decode cX12_init 113 = .ok (.newarray .int, 2) := dk_188_10 (dk_at dksX12_init_4 21 rfl rfl)
theorem dX12_init_115 : decode cX12_init 115 = .ok (.putfield 46, 3) := dk_181 0 46 (dk_at dksX12_init_5 0 rfl rfl)
theorem dX12_init_118 : decode cX12_init 118 = .ok (.aload_n 0, 1) := dk_42 (dk_at dksX12_init_5 3 rfl rfl)
theorem dX12_init_119 : decode cX12_init 119 = .ok (.sipush 250, 3) := dk_17 0 250 (dk_at dksX12_init_5 4 rfl rfl)
theorem dX12_init_122 : decode cX12_init 122 = .ok (.newarray .int, 2) := dk_188_10 (dk_at dksX12_init_5 7 rfl rfl)
theorem dX12_init_124 : decode cX12_init 124 = .ok (.putfield 49, 3) := dk_181 0 49 (dk_at dksX12_init_5 9 rfl rfl)
theorem dX12_init_127 : decode cX12_init 127 = .ok (.aload_n 0, 1) := dk_42 (dk_at dksX12_init_5 12 rfl rfl)
theorem dX12_init_128 : decode cX12_init 128 = .ok (.bipush 8, 2) := dk_16 8 (dk_at dksX12_init_5 13 rfl rfl)
theorem dX12_init_130 : decode cX12_init 130 = .ok (.newarray .int, 2) := dk_188_10 (dk_at dksX12_init_5 15 rfl rfl)
theorem dX12_init_132 : decode cX12_init 132 = .ok (.dup, 1) := dk_89 (dk_at dksX12_init_5 17 rfl rfl)
theorem dX12_init_133 : decode cX12_init 133 = .ok (.iconst 0, 1) := dk_3 (dk_at dksX12_init_5 18 rfl rfl)
theorem dX12_init_134 : decode cX12_init 134 = .ok (.iconst (-1), 1) := dk_2 (dk_at dksX12_init_5 19 rfl rfl)
theorem dX12_init_135 : decode cX12_init 135 = .ok (.iastore, 1) := dk_79 (dk_at dksX12_init_5 20 rfl rfl)
theorem dX12_init_136 : decode cX12_init 136 = .ok (.dup, 1) := dk_89 (dk_at dksX12_init_5 21 rfl rfl)
theorem dX12_init_137 : decode cX12_init 137 = .ok (.iconst 1, 1) := dk_4 (dk_at dksX12_init_5 22 rfl rfl)
theorem dX12_init_138 : decode cX12_init 138 = .ok (.iconst (-1), 1) := dk_2 (dk_at dksX12_init_5 23 rfl rfl)
theorem dX12_init_139 : decode cX12_init 139 = .ok (.iastore, 1) := dk_79 (dk_at dksX12_init_6 0 rfl rfl)
theorem dX12_init_140 : decode cX12_init 140 = .ok (.dup, 1) := dk_89 (dk_at dksX12_init_6 1 rfl rfl)
theorem dX12_init_141 : decode cX12_init 141 = .ok (.iconst 2, 1) := dk_5 (dk_at dksX12_init_6 2 rfl rfl)
theorem dX12_init_142 : decode cX12_init 142 = .ok (.iconst (-1), 1) := dk_2 (dk_at dksX12_init_6 3 rfl rfl)
theorem dX12_init_143 : decode cX12_init 143 = .ok (.iastore, 1) := dk_79 (dk_at dksX12_init_6 4 rfl rfl)
theorem dX12_init_144 : decode cX12_init 144 = .ok (.dup, 1) := dk_89 (dk_at dksX12_init_6 5 rfl rfl)
theorem dX12_init_145 : decode cX12_init 145 = .ok (.iconst 3, 1) := dk_6 (dk_at dksX12_init_6 6 rfl rfl)
theorem dX12_init_146 : decode cX12_init 146 = .ok (.iconst (-1), 1) := dk_2 (dk_at dksX12_init_6 7 rfl rfl)
theorem dX12_init_147 : decode cX12_init 147 = .ok (.iastore, 1) := dk_79 (dk_at dksX12_init_6 8 rfl rfl)
theorem dX12_init_148 : decode cX12_init 148 = .ok (.dup, 1) := dk_89 (dk_at dksX12_init_6 9 rfl rfl)
theorem dX12_init_149 : decode cX12_init 149 = .ok (.iconst 4, 1) := dk_7 (dk_at dksX12_init_6 10 rfl rfl)
theorem dX12_init_150 : decode cX12_init 150 = .ok (.iconst (-1), 1) := dk_2 (dk_at dksX12_init_6 11 rfl rfl)
theorem dX12_init_151 : decode cX12_init 151 = .ok (.iastore, 1) := dk_79 (dk_at dksX12_init_6 12 rfl rfl)
theorem dX12_init_152 : decode cX12_init 152 = .ok (.dup, 1) := dk_89 (dk_at dksX12_init_6 13 rfl rfl)
theorem dX12_init_153 : decode cX12_init 153 = .ok (.iconst 5, 1) := dk_8 (dk_at dksX12_init_6 14 rfl rfl)
theorem dX12_init_154 : decode cX12_init 154 = .ok (.iconst (-1), 1) := dk_2 (dk_at dksX12_init_6 15 rfl rfl)
theorem dX12_init_155 : decode cX12_init 155 = .ok (.iastore, 1) := dk_79 (dk_at dksX12_init_6 16 rfl rfl)
theorem dX12_init_156 : decode cX12_init 156 = .ok (.dup, 1) := dk_89 (dk_at dksX12_init_6 17 rfl rfl)
theorem dX12_init_157 : decode cX12_init 157 = .ok (.bipush 6, 2) := dk_16 6 (dk_at dksX12_init_6 18 rfl rfl)
theorem dX12_init_159 : decode cX12_init 159 = .ok (.iconst (-1), 1) := dk_2 (dk_at dksX12_init_6 20 rfl rfl)
theorem dX12_init_160 : decode cX12_init 160 = .ok (.iastore, 1) := dk_79 (dk_at dksX12_init_6 21 rfl rfl)
theorem dX12_init_161 : decode cX12_init 161 = .ok (.dup, 1) := dk_89 (dk_at dksX12_init_6 22 rfl rfl)
theorem dX12_init_162 : decode cX12_init 162 = .ok (.bipush 7, 2) := dk_16 7 (dk_at dksX12_init_7 0 rfl rfl)
theorem dX12_init_164 : decode cX12_init 164 = .ok (.iconst (-1), 1) := dk_2 (dk_at dksX12_init_7 2 rfl rfl)
theorem dX12_init_165 : decode cX12_init 165 = .ok (.iastore, 1) := dk_79 (dk_at dksX12_init_7 3 rfl rfl)
theorem dX12_init_166 : decode cX12_init 166 = .ok (.putfield 52, 3) := dk_181 0 52 (dk_at dksX12_init_7 4 rfl rfl)
theorem dX12_init_169 : decode cX12_init 169 = .ok (.aload_n 0, 1) := dk_42 (dk_at dksX12_init_7 7 rfl rfl)
theorem dX12_init_170 : decode cX12_init 170 = .ok (.bipush 8, 2) := dk_16 8 (dk_at dksX12_init_7 8 rfl rfl)
theorem dX12_init_172 : decode cX12_init 172 = .ok (.newarray .int, 2) := dk_188_10 (dk_at dksX12_init_7 10 rfl rfl)
theorem dX12_init_174 : decode cX12_init 174 = .ok (.putfield 55, 3) := dk_181 0 55 (dk_at dksX12_init_7 12 rfl rfl)
theorem dX12_init_177 : decode cX12_init 177 = .ok (.aload_n 0, 1) := dk_42 (dk_at dksX12_init_7 15 rfl rfl)
theorem dX12_init_178 : decode cX12_init 178 = .ok (.sipush 320, 3) := dk_17 1 64 (dk_at dksX12_init_7 16 rfl rfl)
theorem dX12_init_181 : decode cX12_init 181 = .ok (.newarray .long, 2) := dk_188_11 (dk_at dksX12_init_7 19 rfl rfl)
theorem dX12_init_183 : decode cX12_init 183 = .ok (.putfield 58, 3) := dk_181 0 58 (dk_at dksX12_init_7 21 rfl rfl)
theorem dX12_init_186 : decode cX12_init 186 = .ok (.aload_n 0, 1) := dk_42 (dk_at dksX12_init_8 0 rfl rfl)
theorem dX12_init_187 : decode cX12_init 187 = .ok (.bipush 8, 2) := dk_16 8 (dk_at dksX12_init_8 1 rfl rfl)
theorem dX12_init_189 : decode cX12_init 189 = .ok (.newarray .int, 2) := dk_188_10 (dk_at dksX12_init_8 3 rfl rfl)
theorem dX12_init_191 : decode cX12_init 191 = .ok (.putfield 62, 3) := dk_181 0 62 (dk_at dksX12_init_8 5 rfl rfl)
theorem dX12_init_194 : decode cX12_init 194 = .ok (.aload_n 0, 1) := dk_42 (dk_at dksX12_init_8 8 rfl rfl)
theorem dX12_init_195 : decode cX12_init 195 = .ok (.bipush 8, 2) := dk_16 8 (dk_at dksX12_init_8 9 rfl rfl)
theorem dX12_init_197 : decode cX12_init 197 = .ok (.newarray .int, 2) := dk_188_10 (dk_at dksX12_init_8 11 rfl rfl)
theorem dX12_init_199 : decode cX12_init 199 = .ok (.putfield 65, 3) := dk_181 0 65 (dk_at dksX12_init_8 13 rfl rfl)
theorem dX12_init_202 : decode cX12_init 202 = .ok (.aload_n 0, 1) := dk_42 (dk_at dksX12_init_8 16 rfl rfl)
theorem dX12_init_203 : decode cX12_init 203 = .ok (.bipush 8, 2) := dk_16 8 (dk_at dksX12_init_8 17 rfl rfl)
theorem dX12_init_205 : decode cX12_init 205 = .ok (.newarray .int, 2) := dk_188_10 (dk_at dksX12_init_8 19 rfl rfl)
theorem dX12_init_207 : decode cX12_init 207 = .ok (.putfield 68, 3) := dk_181 0 68 (dk_at dksX12_init_8 21 rfl rfl)
theorem dX12_init_210 : decode cX12_init 210 = .ok (.aload_n 0, 1) := dk_42 (dk_at dksX12_init_9 0 rfl rfl)
theorem dX12_init_211 : decode cX12_init 211 = .ok (.sipush 276, 3) := dk_17 1 20 (dk_at dksX12_init_9 1 rfl rfl)
theorem dX12_init_214 : decode cX12_init 214 = .ok (.iconst 4, 1) := dk_7 (dk_at dksX12_init_9 4 rfl rfl)
theorem dX12_init_215 : decode cX12_init 215 = .ok (.multianewarray 9 2, 4) := by decide +kernel
theorem dX12_init_219 : decode cX12_init 219 = .ok (.putfield 71, 3) := dk_181 0 71 (dk_at dksX12_init_9 9 rfl rfl)
theorem dX12_init_222 : decode cX12_init 222 = .ok (.aload_n 0, 1) := dk_42 (dk_at dksX12_init_9 12 rfl rfl)
theorem dX12_init_223 : decode cX12_init 223 = .ok (.sipush 276, 3) := dk_17 1 20 (dk_at dksX12_init_9 13 rfl rfl)
theorem dX12_init_226 : decode cX12_init 226 = .ok (.newarray .int, 2) := dk_188_10 (dk_at dksX12_init_9 16 rfl rfl)
theorem dX12_init_228 : decode cX12_init 228 = .ok (.putfield 74, 3) := dk_181 0 74 (dk_at dksX12_init_9 18 rfl rfl)
theorem dX12_init_231 : decode cX12_init 231 = .ok (.aload_n 0, 1) := dk_42 (dk_at dksX12_init_9 21 rfl rfl)
theorem dX12_init_232 : decode cX12_init 232 = .ok (.iconst 5, 1) := dk_8 (dk_at dksX12_init_9 22 rfl rfl)
theorem dX12_init_233 : decode cX12_init 233 = .ok (.bipush 64, 2) := dk_16 64 (dk_at dksX12_init_10 0 rfl rfl)
theorem dX12_init_235 : decode cX12_init 235 = .ok (.multianewarray 9 2, 4) := by decide +kernel
theorem dX12_init_239 : decode cX12_init 239 = .ok (.putfield 77, 3) := dk_181 0 77 (dk_at dksX12_init_10 6 rfl rfl)
theorem dX12_init_242 : decode cX12_init 242 = .ok (.aload_n 0, 1) := dk_42 (dk_at dksX12_init_10 9 rfl rfl)
theorem dX12_init_243 : decode cX12_init 243 = .ok (.iconst 5, 1) := dk_8 (dk_at dksX12_init_10 10 rfl rfl)
theorem dX12_init_244 : decode cX12_init 244 = .ok (.newarray .int, 2) := dk_188_10 (dk_at dksX12_init_10 11 rfl rfl)
theorem dX12_init_246 : decode cX12_init 246 = .ok (.putfield 80, 3) := dk_181 0 80 (dk_at dksX12_init_10 13 rfl rfl)
theorem dX12_init_249 : decode cX12_init 249 = .ok (.aload_n 0, 1) := dk_42 (dk_at dksX12_init_10 16 rfl rfl)
theorem dX12_init_250 : decode cX12_init 250 = .ok (.bipush 32, 2) := dk_16 32 (dk_at dksX12_init_10 17 rfl rfl)
theorem dX12_init_252 : decode cX12_init 252 = .ok (.newarray .int, 2) := dk_188_10 (dk_at dksX12_init_10 19 rfl rfl)
theorem dX12_init_254 : decode cX12_init 254 = .ok (.putfield 83, 3) := dk_181 0 83 (dk_at dksX12_init_10 21 rfl rfl)
theorem dX12_init_257 : decode cX12_init 257 = .ok (.aload_n 0, 1) := dk_42 (dk_at dksX12_init_11 0 rfl rfl)
theorem dX12_init_258 : decode cX12_init 258 = .ok (.bipush 91, 2) := dk_16 91 (dk_at dksX12_init_11 1 rfl rfl)
theorem dX12_init_260 : decode cX12_init 260 = .ok (.newarray .int, 2) := dk_188_10 (dk_at dksX12_init_11 3 rfl rfl)
theorem dX12_init_262 : decode cX12_init 262 = .ok (.putfield 86, 3) := dk_181 0 86 (dk_at dksX12_init_11 5 rfl rfl)
theorem dX12_init_265 : decode cX12_init 265 = .ok (.aload_n 0, 1) := dk_42 (dk_at dksX12_init_11 8 rfl rfl)
theorem dX12_init_266 : decode cX12_init 266 = .ok (.iconst 2, 1) := dk_5 (dk_at dksX12_init_11 9 rfl rfl)
theorem dX12_init_267 : decode cX12_init 267 = .ok (.newarray .int, 2) := dk_188_10 (dk_at dksX12_init_11 10 rfl rfl)
theorem dX12_init_269 : decode cX12_init 269 = .ok (.putfield 89, 3) := dk_181 0 89 (dk_at dksX12_init_11 12 rfl rfl)
theorem dX12_init_272 : decode cX12_init 272 = .ok (.return_, 1) := dk_177 (dk_at dksX12_init_11 15 rfl rfl)
abbrev cX12_feed : ByteArray := prog_24_method_35_code
def yX12_feed : MethodName := ⟨RX12, "feed", "(I)I"⟩
def dkwX12_feed_2 : List UInt8 := [89, 180, 0, 186, 4, 96, 181, 0, 186, 42, 180, 0, 186, 172]
abbrev dktX12_feed_2 : List UInt8 := dkwX12_feed_2 ++ []
def dkwX12_feed_1 : List UInt8 := [17, 0, 250, 160, 0, 10, 42, 16, 250, 182, 0, 183, 172, 42, 180, 0, 49, 42, 180, 0, 186, 27, 79, 42]
abbrev dktX12_feed_1 : List UInt8 := dkwX12_feed_1 ++ dktX12_feed_2
def dkwX12_feed_0 : List UInt8 := [27, 133, 9, 20, 0, 181, 184, 0, 175, 154, 0, 10, 42, 16, 254, 182, 0, 183, 172, 42, 180, 0, 186]
abbrev dktX12_feed_0 : List UInt8 := dkwX12_feed_0 ++ dktX12_feed_1
theorem dksX12_feed_0 : cX12_feed.data.toList.drop 0 = dktX12_feed_0 := by decide +kernel
theorem dksX12_feed_1 : cX12_feed.data.toList.drop 23 = dktX12_feed_1 := dk_seg dksX12_feed_0 23 rfl rfl
theorem dksX12_feed_2 : cX12_feed.data.toList.drop 47 = dktX12_feed_2 := dk_seg dksX12_feed_1 24 rfl rfl
theorem dX12_feed_0 : decode cX12_feed 0 = .ok (.iload_n 1, 1) := dk_27 (dk_at dksX12_feed_0 0 rfl rfl)
theorem dX12_feed_1 : decode cX12_feed 1 = .ok (.i2l, 1) := dk_133 (dk_at dksX12_feed_0 1 rfl rfl)
theorem dX12_feed_2 : decode cX12_feed 2 = .ok (.lconst 0, 1) := dk_9 (dk_at dksX12_feed_0 2 rfl rfl)
theorem dX12_feed_3 : decode cX12_feed 3 = .ok (.ldc2_w 181, 3) := dk_20 0 181 (dk_at dksX12_feed_0 3 rfl rfl)
theorem dX12_feed_6 : decode cX12_feed 6 = .ok (.invokestatic 175, 3) := dk_184 0 175 (dk_at dksX12_feed_0 6 rfl rfl)
theorem dX12_feed_9 : decode cX12_feed 9 = .ok (.ifCond .ne 10, 3) := dk_154 0 10 (dk_at dksX12_feed_0 9 rfl rfl)
theorem dX12_feed_12 : decode cX12_feed 12 = .ok (.aload_n 0, 1) := dk_42 (dk_at dksX12_feed_0 12 rfl rfl)
theorem dX12_feed_13 : decode cX12_feed 13 = .ok (.bipush (-2), 2) := dk_16 254 (dk_at dksX12_feed_0 13 rfl rfl)
theorem dX12_feed_15 : decode cX12_feed 15 = .ok (.invokevirtual 183, 3) := dk_182 0 183 (dk_at dksX12_feed_0 15 rfl rfl)
theorem dX12_feed_18 : decode cX12_feed 18 = .ok (.ireturn, 1) := dk_172 (dk_at dksX12_feed_0 18 rfl rfl)
theorem dX12_feed_19 : decode cX12_feed 19 = .ok (.aload_n 0, 1) := dk_42 (dk_at dksX12_feed_0 19 rfl rfl)
theorem dX12_feed_20 : decode cX12_feed 20 = .ok (.getfield 186, 3) := dk_180 0 186 (dk_at dksX12_feed_0 20 rfl rfl)
theorem dX12_feed_23 : decode cX12_feed 23 = .ok (.sipush 250, 3) := dk_17 0 250 (dk_at dksX12_feed_1 0 rfl rfl)
theorem dX12_feed_26 : decode cX12_feed 26 = .ok (.if_icmp .ne 10, 3) := dk_160 0 10 (dk_at dksX12_feed_1 3 rfl rfl)
theorem dX12_feed_29 : decode cX12_feed 29 = .ok (.aload_n 0, 1) := dk_42 (dk_at dksX12_feed_1 6 rfl rfl)
theorem dX12_feed_30 : decode cX12_feed 30 = .ok (.bipush (-6), 2) := dk_16 250 (dk_at dksX12_feed_1 7 rfl rfl)
theorem dX12_feed_32 : decode cX12_feed 32 = .ok (.invokevirtual 183, 3) := dk_182 0 183 (dk_at dksX12_feed_1 9 rfl rfl)
theorem dX12_feed_35 : decode cX12_feed 35 = .ok (.ireturn, 1) := dk_172 (dk_at dksX12_feed_1 12 rfl rfl)
theorem dX12_feed_36 : decode cX12_feed 36 = .ok (.aload_n 0, 1) := dk_42 (dk_at dksX12_feed_1 13 rfl rfl)
theorem dX12_feed_37 : decode cX12_feed 37 = .ok (.getfield 49, 3) := dk_180 0 49 (dk_at dksX12_feed_1 14 rfl rfl)
theorem dX12_feed_40 : decode cX12_feed 40 = .ok (.aload_n 0, 1) := dk_42 (dk_at dksX12_feed_1 17 rfl rfl)
theorem dX12_feed_41 : decode cX12_feed 41 = .ok (.getfield 186, 3) := dk_180 0 186 (dk_at dksX12_feed_1 18 rfl rfl)
theorem dX12_feed_44 : decode cX12_feed 44 = .ok (.iload_n 1, 1) := dk_27 (dk_at dksX12_feed_1 21 rfl rfl)
theorem dX12_feed_45 : decode cX12_feed 45 = .ok (.iastore, 1) := dk_79 (dk_at dksX12_feed_1 22 rfl rfl)
theorem dX12_feed_46 : decode cX12_feed 46 = .ok (.aload_n 0, 1) := dk_42 (dk_at dksX12_feed_1 23 rfl rfl)
theorem dX12_feed_47 : decode cX12_feed 47 = .ok (.dup, 1) := dk_89 (dk_at dksX12_feed_2 0 rfl rfl)
theorem dX12_feed_48 : decode cX12_feed 48 = .ok (.getfield 186, 3) := dk_180 0 186 (dk_at dksX12_feed_2 1 rfl rfl)
theorem dX12_feed_51 : decode cX12_feed 51 = .ok (.iconst 1, 1) := dk_4 (dk_at dksX12_feed_2 4 rfl rfl)
theorem dX12_feed_52 : decode cX12_feed 52 = .ok (.iadd, 1) := dk_96 (dk_at dksX12_feed_2 5 rfl rfl)
theorem dX12_feed_53 : decode cX12_feed 53 = .ok (.putfield 186, 3) := dk_181 0 186 (dk_at dksX12_feed_2 6 rfl rfl)
theorem dX12_feed_56 : decode cX12_feed 56 = .ok (.aload_n 0, 1) := dk_42 (dk_at dksX12_feed_2 9 rfl rfl)
theorem dX12_feed_57 : decode cX12_feed 57 = .ok (.getfield 186, 3) := dk_180 0 186 (dk_at dksX12_feed_2 10 rfl rfl)
theorem dX12_feed_60 : decode cX12_feed 60 = .ok (.ireturn, 1) := dk_172 (dk_at dksX12_feed_2 13 rfl rfl)
abbrev cX12_in : ByteArray := prog_24_method_2_code
def yX12_in : MethodName := ⟨RX12, "in", "(JJJ)Z"⟩
def dkwX12_in_0 : List UInt8 := [30, 32, 148, 155, 0, 14, 30, 22, 4, 148, 157, 0, 7, 4, 167, 0, 4, 3, 172]
abbrev dktX12_in_0 : List UInt8 := dkwX12_in_0 ++ []
theorem dksX12_in_0 : cX12_in.data.toList.drop 0 = dktX12_in_0 := by decide +kernel
theorem dX12_in_0 : decode cX12_in 0 = .ok (.lload_n 0, 1) := dk_30 (dk_at dksX12_in_0 0 rfl rfl)
theorem dX12_in_1 : decode cX12_in 1 = .ok (.lload_n 2, 1) := dk_32 (dk_at dksX12_in_0 1 rfl rfl)
theorem dX12_in_2 : decode cX12_in 2 = .ok (.lcmp, 1) := dk_148 (dk_at dksX12_in_0 2 rfl rfl)
theorem dX12_in_3 : decode cX12_in 3 = .ok (.ifCond .lt 14, 3) := dk_155 0 14 (dk_at dksX12_in_0 3 rfl rfl)
theorem dX12_in_6 : decode cX12_in 6 = .ok (.lload_n 0, 1) := dk_30 (dk_at dksX12_in_0 6 rfl rfl)
theorem dX12_in_7 : decode cX12_in 7 = .ok (.lload 4, 2) := dk_22 4 (dk_at dksX12_in_0 7 rfl rfl)
theorem dX12_in_9 : decode cX12_in 9 = .ok (.lcmp, 1) := dk_148 (dk_at dksX12_in_0 9 rfl rfl)
theorem dX12_in_10 : decode cX12_in 10 = .ok (.ifCond .gt 7, 3) := dk_157 0 7 (dk_at dksX12_in_0 10 rfl rfl)
theorem dX12_in_13 : decode cX12_in 13 = .ok (.iconst 1, 1) := dk_4 (dk_at dksX12_in_0 13 rfl rfl)
theorem dX12_in_14 : decode cX12_in 14 = .ok (.goto 4, 3) := dk_167 0 4 (dk_at dksX12_in_0 14 rfl rfl)
theorem dX12_in_17 : decode cX12_in 17 = .ok (.iconst 0, 1) := dk_3 (dk_at dksX12_in_0 17 rfl rfl)
theorem dX12_in_18 : decode cX12_in 18 = .ok (.ireturn, 1) := dk_172 (dk_at dksX12_in_0 18 rfl rfl)
abbrev cX12_refused : ByteArray := prog_24_method_3_code
def yX12_refused : MethodName := ⟨RX12, "refused", "(I)I"⟩
def dkwX12_refused_0 : List UInt8 := [42, 180, 0, 37, 27, 116, 92, 46, 4, 96, 79, 27, 172]
abbrev dktX12_refused_0 : List UInt8 := dkwX12_refused_0 ++ []
theorem dksX12_refused_0 : cX12_refused.data.toList.drop 0 = dktX12_refused_0 := by decide +kernel
theorem dX12_refused_0 : decode cX12_refused 0 = .ok (.aload_n 0, 1) := dk_42 (dk_at dksX12_refused_0 0 rfl rfl)
theorem dX12_refused_1 : decode cX12_refused 1 = .ok (.getfield 37, 3) := dk_180 0 37 (dk_at dksX12_refused_0 1 rfl rfl)
theorem dX12_refused_4 : decode cX12_refused 4 = .ok (.iload_n 1, 1) := dk_27 (dk_at dksX12_refused_0 4 rfl rfl)
theorem dX12_refused_5 : decode cX12_refused 5 = .ok (.ineg, 1) := dk_116 (dk_at dksX12_refused_0 5 rfl rfl)
theorem dX12_refused_6 : decode cX12_refused 6 = .ok (.dup2, 1) := dk_92 (dk_at dksX12_refused_0 6 rfl rfl)
theorem dX12_refused_7 : decode cX12_refused 7 = .ok (.iaload, 1) := dk_46 (dk_at dksX12_refused_0 7 rfl rfl)
theorem dX12_refused_8 : decode cX12_refused 8 = .ok (.iconst 1, 1) := dk_4 (dk_at dksX12_refused_0 8 rfl rfl)
theorem dX12_refused_9 : decode cX12_refused 9 = .ok (.iadd, 1) := dk_96 (dk_at dksX12_refused_0 9 rfl rfl)
theorem dX12_refused_10 : decode cX12_refused 10 = .ok (.iastore, 1) := dk_79 (dk_at dksX12_refused_0 10 rfl rfl)
theorem dX12_refused_11 : decode cX12_refused 11 = .ok (.iload_n 1, 1) := dk_27 (dk_at dksX12_refused_0 11 rfl rfl)
theorem dX12_refused_12 : decode cX12_refused 12 = .ok (.ireturn, 1) := dk_172 (dk_at dksX12_refused_0 12 rfl rfl)
abbrev cX12_wipe : ByteArray := prog_24_method_36_code
def yX12_wipe : MethodName := ⟨RX12, "wipe", "()I"⟩
def dkwX12_wipe_0 : List UInt8 := [42, 180, 0, 186, 60, 42, 3, 181, 0, 186, 27, 172]
abbrev dktX12_wipe_0 : List UInt8 := dkwX12_wipe_0 ++ []
theorem dksX12_wipe_0 : cX12_wipe.data.toList.drop 0 = dktX12_wipe_0 := by decide +kernel
theorem dX12_wipe_0 : decode cX12_wipe 0 = .ok (.aload_n 0, 1) := dk_42 (dk_at dksX12_wipe_0 0 rfl rfl)
theorem dX12_wipe_1 : decode cX12_wipe 1 = .ok (.getfield 186, 3) := dk_180 0 186 (dk_at dksX12_wipe_0 1 rfl rfl)
theorem dX12_wipe_4 : decode cX12_wipe 4 = .ok (.istore_n 1, 1) := dk_60 (dk_at dksX12_wipe_0 4 rfl rfl)
theorem dX12_wipe_5 : decode cX12_wipe 5 = .ok (.aload_n 0, 1) := dk_42 (dk_at dksX12_wipe_0 5 rfl rfl)
theorem dX12_wipe_6 : decode cX12_wipe 6 = .ok (.iconst 0, 1) := dk_3 (dk_at dksX12_wipe_0 6 rfl rfl)
theorem dX12_wipe_7 : decode cX12_wipe 7 = .ok (.putfield 186, 3) := dk_181 0 186 (dk_at dksX12_wipe_0 7 rfl rfl)
theorem dX12_wipe_10 : decode cX12_wipe 10 = .ok (.iload_n 1, 1) := dk_27 (dk_at dksX12_wipe_0 10 rfl rfl)
theorem dX12_wipe_11 : decode cX12_wipe 11 = .ok (.ireturn, 1) := dk_172 (dk_at dksX12_wipe_0 11 rfl rfl)
abbrev cX12_edit : ByteArray := prog_24_method_40_code
def yX12_edit : MethodName := ⟨RX12, "edit", "(I)I"⟩
def dkwX12_edit_4 : List UInt8 := [182, 0, 218, 172]
abbrev dktX12_edit_4 : List UInt8 := dkwX12_edit_4 ++ []
def dkwX12_edit_3 : List UInt8 := [5, 92, 46, 4, 96, 79, 17, 254, 212, 42, 180, 0, 190, 100, 172, 42, 3, 182, 0, 122, 42, 27, 3]
abbrev dktX12_edit_3 : List UInt8 := dkwX12_edit_3 ++ dktX12_edit_4
def dkwX12_edit_2 : List UInt8 := [162, 0, 11, 42, 182, 0, 214, 61, 167, 255, 236, 42, 3, 181, 0, 186, 28, 154, 0, 22, 42, 180, 0, 37]
abbrev dktX12_edit_2 : List UInt8 := dkwX12_edit_2 ++ dktX12_edit_3
def dkwX12_edit_1 : List UInt8 := [42, 180, 0, 43, 3, 3, 79, 42, 182, 0, 214, 61, 28, 153, 0, 22, 42, 180, 0, 190, 42, 180, 0, 186]
abbrev dktX12_edit_1 : List UInt8 := dkwX12_edit_1 ++ dktX12_edit_2
def dkwX12_edit_0 : List UInt8 := [27, 184, 0, 211, 154, 0, 15, 42, 3, 181, 0, 186, 42, 16, 254, 182, 0, 183, 172, 42, 3, 181, 0, 190]
abbrev dktX12_edit_0 : List UInt8 := dkwX12_edit_0 ++ dktX12_edit_1
theorem dksX12_edit_0 : cX12_edit.data.toList.drop 0 = dktX12_edit_0 := by decide +kernel
theorem dksX12_edit_1 : cX12_edit.data.toList.drop 24 = dktX12_edit_1 := dk_seg dksX12_edit_0 24 rfl rfl
theorem dksX12_edit_2 : cX12_edit.data.toList.drop 48 = dktX12_edit_2 := dk_seg dksX12_edit_1 24 rfl rfl
theorem dksX12_edit_3 : cX12_edit.data.toList.drop 72 = dktX12_edit_3 := dk_seg dksX12_edit_2 24 rfl rfl
theorem dksX12_edit_4 : cX12_edit.data.toList.drop 95 = dktX12_edit_4 := dk_seg dksX12_edit_3 23 rfl rfl
theorem dX12_edit_0 : decode cX12_edit 0 = .ok (.iload_n 1, 1) := dk_27 (dk_at dksX12_edit_0 0 rfl rfl)
theorem dX12_edit_1 : decode cX12_edit 1 = .ok (.invokestatic 211, 3) := dk_184 0 211 (dk_at dksX12_edit_0 1 rfl rfl)
theorem dX12_edit_4 : decode cX12_edit 4 = .ok (.ifCond .ne 15, 3) := dk_154 0 15 (dk_at dksX12_edit_0 4 rfl rfl)
theorem dX12_edit_7 : decode cX12_edit 7 = .ok (.aload_n 0, 1) := dk_42 (dk_at dksX12_edit_0 7 rfl rfl)
theorem dX12_edit_8 : decode cX12_edit 8 = .ok (.iconst 0, 1) := dk_3 (dk_at dksX12_edit_0 8 rfl rfl)
theorem dX12_edit_9 : decode cX12_edit 9 = .ok (.putfield 186, 3) := dk_181 0 186 (dk_at dksX12_edit_0 9 rfl rfl)
theorem dX12_edit_12 : decode cX12_edit 12 = .ok (.aload_n 0, 1) := dk_42 (dk_at dksX12_edit_0 12 rfl rfl)
theorem dX12_edit_13 : decode cX12_edit 13 = .ok (.bipush (-2), 2) := dk_16 254 (dk_at dksX12_edit_0 13 rfl rfl)
theorem dX12_edit_15 : decode cX12_edit 15 = .ok (.invokevirtual 183, 3) := dk_182 0 183 (dk_at dksX12_edit_0 15 rfl rfl)
theorem dX12_edit_18 : decode cX12_edit 18 = .ok (.ireturn, 1) := dk_172 (dk_at dksX12_edit_0 18 rfl rfl)
theorem dX12_edit_19 : decode cX12_edit 19 = .ok (.aload_n 0, 1) := dk_42 (dk_at dksX12_edit_0 19 rfl rfl)
theorem dX12_edit_20 : decode cX12_edit 20 = .ok (.iconst 0, 1) := dk_3 (dk_at dksX12_edit_0 20 rfl rfl)
theorem dX12_edit_21 : decode cX12_edit 21 = .ok (.putfield 190, 3) := dk_181 0 190 (dk_at dksX12_edit_0 21 rfl rfl)
theorem dX12_edit_24 : decode cX12_edit 24 = .ok (.aload_n 0, 1) := dk_42 (dk_at dksX12_edit_1 0 rfl rfl)
theorem dX12_edit_25 : decode cX12_edit 25 = .ok (.getfield 43, 3) := dk_180 0 43 (dk_at dksX12_edit_1 1 rfl rfl)
theorem dX12_edit_28 : decode cX12_edit 28 = .ok (.iconst 0, 1) := dk_3 (dk_at dksX12_edit_1 4 rfl rfl)
theorem dX12_edit_29 : decode cX12_edit 29 = .ok (.iconst 0, 1) := dk_3 (dk_at dksX12_edit_1 5 rfl rfl)
theorem dX12_edit_30 : decode cX12_edit 30 = .ok (.iastore, 1) := dk_79 (dk_at dksX12_edit_1 6 rfl rfl)
theorem dX12_edit_31 : decode cX12_edit 31 = .ok (.aload_n 0, 1) := dk_42 (dk_at dksX12_edit_1 7 rfl rfl)
theorem dX12_edit_32 : decode cX12_edit 32 = .ok (.invokevirtual 214, 3) := dk_182 0 214 (dk_at dksX12_edit_1 8 rfl rfl)
theorem dX12_edit_35 : decode cX12_edit 35 = .ok (.istore_n 2, 1) := dk_61 (dk_at dksX12_edit_1 11 rfl rfl)
theorem dX12_edit_36 : decode cX12_edit 36 = .ok (.iload_n 2, 1) := dk_28 (dk_at dksX12_edit_1 12 rfl rfl)
theorem dX12_edit_37 : decode cX12_edit 37 = .ok (.ifCond .eq 22, 3) := dk_153 0 22 (dk_at dksX12_edit_1 13 rfl rfl)
theorem dX12_edit_40 : decode cX12_edit 40 = .ok (.aload_n 0, 1) := dk_42 (dk_at dksX12_edit_1 16 rfl rfl)
theorem dX12_edit_41 : decode cX12_edit 41 = .ok (.getfield 190, 3) := dk_180 0 190 (dk_at dksX12_edit_1 17 rfl rfl)
theorem dX12_edit_44 : decode cX12_edit 44 = .ok (.aload_n 0, 1) := dk_42 (dk_at dksX12_edit_1 20 rfl rfl)
theorem dX12_edit_45 : decode cX12_edit 45 = .ok (.getfield 186, 3) := dk_180 0 186 (dk_at dksX12_edit_1 21 rfl rfl)
theorem dX12_edit_48 : decode cX12_edit 48 = .ok (.if_icmp .ge 11, 3) := dk_162 0 11 (dk_at dksX12_edit_2 0 rfl rfl)
theorem dX12_edit_51 : decode cX12_edit 51 = .ok (.aload_n 0, 1) := dk_42 (dk_at dksX12_edit_2 3 rfl rfl)
theorem dX12_edit_52 : decode cX12_edit 52 = .ok (.invokevirtual 214, 3) := dk_182 0 214 (dk_at dksX12_edit_2 4 rfl rfl)
theorem dX12_edit_55 : decode cX12_edit 55 = .ok (.istore_n 2, 1) := dk_61 (dk_at dksX12_edit_2 7 rfl rfl)
theorem dX12_edit_56 : decode cX12_edit 56 = .ok (.goto (-20), 3) := dk_167 255 236 (dk_at dksX12_edit_2 8 rfl rfl)
theorem dX12_edit_59 : decode cX12_edit 59 = .ok (.aload_n 0, 1) := dk_42 (dk_at dksX12_edit_2 11 rfl rfl)
theorem dX12_edit_60 : decode cX12_edit 60 = .ok (.iconst 0, 1) := dk_3 (dk_at dksX12_edit_2 12 rfl rfl)
theorem dX12_edit_61 : decode cX12_edit 61 = .ok (.putfield 186, 3) := dk_181 0 186 (dk_at dksX12_edit_2 13 rfl rfl)
theorem dX12_edit_64 : decode cX12_edit 64 = .ok (.iload_n 2, 1) := dk_28 (dk_at dksX12_edit_2 16 rfl rfl)
theorem dX12_edit_65 : decode cX12_edit 65 = .ok (.ifCond .ne 22, 3) := dk_154 0 22 (dk_at dksX12_edit_2 17 rfl rfl)
theorem dX12_edit_68 : decode cX12_edit 68 = .ok (.aload_n 0, 1) := dk_42 (dk_at dksX12_edit_2 20 rfl rfl)
theorem dX12_edit_69 : decode cX12_edit 69 = .ok (.getfield 37, 3) := dk_180 0 37 (dk_at dksX12_edit_2 21 rfl rfl)
theorem dX12_edit_72 : decode cX12_edit 72 = .ok (.iconst 2, 1) := dk_5 (dk_at dksX12_edit_3 0 rfl rfl)
theorem dX12_edit_73 : decode cX12_edit 73 = .ok (.dup2, 1) := dk_92 (dk_at dksX12_edit_3 1 rfl rfl)
theorem dX12_edit_74 : decode cX12_edit 74 = .ok (.iaload, 1) := dk_46 (dk_at dksX12_edit_3 2 rfl rfl)
theorem dX12_edit_75 : decode cX12_edit 75 = .ok (.iconst 1, 1) := dk_4 (dk_at dksX12_edit_3 3 rfl rfl)
theorem dX12_edit_76 : decode cX12_edit 76 = .ok (.iadd, 1) := dk_96 (dk_at dksX12_edit_3 4 rfl rfl)
theorem dX12_edit_77 : decode cX12_edit 77 = .ok (.iastore, 1) := dk_79 (dk_at dksX12_edit_3 5 rfl rfl)
theorem dX12_edit_78 : decode cX12_edit 78 = .ok (.sipush (-300), 3) := dk_17 254 212 (dk_at dksX12_edit_3 6 rfl rfl)
theorem dX12_edit_81 : decode cX12_edit 81 = .ok (.aload_n 0, 1) := dk_42 (dk_at dksX12_edit_3 9 rfl rfl)
theorem dX12_edit_82 : decode cX12_edit 82 = .ok (.getfield 190, 3) := dk_180 0 190 (dk_at dksX12_edit_3 10 rfl rfl)
theorem dX12_edit_85 : decode cX12_edit 85 = .ok (.isub, 1) := dk_100 (dk_at dksX12_edit_3 13 rfl rfl)
theorem dX12_edit_86 : decode cX12_edit 86 = .ok (.ireturn, 1) := dk_172 (dk_at dksX12_edit_3 14 rfl rfl)
theorem dX12_edit_87 : decode cX12_edit 87 = .ok (.aload_n 0, 1) := dk_42 (dk_at dksX12_edit_3 15 rfl rfl)
theorem dX12_edit_88 : decode cX12_edit 88 = .ok (.iconst 0, 1) := dk_3 (dk_at dksX12_edit_3 16 rfl rfl)
theorem dX12_edit_89 : decode cX12_edit 89 = .ok (.invokevirtual 122, 3) := dk_182 0 122 (dk_at dksX12_edit_3 17 rfl rfl)
theorem dX12_edit_92 : decode cX12_edit 92 = .ok (.aload_n 0, 1) := dk_42 (dk_at dksX12_edit_3 20 rfl rfl)
theorem dX12_edit_93 : decode cX12_edit 93 = .ok (.iload_n 1, 1) := dk_27 (dk_at dksX12_edit_3 21 rfl rfl)
theorem dX12_edit_94 : decode cX12_edit 94 = .ok (.iconst 0, 1) := dk_3 (dk_at dksX12_edit_3 22 rfl rfl)
theorem dX12_edit_95 : decode cX12_edit 95 = .ok (.invokevirtual 218, 3) := dk_182 0 218 (dk_at dksX12_edit_4 0 rfl rfl)
theorem dX12_edit_98 : decode cX12_edit 98 = .ok (.ireturn, 1) := dk_172 (dk_at dksX12_edit_4 3 rfl rfl)
abbrev cX12_isEdit : ByteArray := prog_24_method_34_code
def yX12_isEdit : MethodName := ⟨RX12, "isEdit", "(I)Z"⟩
def dkwX12_isEdit_0 : List UInt8 := [26, 133, 9, 20, 0, 179, 184, 0, 175, 172]
abbrev dktX12_isEdit_0 : List UInt8 := dkwX12_isEdit_0 ++ []
theorem dksX12_isEdit_0 : cX12_isEdit.data.toList.drop 0 = dktX12_isEdit_0 := by decide +kernel
theorem dX12_isEdit_0 : decode cX12_isEdit 0 = .ok (.iload_n 0, 1) := dk_26 (dk_at dksX12_isEdit_0 0 rfl rfl)
theorem dX12_isEdit_1 : decode cX12_isEdit 1 = .ok (.i2l, 1) := dk_133 (dk_at dksX12_isEdit_0 1 rfl rfl)
theorem dX12_isEdit_2 : decode cX12_isEdit 2 = .ok (.lconst 0, 1) := dk_9 (dk_at dksX12_isEdit_0 2 rfl rfl)
theorem dX12_isEdit_3 : decode cX12_isEdit 3 = .ok (.ldc2_w 179, 3) := dk_20 0 179 (dk_at dksX12_isEdit_0 3 rfl rfl)
theorem dX12_isEdit_6 : decode cX12_isEdit 6 = .ok (.invokestatic 175, 3) := dk_184 0 175 (dk_at dksX12_isEdit_0 6 rfl rfl)
theorem dX12_isEdit_9 : decode cX12_isEdit 9 = .ok (.ireturn, 1) := dk_172 (dk_at dksX12_isEdit_0 9 rfl rfl)
abbrev cX12_isPart : ByteArray := prog_24_method_39_code
def yX12_isPart : MethodName := ⟨RX12, "isPart", "()Z"⟩
def dkwX12_isPart_10 : List UInt8 := [162, 0, 15, 42, 3, 29, 182, 0, 115, 132, 4, 1, 167, 255, 241, 4, 172]
abbrev dktX12_isPart_10 : List UInt8 := dkwX12_isPart_10 ++ []
def dkwX12_isPart_9 : List UInt8 := [160, 0, 12, 42, 180, 0, 200, 7, 120, 167, 0, 7, 42, 180, 0, 200, 128, 62, 3, 54, 4, 21, 4, 28]
abbrev dktX12_isPart_9 : List UInt8 := dkwX12_isPart_9 ++ dktX12_isPart_10
def dkwX12_isPart_8 : List UInt8 := [180, 0, 190, 4, 96, 181, 0, 190, 42, 16, 15, 182, 0, 207, 154, 0, 5, 3, 172, 18, 126, 27, 16, 94]
abbrev dktX12_isPart_8 : List UInt8 := dkwX12_isPart_8 ++ dktX12_isPart_9
def dkwX12_isPart_7 : List UInt8 := [27, 16, 95, 160, 0, 62, 42, 42, 180, 0, 190, 182, 0, 193, 16, 46, 159, 0, 5, 3, 172, 42, 89]
abbrev dktX12_isPart_7 : List UInt8 := dkwX12_isPart_7 ++ dktX12_isPart_8
def dkwX12_isPart_6 : List UInt8 := [180, 0, 200, 61, 27, 16, 61, 160, 0, 8, 18, 108, 167, 0, 5, 18, 109, 62, 27, 16, 94, 159, 0, 9]
abbrev dktX12_isPart_6 : List UInt8 := dkwX12_isPart_6 ++ dktX12_isPart_7
def dkwX12_isPart_5 : List UInt8 := [28, 164, 0, 7, 4, 167, 0, 4, 3, 172, 42, 16, 99, 182, 0, 207, 154, 0, 5, 3, 172, 42]
abbrev dktX12_isPart_5 : List UInt8 := dkwX12_isPart_5 ++ dktX12_isPart_6
def dkwX12_isPart_4 : List UInt8 := [16, 97, 100, 128, 182, 0, 115, 42, 89, 180, 0, 190, 4, 96, 181, 0, 190, 167, 255, 206, 42, 180, 0, 190]
abbrev dktX12_isPart_4 : List UInt8 := dkwX12_isPart_4 ++ dktX12_isPart_5
def dkwX12_isPart_3 : List UInt8 := [20, 0, 203, 20, 0, 205, 184, 0, 175, 153, 0, 35, 42, 3, 18, 110, 42, 42, 180, 0, 190, 182, 0, 193]
abbrev dktX12_isPart_3 : List UInt8 := dkwX12_isPart_3 ++ dktX12_isPart_4
def dkwX12_isPart_2 : List UInt8 := [181, 0, 190, 27, 16, 43, 160, 0, 75, 42, 180, 0, 190, 61, 42, 42, 180, 0, 190, 182, 0, 193, 133]
abbrev dktX12_isPart_2 : List UInt8 := dkwX12_isPart_2 ++ dktX12_isPart_3
def dkwX12_isPart_1 : List UInt8 := [159, 0, 17, 27, 16, 94, 159, 0, 11, 27, 16, 95, 159, 0, 5, 3, 172, 42, 89, 180, 0, 190, 4, 96]
abbrev dktX12_isPart_1 : List UInt8 := dkwX12_isPart_1 ++ dktX12_isPart_2
def dkwX12_isPart_0 : List UInt8 := [42, 42, 180, 0, 190, 182, 0, 193, 60, 27, 16, 61, 159, 0, 29, 27, 16, 45, 159, 0, 23, 27, 16, 43]
abbrev dktX12_isPart_0 : List UInt8 := dkwX12_isPart_0 ++ dktX12_isPart_1
theorem dksX12_isPart_0 : cX12_isPart.data.toList.drop 0 = dktX12_isPart_0 := by decide +kernel
theorem dksX12_isPart_1 : cX12_isPart.data.toList.drop 24 = dktX12_isPart_1 := dk_seg dksX12_isPart_0 24 rfl rfl
theorem dksX12_isPart_2 : cX12_isPart.data.toList.drop 48 = dktX12_isPart_2 := dk_seg dksX12_isPart_1 24 rfl rfl
theorem dksX12_isPart_3 : cX12_isPart.data.toList.drop 71 = dktX12_isPart_3 := dk_seg dksX12_isPart_2 23 rfl rfl
theorem dksX12_isPart_4 : cX12_isPart.data.toList.drop 95 = dktX12_isPart_4 := dk_seg dksX12_isPart_3 24 rfl rfl
theorem dksX12_isPart_5 : cX12_isPart.data.toList.drop 119 = dktX12_isPart_5 := dk_seg dksX12_isPart_4 24 rfl rfl
theorem dksX12_isPart_6 : cX12_isPart.data.toList.drop 141 = dktX12_isPart_6 := dk_seg dksX12_isPart_5 22 rfl rfl
theorem dksX12_isPart_7 : cX12_isPart.data.toList.drop 165 = dktX12_isPart_7 := dk_seg dksX12_isPart_6 24 rfl rfl
theorem dksX12_isPart_8 : cX12_isPart.data.toList.drop 188 = dktX12_isPart_8 := dk_seg dksX12_isPart_7 23 rfl rfl
theorem dksX12_isPart_9 : cX12_isPart.data.toList.drop 212 = dktX12_isPart_9 := dk_seg dksX12_isPart_8 24 rfl rfl
theorem dksX12_isPart_10 : cX12_isPart.data.toList.drop 236 = dktX12_isPart_10 := dk_seg dksX12_isPart_9 24 rfl rfl
theorem dX12_isPart_0 : decode cX12_isPart 0 = .ok (.aload_n 0, 1) := dk_42 (dk_at dksX12_isPart_0 0 rfl rfl)
theorem dX12_isPart_1 : decode cX12_isPart 1 = .ok (.aload_n 0, 1) := dk_42 (dk_at dksX12_isPart_0 1 rfl rfl)
theorem dX12_isPart_2 : decode cX12_isPart 2 = .ok (.getfield 190, 3) := dk_180 0 190 (dk_at dksX12_isPart_0 2 rfl rfl)
theorem dX12_isPart_5 : decode cX12_isPart 5 = .ok (.invokevirtual 193, 3) := dk_182 0 193 (dk_at dksX12_isPart_0 5 rfl rfl)
theorem dX12_isPart_8 : decode cX12_isPart 8 = .ok (.istore_n 1, 1) := dk_60 (dk_at dksX12_isPart_0 8 rfl rfl)
theorem dX12_isPart_9 : decode cX12_isPart 9 = .ok (.iload_n 1, 1) := dk_27 (dk_at dksX12_isPart_0 9 rfl rfl)
theorem dX12_isPart_10 : decode cX12_isPart 10 = .ok (.bipush 61, 2) := dk_16 61 (dk_at dksX12_isPart_0 10 rfl rfl)
theorem dX12_isPart_12 : decode cX12_isPart 12 = .ok (.if_icmp .eq 29, 3) := dk_159 0 29 (dk_at dksX12_isPart_0 12 rfl rfl)
theorem dX12_isPart_15 : decode cX12_isPart 15 = .ok (.iload_n 1, 1) := dk_27 (dk_at dksX12_isPart_0 15 rfl rfl)
theorem dX12_isPart_16 : decode cX12_isPart 16 = .ok (.bipush 45, 2) := dk_16 45 (dk_at dksX12_isPart_0 16 rfl rfl)
theorem dX12_isPart_18 : decode cX12_isPart 18 = .ok (.if_icmp .eq 23, 3) := dk_159 0 23 (dk_at dksX12_isPart_0 18 rfl rfl)
theorem dX12_isPart_21 : decode cX12_isPart 21 = .ok (.iload_n 1, 1) := dk_27 (dk_at dksX12_isPart_0 21 rfl rfl)
theorem dX12_isPart_22 : decode cX12_isPart 22 = .ok (.bipush 43, 2) := dk_16 43 (dk_at dksX12_isPart_0 22 rfl rfl)
theorem dX12_isPart_24 : decode cX12_isPart 24 = .ok (.if_icmp .eq 17, 3) := dk_159 0 17 (dk_at dksX12_isPart_1 0 rfl rfl)
theorem dX12_isPart_27 : decode cX12_isPart 27 = .ok (.iload_n 1, 1) := dk_27 (dk_at dksX12_isPart_1 3 rfl rfl)
theorem dX12_isPart_28 : decode cX12_isPart 28 = .ok (.bipush 94, 2) := dk_16 94 (dk_at dksX12_isPart_1 4 rfl rfl)
theorem dX12_isPart_30 : decode cX12_isPart 30 = .ok (.if_icmp .eq 11, 3) := dk_159 0 11 (dk_at dksX12_isPart_1 6 rfl rfl)
theorem dX12_isPart_33 : decode cX12_isPart 33 = .ok (.iload_n 1, 1) := dk_27 (dk_at dksX12_isPart_1 9 rfl rfl)
theorem dX12_isPart_34 : decode cX12_isPart 34 = .ok (.bipush 95, 2) := dk_16 95 (dk_at dksX12_isPart_1 10 rfl rfl)
theorem dX12_isPart_36 : decode cX12_isPart 36 = .ok (.if_icmp .eq 5, 3) := dk_159 0 5 (dk_at dksX12_isPart_1 12 rfl rfl)
theorem dX12_isPart_39 : decode cX12_isPart 39 = .ok (.iconst 0, 1) := dk_3 (dk_at dksX12_isPart_1 15 rfl rfl)
theorem dX12_isPart_40 : decode cX12_isPart 40 = .ok (.ireturn, 1) := dk_172 (dk_at dksX12_isPart_1 16 rfl rfl)
theorem dX12_isPart_41 : decode cX12_isPart 41 = .ok (.aload_n 0, 1) := dk_42 (dk_at dksX12_isPart_1 17 rfl rfl)
theorem dX12_isPart_42 : decode cX12_isPart 42 = .ok (.dup, 1) := dk_89 (dk_at dksX12_isPart_1 18 rfl rfl)
theorem dX12_isPart_43 : decode cX12_isPart 43 = .ok (.getfield 190, 3) := dk_180 0 190 (dk_at dksX12_isPart_1 19 rfl rfl)
theorem dX12_isPart_46 : decode cX12_isPart 46 = .ok (.iconst 1, 1) := dk_4 (dk_at dksX12_isPart_1 22 rfl rfl)
theorem dX12_isPart_47 : decode cX12_isPart 47 = .ok (.iadd, 1) := dk_96 (dk_at dksX12_isPart_1 23 rfl rfl)
theorem dX12_isPart_48 : decode cX12_isPart 48 = .ok (.putfield 190, 3) := dk_181 0 190 (dk_at dksX12_isPart_2 0 rfl rfl)
theorem dX12_isPart_51 : decode cX12_isPart 51 = .ok (.iload_n 1, 1) := dk_27 (dk_at dksX12_isPart_2 3 rfl rfl)
theorem dX12_isPart_52 : decode cX12_isPart 52 = .ok (.bipush 43, 2) := dk_16 43 (dk_at dksX12_isPart_2 4 rfl rfl)
theorem dX12_isPart_54 : decode cX12_isPart 54 = .ok (.if_icmp .ne 75, 3) := dk_160 0 75 (dk_at dksX12_isPart_2 6 rfl rfl)
theorem dX12_isPart_57 : decode cX12_isPart 57 = .ok (.aload_n 0, 1) := dk_42 (dk_at dksX12_isPart_2 9 rfl rfl)
theorem dX12_isPart_58 : decode cX12_isPart 58 = .ok (.getfield 190, 3) := dk_180 0 190 (dk_at dksX12_isPart_2 10 rfl rfl)
theorem dX12_isPart_61 : decode cX12_isPart 61 = .ok (.istore_n 2, 1) := dk_61 (dk_at dksX12_isPart_2 13 rfl rfl)
theorem dX12_isPart_62 : decode cX12_isPart 62 = .ok (.aload_n 0, 1) := dk_42 (dk_at dksX12_isPart_2 14 rfl rfl)
theorem dX12_isPart_63 : decode cX12_isPart 63 = .ok (.aload_n 0, 1) := dk_42 (dk_at dksX12_isPart_2 15 rfl rfl)
theorem dX12_isPart_64 : decode cX12_isPart 64 = .ok (.getfield 190, 3) := dk_180 0 190 (dk_at dksX12_isPart_2 16 rfl rfl)
theorem dX12_isPart_67 : decode cX12_isPart 67 = .ok (.invokevirtual 193, 3) := dk_182 0 193 (dk_at dksX12_isPart_2 19 rfl rfl)
theorem dX12_isPart_70 : decode cX12_isPart 70 = .ok (.i2l, 1) := dk_133 (dk_at dksX12_isPart_2 22 rfl rfl)
theorem dX12_isPart_71 : decode cX12_isPart 71 = .ok (.ldc2_w 203, 3) := dk_20 0 203 (dk_at dksX12_isPart_3 0 rfl rfl)
theorem dX12_isPart_74 : decode cX12_isPart 74 = .ok (.ldc2_w 205, 3) := dk_20 0 205 (dk_at dksX12_isPart_3 3 rfl rfl)
theorem dX12_isPart_77 : decode cX12_isPart 77 = .ok (.invokestatic 175, 3) := dk_184 0 175 (dk_at dksX12_isPart_3 6 rfl rfl)
theorem dX12_isPart_80 : decode cX12_isPart 80 = .ok (.ifCond .eq 35, 3) := dk_153 0 35 (dk_at dksX12_isPart_3 9 rfl rfl)
theorem dX12_isPart_83 : decode cX12_isPart 83 = .ok (.aload_n 0, 1) := dk_42 (dk_at dksX12_isPart_3 12 rfl rfl)
theorem dX12_isPart_84 : decode cX12_isPart 84 = .ok (.iconst 0, 1) := dk_3 (dk_at dksX12_isPart_3 13 rfl rfl)
theorem dX12_isPart_85 : decode cX12_isPart 85 = .ok (.ldc 110, 2) := dk_18 110 (dk_at dksX12_isPart_3 14 rfl rfl)
theorem dX12_isPart_87 : decode cX12_isPart 87 = .ok (.aload_n 0, 1) := dk_42 (dk_at dksX12_isPart_3 16 rfl rfl)
theorem dX12_isPart_88 : decode cX12_isPart 88 = .ok (.aload_n 0, 1) := dk_42 (dk_at dksX12_isPart_3 17 rfl rfl)
theorem dX12_isPart_89 : decode cX12_isPart 89 = .ok (.getfield 190, 3) := dk_180 0 190 (dk_at dksX12_isPart_3 18 rfl rfl)
theorem dX12_isPart_92 : decode cX12_isPart 92 = .ok (.invokevirtual 193, 3) := dk_182 0 193 (dk_at dksX12_isPart_3 21 rfl rfl)
theorem dX12_isPart_95 : decode cX12_isPart 95 = .ok (.bipush 97, 2) := dk_16 97 (dk_at dksX12_isPart_4 0 rfl rfl)
theorem dX12_isPart_97 : decode cX12_isPart 97 = .ok (.isub, 1) := dk_100 (dk_at dksX12_isPart_4 2 rfl rfl)
theorem dX12_isPart_98 : decode cX12_isPart 98 = .ok (.ior, 1) := dk_128 (dk_at dksX12_isPart_4 3 rfl rfl)
theorem dX12_isPart_99 : decode cX12_isPart 99 = .ok (.invokevirtual 115, 3) := dk_182 0 115 (dk_at dksX12_isPart_4 4 rfl rfl)
theorem dX12_isPart_102 : decode cX12_isPart 102 = .ok (.aload_n 0, 1) := dk_42 (dk_at dksX12_isPart_4 7 rfl rfl)
theorem dX12_isPart_103 : decode cX12_isPart 103 = .ok (.dup, 1) := dk_89 (dk_at dksX12_isPart_4 8 rfl rfl)
theorem dX12_isPart_104 : decode cX12_isPart 104 = .ok (.getfield 190, 3) := dk_180 0 190 (dk_at dksX12_isPart_4 9 rfl rfl)
theorem dX12_isPart_107 : decode cX12_isPart 107 = .ok (.iconst 1, 1) := dk_4 (dk_at dksX12_isPart_4 12 rfl rfl)
theorem dX12_isPart_108 : decode cX12_isPart 108 = .ok (.iadd, 1) := dk_96 (dk_at dksX12_isPart_4 13 rfl rfl)
theorem dX12_isPart_109 : decode cX12_isPart 109 = .ok (.putfield 190, 3) := dk_181 0 190 (dk_at dksX12_isPart_4 14 rfl rfl)
theorem dX12_isPart_112 : decode cX12_isPart 112 = .ok (.goto (-50), 3) := dk_167 255 206 (dk_at dksX12_isPart_4 17 rfl rfl)
theorem dX12_isPart_115 : decode cX12_isPart 115 = .ok (.aload_n 0, 1) := dk_42 (dk_at dksX12_isPart_4 20 rfl rfl)
theorem dX12_isPart_116 : decode cX12_isPart 116 = .ok (.getfield 190, 3) := dk_180 0 190 (dk_at dksX12_isPart_4 21 rfl rfl)
theorem dX12_isPart_119 : decode cX12_isPart 119 = .ok (.iload_n 2, 1) := dk_28 (dk_at dksX12_isPart_5 0 rfl rfl)
theorem dX12_isPart_120 : decode cX12_isPart 120 = .ok (.if_icmp .le 7, 3) := dk_164 0 7 (dk_at dksX12_isPart_5 1 rfl rfl)
theorem dX12_isPart_123 : decode cX12_isPart 123 = .ok (.iconst 1, 1) := dk_4 (dk_at dksX12_isPart_5 4 rfl rfl)
theorem dX12_isPart_124 : decode cX12_isPart 124 = .ok (.goto 4, 3) := dk_167 0 4 (dk_at dksX12_isPart_5 5 rfl rfl)
theorem dX12_isPart_127 : decode cX12_isPart 127 = .ok (.iconst 0, 1) := dk_3 (dk_at dksX12_isPart_5 8 rfl rfl)
theorem dX12_isPart_128 : decode cX12_isPart 128 = .ok (.ireturn, 1) := dk_172 (dk_at dksX12_isPart_5 9 rfl rfl)
theorem dX12_isPart_129 : decode cX12_isPart 129 = .ok (.aload_n 0, 1) := dk_42 (dk_at dksX12_isPart_5 10 rfl rfl)
theorem dX12_isPart_130 : decode cX12_isPart 130 = .ok (.bipush 99, 2) := dk_16 99 (dk_at dksX12_isPart_5 11 rfl rfl)
theorem dX12_isPart_132 : decode cX12_isPart 132 = .ok (.invokevirtual 207, 3) := dk_182 0 207 (dk_at dksX12_isPart_5 13 rfl rfl)
theorem dX12_isPart_135 : decode cX12_isPart 135 = .ok (.ifCond .ne 5, 3) := dk_154 0 5 (dk_at dksX12_isPart_5 16 rfl rfl)
theorem dX12_isPart_138 : decode cX12_isPart 138 = .ok (.iconst 0, 1) := dk_3 (dk_at dksX12_isPart_5 19 rfl rfl)
theorem dX12_isPart_139 : decode cX12_isPart 139 = .ok (.ireturn, 1) := dk_172 (dk_at dksX12_isPart_5 20 rfl rfl)
theorem dX12_isPart_140 : decode cX12_isPart 140 = .ok (.aload_n 0, 1) := dk_42 (dk_at dksX12_isPart_5 21 rfl rfl)
theorem dX12_isPart_141 : decode cX12_isPart 141 = .ok (.getfield 200, 3) := dk_180 0 200 (dk_at dksX12_isPart_6 0 rfl rfl)
theorem dX12_isPart_144 : decode cX12_isPart 144 = .ok (.istore_n 2, 1) := dk_61 (dk_at dksX12_isPart_6 3 rfl rfl)
theorem dX12_isPart_145 : decode cX12_isPart 145 = .ok (.iload_n 1, 1) := dk_27 (dk_at dksX12_isPart_6 4 rfl rfl)
theorem dX12_isPart_146 : decode cX12_isPart 146 = .ok (.bipush 61, 2) := dk_16 61 (dk_at dksX12_isPart_6 5 rfl rfl)
theorem dX12_isPart_148 : decode cX12_isPart 148 = .ok (.if_icmp .ne 8, 3) := dk_160 0 8 (dk_at dksX12_isPart_6 7 rfl rfl)
theorem dX12_isPart_151 : decode cX12_isPart 151 = .ok (.ldc 108, 2) := dk_18 108 (dk_at dksX12_isPart_6 10 rfl rfl)
theorem dX12_isPart_153 : decode cX12_isPart 153 = .ok (.goto 5, 3) := dk_167 0 5 (dk_at dksX12_isPart_6 12 rfl rfl)
theorem dX12_isPart_156 : decode cX12_isPart 156 = .ok (.ldc 109, 2) := dk_18 109 (dk_at dksX12_isPart_6 15 rfl rfl)
theorem dX12_isPart_158 : decode cX12_isPart 158 = .ok (.istore_n 3, 1) := dk_62 (dk_at dksX12_isPart_6 17 rfl rfl)
theorem dX12_isPart_159 : decode cX12_isPart 159 = .ok (.iload_n 1, 1) := dk_27 (dk_at dksX12_isPart_6 18 rfl rfl)
theorem dX12_isPart_160 : decode cX12_isPart 160 = .ok (.bipush 94, 2) := dk_16 94 (dk_at dksX12_isPart_6 19 rfl rfl)
theorem dX12_isPart_162 : decode cX12_isPart 162 = .ok (.if_icmp .eq 9, 3) := dk_159 0 9 (dk_at dksX12_isPart_6 21 rfl rfl)
theorem dX12_isPart_165 : decode cX12_isPart 165 = .ok (.iload_n 1, 1) := dk_27 (dk_at dksX12_isPart_7 0 rfl rfl)
theorem dX12_isPart_166 : decode cX12_isPart 166 = .ok (.bipush 95, 2) := dk_16 95 (dk_at dksX12_isPart_7 1 rfl rfl)
theorem dX12_isPart_168 : decode cX12_isPart 168 = .ok (.if_icmp .ne 62, 3) := dk_160 0 62 (dk_at dksX12_isPart_7 3 rfl rfl)
theorem dX12_isPart_171 : decode cX12_isPart 171 = .ok (.aload_n 0, 1) := dk_42 (dk_at dksX12_isPart_7 6 rfl rfl)
theorem dX12_isPart_172 : decode cX12_isPart 172 = .ok (.aload_n 0, 1) := dk_42 (dk_at dksX12_isPart_7 7 rfl rfl)
theorem dX12_isPart_173 : decode cX12_isPart 173 = .ok (.getfield 190, 3) := dk_180 0 190 (dk_at dksX12_isPart_7 8 rfl rfl)
theorem dX12_isPart_176 : decode cX12_isPart 176 = .ok (.invokevirtual 193, 3) := dk_182 0 193 (dk_at dksX12_isPart_7 11 rfl rfl)
theorem dX12_isPart_179 : decode cX12_isPart 179 = .ok (.bipush 46, 2) := dk_16 46 (dk_at dksX12_isPart_7 14 rfl rfl)
theorem dX12_isPart_181 : decode cX12_isPart 181 = .ok (.if_icmp .eq 5, 3) := dk_159 0 5 (dk_at dksX12_isPart_7 16 rfl rfl)
theorem dX12_isPart_184 : decode cX12_isPart 184 = .ok (.iconst 0, 1) := dk_3 (dk_at dksX12_isPart_7 19 rfl rfl)
theorem dX12_isPart_185 : decode cX12_isPart 185 = .ok (.ireturn, 1) := dk_172 (dk_at dksX12_isPart_7 20 rfl rfl)
theorem dX12_isPart_186 : decode cX12_isPart 186 = .ok (.aload_n 0, 1) := dk_42 (dk_at dksX12_isPart_7 21 rfl rfl)
theorem dX12_isPart_187 : decode cX12_isPart 187 = .ok (.dup, 1) := dk_89 (dk_at dksX12_isPart_7 22 rfl rfl)
theorem dX12_isPart_188 : decode cX12_isPart 188 = .ok (.getfield 190, 3) := dk_180 0 190 (dk_at dksX12_isPart_8 0 rfl rfl)
theorem dX12_isPart_191 : decode cX12_isPart 191 = .ok (.iconst 1, 1) := dk_4 (dk_at dksX12_isPart_8 3 rfl rfl)
theorem dX12_isPart_192 : decode cX12_isPart 192 = .ok (.iadd, 1) := dk_96 (dk_at dksX12_isPart_8 4 rfl rfl)
theorem dX12_isPart_193 : decode cX12_isPart 193 = .ok (.putfield 190, 3) := dk_181 0 190 (dk_at dksX12_isPart_8 5 rfl rfl)
theorem dX12_isPart_196 : decode cX12_isPart 196 = .ok (.aload_n 0, 1) := dk_42 (dk_at dksX12_isPart_8 8 rfl rfl)
theorem dX12_isPart_197 : decode cX12_isPart 197 = .ok (.bipush 15, 2) := dk_16 15 (dk_at dksX12_isPart_8 9 rfl rfl)
theorem dX12_isPart_199 : decode cX12_isPart 199 = .ok (.invokevirtual 207, 3) := dk_182 0 207 (dk_at dksX12_isPart_8 11 rfl rfl)
theorem dX12_isPart_202 : decode cX12_isPart 202 = .ok (.ifCond .ne 5, 3) := dk_154 0 5 (dk_at dksX12_isPart_8 14 rfl rfl)
theorem dX12_isPart_205 : decode cX12_isPart 205 = .ok (.iconst 0, 1) := dk_3 (dk_at dksX12_isPart_8 17 rfl rfl)
theorem dX12_isPart_206 : decode cX12_isPart 206 = .ok (.ireturn, 1) := dk_172 (dk_at dksX12_isPart_8 18 rfl rfl)
theorem dX12_isPart_207 : decode cX12_isPart 207 = .ok (.ldc 126, 2) := dk_18 126 (dk_at dksX12_isPart_8 19 rfl rfl)
theorem dX12_isPart_209 : decode cX12_isPart 209 = .ok (.iload_n 1, 1) := dk_27 (dk_at dksX12_isPart_8 21 rfl rfl)
theorem dX12_isPart_210 : decode cX12_isPart 210 = .ok (.bipush 94, 2) := dk_16 94 (dk_at dksX12_isPart_8 22 rfl rfl)
theorem dX12_isPart_212 : decode cX12_isPart 212 = .ok (.if_icmp .ne 12, 3) := dk_160 0 12 (dk_at dksX12_isPart_9 0 rfl rfl)
theorem dX12_isPart_215 : decode cX12_isPart 215 = .ok (.aload_n 0, 1) := dk_42 (dk_at dksX12_isPart_9 3 rfl rfl)
theorem dX12_isPart_216 : decode cX12_isPart 216 = .ok (.getfield 200, 3) := dk_180 0 200 (dk_at dksX12_isPart_9 4 rfl rfl)
theorem dX12_isPart_219 : decode cX12_isPart 219 = .ok (.iconst 4, 1) := dk_7 (dk_at dksX12_isPart_9 7 rfl rfl)
theorem dX12_isPart_220 : decode cX12_isPart 220 = .ok (.ishl, 1) := dk_120 (dk_at dksX12_isPart_9 8 rfl rfl)
theorem dX12_isPart_221 : decode cX12_isPart 221 = .ok (.goto 7, 3) := dk_167 0 7 (dk_at dksX12_isPart_9 9 rfl rfl)
theorem dX12_isPart_224 : decode cX12_isPart 224 = .ok (.aload_n 0, 1) := dk_42 (dk_at dksX12_isPart_9 12 rfl rfl)
theorem dX12_isPart_225 : decode cX12_isPart 225 = .ok (.getfield 200, 3) := dk_180 0 200 (dk_at dksX12_isPart_9 13 rfl rfl)
theorem dX12_isPart_228 : decode cX12_isPart 228 = .ok (.ior, 1) := dk_128 (dk_at dksX12_isPart_9 16 rfl rfl)
theorem dX12_isPart_229 : decode cX12_isPart 229 = .ok (.istore_n 3, 1) := dk_62 (dk_at dksX12_isPart_9 17 rfl rfl)
theorem dX12_isPart_230 : decode cX12_isPart 230 = .ok (.iconst 0, 1) := dk_3 (dk_at dksX12_isPart_9 18 rfl rfl)
theorem dX12_isPart_231 : decode cX12_isPart 231 = .ok (.istore 4, 2) := dk_54 4 (dk_at dksX12_isPart_9 19 rfl rfl)
theorem dX12_isPart_233 : decode cX12_isPart 233 = .ok (.iload 4, 2) := dk_21 4 (dk_at dksX12_isPart_9 21 rfl rfl)
theorem dX12_isPart_235 : decode cX12_isPart 235 = .ok (.iload_n 2, 1) := dk_28 (dk_at dksX12_isPart_9 23 rfl rfl)
theorem dX12_isPart_236 : decode cX12_isPart 236 = .ok (.if_icmp .ge 15, 3) := dk_162 0 15 (dk_at dksX12_isPart_10 0 rfl rfl)
theorem dX12_isPart_239 : decode cX12_isPart 239 = .ok (.aload_n 0, 1) := dk_42 (dk_at dksX12_isPart_10 3 rfl rfl)
theorem dX12_isPart_240 : decode cX12_isPart 240 = .ok (.iconst 0, 1) := dk_3 (dk_at dksX12_isPart_10 4 rfl rfl)
theorem dX12_isPart_241 : decode cX12_isPart 241 = .ok (.iload_n 3, 1) := dk_29 (dk_at dksX12_isPart_10 5 rfl rfl)
theorem dX12_isPart_242 : decode cX12_isPart 242 = .ok (.invokevirtual 115, 3) := dk_182 0 115 (dk_at dksX12_isPart_10 6 rfl rfl)
theorem dX12_isPart_245 : decode cX12_isPart 245 = .ok (.iinc 4 1, 3) := dk_132 4 1 (dk_at dksX12_isPart_10 9 rfl rfl)
theorem dX12_isPart_248 : decode cX12_isPart 248 = .ok (.goto (-15), 3) := dk_167 255 241 (dk_at dksX12_isPart_10 12 rfl rfl)
theorem dX12_isPart_251 : decode cX12_isPart 251 = .ok (.iconst 1, 1) := dk_4 (dk_at dksX12_isPart_10 15 rfl rfl)
theorem dX12_isPart_252 : decode cX12_isPart 252 = .ok (.ireturn, 1) := dk_172 (dk_at dksX12_isPart_10 16 rfl rfl)
abbrev cX12_byteAt : ByteArray := prog_24_method_37_code
def yX12_byteAt : MethodName := ⟨RX12, "byteAt", "(I)I"⟩
def dkwX12_byteAt_0 : List UInt8 := [27, 42, 180, 0, 186, 162, 0, 12, 42, 180, 0, 49, 27, 46, 167, 0, 4, 2, 172]
abbrev dktX12_byteAt_0 : List UInt8 := dkwX12_byteAt_0 ++ []
theorem dksX12_byteAt_0 : cX12_byteAt.data.toList.drop 0 = dktX12_byteAt_0 := by decide +kernel
theorem dX12_byteAt_0 : decode cX12_byteAt 0 = .ok (.iload_n 1, 1) := dk_27 (dk_at dksX12_byteAt_0 0 rfl rfl)
theorem dX12_byteAt_1 : decode cX12_byteAt 1 = .ok (.aload_n 0, 1) := dk_42 (dk_at dksX12_byteAt_0 1 rfl rfl)
theorem dX12_byteAt_2 : decode cX12_byteAt 2 = .ok (.getfield 186, 3) := dk_180 0 186 (dk_at dksX12_byteAt_0 2 rfl rfl)
theorem dX12_byteAt_5 : decode cX12_byteAt 5 = .ok (.if_icmp .ge 12, 3) := dk_162 0 12 (dk_at dksX12_byteAt_0 5 rfl rfl)
theorem dX12_byteAt_8 : decode cX12_byteAt 8 = .ok (.aload_n 0, 1) := dk_42 (dk_at dksX12_byteAt_0 8 rfl rfl)
theorem dX12_byteAt_9 : decode cX12_byteAt 9 = .ok (.getfield 49, 3) := dk_180 0 49 (dk_at dksX12_byteAt_0 9 rfl rfl)
theorem dX12_byteAt_12 : decode cX12_byteAt 12 = .ok (.iload_n 1, 1) := dk_27 (dk_at dksX12_byteAt_0 12 rfl rfl)
theorem dX12_byteAt_13 : decode cX12_byteAt 13 = .ok (.iaload, 1) := dk_46 (dk_at dksX12_byteAt_0 13 rfl rfl)
theorem dX12_byteAt_14 : decode cX12_byteAt 14 = .ok (.goto 4, 3) := dk_167 0 4 (dk_at dksX12_byteAt_0 14 rfl rfl)
theorem dX12_byteAt_17 : decode cX12_byteAt 17 = .ok (.iconst (-1), 1) := dk_2 (dk_at dksX12_byteAt_0 17 rfl rfl)
theorem dX12_byteAt_18 : decode cX12_byteAt 18 = .ok (.ireturn, 1) := dk_172 (dk_at dksX12_byteAt_0 18 rfl rfl)
abbrev cX12_adds : ByteArray := prog_24_method_6_code
def yX12_adds : MethodName := ⟨RX12, "adds", "(II)V"⟩
def dkwX12_adds_1 : List UInt8 := [177]
abbrev dktX12_adds_1 : List UInt8 := dkwX12_adds_1 ++ []
def dkwX12_adds_0 : List UInt8 := [42, 180, 0, 40, 27, 50, 42, 180, 0, 43, 27, 46, 28, 79, 42, 180, 0, 43, 27, 92, 46, 4, 96, 79]
abbrev dktX12_adds_0 : List UInt8 := dkwX12_adds_0 ++ dktX12_adds_1
theorem dksX12_adds_0 : cX12_adds.data.toList.drop 0 = dktX12_adds_0 := by decide +kernel
theorem dksX12_adds_1 : cX12_adds.data.toList.drop 24 = dktX12_adds_1 := dk_seg dksX12_adds_0 24 rfl rfl
theorem dX12_adds_0 : decode cX12_adds 0 = .ok (.aload_n 0, 1) := dk_42 (dk_at dksX12_adds_0 0 rfl rfl)
theorem dX12_adds_1 : decode cX12_adds 1 = .ok (.getfield 40, 3) := dk_180 0 40 (dk_at dksX12_adds_0 1 rfl rfl)
theorem dX12_adds_4 : decode cX12_adds 4 = .ok (.iload_n 1, 1) := dk_27 (dk_at dksX12_adds_0 4 rfl rfl)
theorem dX12_adds_5 : decode cX12_adds 5 = .ok (.aaload, 1) := dk_50 (dk_at dksX12_adds_0 5 rfl rfl)
theorem dX12_adds_6 : decode cX12_adds 6 = .ok (.aload_n 0, 1) := dk_42 (dk_at dksX12_adds_0 6 rfl rfl)
theorem dX12_adds_7 : decode cX12_adds 7 = .ok (.getfield 43, 3) := dk_180 0 43 (dk_at dksX12_adds_0 7 rfl rfl)
theorem dX12_adds_10 : decode cX12_adds 10 = .ok (.iload_n 1, 1) := dk_27 (dk_at dksX12_adds_0 10 rfl rfl)
theorem dX12_adds_11 : decode cX12_adds 11 = .ok (.iaload, 1) := dk_46 (dk_at dksX12_adds_0 11 rfl rfl)
theorem dX12_adds_12 : decode cX12_adds 12 = .ok (.iload_n 2, 1) := dk_28 (dk_at dksX12_adds_0 12 rfl rfl)
theorem dX12_adds_13 : decode cX12_adds 13 = .ok (.iastore, 1) := dk_79 (dk_at dksX12_adds_0 13 rfl rfl)
theorem dX12_adds_14 : decode cX12_adds 14 = .ok (.aload_n 0, 1) := dk_42 (dk_at dksX12_adds_0 14 rfl rfl)
theorem dX12_adds_15 : decode cX12_adds 15 = .ok (.getfield 43, 3) := dk_180 0 43 (dk_at dksX12_adds_0 15 rfl rfl)
theorem dX12_adds_18 : decode cX12_adds 18 = .ok (.iload_n 1, 1) := dk_27 (dk_at dksX12_adds_0 18 rfl rfl)
theorem dX12_adds_19 : decode cX12_adds 19 = .ok (.dup2, 1) := dk_92 (dk_at dksX12_adds_0 19 rfl rfl)
theorem dX12_adds_20 : decode cX12_adds 20 = .ok (.iaload, 1) := dk_46 (dk_at dksX12_adds_0 20 rfl rfl)
theorem dX12_adds_21 : decode cX12_adds 21 = .ok (.iconst 1, 1) := dk_4 (dk_at dksX12_adds_0 21 rfl rfl)
theorem dX12_adds_22 : decode cX12_adds 22 = .ok (.iadd, 1) := dk_96 (dk_at dksX12_adds_0 22 rfl rfl)
theorem dX12_adds_23 : decode cX12_adds 23 = .ok (.iastore, 1) := dk_79 (dk_at dksX12_adds_0 23 rfl rfl)
theorem dX12_adds_24 : decode cX12_adds 24 = .ok (.return_, 1) := dk_177 (dk_at dksX12_adds_1 0 rfl rfl)
abbrev cX12_isNumber : ByteArray := prog_24_method_38_code
def yX12_isNumber : MethodName := ⟨RX12, "isNumber", "(I)Z"⟩
def dkwX12_isNumber_3 : List UInt8 := [154, 0, 5, 3, 172, 42, 89, 180, 0, 190, 29, 96, 181, 0, 190, 42, 28, 181, 0, 200, 4, 172]
abbrev dktX12_isNumber_3 : List UInt8 := dkwX12_isNumber_3 ++ []
def dkwX12_isNumber_2 : List UInt8 := [16, 48, 100, 61, 132, 3, 1, 167, 255, 206, 29, 153, 0, 14, 28, 133, 10, 27, 133, 184, 0, 175]
abbrev dktX12_isNumber_2 : List UInt8 := dkwX12_isNumber_2 ++ dktX12_isNumber_3
def dkwX12_isNumber_1 : List UInt8 := [20, 0, 198, 184, 0, 175, 153, 0, 28, 16, 10, 28, 104, 42, 42, 180, 0, 190, 29, 96, 182, 0, 193, 96]
abbrev dktX12_isNumber_1 : List UInt8 := dkwX12_isNumber_1 ++ dktX12_isNumber_2
def dkwX12_isNumber_0 : List UInt8 := [3, 61, 3, 62, 29, 5, 162, 0, 51, 42, 42, 180, 0, 190, 29, 96, 182, 0, 193, 133, 20, 0, 196]
abbrev dktX12_isNumber_0 : List UInt8 := dkwX12_isNumber_0 ++ dktX12_isNumber_1
theorem dksX12_isNumber_0 : cX12_isNumber.data.toList.drop 0 = dktX12_isNumber_0 := by decide +kernel
theorem dksX12_isNumber_1 : cX12_isNumber.data.toList.drop 23 = dktX12_isNumber_1 := dk_seg dksX12_isNumber_0 23 rfl rfl
theorem dksX12_isNumber_2 : cX12_isNumber.data.toList.drop 47 = dktX12_isNumber_2 := dk_seg dksX12_isNumber_1 24 rfl rfl
theorem dksX12_isNumber_3 : cX12_isNumber.data.toList.drop 69 = dktX12_isNumber_3 := dk_seg dksX12_isNumber_2 22 rfl rfl
theorem dX12_isNumber_0 : decode cX12_isNumber 0 = .ok (.iconst 0, 1) := dk_3 (dk_at dksX12_isNumber_0 0 rfl rfl)
theorem dX12_isNumber_1 : decode cX12_isNumber 1 = .ok (.istore_n 2, 1) := dk_61 (dk_at dksX12_isNumber_0 1 rfl rfl)
theorem dX12_isNumber_2 : decode cX12_isNumber 2 = .ok (.iconst 0, 1) := dk_3 (dk_at dksX12_isNumber_0 2 rfl rfl)
theorem dX12_isNumber_3 : decode cX12_isNumber 3 = .ok (.istore_n 3, 1) := dk_62 (dk_at dksX12_isNumber_0 3 rfl rfl)
theorem dX12_isNumber_4 : decode cX12_isNumber 4 = .ok (.iload_n 3, 1) := dk_29 (dk_at dksX12_isNumber_0 4 rfl rfl)
theorem dX12_isNumber_5 : decode cX12_isNumber 5 = .ok (.iconst 2, 1) := dk_5 (dk_at dksX12_isNumber_0 5 rfl rfl)
theorem dX12_isNumber_6 : decode cX12_isNumber 6 = .ok (.if_icmp .ge 51, 3) := dk_162 0 51 (dk_at dksX12_isNumber_0 6 rfl rfl)
theorem dX12_isNumber_9 : decode cX12_isNumber 9 = .ok (.aload_n 0, 1) := dk_42 (dk_at dksX12_isNumber_0 9 rfl rfl)
theorem dX12_isNumber_10 : decode cX12_isNumber 10 = .ok (.aload_n 0, 1) := dk_42 (dk_at dksX12_isNumber_0 10 rfl rfl)
theorem dX12_isNumber_11 : decode cX12_isNumber 11 = .ok (.getfield 190, 3) := dk_180 0 190 (dk_at dksX12_isNumber_0 11 rfl rfl)
theorem dX12_isNumber_14 : decode cX12_isNumber 14 = .ok (.iload_n 3, 1) := dk_29 (dk_at dksX12_isNumber_0 14 rfl rfl)
theorem dX12_isNumber_15 : decode cX12_isNumber 15 = .ok (.iadd, 1) := dk_96 (dk_at dksX12_isNumber_0 15 rfl rfl)
theorem dX12_isNumber_16 : decode cX12_isNumber 16 = .ok (.invokevirtual 193, 3) := dk_182 0 193 (dk_at dksX12_isNumber_0 16 rfl rfl)
theorem dX12_isNumber_19 : decode cX12_isNumber 19 = .ok (.i2l, 1) := dk_133 (dk_at dksX12_isNumber_0 19 rfl rfl)
theorem dX12_isNumber_20 : decode cX12_isNumber 20 = .ok (.ldc2_w 196, 3) := dk_20 0 196 (dk_at dksX12_isNumber_0 20 rfl rfl)
theorem dX12_isNumber_23 : decode cX12_isNumber 23 = .ok (.ldc2_w 198, 3) := dk_20 0 198 (dk_at dksX12_isNumber_1 0 rfl rfl)
theorem dX12_isNumber_26 : decode cX12_isNumber 26 = .ok (.invokestatic 175, 3) := dk_184 0 175 (dk_at dksX12_isNumber_1 3 rfl rfl)
theorem dX12_isNumber_29 : decode cX12_isNumber 29 = .ok (.ifCond .eq 28, 3) := dk_153 0 28 (dk_at dksX12_isNumber_1 6 rfl rfl)
theorem dX12_isNumber_32 : decode cX12_isNumber 32 = .ok (.bipush 10, 2) := dk_16 10 (dk_at dksX12_isNumber_1 9 rfl rfl)
theorem dX12_isNumber_34 : decode cX12_isNumber 34 = .ok (.iload_n 2, 1) := dk_28 (dk_at dksX12_isNumber_1 11 rfl rfl)
theorem dX12_isNumber_35 : decode cX12_isNumber 35 = .ok (.imul, 1) := dk_104 (dk_at dksX12_isNumber_1 12 rfl rfl)
theorem dX12_isNumber_36 : decode cX12_isNumber 36 = .ok (.aload_n 0, 1) := dk_42 (dk_at dksX12_isNumber_1 13 rfl rfl)
theorem dX12_isNumber_37 : decode cX12_isNumber 37 = .ok (.aload_n 0, 1) := dk_42 (dk_at dksX12_isNumber_1 14 rfl rfl)
theorem dX12_isNumber_38 : decode cX12_isNumber 38 = .ok (.getfield 190, 3) := dk_180 0 190 (dk_at dksX12_isNumber_1 15 rfl rfl)
theorem dX12_isNumber_41 : decode cX12_isNumber 41 = .ok (.iload_n 3, 1) := dk_29 (dk_at dksX12_isNumber_1 18 rfl rfl)
theorem dX12_isNumber_42 : decode cX12_isNumber 42 = .ok (.iadd, 1) := dk_96 (dk_at dksX12_isNumber_1 19 rfl rfl)
theorem dX12_isNumber_43 : decode cX12_isNumber 43 = .ok (.invokevirtual 193, 3) := dk_182 0 193 (dk_at dksX12_isNumber_1 20 rfl rfl)
theorem dX12_isNumber_46 : decode cX12_isNumber 46 = .ok (.iadd, 1) := dk_96 (dk_at dksX12_isNumber_1 23 rfl rfl)
theorem dX12_isNumber_47 : decode cX12_isNumber 47 = .ok (.bipush 48, 2) := dk_16 48 (dk_at dksX12_isNumber_2 0 rfl rfl)
theorem dX12_isNumber_49 : decode cX12_isNumber 49 = .ok (.isub, 1) := dk_100 (dk_at dksX12_isNumber_2 2 rfl rfl)
theorem dX12_isNumber_50 : decode cX12_isNumber 50 = .ok (.istore_n 2, 1) := dk_61 (dk_at dksX12_isNumber_2 3 rfl rfl)
theorem dX12_isNumber_51 : decode cX12_isNumber 51 = .ok (.iinc 3 1, 3) := dk_132 3 1 (dk_at dksX12_isNumber_2 4 rfl rfl)
theorem dX12_isNumber_54 : decode cX12_isNumber 54 = .ok (.goto (-50), 3) := dk_167 255 206 (dk_at dksX12_isNumber_2 7 rfl rfl)
theorem dX12_isNumber_57 : decode cX12_isNumber 57 = .ok (.iload_n 3, 1) := dk_29 (dk_at dksX12_isNumber_2 10 rfl rfl)
theorem dX12_isNumber_58 : decode cX12_isNumber 58 = .ok (.ifCond .eq 14, 3) := dk_153 0 14 (dk_at dksX12_isNumber_2 11 rfl rfl)
theorem dX12_isNumber_61 : decode cX12_isNumber 61 = .ok (.iload_n 2, 1) := dk_28 (dk_at dksX12_isNumber_2 14 rfl rfl)
theorem dX12_isNumber_62 : decode cX12_isNumber 62 = .ok (.i2l, 1) := dk_133 (dk_at dksX12_isNumber_2 15 rfl rfl)
theorem dX12_isNumber_63 : decode cX12_isNumber 63 = .ok (.lconst 1, 1) := dk_10 (dk_at dksX12_isNumber_2 16 rfl rfl)
theorem dX12_isNumber_64 : decode cX12_isNumber 64 = .ok (.iload_n 1, 1) := dk_27 (dk_at dksX12_isNumber_2 17 rfl rfl)
theorem dX12_isNumber_65 : decode cX12_isNumber 65 = .ok (.i2l, 1) := dk_133 (dk_at dksX12_isNumber_2 18 rfl rfl)
theorem dX12_isNumber_66 : decode cX12_isNumber 66 = .ok (.invokestatic 175, 3) := dk_184 0 175 (dk_at dksX12_isNumber_2 19 rfl rfl)
theorem dX12_isNumber_69 : decode cX12_isNumber 69 = .ok (.ifCond .ne 5, 3) := dk_154 0 5 (dk_at dksX12_isNumber_3 0 rfl rfl)
theorem dX12_isNumber_72 : decode cX12_isNumber 72 = .ok (.iconst 0, 1) := dk_3 (dk_at dksX12_isNumber_3 3 rfl rfl)
theorem dX12_isNumber_73 : decode cX12_isNumber 73 = .ok (.ireturn, 1) := dk_172 (dk_at dksX12_isNumber_3 4 rfl rfl)
theorem dX12_isNumber_74 : decode cX12_isNumber 74 = .ok (.aload_n 0, 1) := dk_42 (dk_at dksX12_isNumber_3 5 rfl rfl)
theorem dX12_isNumber_75 : decode cX12_isNumber 75 = .ok (.dup, 1) := dk_89 (dk_at dksX12_isNumber_3 6 rfl rfl)
theorem dX12_isNumber_76 : decode cX12_isNumber 76 = .ok (.getfield 190, 3) := dk_180 0 190 (dk_at dksX12_isNumber_3 7 rfl rfl)
theorem dX12_isNumber_79 : decode cX12_isNumber 79 = .ok (.iload_n 3, 1) := dk_29 (dk_at dksX12_isNumber_3 10 rfl rfl)
theorem dX12_isNumber_80 : decode cX12_isNumber 80 = .ok (.iadd, 1) := dk_96 (dk_at dksX12_isNumber_3 11 rfl rfl)
theorem dX12_isNumber_81 : decode cX12_isNumber 81 = .ok (.putfield 190, 3) := dk_181 0 190 (dk_at dksX12_isNumber_3 12 rfl rfl)
theorem dX12_isNumber_84 : decode cX12_isNumber 84 = .ok (.aload_n 0, 1) := dk_42 (dk_at dksX12_isNumber_3 15 rfl rfl)
theorem dX12_isNumber_85 : decode cX12_isNumber 85 = .ok (.iload_n 2, 1) := dk_28 (dk_at dksX12_isNumber_3 16 rfl rfl)
theorem dX12_isNumber_86 : decode cX12_isNumber 86 = .ok (.putfield 200, 3) := dk_181 0 200 (dk_at dksX12_isNumber_3 17 rfl rfl)
theorem dX12_isNumber_89 : decode cX12_isNumber 89 = .ok (.iconst 1, 1) := dk_4 (dk_at dksX12_isNumber_3 20 rfl rfl)
theorem dX12_isNumber_90 : decode cX12_isNumber 90 = .ok (.ireturn, 1) := dk_172 (dk_at dksX12_isNumber_3 21 rfl rfl)
abbrev cX12_plain : ByteArray := prog_24_method_10_code
def yX12_plain : MethodName := ⟨RX12, "plain", "(I)V"⟩
def dkwX12_plain_6 : List UInt8 := [180, 0, 46, 21, 4, 46, 79, 132, 4, 1, 167, 255, 231, 177]
abbrev dktX12_plain_6 : List UInt8 := dkwX12_plain_6 ++ []
def dkwX12_plain_5 : List UInt8 := [132, 4, 1, 167, 255, 142, 3, 54, 4, 21, 4, 28, 162, 0, 25, 42, 180, 0, 40, 27, 50, 21, 4, 42]
abbrev dktX12_plain_5 : List UInt8 := dkwX12_plain_5 ++ dktX12_plain_6
def dkwX12_plain_4 : List UInt8 := [46, 162, 0, 21, 42, 180, 0, 46, 28, 42, 180, 0, 40, 27, 50, 21, 4, 46, 79, 132, 2, 1]
abbrev dktX12_plain_4 : List UInt8 := dkwX12_plain_4 ++ dktX12_plain_5
def dkwX12_plain_3 : List UInt8 := [42, 180, 0, 46, 28, 18, 109, 79, 132, 2, 1, 132, 3, 255, 167, 255, 231, 21, 4, 42, 180, 0, 43, 27]
abbrev dktX12_plain_3 : List UInt8 := dkwX12_plain_3 ++ dktX12_plain_4
def dkwX12_plain_2 : List UInt8 := [21, 5, 18, 109, 160, 0, 9, 132, 3, 1, 167, 0, 60, 21, 5, 18, 110, 159, 0, 24, 29, 158, 0, 20]
abbrev dktX12_plain_2 : List UInt8 := dkwX12_plain_2 ++ dktX12_plain_3
def dkwX12_plain_1 : List UInt8 := [27, 46, 162, 0, 18, 42, 180, 0, 40, 27, 50, 21, 4, 46, 184, 0, 104, 167, 0, 5, 18, 108, 54, 5]
abbrev dktX12_plain_1 : List UInt8 := dkwX12_plain_1 ++ dktX12_plain_2
def dkwX12_plain_0 : List UInt8 := [3, 61, 3, 62, 3, 54, 4, 21, 4, 42, 180, 0, 43, 27, 46, 163, 0, 109, 21, 4, 42, 180, 0, 43]
abbrev dktX12_plain_0 : List UInt8 := dkwX12_plain_0 ++ dktX12_plain_1
theorem dksX12_plain_0 : cX12_plain.data.toList.drop 0 = dktX12_plain_0 := by decide +kernel
theorem dksX12_plain_1 : cX12_plain.data.toList.drop 24 = dktX12_plain_1 := dk_seg dksX12_plain_0 24 rfl rfl
theorem dksX12_plain_2 : cX12_plain.data.toList.drop 48 = dktX12_plain_2 := dk_seg dksX12_plain_1 24 rfl rfl
theorem dksX12_plain_3 : cX12_plain.data.toList.drop 72 = dktX12_plain_3 := dk_seg dksX12_plain_2 24 rfl rfl
theorem dksX12_plain_4 : cX12_plain.data.toList.drop 96 = dktX12_plain_4 := dk_seg dksX12_plain_3 24 rfl rfl
theorem dksX12_plain_5 : cX12_plain.data.toList.drop 118 = dktX12_plain_5 := dk_seg dksX12_plain_4 22 rfl rfl
theorem dksX12_plain_6 : cX12_plain.data.toList.drop 142 = dktX12_plain_6 := dk_seg dksX12_plain_5 24 rfl rfl
theorem dX12_plain_0 : decode cX12_plain 0 = .ok (.iconst 0, 1) := dk_3 (dk_at dksX12_plain_0 0 rfl rfl)
theorem dX12_plain_1 : decode cX12_plain 1 = .ok (.istore_n 2, 1) := dk_61 (dk_at dksX12_plain_0 1 rfl rfl)
theorem dX12_plain_2 : decode cX12_plain 2 = .ok (.iconst 0, 1) := dk_3 (dk_at dksX12_plain_0 2 rfl rfl)
theorem dX12_plain_3 : decode cX12_plain 3 = .ok (.istore_n 3, 1) := dk_62 (dk_at dksX12_plain_0 3 rfl rfl)
theorem dX12_plain_4 : decode cX12_plain 4 = .ok (.iconst 0, 1) := dk_3 (dk_at dksX12_plain_0 4 rfl rfl)
theorem dX12_plain_5 : decode cX12_plain 5 = .ok (.istore 4, 2) := dk_54 4 (dk_at dksX12_plain_0 5 rfl rfl)
theorem dX12_plain_7 : decode cX12_plain 7 = .ok (.iload 4, 2) := dk_21 4 (dk_at dksX12_plain_0 7 rfl rfl)
theorem dX12_plain_9 : decode cX12_plain 9 = .ok (.aload_n 0, 1) := dk_42 (dk_at dksX12_plain_0 9 rfl rfl)
theorem dX12_plain_10 : decode cX12_plain 10 = .ok (.getfield 43, 3) := dk_180 0 43 (dk_at dksX12_plain_0 10 rfl rfl)
theorem dX12_plain_13 : decode cX12_plain 13 = .ok (.iload_n 1, 1) := dk_27 (dk_at dksX12_plain_0 13 rfl rfl)
theorem dX12_plain_14 : decode cX12_plain 14 = .ok (.iaload, 1) := dk_46 (dk_at dksX12_plain_0 14 rfl rfl)
theorem dX12_plain_15 : decode cX12_plain 15 = .ok (.if_icmp .gt 109, 3) := dk_163 0 109 (dk_at dksX12_plain_0 15 rfl rfl)
theorem dX12_plain_18 : decode cX12_plain 18 = .ok (.iload 4, 2) := dk_21 4 (dk_at dksX12_plain_0 18 rfl rfl)
theorem dX12_plain_20 : decode cX12_plain 20 = .ok (.aload_n 0, 1) := dk_42 (dk_at dksX12_plain_0 20 rfl rfl)
theorem dX12_plain_21 : decode cX12_plain 21 = .ok (.getfield 43, 3) := dk_180 0 43 (dk_at dksX12_plain_0 21 rfl rfl)
theorem dX12_plain_24 : decode cX12_plain 24 = .ok (.iload_n 1, 1) := dk_27 (dk_at dksX12_plain_1 0 rfl rfl)
theorem dX12_plain_25 : decode cX12_plain 25 = .ok (.iaload, 1) := dk_46 (dk_at dksX12_plain_1 1 rfl rfl)
theorem dX12_plain_26 : decode cX12_plain 26 = .ok (.if_icmp .ge 18, 3) := dk_162 0 18 (dk_at dksX12_plain_1 2 rfl rfl)
theorem dX12_plain_29 : decode cX12_plain 29 = .ok (.aload_n 0, 1) := dk_42 (dk_at dksX12_plain_1 5 rfl rfl)
theorem dX12_plain_30 : decode cX12_plain 30 = .ok (.getfield 40, 3) := dk_180 0 40 (dk_at dksX12_plain_1 6 rfl rfl)
theorem dX12_plain_33 : decode cX12_plain 33 = .ok (.iload_n 1, 1) := dk_27 (dk_at dksX12_plain_1 9 rfl rfl)
theorem dX12_plain_34 : decode cX12_plain 34 = .ok (.aaload, 1) := dk_50 (dk_at dksX12_plain_1 10 rfl rfl)
theorem dX12_plain_35 : decode cX12_plain 35 = .ok (.iload 4, 2) := dk_21 4 (dk_at dksX12_plain_1 11 rfl rfl)
theorem dX12_plain_37 : decode cX12_plain 37 = .ok (.iaload, 1) := dk_46 (dk_at dksX12_plain_1 13 rfl rfl)
theorem dX12_plain_38 : decode cX12_plain 38 = .ok (.invokestatic 104, 3) := dk_184 0 104 (dk_at dksX12_plain_1 14 rfl rfl)
theorem dX12_plain_41 : decode cX12_plain 41 = .ok (.goto 5, 3) := dk_167 0 5 (dk_at dksX12_plain_1 17 rfl rfl)
theorem dX12_plain_44 : decode cX12_plain 44 = .ok (.ldc 108, 2) := dk_18 108 (dk_at dksX12_plain_1 20 rfl rfl)
theorem dX12_plain_46 : decode cX12_plain 46 = .ok (.istore 5, 2) := dk_54 5 (dk_at dksX12_plain_1 22 rfl rfl)
theorem dX12_plain_48 : decode cX12_plain 48 = .ok (.iload 5, 2) := dk_21 5 (dk_at dksX12_plain_2 0 rfl rfl)
theorem dX12_plain_50 : decode cX12_plain 50 = .ok (.ldc 109, 2) := dk_18 109 (dk_at dksX12_plain_2 2 rfl rfl)
theorem dX12_plain_52 : decode cX12_plain 52 = .ok (.if_icmp .ne 9, 3) := dk_160 0 9 (dk_at dksX12_plain_2 4 rfl rfl)
theorem dX12_plain_55 : decode cX12_plain 55 = .ok (.iinc 3 1, 3) := dk_132 3 1 (dk_at dksX12_plain_2 7 rfl rfl)
theorem dX12_plain_58 : decode cX12_plain 58 = .ok (.goto 60, 3) := dk_167 0 60 (dk_at dksX12_plain_2 10 rfl rfl)
theorem dX12_plain_61 : decode cX12_plain 61 = .ok (.iload 5, 2) := dk_21 5 (dk_at dksX12_plain_2 13 rfl rfl)
theorem dX12_plain_63 : decode cX12_plain 63 = .ok (.ldc 110, 2) := dk_18 110 (dk_at dksX12_plain_2 15 rfl rfl)
theorem dX12_plain_65 : decode cX12_plain 65 = .ok (.if_icmp .eq 24, 3) := dk_159 0 24 (dk_at dksX12_plain_2 17 rfl rfl)
theorem dX12_plain_68 : decode cX12_plain 68 = .ok (.iload_n 3, 1) := dk_29 (dk_at dksX12_plain_2 20 rfl rfl)
theorem dX12_plain_69 : decode cX12_plain 69 = .ok (.ifCond .le 20, 3) := dk_158 0 20 (dk_at dksX12_plain_2 21 rfl rfl)
theorem dX12_plain_72 : decode cX12_plain 72 = .ok (.aload_n 0, 1) := dk_42 (dk_at dksX12_plain_3 0 rfl rfl)
theorem dX12_plain_73 : decode cX12_plain 73 = .ok (.getfield 46, 3) := dk_180 0 46 (dk_at dksX12_plain_3 1 rfl rfl)
theorem dX12_plain_76 : decode cX12_plain 76 = .ok (.iload_n 2, 1) := dk_28 (dk_at dksX12_plain_3 4 rfl rfl)
theorem dX12_plain_77 : decode cX12_plain 77 = .ok (.ldc 109, 2) := dk_18 109 (dk_at dksX12_plain_3 5 rfl rfl)
theorem dX12_plain_79 : decode cX12_plain 79 = .ok (.iastore, 1) := dk_79 (dk_at dksX12_plain_3 7 rfl rfl)
theorem dX12_plain_80 : decode cX12_plain 80 = .ok (.iinc 2 1, 3) := dk_132 2 1 (dk_at dksX12_plain_3 8 rfl rfl)
theorem dX12_plain_83 : decode cX12_plain 83 = .ok (.iinc 3 (-1), 3) := dk_132 3 255 (dk_at dksX12_plain_3 11 rfl rfl)
theorem dX12_plain_86 : decode cX12_plain 86 = .ok (.goto (-25), 3) := dk_167 255 231 (dk_at dksX12_plain_3 14 rfl rfl)
theorem dX12_plain_89 : decode cX12_plain 89 = .ok (.iload 4, 2) := dk_21 4 (dk_at dksX12_plain_3 17 rfl rfl)
theorem dX12_plain_91 : decode cX12_plain 91 = .ok (.aload_n 0, 1) := dk_42 (dk_at dksX12_plain_3 19 rfl rfl)
theorem dX12_plain_92 : decode cX12_plain 92 = .ok (.getfield 43, 3) := dk_180 0 43 (dk_at dksX12_plain_3 20 rfl rfl)
theorem dX12_plain_95 : decode cX12_plain 95 = .ok (.iload_n 1, 1) := dk_27 (dk_at dksX12_plain_3 23 rfl rfl)
theorem dX12_plain_96 : decode cX12_plain 96 = .ok (.iaload, 1) := dk_46 (dk_at dksX12_plain_4 0 rfl rfl)
theorem dX12_plain_97 : decode cX12_plain 97 = .ok (.if_icmp .ge 21, 3) := dk_162 0 21 (dk_at dksX12_plain_4 1 rfl rfl)
theorem dX12_plain_100 : decode cX12_plain 100 = .ok (.aload_n 0, 1) := dk_42 (dk_at dksX12_plain_4 4 rfl rfl)
theorem dX12_plain_101 : decode cX12_plain 101 = .ok (.getfield 46, 3) := dk_180 0 46 (dk_at dksX12_plain_4 5 rfl rfl)
theorem dX12_plain_104 : decode cX12_plain 104 = .ok (.iload_n 2, 1) := dk_28 (dk_at dksX12_plain_4 8 rfl rfl)
theorem dX12_plain_105 : decode cX12_plain 105 = .ok (.aload_n 0, 1) := dk_42 (dk_at dksX12_plain_4 9 rfl rfl)
theorem dX12_plain_106 : decode cX12_plain 106 = .ok (.getfield 40, 3) := dk_180 0 40 (dk_at dksX12_plain_4 10 rfl rfl)
theorem dX12_plain_109 : decode cX12_plain 109 = .ok (.iload_n 1, 1) := dk_27 (dk_at dksX12_plain_4 13 rfl rfl)
theorem dX12_plain_110 : decode cX12_plain 110 = .ok (.aaload, 1) := dk_50 (dk_at dksX12_plain_4 14 rfl rfl)
theorem dX12_plain_111 : decode cX12_plain 111 = .ok (.iload 4, 2) := dk_21 4 (dk_at dksX12_plain_4 15 rfl rfl)
theorem dX12_plain_113 : decode cX12_plain 113 = .ok (.iaload, 1) := dk_46 (dk_at dksX12_plain_4 17 rfl rfl)
theorem dX12_plain_114 : decode cX12_plain 114 = .ok (.iastore, 1) := dk_79 (dk_at dksX12_plain_4 18 rfl rfl)
theorem dX12_plain_115 : decode cX12_plain 115 = .ok (.iinc 2 1, 3) := dk_132 2 1 (dk_at dksX12_plain_4 19 rfl rfl)
theorem dX12_plain_118 : decode cX12_plain 118 = .ok (.iinc 4 1, 3) := dk_132 4 1 (dk_at dksX12_plain_5 0 rfl rfl)
theorem dX12_plain_121 : decode cX12_plain 121 = .ok (.goto (-114), 3) := dk_167 255 142 (dk_at dksX12_plain_5 3 rfl rfl)
theorem dX12_plain_124 : decode cX12_plain 124 = .ok (.iconst 0, 1) := dk_3 (dk_at dksX12_plain_5 6 rfl rfl)
theorem dX12_plain_125 : decode cX12_plain 125 = .ok (.istore 4, 2) := dk_54 4 (dk_at dksX12_plain_5 7 rfl rfl)
theorem dX12_plain_127 : decode cX12_plain 127 = .ok (.iload 4, 2) := dk_21 4 (dk_at dksX12_plain_5 9 rfl rfl)
theorem dX12_plain_129 : decode cX12_plain 129 = .ok (.iload_n 2, 1) := dk_28 (dk_at dksX12_plain_5 11 rfl rfl)
theorem dX12_plain_130 : decode cX12_plain 130 = .ok (.if_icmp .ge 25, 3) := dk_162 0 25 (dk_at dksX12_plain_5 12 rfl rfl)
theorem dX12_plain_133 : decode cX12_plain 133 = .ok (.aload_n 0, 1) := dk_42 (dk_at dksX12_plain_5 15 rfl rfl)
theorem dX12_plain_134 : decode cX12_plain 134 = .ok (.getfield 40, 3) := dk_180 0 40 (dk_at dksX12_plain_5 16 rfl rfl)
theorem dX12_plain_137 : decode cX12_plain 137 = .ok (.iload_n 1, 1) := dk_27 (dk_at dksX12_plain_5 19 rfl rfl)
theorem dX12_plain_138 : decode cX12_plain 138 = .ok (.aaload, 1) := dk_50 (dk_at dksX12_plain_5 20 rfl rfl)
theorem dX12_plain_139 : decode cX12_plain 139 = .ok (.iload 4, 2) := dk_21 4 (dk_at dksX12_plain_5 21 rfl rfl)
theorem dX12_plain_141 : decode cX12_plain 141 = .ok (.aload_n 0, 1) := dk_42 (dk_at dksX12_plain_5 23 rfl rfl)
theorem dX12_plain_142 : decode cX12_plain 142 = .ok (.getfield 46, 3) := dk_180 0 46 (dk_at dksX12_plain_6 0 rfl rfl)
theorem dX12_plain_145 : decode cX12_plain 145 = .ok (.iload 4, 2) := dk_21 4 (dk_at dksX12_plain_6 3 rfl rfl)
theorem dX12_plain_147 : decode cX12_plain 147 = .ok (.iaload, 1) := dk_46 (dk_at dksX12_plain_6 5 rfl rfl)
theorem dX12_plain_148 : decode cX12_plain 148 = .ok (.iastore, 1) := dk_79 (dk_at dksX12_plain_6 6 rfl rfl)
theorem dX12_plain_149 : decode cX12_plain 149 = .ok (.iinc 4 1, 3) := dk_132 4 1 (dk_at dksX12_plain_6 7 rfl rfl)
theorem dX12_plain_152 : decode cX12_plain 152 = .ok (.goto (-25), 3) := dk_167 255 231 (dk_at dksX12_plain_6 10 rfl rfl)
theorem dX12_plain_155 : decode cX12_plain 155 = .ok (.return_, 1) := dk_177 (dk_at dksX12_plain_6 13 rfl rfl)
abbrev cX12_kind : ByteArray := prog_24_method_4_code
def yX12_kind : MethodName := ⟨RX12, "kind", "(I)I"⟩
def dkwX12_kind_0 : List UInt8 := [26, 18, 92, 126, 172]
abbrev dktX12_kind_0 : List UInt8 := dkwX12_kind_0 ++ []
theorem dksX12_kind_0 : cX12_kind.data.toList.drop 0 = dktX12_kind_0 := by decide +kernel
theorem dX12_kind_0 : decode cX12_kind 0 = .ok (.iload_n 0, 1) := dk_26 (dk_at dksX12_kind_0 0 rfl rfl)
theorem dX12_kind_1 : decode cX12_kind 1 = .ok (.ldc 92, 2) := dk_18 92 (dk_at dksX12_kind_0 1 rfl rfl)
theorem dX12_kind_3 : decode cX12_kind 3 = .ok (.iand, 1) := dk_126 (dk_at dksX12_kind_0 3 rfl rfl)
theorem dX12_kind_4 : decode cX12_kind 4 = .ok (.ireturn, 1) := dk_172 (dk_at dksX12_kind_0 4 rfl rfl)
abbrev cX12_comes : ByteArray := prog_24_method_41_code
def yX12_comes : MethodName := ⟨RX12, "comes", "(II)I"⟩
def dkwX12_comes_0 : List UInt8 := [42, 27, 28, 182, 0, 101, 42, 180, 0, 18, 27, 4, 84, 42, 27, 182, 0, 221, 172]
abbrev dktX12_comes_0 : List UInt8 := dkwX12_comes_0 ++ []
theorem dksX12_comes_0 : cX12_comes.data.toList.drop 0 = dktX12_comes_0 := by decide +kernel
theorem dX12_comes_0 : decode cX12_comes 0 = .ok (.aload_n 0, 1) := dk_42 (dk_at dksX12_comes_0 0 rfl rfl)
theorem dX12_comes_1 : decode cX12_comes 1 = .ok (.iload_n 1, 1) := dk_27 (dk_at dksX12_comes_0 1 rfl rfl)
theorem dX12_comes_2 : decode cX12_comes 2 = .ok (.iload_n 2, 1) := dk_28 (dk_at dksX12_comes_0 2 rfl rfl)
theorem dX12_comes_3 : decode cX12_comes 3 = .ok (.invokevirtual 101, 3) := dk_182 0 101 (dk_at dksX12_comes_0 3 rfl rfl)
theorem dX12_comes_6 : decode cX12_comes 6 = .ok (.aload_n 0, 1) := dk_42 (dk_at dksX12_comes_0 6 rfl rfl)
theorem dX12_comes_7 : decode cX12_comes 7 = .ok (.getfield 18, 3) := dk_180 0 18 (dk_at dksX12_comes_0 7 rfl rfl)
theorem dX12_comes_10 : decode cX12_comes 10 = .ok (.iload_n 1, 1) := dk_27 (dk_at dksX12_comes_0 10 rfl rfl)
theorem dX12_comes_11 : decode cX12_comes 11 = .ok (.iconst 1, 1) := dk_4 (dk_at dksX12_comes_0 11 rfl rfl)
theorem dX12_comes_12 : decode cX12_comes 12 = .ok (.bastore, 1) := dk_84 (dk_at dksX12_comes_0 12 rfl rfl)
theorem dX12_comes_13 : decode cX12_comes 13 = .ok (.aload_n 0, 1) := dk_42 (dk_at dksX12_comes_0 13 rfl rfl)
theorem dX12_comes_14 : decode cX12_comes 14 = .ok (.iload_n 1, 1) := dk_27 (dk_at dksX12_comes_0 14 rfl rfl)
theorem dX12_comes_15 : decode cX12_comes 15 = .ok (.invokevirtual 221, 3) := dk_182 0 221 (dk_at dksX12_comes_0 15 rfl rfl)
theorem dX12_comes_18 : decode cX12_comes 18 = .ok (.ireturn, 1) := dk_172 (dk_at dksX12_comes_0 18 rfl rfl)
abbrev cX12_keepsRow : ByteArray := prog_24_method_8_code
def yX12_keepsRow : MethodName := ⟨RX12, "keepsRow", "(II)V"⟩
def dkwX12_keepsRow_2 : List UInt8 := [79, 132, 3, 1, 167, 255, 227, 42, 180, 0, 14, 27, 42, 180, 0, 43, 28, 46, 79, 177]
abbrev dktX12_keepsRow_2 : List UInt8 := dkwX12_keepsRow_2 ++ []
def dkwX12_keepsRow_1 : List UInt8 := [42, 180, 0, 43, 28, 46, 162, 0, 25, 42, 180, 0, 11, 27, 50, 29, 42, 180, 0, 40, 28, 50, 29, 46]
abbrev dktX12_keepsRow_1 : List UInt8 := dkwX12_keepsRow_1 ++ dktX12_keepsRow_2
def dkwX12_keepsRow_0 : List UInt8 := [42, 180, 0, 11, 27, 42, 180, 0, 11, 27, 50, 42, 180, 0, 43, 28, 46, 184, 0, 93, 83, 3, 62, 29]
abbrev dktX12_keepsRow_0 : List UInt8 := dkwX12_keepsRow_0 ++ dktX12_keepsRow_1
theorem dksX12_keepsRow_0 : cX12_keepsRow.data.toList.drop 0 = dktX12_keepsRow_0 := by decide +kernel
theorem dksX12_keepsRow_1 : cX12_keepsRow.data.toList.drop 24 = dktX12_keepsRow_1 := dk_seg dksX12_keepsRow_0 24 rfl rfl
theorem dksX12_keepsRow_2 : cX12_keepsRow.data.toList.drop 48 = dktX12_keepsRow_2 := dk_seg dksX12_keepsRow_1 24 rfl rfl
theorem dX12_keepsRow_0 : decode cX12_keepsRow 0 = .ok (.aload_n 0, 1) := dk_42 (dk_at dksX12_keepsRow_0 0 rfl rfl)
theorem dX12_keepsRow_1 : decode cX12_keepsRow 1 = .ok (.getfield 11, 3) := dk_180 0 11 (dk_at dksX12_keepsRow_0 1 rfl rfl)
theorem dX12_keepsRow_4 : decode cX12_keepsRow 4 = .ok (.iload_n 1, 1) := dk_27 (dk_at dksX12_keepsRow_0 4 rfl rfl)
theorem dX12_keepsRow_5 : decode cX12_keepsRow 5 = .ok (.aload_n 0, 1) := dk_42 (dk_at dksX12_keepsRow_0 5 rfl rfl)
theorem dX12_keepsRow_6 : decode cX12_keepsRow 6 = .ok (.getfield 11, 3) := dk_180 0 11 (dk_at dksX12_keepsRow_0 6 rfl rfl)
theorem dX12_keepsRow_9 : decode cX12_keepsRow 9 = .ok (.iload_n 1, 1) := dk_27 (dk_at dksX12_keepsRow_0 9 rfl rfl)
theorem dX12_keepsRow_10 : decode cX12_keepsRow 10 = .ok (.aaload, 1) := dk_50 (dk_at dksX12_keepsRow_0 10 rfl rfl)
theorem dX12_keepsRow_11 : decode cX12_keepsRow 11 = .ok (.aload_n 0, 1) := dk_42 (dk_at dksX12_keepsRow_0 11 rfl rfl)
theorem dX12_keepsRow_12 : decode cX12_keepsRow 12 = .ok (.getfield 43, 3) := dk_180 0 43 (dk_at dksX12_keepsRow_0 12 rfl rfl)
theorem dX12_keepsRow_15 : decode cX12_keepsRow 15 = .ok (.iload_n 2, 1) := dk_28 (dk_at dksX12_keepsRow_0 15 rfl rfl)
theorem dX12_keepsRow_16 : decode cX12_keepsRow 16 = .ok (.iaload, 1) := dk_46 (dk_at dksX12_keepsRow_0 16 rfl rfl)
theorem dX12_keepsRow_17 : decode cX12_keepsRow 17 = .ok (.invokestatic 93, 3) := dk_184 0 93 (dk_at dksX12_keepsRow_0 17 rfl rfl)
theorem dX12_keepsRow_20 : decode cX12_keepsRow 20 = .ok (.aastore, 1) := dk_83 (dk_at dksX12_keepsRow_0 20 rfl rfl)
theorem dX12_keepsRow_21 : decode cX12_keepsRow 21 = .ok (.iconst 0, 1) := dk_3 (dk_at dksX12_keepsRow_0 21 rfl rfl)
theorem dX12_keepsRow_22 : decode cX12_keepsRow 22 = .ok (.istore_n 3, 1) := dk_62 (dk_at dksX12_keepsRow_0 22 rfl rfl)
theorem dX12_keepsRow_23 : decode cX12_keepsRow 23 = .ok (.iload_n 3, 1) := dk_29 (dk_at dksX12_keepsRow_0 23 rfl rfl)
theorem dX12_keepsRow_24 : decode cX12_keepsRow 24 = .ok (.aload_n 0, 1) := dk_42 (dk_at dksX12_keepsRow_1 0 rfl rfl)
theorem dX12_keepsRow_25 : decode cX12_keepsRow 25 = .ok (.getfield 43, 3) := dk_180 0 43 (dk_at dksX12_keepsRow_1 1 rfl rfl)
theorem dX12_keepsRow_28 : decode cX12_keepsRow 28 = .ok (.iload_n 2, 1) := dk_28 (dk_at dksX12_keepsRow_1 4 rfl rfl)
theorem dX12_keepsRow_29 : decode cX12_keepsRow 29 = .ok (.iaload, 1) := dk_46 (dk_at dksX12_keepsRow_1 5 rfl rfl)
theorem dX12_keepsRow_30 : decode cX12_keepsRow 30 = .ok (.if_icmp .ge 25, 3) := dk_162 0 25 (dk_at dksX12_keepsRow_1 6 rfl rfl)
theorem dX12_keepsRow_33 : decode cX12_keepsRow 33 = .ok (.aload_n 0, 1) := dk_42 (dk_at dksX12_keepsRow_1 9 rfl rfl)
theorem dX12_keepsRow_34 : decode cX12_keepsRow 34 = .ok (.getfield 11, 3) := dk_180 0 11 (dk_at dksX12_keepsRow_1 10 rfl rfl)
theorem dX12_keepsRow_37 : decode cX12_keepsRow 37 = .ok (.iload_n 1, 1) := dk_27 (dk_at dksX12_keepsRow_1 13 rfl rfl)
theorem dX12_keepsRow_38 : decode cX12_keepsRow 38 = .ok (.aaload, 1) := dk_50 (dk_at dksX12_keepsRow_1 14 rfl rfl)
theorem dX12_keepsRow_39 : decode cX12_keepsRow 39 = .ok (.iload_n 3, 1) := dk_29 (dk_at dksX12_keepsRow_1 15 rfl rfl)
theorem dX12_keepsRow_40 : decode cX12_keepsRow 40 = .ok (.aload_n 0, 1) := dk_42 (dk_at dksX12_keepsRow_1 16 rfl rfl)
theorem dX12_keepsRow_41 : decode cX12_keepsRow 41 = .ok (.getfield 40, 3) := dk_180 0 40 (dk_at dksX12_keepsRow_1 17 rfl rfl)
theorem dX12_keepsRow_44 : decode cX12_keepsRow 44 = .ok (.iload_n 2, 1) := dk_28 (dk_at dksX12_keepsRow_1 20 rfl rfl)
theorem dX12_keepsRow_45 : decode cX12_keepsRow 45 = .ok (.aaload, 1) := dk_50 (dk_at dksX12_keepsRow_1 21 rfl rfl)
theorem dX12_keepsRow_46 : decode cX12_keepsRow 46 = .ok (.iload_n 3, 1) := dk_29 (dk_at dksX12_keepsRow_1 22 rfl rfl)
theorem dX12_keepsRow_47 : decode cX12_keepsRow 47 = .ok (.iaload, 1) := dk_46 (dk_at dksX12_keepsRow_1 23 rfl rfl)
theorem dX12_keepsRow_48 : decode cX12_keepsRow 48 = .ok (.iastore, 1) := dk_79 (dk_at dksX12_keepsRow_2 0 rfl rfl)
theorem dX12_keepsRow_49 : decode cX12_keepsRow 49 = .ok (.iinc 3 1, 3) := dk_132 3 1 (dk_at dksX12_keepsRow_2 1 rfl rfl)
theorem dX12_keepsRow_52 : decode cX12_keepsRow 52 = .ok (.goto (-29), 3) := dk_167 255 227 (dk_at dksX12_keepsRow_2 4 rfl rfl)
theorem dX12_keepsRow_55 : decode cX12_keepsRow 55 = .ok (.aload_n 0, 1) := dk_42 (dk_at dksX12_keepsRow_2 7 rfl rfl)
theorem dX12_keepsRow_56 : decode cX12_keepsRow 56 = .ok (.getfield 14, 3) := dk_180 0 14 (dk_at dksX12_keepsRow_2 8 rfl rfl)
theorem dX12_keepsRow_59 : decode cX12_keepsRow 59 = .ok (.iload_n 1, 1) := dk_27 (dk_at dksX12_keepsRow_2 11 rfl rfl)
theorem dX12_keepsRow_60 : decode cX12_keepsRow 60 = .ok (.aload_n 0, 1) := dk_42 (dk_at dksX12_keepsRow_2 12 rfl rfl)
theorem dX12_keepsRow_61 : decode cX12_keepsRow 61 = .ok (.getfield 43, 3) := dk_180 0 43 (dk_at dksX12_keepsRow_2 13 rfl rfl)
theorem dX12_keepsRow_64 : decode cX12_keepsRow 64 = .ok (.iload_n 2, 1) := dk_28 (dk_at dksX12_keepsRow_2 16 rfl rfl)
theorem dX12_keepsRow_65 : decode cX12_keepsRow 65 = .ok (.iaload, 1) := dk_46 (dk_at dksX12_keepsRow_2 17 rfl rfl)
theorem dX12_keepsRow_66 : decode cX12_keepsRow 66 = .ok (.iastore, 1) := dk_79 (dk_at dksX12_keepsRow_2 18 rfl rfl)
theorem dX12_keepsRow_67 : decode cX12_keepsRow 67 = .ok (.return_, 1) := dk_177 (dk_at dksX12_keepsRow_2 19 rfl rfl)
abbrev cX12_grown : ByteArray := prog_24_method_5_code
def yX12_grown : MethodName := ⟨RX12, "grown", "([II)[I"⟩
def dkwX12_grown_1 : List UInt8 := [42, 29, 46, 79, 132, 3, 1, 167, 255, 241, 44, 176]
abbrev dktX12_grown_1 : List UInt8 := dkwX12_grown_1 ++ []
def dkwX12_grown_0 : List UInt8 := [27, 42, 190, 163, 0, 5, 42, 176, 5, 27, 104, 188, 10, 77, 3, 62, 29, 42, 190, 162, 0, 15, 44, 29]
abbrev dktX12_grown_0 : List UInt8 := dkwX12_grown_0 ++ dktX12_grown_1
theorem dksX12_grown_0 : cX12_grown.data.toList.drop 0 = dktX12_grown_0 := by decide +kernel
theorem dksX12_grown_1 : cX12_grown.data.toList.drop 24 = dktX12_grown_1 := dk_seg dksX12_grown_0 24 rfl rfl
theorem dX12_grown_0 : decode cX12_grown 0 = .ok (.iload_n 1, 1) := dk_27 (dk_at dksX12_grown_0 0 rfl rfl)
theorem dX12_grown_1 : decode cX12_grown 1 = .ok (.aload_n 0, 1) := dk_42 (dk_at dksX12_grown_0 1 rfl rfl)
theorem dX12_grown_2 : decode cX12_grown 2 = .ok (.arraylength, 1) := dk_190 (dk_at dksX12_grown_0 2 rfl rfl)
theorem dX12_grown_3 : decode cX12_grown 3 = .ok (.if_icmp .gt 5, 3) := dk_163 0 5 (dk_at dksX12_grown_0 3 rfl rfl)
theorem dX12_grown_6 : decode cX12_grown 6 = .ok (.aload_n 0, 1) := dk_42 (dk_at dksX12_grown_0 6 rfl rfl)
theorem dX12_grown_7 : decode cX12_grown 7 = .ok (.areturn, 1) := dk_176 (dk_at dksX12_grown_0 7 rfl rfl)
theorem dX12_grown_8 : decode cX12_grown 8 = .ok (.iconst 2, 1) := dk_5 (dk_at dksX12_grown_0 8 rfl rfl)
theorem dX12_grown_9 : decode cX12_grown 9 = .ok (.iload_n 1, 1) := dk_27 (dk_at dksX12_grown_0 9 rfl rfl)
theorem dX12_grown_10 : decode cX12_grown 10 = .ok (.imul, 1) := dk_104 (dk_at dksX12_grown_0 10 rfl rfl)
theorem dX12_grown_11 : decode cX12_grown 11 = .ok (.newarray .int, 2) := dk_188_10 (dk_at dksX12_grown_0 11 rfl rfl)
theorem dX12_grown_13 : decode cX12_grown 13 = .ok (.astore_n 2, 1) := dk_77 (dk_at dksX12_grown_0 13 rfl rfl)
theorem dX12_grown_14 : decode cX12_grown 14 = .ok (.iconst 0, 1) := dk_3 (dk_at dksX12_grown_0 14 rfl rfl)
theorem dX12_grown_15 : decode cX12_grown 15 = .ok (.istore_n 3, 1) := dk_62 (dk_at dksX12_grown_0 15 rfl rfl)
theorem dX12_grown_16 : decode cX12_grown 16 = .ok (.iload_n 3, 1) := dk_29 (dk_at dksX12_grown_0 16 rfl rfl)
theorem dX12_grown_17 : decode cX12_grown 17 = .ok (.aload_n 0, 1) := dk_42 (dk_at dksX12_grown_0 17 rfl rfl)
theorem dX12_grown_18 : decode cX12_grown 18 = .ok (.arraylength, 1) := dk_190 (dk_at dksX12_grown_0 18 rfl rfl)
theorem dX12_grown_19 : decode cX12_grown 19 = .ok (.if_icmp .ge 15, 3) := dk_162 0 15 (dk_at dksX12_grown_0 19 rfl rfl)
theorem dX12_grown_22 : decode cX12_grown 22 = .ok (.aload_n 2, 1) := dk_44 (dk_at dksX12_grown_0 22 rfl rfl)
theorem dX12_grown_23 : decode cX12_grown 23 = .ok (.iload_n 3, 1) := dk_29 (dk_at dksX12_grown_0 23 rfl rfl)
theorem dX12_grown_24 : decode cX12_grown 24 = .ok (.aload_n 0, 1) := dk_42 (dk_at dksX12_grown_1 0 rfl rfl)
theorem dX12_grown_25 : decode cX12_grown 25 = .ok (.iload_n 3, 1) := dk_29 (dk_at dksX12_grown_1 1 rfl rfl)
theorem dX12_grown_26 : decode cX12_grown 26 = .ok (.iaload, 1) := dk_46 (dk_at dksX12_grown_1 2 rfl rfl)
theorem dX12_grown_27 : decode cX12_grown 27 = .ok (.iastore, 1) := dk_79 (dk_at dksX12_grown_1 3 rfl rfl)
theorem dX12_grown_28 : decode cX12_grown 28 = .ok (.iinc 3 1, 3) := dk_132 3 1 (dk_at dksX12_grown_1 4 rfl rfl)
theorem dX12_grown_31 : decode cX12_grown 31 = .ok (.goto (-15), 3) := dk_167 255 241 (dk_at dksX12_grown_1 7 rfl rfl)
theorem dX12_grown_34 : decode cX12_grown 34 = .ok (.aload_n 2, 1) := dk_44 (dk_at dksX12_grown_1 10 rfl rfl)
theorem dX12_grown_35 : decode cX12_grown 35 = .ok (.areturn, 1) := dk_176 (dk_at dksX12_grown_1 11 rfl rfl)
abbrev cX12_parts : ByteArray := prog_24_method_43_code
def yX12_parts : MethodName := ⟨RX12, "parts", "(I)I"⟩
def dkwX12_parts_2 : List UInt8 := [96, 61, 132, 3, 1, 167, 255, 207, 28, 172]
abbrev dktX12_parts_2 : List UInt8 := dkwX12_parts_2 ++ []
def dkwX12_parts_1 : List UInt8 := [50, 29, 4, 100, 46, 42, 180, 0, 11, 27, 50, 29, 46, 184, 0, 224, 154, 0, 7, 4, 167, 0, 4, 3]
abbrev dktX12_parts_1 : List UInt8 := dkwX12_parts_1 ++ dktX12_parts_2
def dkwX12_parts_0 : List UInt8 := [3, 61, 3, 62, 29, 42, 180, 0, 14, 27, 46, 162, 0, 45, 28, 29, 153, 0, 27, 42, 180, 0, 11, 27]
abbrev dktX12_parts_0 : List UInt8 := dkwX12_parts_0 ++ dktX12_parts_1
theorem dksX12_parts_0 : cX12_parts.data.toList.drop 0 = dktX12_parts_0 := by decide +kernel
theorem dksX12_parts_1 : cX12_parts.data.toList.drop 24 = dktX12_parts_1 := dk_seg dksX12_parts_0 24 rfl rfl
theorem dksX12_parts_2 : cX12_parts.data.toList.drop 48 = dktX12_parts_2 := dk_seg dksX12_parts_1 24 rfl rfl
theorem dX12_parts_0 : decode cX12_parts 0 = .ok (.iconst 0, 1) := dk_3 (dk_at dksX12_parts_0 0 rfl rfl)
theorem dX12_parts_1 : decode cX12_parts 1 = .ok (.istore_n 2, 1) := dk_61 (dk_at dksX12_parts_0 1 rfl rfl)
theorem dX12_parts_2 : decode cX12_parts 2 = .ok (.iconst 0, 1) := dk_3 (dk_at dksX12_parts_0 2 rfl rfl)
theorem dX12_parts_3 : decode cX12_parts 3 = .ok (.istore_n 3, 1) := dk_62 (dk_at dksX12_parts_0 3 rfl rfl)
theorem dX12_parts_4 : decode cX12_parts 4 = .ok (.iload_n 3, 1) := dk_29 (dk_at dksX12_parts_0 4 rfl rfl)
theorem dX12_parts_5 : decode cX12_parts 5 = .ok (.aload_n 0, 1) := dk_42 (dk_at dksX12_parts_0 5 rfl rfl)
theorem dX12_parts_6 : decode cX12_parts 6 = .ok (.getfield 14, 3) := dk_180 0 14 (dk_at dksX12_parts_0 6 rfl rfl)
theorem dX12_parts_9 : decode cX12_parts 9 = .ok (.iload_n 1, 1) := dk_27 (dk_at dksX12_parts_0 9 rfl rfl)
theorem dX12_parts_10 : decode cX12_parts 10 = .ok (.iaload, 1) := dk_46 (dk_at dksX12_parts_0 10 rfl rfl)
theorem dX12_parts_11 : decode cX12_parts 11 = .ok (.if_icmp .ge 45, 3) := dk_162 0 45 (dk_at dksX12_parts_0 11 rfl rfl)
theorem dX12_parts_14 : decode cX12_parts 14 = .ok (.iload_n 2, 1) := dk_28 (dk_at dksX12_parts_0 14 rfl rfl)
theorem dX12_parts_15 : decode cX12_parts 15 = .ok (.iload_n 3, 1) := dk_29 (dk_at dksX12_parts_0 15 rfl rfl)
theorem dX12_parts_16 : decode cX12_parts 16 = .ok (.ifCond .eq 27, 3) := dk_153 0 27 (dk_at dksX12_parts_0 16 rfl rfl)
theorem dX12_parts_19 : decode cX12_parts 19 = .ok (.aload_n 0, 1) := dk_42 (dk_at dksX12_parts_0 19 rfl rfl)
theorem dX12_parts_20 : decode cX12_parts 20 = .ok (.getfield 11, 3) := dk_180 0 11 (dk_at dksX12_parts_0 20 rfl rfl)
theorem dX12_parts_23 : decode cX12_parts 23 = .ok (.iload_n 1, 1) := dk_27 (dk_at dksX12_parts_0 23 rfl rfl)
theorem dX12_parts_24 : decode cX12_parts 24 = .ok (.aaload, 1) := dk_50 (dk_at dksX12_parts_1 0 rfl rfl)
theorem dX12_parts_25 : decode cX12_parts 25 = .ok (.iload_n 3, 1) := dk_29 (dk_at dksX12_parts_1 1 rfl rfl)
theorem dX12_parts_26 : decode cX12_parts 26 = .ok (.iconst 1, 1) := dk_4 (dk_at dksX12_parts_1 2 rfl rfl)
theorem dX12_parts_27 : decode cX12_parts 27 = .ok (.isub, 1) := dk_100 (dk_at dksX12_parts_1 3 rfl rfl)
theorem dX12_parts_28 : decode cX12_parts 28 = .ok (.iaload, 1) := dk_46 (dk_at dksX12_parts_1 4 rfl rfl)
theorem dX12_parts_29 : decode cX12_parts 29 = .ok (.aload_n 0, 1) := dk_42 (dk_at dksX12_parts_1 5 rfl rfl)
theorem dX12_parts_30 : decode cX12_parts 30 = .ok (.getfield 11, 3) := dk_180 0 11 (dk_at dksX12_parts_1 6 rfl rfl)
theorem dX12_parts_33 : decode cX12_parts 33 = .ok (.iload_n 1, 1) := dk_27 (dk_at dksX12_parts_1 9 rfl rfl)
theorem dX12_parts_34 : decode cX12_parts 34 = .ok (.aaload, 1) := dk_50 (dk_at dksX12_parts_1 10 rfl rfl)
theorem dX12_parts_35 : decode cX12_parts 35 = .ok (.iload_n 3, 1) := dk_29 (dk_at dksX12_parts_1 11 rfl rfl)
theorem dX12_parts_36 : decode cX12_parts 36 = .ok (.iaload, 1) := dk_46 (dk_at dksX12_parts_1 12 rfl rfl)
theorem dX12_parts_37 : decode cX12_parts 37 = .ok (.invokestatic 224, 3) := dk_184 0 224 (dk_at dksX12_parts_1 13 rfl rfl)
theorem dX12_parts_40 : decode cX12_parts 40 = .ok (.ifCond .ne 7, 3) := dk_154 0 7 (dk_at dksX12_parts_1 16 rfl rfl)
theorem dX12_parts_43 : decode cX12_parts 43 = .ok (.iconst 1, 1) := dk_4 (dk_at dksX12_parts_1 19 rfl rfl)
theorem dX12_parts_44 : decode cX12_parts 44 = .ok (.goto 4, 3) := dk_167 0 4 (dk_at dksX12_parts_1 20 rfl rfl)
theorem dX12_parts_47 : decode cX12_parts 47 = .ok (.iconst 0, 1) := dk_3 (dk_at dksX12_parts_1 23 rfl rfl)
theorem dX12_parts_48 : decode cX12_parts 48 = .ok (.iadd, 1) := dk_96 (dk_at dksX12_parts_2 0 rfl rfl)
theorem dX12_parts_49 : decode cX12_parts 49 = .ok (.istore_n 2, 1) := dk_61 (dk_at dksX12_parts_2 1 rfl rfl)
theorem dX12_parts_50 : decode cX12_parts 50 = .ok (.iinc 3 1, 3) := dk_132 3 1 (dk_at dksX12_parts_2 2 rfl rfl)
theorem dX12_parts_53 : decode cX12_parts 53 = .ok (.goto (-49), 3) := dk_167 255 207 (dk_at dksX12_parts_2 5 rfl rfl)
theorem dX12_parts_56 : decode cX12_parts 56 = .ok (.iload_n 2, 1) := dk_28 (dk_at dksX12_parts_2 8 rfl rfl)
theorem dX12_parts_57 : decode cX12_parts 57 = .ok (.ireturn, 1) := dk_172 (dk_at dksX12_parts_2 9 rfl rfl)
abbrev cX12_isOne : ByteArray := prog_24_method_42_code
def yX12_isOne : MethodName := ⟨RX12, "isOne", "(II)Z"⟩
def dkwX12_isOne_1 : List UInt8 := [160, 0, 7, 4, 167, 0, 4, 3, 172]
abbrev dktX12_isOne_1 : List UInt8 := dkwX12_isOne_1 ++ []
def dkwX12_isOne_0 : List UInt8 := [26, 184, 0, 104, 27, 184, 0, 104, 160, 0, 21, 26, 184, 0, 104, 18, 110, 159, 0, 8, 26, 27]
abbrev dktX12_isOne_0 : List UInt8 := dkwX12_isOne_0 ++ dktX12_isOne_1
theorem dksX12_isOne_0 : cX12_isOne.data.toList.drop 0 = dktX12_isOne_0 := by decide +kernel
theorem dksX12_isOne_1 : cX12_isOne.data.toList.drop 22 = dktX12_isOne_1 := dk_seg dksX12_isOne_0 22 rfl rfl
theorem dX12_isOne_0 : decode cX12_isOne 0 = .ok (.iload_n 0, 1) := dk_26 (dk_at dksX12_isOne_0 0 rfl rfl)
theorem dX12_isOne_1 : decode cX12_isOne 1 = .ok (.invokestatic 104, 3) := dk_184 0 104 (dk_at dksX12_isOne_0 1 rfl rfl)
theorem dX12_isOne_4 : decode cX12_isOne 4 = .ok (.iload_n 1, 1) := dk_27 (dk_at dksX12_isOne_0 4 rfl rfl)
theorem dX12_isOne_5 : decode cX12_isOne 5 = .ok (.invokestatic 104, 3) := dk_184 0 104 (dk_at dksX12_isOne_0 5 rfl rfl)
theorem dX12_isOne_8 : decode cX12_isOne 8 = .ok (.if_icmp .ne 21, 3) := dk_160 0 21 (dk_at dksX12_isOne_0 8 rfl rfl)
theorem dX12_isOne_11 : decode cX12_isOne 11 = .ok (.iload_n 0, 1) := dk_26 (dk_at dksX12_isOne_0 11 rfl rfl)
theorem dX12_isOne_12 : decode cX12_isOne 12 = .ok (.invokestatic 104, 3) := dk_184 0 104 (dk_at dksX12_isOne_0 12 rfl rfl)
theorem dX12_isOne_15 : decode cX12_isOne 15 = .ok (.ldc 110, 2) := dk_18 110 (dk_at dksX12_isOne_0 15 rfl rfl)
theorem dX12_isOne_17 : decode cX12_isOne 17 = .ok (.if_icmp .eq 8, 3) := dk_159 0 8 (dk_at dksX12_isOne_0 17 rfl rfl)
theorem dX12_isOne_20 : decode cX12_isOne 20 = .ok (.iload_n 0, 1) := dk_26 (dk_at dksX12_isOne_0 20 rfl rfl)
theorem dX12_isOne_21 : decode cX12_isOne 21 = .ok (.iload_n 1, 1) := dk_27 (dk_at dksX12_isOne_0 21 rfl rfl)
theorem dX12_isOne_22 : decode cX12_isOne 22 = .ok (.if_icmp .ne 7, 3) := dk_160 0 7 (dk_at dksX12_isOne_1 0 rfl rfl)
theorem dX12_isOne_25 : decode cX12_isOne 25 = .ok (.iconst 1, 1) := dk_4 (dk_at dksX12_isOne_1 3 rfl rfl)
theorem dX12_isOne_26 : decode cX12_isOne 26 = .ok (.goto 4, 3) := dk_167 0 4 (dk_at dksX12_isOne_1 4 rfl rfl)
theorem dX12_isOne_29 : decode cX12_isOne 29 = .ok (.iconst 0, 1) := dk_3 (dk_at dksX12_isOne_1 7 rfl rfl)
theorem dX12_isOne_30 : decode cX12_isOne 30 = .ok (.ireturn, 1) := dk_172 (dk_at dksX12_isOne_1 8 rfl rfl)
abbrev cX12_of : ByteArray := prog_24_method_48_code
def yX12_of : MethodName := ⟨RX12, "of", "(II)I"⟩
def dkwX12_of_4 : List UInt8 := [182, 0, 239, 172, 42, 27, 18, 109, 182, 0, 239, 172, 42, 27, 18, 126, 182, 0, 239, 172]
abbrev dktX12_of_4 : List UInt8 := dkwX12_of_4 ++ []
def dkwX12_of_3 : List UInt8 := [42, 27, 182, 0, 221, 172, 42, 27, 182, 0, 233, 172, 42, 27, 182, 0, 236, 172, 42, 27, 18, 110]
abbrev dktX12_of_3 : List UInt8 := dkwX12_of_3 ++ dktX12_of_4
def dkwX12_of_2 : List UInt8 := [170, 0, 0, 0, 0, 68, 0, 0, 0, 0, 0, 0, 0, 4, 0, 0, 0, 34, 0, 0, 0, 40, 0, 0, 0, 46, 0, 0, 0, 52, 0, 0, 0, 60]
abbrev dktX12_of_2 : List UInt8 := dkwX12_of_2 ++ dktX12_of_3
def dkwX12_of_1 : List UInt8 := [182, 0, 183, 172, 42, 27, 182, 0, 230, 154, 0, 10, 42, 16, 252, 182, 0, 183, 172, 28]
abbrev dktX12_of_1 : List UInt8 := dkwX12_of_1 ++ dktX12_of_2
def dkwX12_of_0 : List UInt8 := [27, 184, 0, 211, 153, 0, 15, 28, 133, 9, 20, 0, 228, 184, 0, 175, 154, 0, 10, 42, 16, 254]
abbrev dktX12_of_0 : List UInt8 := dkwX12_of_0 ++ dktX12_of_1
theorem dksX12_of_0 : cX12_of.data.toList.drop 0 = dktX12_of_0 := by decide +kernel
theorem dksX12_of_1 : cX12_of.data.toList.drop 22 = dktX12_of_1 := dk_seg dksX12_of_0 22 rfl rfl
theorem dksX12_of_2 : cX12_of.data.toList.drop 42 = dktX12_of_2 := dk_seg dksX12_of_1 20 rfl rfl
theorem dksX12_of_3 : cX12_of.data.toList.drop 76 = dktX12_of_3 := dk_seg dksX12_of_2 34 rfl rfl
theorem dksX12_of_4 : cX12_of.data.toList.drop 98 = dktX12_of_4 := dk_seg dksX12_of_3 22 rfl rfl
theorem dX12_of_0 : decode cX12_of 0 = .ok (.iload_n 1, 1) := dk_27 (dk_at dksX12_of_0 0 rfl rfl)
theorem dX12_of_1 : decode cX12_of 1 = .ok (.invokestatic 211, 3) := dk_184 0 211 (dk_at dksX12_of_0 1 rfl rfl)
theorem dX12_of_4 : decode cX12_of 4 = .ok (.ifCond .eq 15, 3) := dk_153 0 15 (dk_at dksX12_of_0 4 rfl rfl)
theorem dX12_of_7 : decode cX12_of 7 = .ok (.iload_n 2, 1) := dk_28 (dk_at dksX12_of_0 7 rfl rfl)
theorem dX12_of_8 : decode cX12_of 8 = .ok (.i2l, 1) := dk_133 (dk_at dksX12_of_0 8 rfl rfl)
theorem dX12_of_9 : decode cX12_of 9 = .ok (.lconst 0, 1) := dk_9 (dk_at dksX12_of_0 9 rfl rfl)
theorem dX12_of_10 : decode cX12_of 10 = .ok (.ldc2_w 228, 3) := dk_20 0 228 (dk_at dksX12_of_0 10 rfl rfl)
theorem dX12_of_13 : decode cX12_of 13 = .ok (.invokestatic 175, 3) := dk_184 0 175 (dk_at dksX12_of_0 13 rfl rfl)
theorem dX12_of_16 : decode cX12_of 16 = .ok (.ifCond .ne 10, 3) := dk_154 0 10 (dk_at dksX12_of_0 16 rfl rfl)
theorem dX12_of_19 : decode cX12_of 19 = .ok (.aload_n 0, 1) := dk_42 (dk_at dksX12_of_0 19 rfl rfl)
theorem dX12_of_20 : decode cX12_of 20 = .ok (.bipush (-2), 2) := dk_16 254 (dk_at dksX12_of_0 20 rfl rfl)
theorem dX12_of_22 : decode cX12_of 22 = .ok (.invokevirtual 183, 3) := dk_182 0 183 (dk_at dksX12_of_1 0 rfl rfl)
theorem dX12_of_25 : decode cX12_of 25 = .ok (.ireturn, 1) := dk_172 (dk_at dksX12_of_1 3 rfl rfl)
theorem dX12_of_26 : decode cX12_of 26 = .ok (.aload_n 0, 1) := dk_42 (dk_at dksX12_of_1 4 rfl rfl)
theorem dX12_of_27 : decode cX12_of 27 = .ok (.iload_n 1, 1) := dk_27 (dk_at dksX12_of_1 5 rfl rfl)
theorem dX12_of_28 : decode cX12_of 28 = .ok (.invokevirtual 230, 3) := dk_182 0 230 (dk_at dksX12_of_1 6 rfl rfl)
theorem dX12_of_31 : decode cX12_of 31 = .ok (.ifCond .ne 10, 3) := dk_154 0 10 (dk_at dksX12_of_1 9 rfl rfl)
theorem dX12_of_34 : decode cX12_of 34 = .ok (.aload_n 0, 1) := dk_42 (dk_at dksX12_of_1 12 rfl rfl)
theorem dX12_of_35 : decode cX12_of 35 = .ok (.bipush (-4), 2) := dk_16 252 (dk_at dksX12_of_1 13 rfl rfl)
theorem dX12_of_37 : decode cX12_of 37 = .ok (.invokevirtual 183, 3) := dk_182 0 183 (dk_at dksX12_of_1 15 rfl rfl)
theorem dX12_of_40 : decode cX12_of 40 = .ok (.ireturn, 1) := dk_172 (dk_at dksX12_of_1 18 rfl rfl)
theorem dX12_of_41 : decode cX12_of 41 = .ok (.iload_n 2, 1) := dk_28 (dk_at dksX12_of_1 19 rfl rfl)
theorem dX12_of_42 : decode cX12_of 42 = .ok (.tableswitch 68 0 4 #[34, 40, 46, 52, 60], 34) := by decide +kernel
theorem dX12_of_76 : decode cX12_of 76 = .ok (.aload_n 0, 1) := dk_42 (dk_at dksX12_of_3 0 rfl rfl)
theorem dX12_of_77 : decode cX12_of 77 = .ok (.iload_n 1, 1) := dk_27 (dk_at dksX12_of_3 1 rfl rfl)
theorem dX12_of_78 : decode cX12_of 78 = .ok (.invokevirtual 221, 3) := dk_182 0 221 (dk_at dksX12_of_3 2 rfl rfl)
theorem dX12_of_81 : decode cX12_of 81 = .ok (.ireturn, 1) := dk_172 (dk_at dksX12_of_3 5 rfl rfl)
theorem dX12_of_82 : decode cX12_of 82 = .ok (.aload_n 0, 1) := dk_42 (dk_at dksX12_of_3 6 rfl rfl)
theorem dX12_of_83 : decode cX12_of 83 = .ok (.iload_n 1, 1) := dk_27 (dk_at dksX12_of_3 7 rfl rfl)
theorem dX12_of_84 : decode cX12_of 84 = .ok (.invokevirtual 233, 3) := dk_182 0 233 (dk_at dksX12_of_3 8 rfl rfl)
theorem dX12_of_87 : decode cX12_of 87 = .ok (.ireturn, 1) := dk_172 (dk_at dksX12_of_3 11 rfl rfl)
theorem dX12_of_88 : decode cX12_of 88 = .ok (.aload_n 0, 1) := dk_42 (dk_at dksX12_of_3 12 rfl rfl)
theorem dX12_of_89 : decode cX12_of 89 = .ok (.iload_n 1, 1) := dk_27 (dk_at dksX12_of_3 13 rfl rfl)
theorem dX12_of_90 : decode cX12_of 90 = .ok (.invokevirtual 236, 3) := dk_182 0 236 (dk_at dksX12_of_3 14 rfl rfl)
theorem dX12_of_93 : decode cX12_of 93 = .ok (.ireturn, 1) := dk_172 (dk_at dksX12_of_3 17 rfl rfl)
theorem dX12_of_94 : decode cX12_of 94 = .ok (.aload_n 0, 1) := dk_42 (dk_at dksX12_of_3 18 rfl rfl)
theorem dX12_of_95 : decode cX12_of 95 = .ok (.iload_n 1, 1) := dk_27 (dk_at dksX12_of_3 19 rfl rfl)
theorem dX12_of_96 : decode cX12_of 96 = .ok (.ldc 110, 2) := dk_18 110 (dk_at dksX12_of_3 20 rfl rfl)
theorem dX12_of_98 : decode cX12_of 98 = .ok (.invokevirtual 239, 3) := dk_182 0 239 (dk_at dksX12_of_4 0 rfl rfl)
theorem dX12_of_101 : decode cX12_of 101 = .ok (.ireturn, 1) := dk_172 (dk_at dksX12_of_4 3 rfl rfl)
theorem dX12_of_102 : decode cX12_of 102 = .ok (.aload_n 0, 1) := dk_42 (dk_at dksX12_of_4 4 rfl rfl)
theorem dX12_of_103 : decode cX12_of 103 = .ok (.iload_n 1, 1) := dk_27 (dk_at dksX12_of_4 5 rfl rfl)
theorem dX12_of_104 : decode cX12_of 104 = .ok (.ldc 109, 2) := dk_18 109 (dk_at dksX12_of_4 6 rfl rfl)
theorem dX12_of_106 : decode cX12_of 106 = .ok (.invokevirtual 239, 3) := dk_182 0 239 (dk_at dksX12_of_4 8 rfl rfl)
theorem dX12_of_109 : decode cX12_of 109 = .ok (.ireturn, 1) := dk_172 (dk_at dksX12_of_4 11 rfl rfl)
theorem dX12_of_110 : decode cX12_of 110 = .ok (.aload_n 0, 1) := dk_42 (dk_at dksX12_of_4 12 rfl rfl)
theorem dX12_of_111 : decode cX12_of 111 = .ok (.iload_n 1, 1) := dk_27 (dk_at dksX12_of_4 13 rfl rfl)
theorem dX12_of_112 : decode cX12_of 112 = .ok (.ldc 126, 2) := dk_18 126 (dk_at dksX12_of_4 14 rfl rfl)
theorem dX12_of_114 : decode cX12_of 114 = .ok (.invokevirtual 239, 3) := dk_182 0 239 (dk_at dksX12_of_4 16 rfl rfl)
theorem dX12_of_117 : decode cX12_of 117 = .ok (.ireturn, 1) := dk_172 (dk_at dksX12_of_4 19 rfl rfl)
abbrev cX12_isKept : ByteArray := prog_24_method_46_code
def yX12_isKept : MethodName := ⟨RX12, "isKept", "(I)Z"⟩
def dkwX12_isKept_0 : List UInt8 := [42, 180, 0, 18, 27, 51, 172]
abbrev dktX12_isKept_0 : List UInt8 := dkwX12_isKept_0 ++ []
theorem dksX12_isKept_0 : cX12_isKept.data.toList.drop 0 = dktX12_isKept_0 := by decide +kernel
theorem dX12_isKept_0 : decode cX12_isKept 0 = .ok (.aload_n 0, 1) := dk_42 (dk_at dksX12_isKept_0 0 rfl rfl)
theorem dX12_isKept_1 : decode cX12_isKept 1 = .ok (.getfield 18, 3) := dk_180 0 18 (dk_at dksX12_isKept_0 1 rfl rfl)
theorem dX12_isKept_4 : decode cX12_isKept 4 = .ok (.iload_n 1, 1) := dk_27 (dk_at dksX12_isKept_0 4 rfl rfl)
theorem dX12_isKept_5 : decode cX12_isKept 5 = .ok (.baload, 1) := dk_51 (dk_at dksX12_isKept_0 5 rfl rfl)
theorem dX12_isKept_6 : decode cX12_isKept 6 = .ok (.ireturn, 1) := dk_172 (dk_at dksX12_isKept_0 6 rfl rfl)
abbrev cX12_from : ByteArray := prog_24_method_12_code
def yX12_from : MethodName := ⟨RX12, "from", "(I)I"⟩
def dkwX12_from_1 : List UInt8 := [172]
abbrev dktX12_from_1 : List UInt8 := dkwX12_from_1 ++ []
def dkwX12_from_0 : List UInt8 := [42, 180, 0, 14, 27, 46, 42, 180, 0, 11, 27, 50, 42, 180, 0, 14, 27, 46, 18, 110, 184, 0, 111, 100]
abbrev dktX12_from_0 : List UInt8 := dkwX12_from_0 ++ dktX12_from_1
theorem dksX12_from_0 : cX12_from.data.toList.drop 0 = dktX12_from_0 := by decide +kernel
theorem dksX12_from_1 : cX12_from.data.toList.drop 24 = dktX12_from_1 := dk_seg dksX12_from_0 24 rfl rfl
theorem dX12_from_0 : decode cX12_from 0 = .ok (.aload_n 0, 1) := dk_42 (dk_at dksX12_from_0 0 rfl rfl)
theorem dX12_from_1 : decode cX12_from 1 = .ok (.getfield 14, 3) := dk_180 0 14 (dk_at dksX12_from_0 1 rfl rfl)
theorem dX12_from_4 : decode cX12_from 4 = .ok (.iload_n 1, 1) := dk_27 (dk_at dksX12_from_0 4 rfl rfl)
theorem dX12_from_5 : decode cX12_from 5 = .ok (.iaload, 1) := dk_46 (dk_at dksX12_from_0 5 rfl rfl)
theorem dX12_from_6 : decode cX12_from 6 = .ok (.aload_n 0, 1) := dk_42 (dk_at dksX12_from_0 6 rfl rfl)
theorem dX12_from_7 : decode cX12_from 7 = .ok (.getfield 11, 3) := dk_180 0 11 (dk_at dksX12_from_0 7 rfl rfl)
theorem dX12_from_10 : decode cX12_from 10 = .ok (.iload_n 1, 1) := dk_27 (dk_at dksX12_from_0 10 rfl rfl)
theorem dX12_from_11 : decode cX12_from 11 = .ok (.aaload, 1) := dk_50 (dk_at dksX12_from_0 11 rfl rfl)
theorem dX12_from_12 : decode cX12_from 12 = .ok (.aload_n 0, 1) := dk_42 (dk_at dksX12_from_0 12 rfl rfl)
theorem dX12_from_13 : decode cX12_from 13 = .ok (.getfield 14, 3) := dk_180 0 14 (dk_at dksX12_from_0 13 rfl rfl)
theorem dX12_from_16 : decode cX12_from 16 = .ok (.iload_n 1, 1) := dk_27 (dk_at dksX12_from_0 16 rfl rfl)
theorem dX12_from_17 : decode cX12_from 17 = .ok (.iaload, 1) := dk_46 (dk_at dksX12_from_0 17 rfl rfl)
theorem dX12_from_18 : decode cX12_from 18 = .ok (.ldc 110, 2) := dk_18 110 (dk_at dksX12_from_0 18 rfl rfl)
theorem dX12_from_20 : decode cX12_from 20 = .ok (.invokestatic 111, 3) := dk_184 0 111 (dk_at dksX12_from_0 20 rfl rfl)
theorem dX12_from_23 : decode cX12_from 23 = .ok (.isub, 1) := dk_100 (dk_at dksX12_from_0 23 rfl rfl)
theorem dX12_from_24 : decode cX12_from 24 = .ok (.ireturn, 1) := dk_172 (dk_at dksX12_from_1 0 rfl rfl)
abbrev cX12_count : ByteArray := prog_24_method_11_code
def yX12_count : MethodName := ⟨RX12, "count", "([III)I"⟩
def dkwX12_count_1 : List UInt8 := [167, 0, 4, 3, 96, 62, 132, 4, 1, 167, 255, 228, 29, 172]
abbrev dktX12_count_1 : List UInt8 := dkwX12_count_1 ++ []
def dkwX12_count_0 : List UInt8 := [3, 62, 3, 54, 4, 21, 4, 27, 162, 0, 28, 29, 42, 21, 4, 46, 184, 0, 104, 28, 160, 0, 7, 4]
abbrev dktX12_count_0 : List UInt8 := dkwX12_count_0 ++ dktX12_count_1
theorem dksX12_count_0 : cX12_count.data.toList.drop 0 = dktX12_count_0 := by decide +kernel
theorem dksX12_count_1 : cX12_count.data.toList.drop 24 = dktX12_count_1 := dk_seg dksX12_count_0 24 rfl rfl
theorem dX12_count_0 : decode cX12_count 0 = .ok (.iconst 0, 1) := dk_3 (dk_at dksX12_count_0 0 rfl rfl)
theorem dX12_count_1 : decode cX12_count 1 = .ok (.istore_n 3, 1) := dk_62 (dk_at dksX12_count_0 1 rfl rfl)
theorem dX12_count_2 : decode cX12_count 2 = .ok (.iconst 0, 1) := dk_3 (dk_at dksX12_count_0 2 rfl rfl)
theorem dX12_count_3 : decode cX12_count 3 = .ok (.istore 4, 2) := dk_54 4 (dk_at dksX12_count_0 3 rfl rfl)
theorem dX12_count_5 : decode cX12_count 5 = .ok (.iload 4, 2) := dk_21 4 (dk_at dksX12_count_0 5 rfl rfl)
theorem dX12_count_7 : decode cX12_count 7 = .ok (.iload_n 1, 1) := dk_27 (dk_at dksX12_count_0 7 rfl rfl)
theorem dX12_count_8 : decode cX12_count 8 = .ok (.if_icmp .ge 28, 3) := dk_162 0 28 (dk_at dksX12_count_0 8 rfl rfl)
theorem dX12_count_11 : decode cX12_count 11 = .ok (.iload_n 3, 1) := dk_29 (dk_at dksX12_count_0 11 rfl rfl)
theorem dX12_count_12 : decode cX12_count 12 = .ok (.aload_n 0, 1) := dk_42 (dk_at dksX12_count_0 12 rfl rfl)
theorem dX12_count_13 : decode cX12_count 13 = .ok (.iload 4, 2) := dk_21 4 (dk_at dksX12_count_0 13 rfl rfl)
theorem dX12_count_15 : decode cX12_count 15 = .ok (.iaload, 1) := dk_46 (dk_at dksX12_count_0 15 rfl rfl)
theorem dX12_count_16 : decode cX12_count 16 = .ok (.invokestatic 104, 3) := dk_184 0 104 (dk_at dksX12_count_0 16 rfl rfl)
theorem dX12_count_19 : decode cX12_count 19 = .ok (.iload_n 2, 1) := dk_28 (dk_at dksX12_count_0 19 rfl rfl)
theorem dX12_count_20 : decode cX12_count 20 = .ok (.if_icmp .ne 7, 3) := dk_160 0 7 (dk_at dksX12_count_0 20 rfl rfl)
theorem dX12_count_23 : decode cX12_count 23 = .ok (.iconst 1, 1) := dk_4 (dk_at dksX12_count_0 23 rfl rfl)
theorem dX12_count_24 : decode cX12_count 24 = .ok (.goto 4, 3) := dk_167 0 4 (dk_at dksX12_count_1 0 rfl rfl)
theorem dX12_count_27 : decode cX12_count 27 = .ok (.iconst 0, 1) := dk_3 (dk_at dksX12_count_1 3 rfl rfl)
theorem dX12_count_28 : decode cX12_count 28 = .ok (.iadd, 1) := dk_96 (dk_at dksX12_count_1 4 rfl rfl)
theorem dX12_count_29 : decode cX12_count 29 = .ok (.istore_n 3, 1) := dk_62 (dk_at dksX12_count_1 5 rfl rfl)
theorem dX12_count_30 : decode cX12_count 30 = .ok (.iinc 4 1, 3) := dk_132 4 1 (dk_at dksX12_count_1 6 rfl rfl)
theorem dX12_count_33 : decode cX12_count 33 = .ok (.goto (-28), 3) := dk_167 255 228 (dk_at dksX12_count_1 9 rfl rfl)
theorem dX12_count_36 : decode cX12_count 36 = .ok (.iload_n 3, 1) := dk_29 (dk_at dksX12_count_1 12 rfl rfl)
theorem dX12_count_37 : decode cX12_count 37 = .ok (.ireturn, 1) := dk_172 (dk_at dksX12_count_1 13 rfl rfl)
abbrev cX12_to : ByteArray := prog_24_method_13_code
def yX12_to : MethodName := ⟨RX12, "to", "(I)I"⟩
def dkwX12_to_1 : List UInt8 := [172]
abbrev dktX12_to_1 : List UInt8 := dkwX12_to_1 ++ []
def dkwX12_to_0 : List UInt8 := [42, 180, 0, 14, 27, 46, 42, 180, 0, 11, 27, 50, 42, 180, 0, 14, 27, 46, 18, 109, 184, 0, 111, 100]
abbrev dktX12_to_0 : List UInt8 := dkwX12_to_0 ++ dktX12_to_1
theorem dksX12_to_0 : cX12_to.data.toList.drop 0 = dktX12_to_0 := by decide +kernel
theorem dksX12_to_1 : cX12_to.data.toList.drop 24 = dktX12_to_1 := dk_seg dksX12_to_0 24 rfl rfl
theorem dX12_to_0 : decode cX12_to 0 = .ok (.aload_n 0, 1) := dk_42 (dk_at dksX12_to_0 0 rfl rfl)
theorem dX12_to_1 : decode cX12_to 1 = .ok (.getfield 14, 3) := dk_180 0 14 (dk_at dksX12_to_0 1 rfl rfl)
theorem dX12_to_4 : decode cX12_to 4 = .ok (.iload_n 1, 1) := dk_27 (dk_at dksX12_to_0 4 rfl rfl)
theorem dX12_to_5 : decode cX12_to 5 = .ok (.iaload, 1) := dk_46 (dk_at dksX12_to_0 5 rfl rfl)
theorem dX12_to_6 : decode cX12_to 6 = .ok (.aload_n 0, 1) := dk_42 (dk_at dksX12_to_0 6 rfl rfl)
theorem dX12_to_7 : decode cX12_to 7 = .ok (.getfield 11, 3) := dk_180 0 11 (dk_at dksX12_to_0 7 rfl rfl)
theorem dX12_to_10 : decode cX12_to 10 = .ok (.iload_n 1, 1) := dk_27 (dk_at dksX12_to_0 10 rfl rfl)
theorem dX12_to_11 : decode cX12_to 11 = .ok (.aaload, 1) := dk_50 (dk_at dksX12_to_0 11 rfl rfl)
theorem dX12_to_12 : decode cX12_to 12 = .ok (.aload_n 0, 1) := dk_42 (dk_at dksX12_to_0 12 rfl rfl)
theorem dX12_to_13 : decode cX12_to 13 = .ok (.getfield 14, 3) := dk_180 0 14 (dk_at dksX12_to_0 13 rfl rfl)
theorem dX12_to_16 : decode cX12_to 16 = .ok (.iload_n 1, 1) := dk_27 (dk_at dksX12_to_0 16 rfl rfl)
theorem dX12_to_17 : decode cX12_to 17 = .ok (.iaload, 1) := dk_46 (dk_at dksX12_to_0 17 rfl rfl)
theorem dX12_to_18 : decode cX12_to 18 = .ok (.ldc 109, 2) := dk_18 109 (dk_at dksX12_to_0 18 rfl rfl)
theorem dX12_to_20 : decode cX12_to 20 = .ok (.invokestatic 111, 3) := dk_184 0 111 (dk_at dksX12_to_0 20 rfl rfl)
theorem dX12_to_23 : decode cX12_to 23 = .ok (.isub, 1) := dk_100 (dk_at dksX12_to_0 23 rfl rfl)
theorem dX12_to_24 : decode cX12_to 24 = .ok (.ireturn, 1) := dk_172 (dk_at dksX12_to_1 0 rfl rfl)
abbrev cX12_letters : ByteArray := prog_24_method_47_code
def yX12_letters : MethodName := ⟨RX12, "letters", "(II)I"⟩
def dkwX12_letters_0 : List UInt8 := [42, 180, 0, 11, 27, 50, 42, 180, 0, 14, 27, 46, 28, 184, 0, 111, 172]
abbrev dktX12_letters_0 : List UInt8 := dkwX12_letters_0 ++ []
theorem dksX12_letters_0 : cX12_letters.data.toList.drop 0 = dktX12_letters_0 := by decide +kernel
theorem dX12_letters_0 : decode cX12_letters 0 = .ok (.aload_n 0, 1) := dk_42 (dk_at dksX12_letters_0 0 rfl rfl)
theorem dX12_letters_1 : decode cX12_letters 1 = .ok (.getfield 11, 3) := dk_180 0 11 (dk_at dksX12_letters_0 1 rfl rfl)
theorem dX12_letters_4 : decode cX12_letters 4 = .ok (.iload_n 1, 1) := dk_27 (dk_at dksX12_letters_0 4 rfl rfl)
theorem dX12_letters_5 : decode cX12_letters 5 = .ok (.aaload, 1) := dk_50 (dk_at dksX12_letters_0 5 rfl rfl)
theorem dX12_letters_6 : decode cX12_letters 6 = .ok (.aload_n 0, 1) := dk_42 (dk_at dksX12_letters_0 6 rfl rfl)
theorem dX12_letters_7 : decode cX12_letters 7 = .ok (.getfield 14, 3) := dk_180 0 14 (dk_at dksX12_letters_0 7 rfl rfl)
theorem dX12_letters_10 : decode cX12_letters 10 = .ok (.iload_n 1, 1) := dk_27 (dk_at dksX12_letters_0 10 rfl rfl)
theorem dX12_letters_11 : decode cX12_letters 11 = .ok (.iaload, 1) := dk_46 (dk_at dksX12_letters_0 11 rfl rfl)
theorem dX12_letters_12 : decode cX12_letters 12 = .ok (.iload_n 2, 1) := dk_28 (dk_at dksX12_letters_0 12 rfl rfl)
theorem dX12_letters_13 : decode cX12_letters 13 = .ok (.invokestatic 111, 3) := dk_184 0 111 (dk_at dksX12_letters_0 13 rfl rfl)
theorem dX12_letters_16 : decode cX12_letters 16 = .ok (.ireturn, 1) := dk_172 (dk_at dksX12_letters_0 16 rfl rfl)
abbrev cX12_part : ByteArray := prog_24_method_49_code
def yX12_part : MethodName := ⟨RX12, "part", "(III)I"⟩
def dkwX12_part_6 : List UInt8 := [16, 15, 126, 167, 0, 8, 21, 5, 16, 15, 126, 172]
abbrev dktX12_part_6 : List UInt8 := dkwX12_part_6 ++ []
def dkwX12_part_5 : List UInt8 := [21, 5, 184, 0, 104, 18, 126, 159, 0, 7, 3, 167, 0, 23, 29, 5, 160, 0, 13, 21, 5, 7, 122]
abbrev dktX12_part_5 : List UInt8 := dkwX12_part_5 ++ dktX12_part_6
def dkwX12_part_4 : List UInt8 := [154, 0, 11, 21, 5, 184, 0, 245, 167, 0, 14, 42, 27, 28, 4, 96, 182, 0, 242, 21, 4, 100, 172]
abbrev dktX12_part_4 : List UInt8 := dkwX12_part_4 ++ dktX12_part_5
def dkwX12_part_3 : List UInt8 := [182, 0, 242, 54, 4, 42, 180, 0, 11, 27, 50, 21, 4, 46, 54, 5, 29, 5, 162, 0, 27, 29]
abbrev dktX12_part_3 : List UInt8 := dkwX12_part_3 ++ dktX12_part_4
def dkwX12_part_2 : List UInt8 := [182, 0, 221, 4, 100, 133, 184, 0, 175, 154, 0, 10, 42, 16, 254, 182, 0, 183, 172, 42, 27, 28]
abbrev dktX12_part_2 : List UInt8 := dkwX12_part_2 ++ dktX12_part_3
def dkwX12_part_1 : List UInt8 := [182, 0, 183, 172, 42, 27, 182, 0, 230, 154, 0, 10, 42, 16, 252, 182, 0, 183, 172, 28, 133, 9, 42, 27]
abbrev dktX12_part_1 : List UInt8 := dkwX12_part_1 ++ dktX12_part_2
def dkwX12_part_0 : List UInt8 := [27, 184, 0, 211, 153, 0, 15, 29, 133, 9, 20, 0, 173, 184, 0, 175, 154, 0, 10, 42, 16, 254]
abbrev dktX12_part_0 : List UInt8 := dkwX12_part_0 ++ dktX12_part_1
theorem dksX12_part_0 : cX12_part.data.toList.drop 0 = dktX12_part_0 := by decide +kernel
theorem dksX12_part_1 : cX12_part.data.toList.drop 22 = dktX12_part_1 := dk_seg dksX12_part_0 22 rfl rfl
theorem dksX12_part_2 : cX12_part.data.toList.drop 46 = dktX12_part_2 := dk_seg dksX12_part_1 24 rfl rfl
theorem dksX12_part_3 : cX12_part.data.toList.drop 68 = dktX12_part_3 := dk_seg dksX12_part_2 22 rfl rfl
theorem dksX12_part_4 : cX12_part.data.toList.drop 90 = dktX12_part_4 := dk_seg dksX12_part_3 22 rfl rfl
theorem dksX12_part_5 : cX12_part.data.toList.drop 113 = dktX12_part_5 := dk_seg dksX12_part_4 23 rfl rfl
theorem dksX12_part_6 : cX12_part.data.toList.drop 136 = dktX12_part_6 := dk_seg dksX12_part_5 23 rfl rfl
theorem dX12_part_0 : decode cX12_part 0 = .ok (.iload_n 1, 1) := dk_27 (dk_at dksX12_part_0 0 rfl rfl)
theorem dX12_part_1 : decode cX12_part 1 = .ok (.invokestatic 211, 3) := dk_184 0 211 (dk_at dksX12_part_0 1 rfl rfl)
theorem dX12_part_4 : decode cX12_part 4 = .ok (.ifCond .eq 15, 3) := dk_153 0 15 (dk_at dksX12_part_0 4 rfl rfl)
theorem dX12_part_7 : decode cX12_part 7 = .ok (.iload_n 3, 1) := dk_29 (dk_at dksX12_part_0 7 rfl rfl)
theorem dX12_part_8 : decode cX12_part 8 = .ok (.i2l, 1) := dk_133 (dk_at dksX12_part_0 8 rfl rfl)
theorem dX12_part_9 : decode cX12_part 9 = .ok (.lconst 0, 1) := dk_9 (dk_at dksX12_part_0 9 rfl rfl)
theorem dX12_part_10 : decode cX12_part 10 = .ok (.ldc2_w 173, 3) := dk_20 0 173 (dk_at dksX12_part_0 10 rfl rfl)
theorem dX12_part_13 : decode cX12_part 13 = .ok (.invokestatic 175, 3) := dk_184 0 175 (dk_at dksX12_part_0 13 rfl rfl)
theorem dX12_part_16 : decode cX12_part 16 = .ok (.ifCond .ne 10, 3) := dk_154 0 10 (dk_at dksX12_part_0 16 rfl rfl)
theorem dX12_part_19 : decode cX12_part 19 = .ok (.aload_n 0, 1) := dk_42 (dk_at dksX12_part_0 19 rfl rfl)
theorem dX12_part_20 : decode cX12_part 20 = .ok (.bipush (-2), 2) := dk_16 254 (dk_at dksX12_part_0 20 rfl rfl)
theorem dX12_part_22 : decode cX12_part 22 = .ok (.invokevirtual 183, 3) := dk_182 0 183 (dk_at dksX12_part_1 0 rfl rfl)
theorem dX12_part_25 : decode cX12_part 25 = .ok (.ireturn, 1) := dk_172 (dk_at dksX12_part_1 3 rfl rfl)
theorem dX12_part_26 : decode cX12_part 26 = .ok (.aload_n 0, 1) := dk_42 (dk_at dksX12_part_1 4 rfl rfl)
theorem dX12_part_27 : decode cX12_part 27 = .ok (.iload_n 1, 1) := dk_27 (dk_at dksX12_part_1 5 rfl rfl)
theorem dX12_part_28 : decode cX12_part 28 = .ok (.invokevirtual 230, 3) := dk_182 0 230 (dk_at dksX12_part_1 6 rfl rfl)
theorem dX12_part_31 : decode cX12_part 31 = .ok (.ifCond .ne 10, 3) := dk_154 0 10 (dk_at dksX12_part_1 9 rfl rfl)
theorem dX12_part_34 : decode cX12_part 34 = .ok (.aload_n 0, 1) := dk_42 (dk_at dksX12_part_1 12 rfl rfl)
theorem dX12_part_35 : decode cX12_part 35 = .ok (.bipush (-4), 2) := dk_16 252 (dk_at dksX12_part_1 13 rfl rfl)
theorem dX12_part_37 : decode cX12_part 37 = .ok (.invokevirtual 183, 3) := dk_182 0 183 (dk_at dksX12_part_1 15 rfl rfl)
theorem dX12_part_40 : decode cX12_part 40 = .ok (.ireturn, 1) := dk_172 (dk_at dksX12_part_1 18 rfl rfl)
theorem dX12_part_41 : decode cX12_part 41 = .ok (.iload_n 2, 1) := dk_28 (dk_at dksX12_part_1 19 rfl rfl)
theorem dX12_part_42 : decode cX12_part 42 = .ok (.i2l, 1) := dk_133 (dk_at dksX12_part_1 20 rfl rfl)
theorem dX12_part_43 : decode cX12_part 43 = .ok (.lconst 0, 1) := dk_9 (dk_at dksX12_part_1 21 rfl rfl)
theorem dX12_part_44 : decode cX12_part 44 = .ok (.aload_n 0, 1) := dk_42 (dk_at dksX12_part_1 22 rfl rfl)
theorem dX12_part_45 : decode cX12_part 45 = .ok (.iload_n 1, 1) := dk_27 (dk_at dksX12_part_1 23 rfl rfl)
theorem dX12_part_46 : decode cX12_part 46 = .ok (.invokevirtual 221, 3) := dk_182 0 221 (dk_at dksX12_part_2 0 rfl rfl)
theorem dX12_part_49 : decode cX12_part 49 = .ok (.iconst 1, 1) := dk_4 (dk_at dksX12_part_2 3 rfl rfl)
theorem dX12_part_50 : decode cX12_part 50 = .ok (.isub, 1) := dk_100 (dk_at dksX12_part_2 4 rfl rfl)
theorem dX12_part_51 : decode cX12_part 51 = .ok (.i2l, 1) := dk_133 (dk_at dksX12_part_2 5 rfl rfl)
theorem dX12_part_52 : decode cX12_part 52 = .ok (.invokestatic 175, 3) := dk_184 0 175 (dk_at dksX12_part_2 6 rfl rfl)
theorem dX12_part_55 : decode cX12_part 55 = .ok (.ifCond .ne 10, 3) := dk_154 0 10 (dk_at dksX12_part_2 9 rfl rfl)
theorem dX12_part_58 : decode cX12_part 58 = .ok (.aload_n 0, 1) := dk_42 (dk_at dksX12_part_2 12 rfl rfl)
theorem dX12_part_59 : decode cX12_part 59 = .ok (.bipush (-2), 2) := dk_16 254 (dk_at dksX12_part_2 13 rfl rfl)
theorem dX12_part_61 : decode cX12_part 61 = .ok (.invokevirtual 183, 3) := dk_182 0 183 (dk_at dksX12_part_2 15 rfl rfl)
theorem dX12_part_64 : decode cX12_part 64 = .ok (.ireturn, 1) := dk_172 (dk_at dksX12_part_2 18 rfl rfl)
theorem dX12_part_65 : decode cX12_part 65 = .ok (.aload_n 0, 1) := dk_42 (dk_at dksX12_part_2 19 rfl rfl)
theorem dX12_part_66 : decode cX12_part 66 = .ok (.iload_n 1, 1) := dk_27 (dk_at dksX12_part_2 20 rfl rfl)
theorem dX12_part_67 : decode cX12_part 67 = .ok (.iload_n 2, 1) := dk_28 (dk_at dksX12_part_2 21 rfl rfl)
theorem dX12_part_68 : decode cX12_part 68 = .ok (.invokevirtual 242, 3) := dk_182 0 242 (dk_at dksX12_part_3 0 rfl rfl)
theorem dX12_part_71 : decode cX12_part 71 = .ok (.istore 4, 2) := dk_54 4 (dk_at dksX12_part_3 3 rfl rfl)
theorem dX12_part_73 : decode cX12_part 73 = .ok (.aload_n 0, 1) := dk_42 (dk_at dksX12_part_3 5 rfl rfl)
theorem dX12_part_74 : decode cX12_part 74 = .ok (.getfield 11, 3) := dk_180 0 11 (dk_at dksX12_part_3 6 rfl rfl)
theorem dX12_part_77 : decode cX12_part 77 = .ok (.iload_n 1, 1) := dk_27 (dk_at dksX12_part_3 9 rfl rfl)
theorem dX12_part_78 : decode cX12_part 78 = .ok (.aaload, 1) := dk_50 (dk_at dksX12_part_3 10 rfl rfl)
theorem dX12_part_79 : decode cX12_part 79 = .ok (.iload 4, 2) := dk_21 4 (dk_at dksX12_part_3 11 rfl rfl)
theorem dX12_part_81 : decode cX12_part 81 = .ok (.iaload, 1) := dk_46 (dk_at dksX12_part_3 13 rfl rfl)
theorem dX12_part_82 : decode cX12_part 82 = .ok (.istore 5, 2) := dk_54 5 (dk_at dksX12_part_3 14 rfl rfl)
theorem dX12_part_84 : decode cX12_part 84 = .ok (.iload_n 3, 1) := dk_29 (dk_at dksX12_part_3 16 rfl rfl)
theorem dX12_part_85 : decode cX12_part 85 = .ok (.iconst 2, 1) := dk_5 (dk_at dksX12_part_3 17 rfl rfl)
theorem dX12_part_86 : decode cX12_part 86 = .ok (.if_icmp .ge 27, 3) := dk_162 0 27 (dk_at dksX12_part_3 18 rfl rfl)
theorem dX12_part_89 : decode cX12_part 89 = .ok (.iload_n 3, 1) := dk_29 (dk_at dksX12_part_3 21 rfl rfl)
theorem dX12_part_90 : decode cX12_part 90 = .ok (.ifCond .ne 11, 3) := dk_154 0 11 (dk_at dksX12_part_4 0 rfl rfl)
theorem dX12_part_93 : decode cX12_part 93 = .ok (.iload 5, 2) := dk_21 5 (dk_at dksX12_part_4 3 rfl rfl)
theorem dX12_part_95 : decode cX12_part 95 = .ok (.invokestatic 245, 3) := dk_184 0 245 (dk_at dksX12_part_4 5 rfl rfl)
theorem dX12_part_98 : decode cX12_part 98 = .ok (.goto 14, 3) := dk_167 0 14 (dk_at dksX12_part_4 8 rfl rfl)
theorem dX12_part_101 : decode cX12_part 101 = .ok (.aload_n 0, 1) := dk_42 (dk_at dksX12_part_4 11 rfl rfl)
theorem dX12_part_102 : decode cX12_part 102 = .ok (.iload_n 1, 1) := dk_27 (dk_at dksX12_part_4 12 rfl rfl)
theorem dX12_part_103 : decode cX12_part 103 = .ok (.iload_n 2, 1) := dk_28 (dk_at dksX12_part_4 13 rfl rfl)
theorem dX12_part_104 : decode cX12_part 104 = .ok (.iconst 1, 1) := dk_4 (dk_at dksX12_part_4 14 rfl rfl)
theorem dX12_part_105 : decode cX12_part 105 = .ok (.iadd, 1) := dk_96 (dk_at dksX12_part_4 15 rfl rfl)
theorem dX12_part_106 : decode cX12_part 106 = .ok (.invokevirtual 242, 3) := dk_182 0 242 (dk_at dksX12_part_4 16 rfl rfl)
theorem dX12_part_109 : decode cX12_part 109 = .ok (.iload 4, 2) := dk_21 4 (dk_at dksX12_part_4 19 rfl rfl)
theorem dX12_part_111 : decode cX12_part 111 = .ok (.isub, 1) := dk_100 (dk_at dksX12_part_4 21 rfl rfl)
theorem dX12_part_112 : decode cX12_part 112 = .ok (.ireturn, 1) := dk_172 (dk_at dksX12_part_4 22 rfl rfl)
theorem dX12_part_113 : decode cX12_part 113 = .ok (.iload 5, 2) := dk_21 5 (dk_at dksX12_part_5 0 rfl rfl)
theorem dX12_part_115 : decode cX12_part 115 = .ok (.invokestatic 104, 3) := dk_184 0 104 (dk_at dksX12_part_5 2 rfl rfl)
theorem dX12_part_118 : decode cX12_part 118 = .ok (.ldc 126, 2) := dk_18 126 (dk_at dksX12_part_5 5 rfl rfl)
theorem dX12_part_120 : decode cX12_part 120 = .ok (.if_icmp .eq 7, 3) := dk_159 0 7 (dk_at dksX12_part_5 7 rfl rfl)
theorem dX12_part_123 : decode cX12_part 123 = .ok (.iconst 0, 1) := dk_3 (dk_at dksX12_part_5 10 rfl rfl)
theorem dX12_part_124 : decode cX12_part 124 = .ok (.goto 23, 3) := dk_167 0 23 (dk_at dksX12_part_5 11 rfl rfl)
theorem dX12_part_127 : decode cX12_part 127 = .ok (.iload_n 3, 1) := dk_29 (dk_at dksX12_part_5 14 rfl rfl)
theorem dX12_part_128 : decode cX12_part 128 = .ok (.iconst 2, 1) := dk_5 (dk_at dksX12_part_5 15 rfl rfl)
theorem dX12_part_129 : decode cX12_part 129 = .ok (.if_icmp .ne 13, 3) := dk_160 0 13 (dk_at dksX12_part_5 16 rfl rfl)
theorem dX12_part_132 : decode cX12_part 132 = .ok (.iload 5, 2) := dk_21 5 (dk_at dksX12_part_5 19 rfl rfl)
theorem dX12_part_134 : decode cX12_part 134 = .ok (.iconst 4, 1) := dk_7 (dk_at dksX12_part_5 21 rfl rfl)
theorem dX12_part_135 : decode cX12_part 135 = .ok (.ishr, 1) := dk_122 (dk_at dksX12_part_5 22 rfl rfl)
theorem dX12_part_136 : decode cX12_part 136 = .ok (.bipush 15, 2) := dk_16 15 (dk_at dksX12_part_6 0 rfl rfl)
theorem dX12_part_138 : decode cX12_part 138 = .ok (.iand, 1) := dk_126 (dk_at dksX12_part_6 2 rfl rfl)
theorem dX12_part_139 : decode cX12_part 139 = .ok (.goto 8, 3) := dk_167 0 8 (dk_at dksX12_part_6 3 rfl rfl)
theorem dX12_part_142 : decode cX12_part 142 = .ok (.iload 5, 2) := dk_21 5 (dk_at dksX12_part_6 6 rfl rfl)
theorem dX12_part_144 : decode cX12_part 144 = .ok (.bipush 15, 2) := dk_16 15 (dk_at dksX12_part_6 8 rfl rfl)
theorem dX12_part_146 : decode cX12_part 146 = .ok (.iand, 1) := dk_126 (dk_at dksX12_part_6 10 rfl rfl)
theorem dX12_part_147 : decode cX12_part 147 = .ok (.ireturn, 1) := dk_172 (dk_at dksX12_part_6 11 rfl rfl)
abbrev cX12_beginOf : ByteArray := prog_24_method_44_code
def yX12_beginOf : MethodName := ⟨RX12, "beginOf", "(II)I"⟩
def dkwX12_beginOf_3 : List UInt8 := [42, 180, 0, 14, 27, 46, 172]
abbrev dktX12_beginOf_3 : List UInt8 := dkwX12_beginOf_3 ++ []
def dkwX12_beginOf_2 : List UInt8 := [154, 0, 7, 4, 167, 0, 4, 3, 96, 62, 29, 28, 160, 0, 6, 21, 4, 172, 132, 4, 1, 167, 255, 195]
abbrev dktX12_beginOf_2 : List UInt8 := dkwX12_beginOf_2 ++ dktX12_beginOf_3
def dkwX12_beginOf_1 : List UInt8 := [180, 0, 11, 27, 50, 21, 4, 4, 100, 46, 42, 180, 0, 11, 27, 50, 21, 4, 46, 184, 0, 224]
abbrev dktX12_beginOf_1 : List UInt8 := dkwX12_beginOf_1 ++ dktX12_beginOf_2
def dkwX12_beginOf_0 : List UInt8 := [2, 62, 3, 54, 4, 21, 4, 42, 180, 0, 14, 27, 46, 162, 0, 56, 29, 21, 4, 153, 0, 29, 42]
abbrev dktX12_beginOf_0 : List UInt8 := dkwX12_beginOf_0 ++ dktX12_beginOf_1
theorem dksX12_beginOf_0 : cX12_beginOf.data.toList.drop 0 = dktX12_beginOf_0 := by decide +kernel
theorem dksX12_beginOf_1 : cX12_beginOf.data.toList.drop 23 = dktX12_beginOf_1 := dk_seg dksX12_beginOf_0 23 rfl rfl
theorem dksX12_beginOf_2 : cX12_beginOf.data.toList.drop 45 = dktX12_beginOf_2 := dk_seg dksX12_beginOf_1 22 rfl rfl
theorem dksX12_beginOf_3 : cX12_beginOf.data.toList.drop 69 = dktX12_beginOf_3 := dk_seg dksX12_beginOf_2 24 rfl rfl
theorem dX12_beginOf_0 : decode cX12_beginOf 0 = .ok (.iconst (-1), 1) := dk_2 (dk_at dksX12_beginOf_0 0 rfl rfl)
theorem dX12_beginOf_1 : decode cX12_beginOf 1 = .ok (.istore_n 3, 1) := dk_62 (dk_at dksX12_beginOf_0 1 rfl rfl)
theorem dX12_beginOf_2 : decode cX12_beginOf 2 = .ok (.iconst 0, 1) := dk_3 (dk_at dksX12_beginOf_0 2 rfl rfl)
theorem dX12_beginOf_3 : decode cX12_beginOf 3 = .ok (.istore 4, 2) := dk_54 4 (dk_at dksX12_beginOf_0 3 rfl rfl)
theorem dX12_beginOf_5 : decode cX12_beginOf 5 = .ok (.iload 4, 2) := dk_21 4 (dk_at dksX12_beginOf_0 5 rfl rfl)
theorem dX12_beginOf_7 : decode cX12_beginOf 7 = .ok (.aload_n 0, 1) := dk_42 (dk_at dksX12_beginOf_0 7 rfl rfl)
theorem dX12_beginOf_8 : decode cX12_beginOf 8 = .ok (.getfield 14, 3) := dk_180 0 14 (dk_at dksX12_beginOf_0 8 rfl rfl)
theorem dX12_beginOf_11 : decode cX12_beginOf 11 = .ok (.iload_n 1, 1) := dk_27 (dk_at dksX12_beginOf_0 11 rfl rfl)
theorem dX12_beginOf_12 : decode cX12_beginOf 12 = .ok (.iaload, 1) := dk_46 (dk_at dksX12_beginOf_0 12 rfl rfl)
theorem dX12_beginOf_13 : decode cX12_beginOf 13 = .ok (.if_icmp .ge 56, 3) := dk_162 0 56 (dk_at dksX12_beginOf_0 13 rfl rfl)
theorem dX12_beginOf_16 : decode cX12_beginOf 16 = .ok (.iload_n 3, 1) := dk_29 (dk_at dksX12_beginOf_0 16 rfl rfl)
theorem dX12_beginOf_17 : decode cX12_beginOf 17 = .ok (.iload 4, 2) := dk_21 4 (dk_at dksX12_beginOf_0 17 rfl rfl)
theorem dX12_beginOf_19 : decode cX12_beginOf 19 = .ok (.ifCond .eq 29, 3) := dk_153 0 29 (dk_at dksX12_beginOf_0 19 rfl rfl)
theorem dX12_beginOf_22 : decode cX12_beginOf 22 = .ok (.aload_n 0, 1) := dk_42 (dk_at dksX12_beginOf_0 22 rfl rfl)
theorem dX12_beginOf_23 : decode cX12_beginOf 23 = .ok (.getfield 11, 3) := dk_180 0 11 (dk_at dksX12_beginOf_1 0 rfl rfl)
theorem dX12_beginOf_26 : decode cX12_beginOf 26 = .ok (.iload_n 1, 1) := dk_27 (dk_at dksX12_beginOf_1 3 rfl rfl)
theorem dX12_beginOf_27 : decode cX12_beginOf 27 = .ok (.aaload, 1) := dk_50 (dk_at dksX12_beginOf_1 4 rfl rfl)
theorem dX12_beginOf_28 : decode cX12_beginOf 28 = .ok (.iload 4, 2) := dk_21 4 (dk_at dksX12_beginOf_1 5 rfl rfl)
theorem dX12_beginOf_30 : decode cX12_beginOf 30 = .ok (.iconst 1, 1) := dk_4 (dk_at dksX12_beginOf_1 7 rfl rfl)
theorem dX12_beginOf_31 : decode cX12_beginOf 31 = .ok (.isub, 1) := dk_100 (dk_at dksX12_beginOf_1 8 rfl rfl)
theorem dX12_beginOf_32 : decode cX12_beginOf 32 = .ok (.iaload, 1) := dk_46 (dk_at dksX12_beginOf_1 9 rfl rfl)
theorem dX12_beginOf_33 : decode cX12_beginOf 33 = .ok (.aload_n 0, 1) := dk_42 (dk_at dksX12_beginOf_1 10 rfl rfl)
theorem dX12_beginOf_34 : decode cX12_beginOf 34 = .ok (.getfield 11, 3) := dk_180 0 11 (dk_at dksX12_beginOf_1 11 rfl rfl)
theorem dX12_beginOf_37 : decode cX12_beginOf 37 = .ok (.iload_n 1, 1) := dk_27 (dk_at dksX12_beginOf_1 14 rfl rfl)
theorem dX12_beginOf_38 : decode cX12_beginOf 38 = .ok (.aaload, 1) := dk_50 (dk_at dksX12_beginOf_1 15 rfl rfl)
theorem dX12_beginOf_39 : decode cX12_beginOf 39 = .ok (.iload 4, 2) := dk_21 4 (dk_at dksX12_beginOf_1 16 rfl rfl)
theorem dX12_beginOf_41 : decode cX12_beginOf 41 = .ok (.iaload, 1) := dk_46 (dk_at dksX12_beginOf_1 18 rfl rfl)
theorem dX12_beginOf_42 : decode cX12_beginOf 42 = .ok (.invokestatic 224, 3) := dk_184 0 224 (dk_at dksX12_beginOf_1 19 rfl rfl)
theorem dX12_beginOf_45 : decode cX12_beginOf 45 = .ok (.ifCond .ne 7, 3) := dk_154 0 7 (dk_at dksX12_beginOf_2 0 rfl rfl)
theorem dX12_beginOf_48 : decode cX12_beginOf 48 = .ok (.iconst 1, 1) := dk_4 (dk_at dksX12_beginOf_2 3 rfl rfl)
theorem dX12_beginOf_49 : decode cX12_beginOf 49 = .ok (.goto 4, 3) := dk_167 0 4 (dk_at dksX12_beginOf_2 4 rfl rfl)
theorem dX12_beginOf_52 : decode cX12_beginOf 52 = .ok (.iconst 0, 1) := dk_3 (dk_at dksX12_beginOf_2 7 rfl rfl)
theorem dX12_beginOf_53 : decode cX12_beginOf 53 = .ok (.iadd, 1) := dk_96 (dk_at dksX12_beginOf_2 8 rfl rfl)
theorem dX12_beginOf_54 : decode cX12_beginOf 54 = .ok (.istore_n 3, 1) := dk_62 (dk_at dksX12_beginOf_2 9 rfl rfl)
theorem dX12_beginOf_55 : decode cX12_beginOf 55 = .ok (.iload_n 3, 1) := dk_29 (dk_at dksX12_beginOf_2 10 rfl rfl)
theorem dX12_beginOf_56 : decode cX12_beginOf 56 = .ok (.iload_n 2, 1) := dk_28 (dk_at dksX12_beginOf_2 11 rfl rfl)
theorem dX12_beginOf_57 : decode cX12_beginOf 57 = .ok (.if_icmp .ne 6, 3) := dk_160 0 6 (dk_at dksX12_beginOf_2 12 rfl rfl)
theorem dX12_beginOf_60 : decode cX12_beginOf 60 = .ok (.iload 4, 2) := dk_21 4 (dk_at dksX12_beginOf_2 15 rfl rfl)
theorem dX12_beginOf_62 : decode cX12_beginOf 62 = .ok (.ireturn, 1) := dk_172 (dk_at dksX12_beginOf_2 17 rfl rfl)
theorem dX12_beginOf_63 : decode cX12_beginOf 63 = .ok (.iinc 4 1, 3) := dk_132 4 1 (dk_at dksX12_beginOf_2 18 rfl rfl)
theorem dX12_beginOf_66 : decode cX12_beginOf 66 = .ok (.goto (-61), 3) := dk_167 255 195 (dk_at dksX12_beginOf_2 21 rfl rfl)
theorem dX12_beginOf_69 : decode cX12_beginOf 69 = .ok (.aload_n 0, 1) := dk_42 (dk_at dksX12_beginOf_3 0 rfl rfl)
theorem dX12_beginOf_70 : decode cX12_beginOf 70 = .ok (.getfield 14, 3) := dk_180 0 14 (dk_at dksX12_beginOf_3 1 rfl rfl)
theorem dX12_beginOf_73 : decode cX12_beginOf 73 = .ok (.iload_n 1, 1) := dk_27 (dk_at dksX12_beginOf_3 4 rfl rfl)
theorem dX12_beginOf_74 : decode cX12_beginOf 74 = .ok (.iaload, 1) := dk_46 (dk_at dksX12_beginOf_3 5 rfl rfl)
theorem dX12_beginOf_75 : decode cX12_beginOf 75 = .ok (.ireturn, 1) := dk_172 (dk_at dksX12_beginOf_3 6 rfl rfl)
abbrev cX12_kindTold : ByteArray := prog_24_method_45_code
def yX12_kindTold : MethodName := ⟨RX12, "kindTold", "(I)I"⟩
def dkwX12_kindTold_1 : List UInt8 := [167, 0, 17, 26, 184, 0, 104, 18, 109, 160, 0, 7, 7, 167, 0, 4, 8, 172]
abbrev dktX12_kindTold_1 : List UInt8 := dkwX12_kindTold_1 ++ []
def dkwX12_kindTold_0 : List UInt8 := [26, 184, 0, 104, 18, 110, 160, 0, 7, 4, 167, 0, 30, 26, 184, 0, 104, 18, 108, 160, 0, 7, 6]
abbrev dktX12_kindTold_0 : List UInt8 := dkwX12_kindTold_0 ++ dktX12_kindTold_1
theorem dksX12_kindTold_0 : cX12_kindTold.data.toList.drop 0 = dktX12_kindTold_0 := by decide +kernel
theorem dksX12_kindTold_1 : cX12_kindTold.data.toList.drop 23 = dktX12_kindTold_1 := dk_seg dksX12_kindTold_0 23 rfl rfl
theorem dX12_kindTold_0 : decode cX12_kindTold 0 = .ok (.iload_n 0, 1) := dk_26 (dk_at dksX12_kindTold_0 0 rfl rfl)
theorem dX12_kindTold_1 : decode cX12_kindTold 1 = .ok (.invokestatic 104, 3) := dk_184 0 104 (dk_at dksX12_kindTold_0 1 rfl rfl)
theorem dX12_kindTold_4 : decode cX12_kindTold 4 = .ok (.ldc 110, 2) := dk_18 110 (dk_at dksX12_kindTold_0 4 rfl rfl)
theorem dX12_kindTold_6 : decode cX12_kindTold 6 = .ok (.if_icmp .ne 7, 3) := dk_160 0 7 (dk_at dksX12_kindTold_0 6 rfl rfl)
theorem dX12_kindTold_9 : decode cX12_kindTold 9 = .ok (.iconst 1, 1) := dk_4 (dk_at dksX12_kindTold_0 9 rfl rfl)
theorem dX12_kindTold_10 : decode cX12_kindTold 10 = .ok (.goto 30, 3) := dk_167 0 30 (dk_at dksX12_kindTold_0 10 rfl rfl)
theorem dX12_kindTold_13 : decode cX12_kindTold 13 = .ok (.iload_n 0, 1) := dk_26 (dk_at dksX12_kindTold_0 13 rfl rfl)
theorem dX12_kindTold_14 : decode cX12_kindTold 14 = .ok (.invokestatic 104, 3) := dk_184 0 104 (dk_at dksX12_kindTold_0 14 rfl rfl)
theorem dX12_kindTold_17 : decode cX12_kindTold 17 = .ok (.ldc 108, 2) := dk_18 108 (dk_at dksX12_kindTold_0 17 rfl rfl)
theorem dX12_kindTold_19 : decode cX12_kindTold 19 = .ok (.if_icmp .ne 7, 3) := dk_160 0 7 (dk_at dksX12_kindTold_0 19 rfl rfl)
theorem dX12_kindTold_22 : decode cX12_kindTold 22 = .ok (.iconst 3, 1) := dk_6 (dk_at dksX12_kindTold_0 22 rfl rfl)
theorem dX12_kindTold_23 : decode cX12_kindTold 23 = .ok (.goto 17, 3) := dk_167 0 17 (dk_at dksX12_kindTold_1 0 rfl rfl)
theorem dX12_kindTold_26 : decode cX12_kindTold 26 = .ok (.iload_n 0, 1) := dk_26 (dk_at dksX12_kindTold_1 3 rfl rfl)
theorem dX12_kindTold_27 : decode cX12_kindTold 27 = .ok (.invokestatic 104, 3) := dk_184 0 104 (dk_at dksX12_kindTold_1 4 rfl rfl)
theorem dX12_kindTold_30 : decode cX12_kindTold 30 = .ok (.ldc 109, 2) := dk_18 109 (dk_at dksX12_kindTold_1 7 rfl rfl)
theorem dX12_kindTold_32 : decode cX12_kindTold 32 = .ok (.if_icmp .ne 7, 3) := dk_160 0 7 (dk_at dksX12_kindTold_1 9 rfl rfl)
theorem dX12_kindTold_35 : decode cX12_kindTold 35 = .ok (.iconst 4, 1) := dk_7 (dk_at dksX12_kindTold_1 12 rfl rfl)
theorem dX12_kindTold_36 : decode cX12_kindTold 36 = .ok (.goto 4, 3) := dk_167 0 4 (dk_at dksX12_kindTold_1 13 rfl rfl)
theorem dX12_kindTold_39 : decode cX12_kindTold 39 = .ok (.iconst 5, 1) := dk_8 (dk_at dksX12_kindTold_1 16 rfl rfl)
theorem dX12_kindTold_40 : decode cX12_kindTold 40 = .ok (.ireturn, 1) := dk_172 (dk_at dksX12_kindTold_1 17 rfl rfl)
abbrev cX12_letter : ByteArray := prog_24_method_50_code
def yX12_letter : MethodName := ⟨RX12, "letter", "(III)I"⟩
def dkwX12_letter_6 : List UInt8 := [122, 16, 15, 126, 104, 96, 172]
abbrev dktX12_letter_6 : List UInt8 := dkwX12_letter_6 ++ []
def dkwX12_letter_5 : List UInt8 := [180, 0, 11, 27, 50, 21, 4, 29, 96, 46, 54, 5, 21, 5, 17, 0, 255, 126, 16, 100, 21, 5, 16, 8]
abbrev dktX12_letter_5 : List UInt8 := dkwX12_letter_5 ++ dktX12_letter_6
def dkwX12_letter_4 : List UInt8 := [182, 0, 242, 21, 4, 100, 4, 100, 133, 184, 0, 175, 154, 0, 10, 42, 16, 254, 182, 0, 183, 172, 42]
abbrev dktX12_letter_4 : List UInt8 := dkwX12_letter_4 ++ dktX12_letter_5
def dkwX12_letter_3 : List UInt8 := [184, 0, 104, 18, 110, 159, 0, 10, 42, 16, 253, 182, 0, 183, 172, 29, 133, 9, 42, 27, 28, 4, 96]
abbrev dktX12_letter_3 : List UInt8 := dkwX12_letter_3 ++ dktX12_letter_4
def dkwX12_letter_2 : List UInt8 := [16, 254, 182, 0, 183, 172, 42, 27, 28, 182, 0, 242, 54, 4, 42, 180, 0, 11, 27, 50, 21, 4, 46]
abbrev dktX12_letter_2 : List UInt8 := dkwX12_letter_2 ++ dktX12_letter_3
def dkwX12_letter_1 : List UInt8 := [16, 252, 182, 0, 183, 172, 28, 133, 9, 42, 27, 182, 0, 221, 4, 100, 133, 184, 0, 175, 154, 0, 10, 42]
abbrev dktX12_letter_1 : List UInt8 := dkwX12_letter_1 ++ dktX12_letter_2
def dkwX12_letter_0 : List UInt8 := [27, 184, 0, 211, 154, 0, 10, 42, 16, 254, 182, 0, 183, 172, 42, 27, 182, 0, 230, 154, 0, 10, 42]
abbrev dktX12_letter_0 : List UInt8 := dkwX12_letter_0 ++ dktX12_letter_1
theorem dksX12_letter_0 : cX12_letter.data.toList.drop 0 = dktX12_letter_0 := by decide +kernel
theorem dksX12_letter_1 : cX12_letter.data.toList.drop 23 = dktX12_letter_1 := dk_seg dksX12_letter_0 23 rfl rfl
theorem dksX12_letter_2 : cX12_letter.data.toList.drop 47 = dktX12_letter_2 := dk_seg dksX12_letter_1 24 rfl rfl
theorem dksX12_letter_3 : cX12_letter.data.toList.drop 70 = dktX12_letter_3 := dk_seg dksX12_letter_2 23 rfl rfl
theorem dksX12_letter_4 : cX12_letter.data.toList.drop 93 = dktX12_letter_4 := dk_seg dksX12_letter_3 23 rfl rfl
theorem dksX12_letter_5 : cX12_letter.data.toList.drop 116 = dktX12_letter_5 := dk_seg dksX12_letter_4 23 rfl rfl
theorem dksX12_letter_6 : cX12_letter.data.toList.drop 140 = dktX12_letter_6 := dk_seg dksX12_letter_5 24 rfl rfl
theorem dX12_letter_0 : decode cX12_letter 0 = .ok (.iload_n 1, 1) := dk_27 (dk_at dksX12_letter_0 0 rfl rfl)
theorem dX12_letter_1 : decode cX12_letter 1 = .ok (.invokestatic 211, 3) := dk_184 0 211 (dk_at dksX12_letter_0 1 rfl rfl)
theorem dX12_letter_4 : decode cX12_letter 4 = .ok (.ifCond .ne 10, 3) := dk_154 0 10 (dk_at dksX12_letter_0 4 rfl rfl)
theorem dX12_letter_7 : decode cX12_letter 7 = .ok (.aload_n 0, 1) := dk_42 (dk_at dksX12_letter_0 7 rfl rfl)
theorem dX12_letter_8 : decode cX12_letter 8 = .ok (.bipush (-2), 2) := dk_16 254 (dk_at dksX12_letter_0 8 rfl rfl)
theorem dX12_letter_10 : decode cX12_letter 10 = .ok (.invokevirtual 183, 3) := dk_182 0 183 (dk_at dksX12_letter_0 10 rfl rfl)
theorem dX12_letter_13 : decode cX12_letter 13 = .ok (.ireturn, 1) := dk_172 (dk_at dksX12_letter_0 13 rfl rfl)
theorem dX12_letter_14 : decode cX12_letter 14 = .ok (.aload_n 0, 1) := dk_42 (dk_at dksX12_letter_0 14 rfl rfl)
theorem dX12_letter_15 : decode cX12_letter 15 = .ok (.iload_n 1, 1) := dk_27 (dk_at dksX12_letter_0 15 rfl rfl)
theorem dX12_letter_16 : decode cX12_letter 16 = .ok (.invokevirtual 230, 3) := dk_182 0 230 (dk_at dksX12_letter_0 16 rfl rfl)
theorem dX12_letter_19 : decode cX12_letter 19 = .ok (.ifCond .ne 10, 3) := dk_154 0 10 (dk_at dksX12_letter_0 19 rfl rfl)
theorem dX12_letter_22 : decode cX12_letter 22 = .ok (.aload_n 0, 1) := dk_42 (dk_at dksX12_letter_0 22 rfl rfl)
theorem dX12_letter_23 : decode cX12_letter 23 = .ok (.bipush (-4), 2) := dk_16 252 (dk_at dksX12_letter_1 0 rfl rfl)
theorem dX12_letter_25 : decode cX12_letter 25 = .ok (.invokevirtual 183, 3) := dk_182 0 183 (dk_at dksX12_letter_1 2 rfl rfl)
theorem dX12_letter_28 : decode cX12_letter 28 = .ok (.ireturn, 1) := dk_172 (dk_at dksX12_letter_1 5 rfl rfl)
theorem dX12_letter_29 : decode cX12_letter 29 = .ok (.iload_n 2, 1) := dk_28 (dk_at dksX12_letter_1 6 rfl rfl)
theorem dX12_letter_30 : decode cX12_letter 30 = .ok (.i2l, 1) := dk_133 (dk_at dksX12_letter_1 7 rfl rfl)
theorem dX12_letter_31 : decode cX12_letter 31 = .ok (.lconst 0, 1) := dk_9 (dk_at dksX12_letter_1 8 rfl rfl)
theorem dX12_letter_32 : decode cX12_letter 32 = .ok (.aload_n 0, 1) := dk_42 (dk_at dksX12_letter_1 9 rfl rfl)
theorem dX12_letter_33 : decode cX12_letter 33 = .ok (.iload_n 1, 1) := dk_27 (dk_at dksX12_letter_1 10 rfl rfl)
theorem dX12_letter_34 : decode cX12_letter 34 = .ok (.invokevirtual 221, 3) := dk_182 0 221 (dk_at dksX12_letter_1 11 rfl rfl)
theorem dX12_letter_37 : decode cX12_letter 37 = .ok (.iconst 1, 1) := dk_4 (dk_at dksX12_letter_1 14 rfl rfl)
theorem dX12_letter_38 : decode cX12_letter 38 = .ok (.isub, 1) := dk_100 (dk_at dksX12_letter_1 15 rfl rfl)
theorem dX12_letter_39 : decode cX12_letter 39 = .ok (.i2l, 1) := dk_133 (dk_at dksX12_letter_1 16 rfl rfl)
theorem dX12_letter_40 : decode cX12_letter 40 = .ok (.invokestatic 175, 3) := dk_184 0 175 (dk_at dksX12_letter_1 17 rfl rfl)
theorem dX12_letter_43 : decode cX12_letter 43 = .ok (.ifCond .ne 10, 3) := dk_154 0 10 (dk_at dksX12_letter_1 20 rfl rfl)
theorem dX12_letter_46 : decode cX12_letter 46 = .ok (.aload_n 0, 1) := dk_42 (dk_at dksX12_letter_1 23 rfl rfl)
theorem dX12_letter_47 : decode cX12_letter 47 = .ok (.bipush (-2), 2) := dk_16 254 (dk_at dksX12_letter_2 0 rfl rfl)
theorem dX12_letter_49 : decode cX12_letter 49 = .ok (.invokevirtual 183, 3) := dk_182 0 183 (dk_at dksX12_letter_2 2 rfl rfl)
theorem dX12_letter_52 : decode cX12_letter 52 = .ok (.ireturn, 1) := dk_172 (dk_at dksX12_letter_2 5 rfl rfl)
theorem dX12_letter_53 : decode cX12_letter 53 = .ok (.aload_n 0, 1) := dk_42 (dk_at dksX12_letter_2 6 rfl rfl)
theorem dX12_letter_54 : decode cX12_letter 54 = .ok (.iload_n 1, 1) := dk_27 (dk_at dksX12_letter_2 7 rfl rfl)
theorem dX12_letter_55 : decode cX12_letter 55 = .ok (.iload_n 2, 1) := dk_28 (dk_at dksX12_letter_2 8 rfl rfl)
theorem dX12_letter_56 : decode cX12_letter 56 = .ok (.invokevirtual 242, 3) := dk_182 0 242 (dk_at dksX12_letter_2 9 rfl rfl)
theorem dX12_letter_59 : decode cX12_letter 59 = .ok (.istore 4, 2) := dk_54 4 (dk_at dksX12_letter_2 12 rfl rfl)
theorem dX12_letter_61 : decode cX12_letter 61 = .ok (.aload_n 0, 1) := dk_42 (dk_at dksX12_letter_2 14 rfl rfl)
theorem dX12_letter_62 : decode cX12_letter 62 = .ok (.getfield 11, 3) := dk_180 0 11 (dk_at dksX12_letter_2 15 rfl rfl)
theorem dX12_letter_65 : decode cX12_letter 65 = .ok (.iload_n 1, 1) := dk_27 (dk_at dksX12_letter_2 18 rfl rfl)
theorem dX12_letter_66 : decode cX12_letter 66 = .ok (.aaload, 1) := dk_50 (dk_at dksX12_letter_2 19 rfl rfl)
theorem dX12_letter_67 : decode cX12_letter 67 = .ok (.iload 4, 2) := dk_21 4 (dk_at dksX12_letter_2 20 rfl rfl)
theorem dX12_letter_69 : decode cX12_letter 69 = .ok (.iaload, 1) := dk_46 (dk_at dksX12_letter_2 22 rfl rfl)
theorem dX12_letter_70 : decode cX12_letter 70 = .ok (.invokestatic 104, 3) := dk_184 0 104 (dk_at dksX12_letter_3 0 rfl rfl)
theorem dX12_letter_73 : decode cX12_letter 73 = .ok (.ldc 110, 2) := dk_18 110 (dk_at dksX12_letter_3 3 rfl rfl)
theorem dX12_letter_75 : decode cX12_letter 75 = .ok (.if_icmp .eq 10, 3) := dk_159 0 10 (dk_at dksX12_letter_3 5 rfl rfl)
theorem dX12_letter_78 : decode cX12_letter 78 = .ok (.aload_n 0, 1) := dk_42 (dk_at dksX12_letter_3 8 rfl rfl)
theorem dX12_letter_79 : decode cX12_letter 79 = .ok (.bipush (-3), 2) := dk_16 253 (dk_at dksX12_letter_3 9 rfl rfl)
theorem dX12_letter_81 : decode cX12_letter 81 = .ok (.invokevirtual 183, 3) := dk_182 0 183 (dk_at dksX12_letter_3 11 rfl rfl)
theorem dX12_letter_84 : decode cX12_letter 84 = .ok (.ireturn, 1) := dk_172 (dk_at dksX12_letter_3 14 rfl rfl)
theorem dX12_letter_85 : decode cX12_letter 85 = .ok (.iload_n 3, 1) := dk_29 (dk_at dksX12_letter_3 15 rfl rfl)
theorem dX12_letter_86 : decode cX12_letter 86 = .ok (.i2l, 1) := dk_133 (dk_at dksX12_letter_3 16 rfl rfl)
theorem dX12_letter_87 : decode cX12_letter 87 = .ok (.lconst 0, 1) := dk_9 (dk_at dksX12_letter_3 17 rfl rfl)
theorem dX12_letter_88 : decode cX12_letter 88 = .ok (.aload_n 0, 1) := dk_42 (dk_at dksX12_letter_3 18 rfl rfl)
theorem dX12_letter_89 : decode cX12_letter 89 = .ok (.iload_n 1, 1) := dk_27 (dk_at dksX12_letter_3 19 rfl rfl)
theorem dX12_letter_90 : decode cX12_letter 90 = .ok (.iload_n 2, 1) := dk_28 (dk_at dksX12_letter_3 20 rfl rfl)
theorem dX12_letter_91 : decode cX12_letter 91 = .ok (.iconst 1, 1) := dk_4 (dk_at dksX12_letter_3 21 rfl rfl)
theorem dX12_letter_92 : decode cX12_letter 92 = .ok (.iadd, 1) := dk_96 (dk_at dksX12_letter_3 22 rfl rfl)
theorem dX12_letter_93 : decode cX12_letter 93 = .ok (.invokevirtual 242, 3) := dk_182 0 242 (dk_at dksX12_letter_4 0 rfl rfl)
theorem dX12_letter_96 : decode cX12_letter 96 = .ok (.iload 4, 2) := dk_21 4 (dk_at dksX12_letter_4 3 rfl rfl)
theorem dX12_letter_98 : decode cX12_letter 98 = .ok (.isub, 1) := dk_100 (dk_at dksX12_letter_4 5 rfl rfl)
theorem dX12_letter_99 : decode cX12_letter 99 = .ok (.iconst 1, 1) := dk_4 (dk_at dksX12_letter_4 6 rfl rfl)
theorem dX12_letter_100 : decode cX12_letter 100 = .ok (.isub, 1) := dk_100 (dk_at dksX12_letter_4 7 rfl rfl)
theorem dX12_letter_101 : decode cX12_letter 101 = .ok (.i2l, 1) := dk_133 (dk_at dksX12_letter_4 8 rfl rfl)
theorem dX12_letter_102 : decode cX12_letter 102 = .ok (.invokestatic 175, 3) := dk_184 0 175 (dk_at dksX12_letter_4 9 rfl rfl)
theorem dX12_letter_105 : decode cX12_letter 105 = .ok (.ifCond .ne 10, 3) := dk_154 0 10 (dk_at dksX12_letter_4 12 rfl rfl)
theorem dX12_letter_108 : decode cX12_letter 108 = .ok (.aload_n 0, 1) := dk_42 (dk_at dksX12_letter_4 15 rfl rfl)
theorem dX12_letter_109 : decode cX12_letter 109 = .ok (.bipush (-2), 2) := dk_16 254 (dk_at dksX12_letter_4 16 rfl rfl)
theorem dX12_letter_111 : decode cX12_letter 111 = .ok (.invokevirtual 183, 3) := dk_182 0 183 (dk_at dksX12_letter_4 18 rfl rfl)
theorem dX12_letter_114 : decode cX12_letter 114 = .ok (.ireturn, 1) := dk_172 (dk_at dksX12_letter_4 21 rfl rfl)
theorem dX12_letter_115 : decode cX12_letter 115 = .ok (.aload_n 0, 1) := dk_42 (dk_at dksX12_letter_4 22 rfl rfl)
theorem dX12_letter_116 : decode cX12_letter 116 = .ok (.getfield 11, 3) := dk_180 0 11 (dk_at dksX12_letter_5 0 rfl rfl)
theorem dX12_letter_119 : decode cX12_letter 119 = .ok (.iload_n 1, 1) := dk_27 (dk_at dksX12_letter_5 3 rfl rfl)
theorem dX12_letter_120 : decode cX12_letter 120 = .ok (.aaload, 1) := dk_50 (dk_at dksX12_letter_5 4 rfl rfl)
theorem dX12_letter_121 : decode cX12_letter 121 = .ok (.iload 4, 2) := dk_21 4 (dk_at dksX12_letter_5 5 rfl rfl)
theorem dX12_letter_123 : decode cX12_letter 123 = .ok (.iload_n 3, 1) := dk_29 (dk_at dksX12_letter_5 7 rfl rfl)
theorem dX12_letter_124 : decode cX12_letter 124 = .ok (.iadd, 1) := dk_96 (dk_at dksX12_letter_5 8 rfl rfl)
theorem dX12_letter_125 : decode cX12_letter 125 = .ok (.iaload, 1) := dk_46 (dk_at dksX12_letter_5 9 rfl rfl)
theorem dX12_letter_126 : decode cX12_letter 126 = .ok (.istore 5, 2) := dk_54 5 (dk_at dksX12_letter_5 10 rfl rfl)
theorem dX12_letter_128 : decode cX12_letter 128 = .ok (.iload 5, 2) := dk_21 5 (dk_at dksX12_letter_5 12 rfl rfl)
theorem dX12_letter_130 : decode cX12_letter 130 = .ok (.sipush 255, 3) := dk_17 0 255 (dk_at dksX12_letter_5 14 rfl rfl)
theorem dX12_letter_133 : decode cX12_letter 133 = .ok (.iand, 1) := dk_126 (dk_at dksX12_letter_5 17 rfl rfl)
theorem dX12_letter_134 : decode cX12_letter 134 = .ok (.bipush 100, 2) := dk_16 100 (dk_at dksX12_letter_5 18 rfl rfl)
theorem dX12_letter_136 : decode cX12_letter 136 = .ok (.iload 5, 2) := dk_21 5 (dk_at dksX12_letter_5 20 rfl rfl)
theorem dX12_letter_138 : decode cX12_letter 138 = .ok (.bipush 8, 2) := dk_16 8 (dk_at dksX12_letter_5 22 rfl rfl)
theorem dX12_letter_140 : decode cX12_letter 140 = .ok (.ishr, 1) := dk_122 (dk_at dksX12_letter_6 0 rfl rfl)
theorem dX12_letter_141 : decode cX12_letter 141 = .ok (.bipush 15, 2) := dk_16 15 (dk_at dksX12_letter_6 1 rfl rfl)
theorem dX12_letter_143 : decode cX12_letter 143 = .ok (.iand, 1) := dk_126 (dk_at dksX12_letter_6 3 rfl rfl)
theorem dX12_letter_144 : decode cX12_letter 144 = .ok (.imul, 1) := dk_104 (dk_at dksX12_letter_6 4 rfl rfl)
theorem dX12_letter_145 : decode cX12_letter 145 = .ok (.iadd, 1) := dk_96 (dk_at dksX12_letter_6 5 rfl rfl)
theorem dX12_letter_146 : decode cX12_letter 146 = .ok (.ireturn, 1) := dk_172 (dk_at dksX12_letter_6 6 rfl rfl)
abbrev cX12_spelled : ByteArray := prog_24_method_54_code
def yX12_spelled : MethodName := ⟨RX12, "spelled", "(II)I"⟩
def dkwX12_spelled_8 : List UInt8 := [62, 167, 255, 114, 42, 180, 0, 254, 172]
abbrev dktX12_spelled_8 : List UInt8 := dkwX12_spelled_8 ++ []
def dkwX12_spelled_7 : List UInt8 := [182, 1, 4, 132, 6, 1, 167, 255, 224, 167, 0, 11, 42, 21, 4, 21, 5, 182, 1, 7, 29, 21, 5, 96]
abbrev dktX12_spelled_7 : List UInt8 := dkwX12_spelled_7 ++ dktX12_spelled_8
def dkwX12_spelled_6 : List UInt8 := [162, 0, 31, 42, 16, 97, 42, 180, 0, 11, 27, 50, 29, 21, 6, 96, 46, 17, 0, 255, 126, 96]
abbrev dktX12_spelled_6 : List UInt8 := dkwX12_spelled_6 ++ dktX12_spelled_7
def dkwX12_spelled_5 : List UInt8 := [21, 4, 184, 0, 104, 18, 110, 160, 0, 50, 42, 16, 43, 182, 1, 4, 3, 54, 6, 21, 6, 21, 5]
abbrev dktX12_spelled_5 : List UInt8 := dkwX12_spelled_5 ++ dktX12_spelled_6
def dkwX12_spelled_4 : List UInt8 := [46, 42, 180, 0, 11, 27, 50, 29, 21, 5, 96, 46, 184, 0, 224, 153, 0, 9, 132, 5, 1, 167, 255, 210]
abbrev dktX12_spelled_4 : List UInt8 := dkwX12_spelled_4 ++ dktX12_spelled_5
def dkwX12_spelled_3 : List UInt8 := [21, 5, 96, 42, 180, 0, 14, 27, 46, 162, 0, 39, 42, 180, 0, 11, 27, 50, 29, 21, 5, 96, 4, 100]
abbrev dktX12_spelled_3 : List UInt8 := dkwX12_spelled_3 ++ dktX12_spelled_4
def dkwX12_spelled_2 : List UInt8 := [42, 180, 0, 14, 27, 46, 162, 0, 138, 42, 180, 0, 11, 27, 50, 29, 46, 54, 4, 4, 54, 5, 29]
abbrev dktX12_spelled_2 : List UInt8 := dkwX12_spelled_2 ++ dktX12_spelled_3
def dkwX12_spelled_1 : List UInt8 := [16, 252, 182, 0, 183, 172, 42, 3, 181, 0, 248, 42, 28, 181, 0, 251, 42, 2, 181, 0, 254, 3, 62, 29]
abbrev dktX12_spelled_1 : List UInt8 := dkwX12_spelled_1 ++ dktX12_spelled_2
def dkwX12_spelled_0 : List UInt8 := [27, 184, 0, 211, 154, 0, 10, 42, 16, 254, 182, 0, 183, 172, 42, 27, 182, 0, 230, 154, 0, 10, 42]
abbrev dktX12_spelled_0 : List UInt8 := dkwX12_spelled_0 ++ dktX12_spelled_1
theorem dksX12_spelled_0 : cX12_spelled.data.toList.drop 0 = dktX12_spelled_0 := by decide +kernel
theorem dksX12_spelled_1 : cX12_spelled.data.toList.drop 23 = dktX12_spelled_1 := dk_seg dksX12_spelled_0 23 rfl rfl
theorem dksX12_spelled_2 : cX12_spelled.data.toList.drop 47 = dktX12_spelled_2 := dk_seg dksX12_spelled_1 24 rfl rfl
theorem dksX12_spelled_3 : cX12_spelled.data.toList.drop 70 = dktX12_spelled_3 := dk_seg dksX12_spelled_2 23 rfl rfl
theorem dksX12_spelled_4 : cX12_spelled.data.toList.drop 94 = dktX12_spelled_4 := dk_seg dksX12_spelled_3 24 rfl rfl
theorem dksX12_spelled_5 : cX12_spelled.data.toList.drop 118 = dktX12_spelled_5 := dk_seg dksX12_spelled_4 24 rfl rfl
theorem dksX12_spelled_6 : cX12_spelled.data.toList.drop 141 = dktX12_spelled_6 := dk_seg dksX12_spelled_5 23 rfl rfl
theorem dksX12_spelled_7 : cX12_spelled.data.toList.drop 163 = dktX12_spelled_7 := dk_seg dksX12_spelled_6 22 rfl rfl
theorem dksX12_spelled_8 : cX12_spelled.data.toList.drop 187 = dktX12_spelled_8 := dk_seg dksX12_spelled_7 24 rfl rfl
theorem dX12_spelled_0 : decode cX12_spelled 0 = .ok (.iload_n 1, 1) := dk_27 (dk_at dksX12_spelled_0 0 rfl rfl)
theorem dX12_spelled_1 : decode cX12_spelled 1 = .ok (.invokestatic 211, 3) := dk_184 0 211 (dk_at dksX12_spelled_0 1 rfl rfl)
theorem dX12_spelled_4 : decode cX12_spelled 4 = .ok (.ifCond .ne 10, 3) := dk_154 0 10 (dk_at dksX12_spelled_0 4 rfl rfl)
theorem dX12_spelled_7 : decode cX12_spelled 7 = .ok (.aload_n 0, 1) := dk_42 (dk_at dksX12_spelled_0 7 rfl rfl)
theorem dX12_spelled_8 : decode cX12_spelled 8 = .ok (.bipush (-2), 2) := dk_16 254 (dk_at dksX12_spelled_0 8 rfl rfl)
theorem dX12_spelled_10 : decode cX12_spelled 10 = .ok (.invokevirtual 183, 3) := dk_182 0 183 (dk_at dksX12_spelled_0 10 rfl rfl)
theorem dX12_spelled_13 : decode cX12_spelled 13 = .ok (.ireturn, 1) := dk_172 (dk_at dksX12_spelled_0 13 rfl rfl)
theorem dX12_spelled_14 : decode cX12_spelled 14 = .ok (.aload_n 0, 1) := dk_42 (dk_at dksX12_spelled_0 14 rfl rfl)
theorem dX12_spelled_15 : decode cX12_spelled 15 = .ok (.iload_n 1, 1) := dk_27 (dk_at dksX12_spelled_0 15 rfl rfl)
theorem dX12_spelled_16 : decode cX12_spelled 16 = .ok (.invokevirtual 230, 3) := dk_182 0 230 (dk_at dksX12_spelled_0 16 rfl rfl)
theorem dX12_spelled_19 : decode cX12_spelled 19 = .ok (.ifCond .ne 10, 3) := dk_154 0 10 (dk_at dksX12_spelled_0 19 rfl rfl)
theorem dX12_spelled_22 : decode cX12_spelled 22 = .ok (.aload_n 0, 1) := dk_42 (dk_at dksX12_spelled_0 22 rfl rfl)
theorem dX12_spelled_23 : decode cX12_spelled 23 = .ok (.bipush (-4), 2) := dk_16 252 (dk_at dksX12_spelled_1 0 rfl rfl)
theorem dX12_spelled_25 : decode cX12_spelled 25 = .ok (.invokevirtual 183, 3) := dk_182 0 183 (dk_at dksX12_spelled_1 2 rfl rfl)
theorem dX12_spelled_28 : decode cX12_spelled 28 = .ok (.ireturn, 1) := dk_172 (dk_at dksX12_spelled_1 5 rfl rfl)
theorem dX12_spelled_29 : decode cX12_spelled 29 = .ok (.aload_n 0, 1) := dk_42 (dk_at dksX12_spelled_1 6 rfl rfl)
theorem dX12_spelled_30 : decode cX12_spelled 30 = .ok (.iconst 0, 1) := dk_3 (dk_at dksX12_spelled_1 7 rfl rfl)
theorem dX12_spelled_31 : decode cX12_spelled 31 = .ok (.putfield 248, 3) := dk_181 0 248 (dk_at dksX12_spelled_1 8 rfl rfl)
theorem dX12_spelled_34 : decode cX12_spelled 34 = .ok (.aload_n 0, 1) := dk_42 (dk_at dksX12_spelled_1 11 rfl rfl)
theorem dX12_spelled_35 : decode cX12_spelled 35 = .ok (.iload_n 2, 1) := dk_28 (dk_at dksX12_spelled_1 12 rfl rfl)
theorem dX12_spelled_36 : decode cX12_spelled 36 = .ok (.putfield 251, 3) := dk_181 0 251 (dk_at dksX12_spelled_1 13 rfl rfl)
theorem dX12_spelled_39 : decode cX12_spelled 39 = .ok (.aload_n 0, 1) := dk_42 (dk_at dksX12_spelled_1 16 rfl rfl)
theorem dX12_spelled_40 : decode cX12_spelled 40 = .ok (.iconst (-1), 1) := dk_2 (dk_at dksX12_spelled_1 17 rfl rfl)
theorem dX12_spelled_41 : decode cX12_spelled 41 = .ok (.putfield 254, 3) := dk_181 0 254 (dk_at dksX12_spelled_1 18 rfl rfl)
theorem dX12_spelled_44 : decode cX12_spelled 44 = .ok (.iconst 0, 1) := dk_3 (dk_at dksX12_spelled_1 21 rfl rfl)
theorem dX12_spelled_45 : decode cX12_spelled 45 = .ok (.istore_n 3, 1) := dk_62 (dk_at dksX12_spelled_1 22 rfl rfl)
theorem dX12_spelled_46 : decode cX12_spelled 46 = .ok (.iload_n 3, 1) := dk_29 (dk_at dksX12_spelled_1 23 rfl rfl)
theorem dX12_spelled_47 : decode cX12_spelled 47 = .ok (.aload_n 0, 1) := dk_42 (dk_at dksX12_spelled_2 0 rfl rfl)
theorem dX12_spelled_48 : decode cX12_spelled 48 = .ok (.getfield 14, 3) := dk_180 0 14 (dk_at dksX12_spelled_2 1 rfl rfl)
theorem dX12_spelled_51 : decode cX12_spelled 51 = .ok (.iload_n 1, 1) := dk_27 (dk_at dksX12_spelled_2 4 rfl rfl)
theorem dX12_spelled_52 : decode cX12_spelled 52 = .ok (.iaload, 1) := dk_46 (dk_at dksX12_spelled_2 5 rfl rfl)
theorem dX12_spelled_53 : decode cX12_spelled 53 = .ok (.if_icmp .ge 138, 3) := dk_162 0 138 (dk_at dksX12_spelled_2 6 rfl rfl)
theorem dX12_spelled_56 : decode cX12_spelled 56 = .ok (.aload_n 0, 1) := dk_42 (dk_at dksX12_spelled_2 9 rfl rfl)
theorem dX12_spelled_57 : decode cX12_spelled 57 = .ok (.getfield 11, 3) := dk_180 0 11 (dk_at dksX12_spelled_2 10 rfl rfl)
theorem dX12_spelled_60 : decode cX12_spelled 60 = .ok (.iload_n 1, 1) := dk_27 (dk_at dksX12_spelled_2 13 rfl rfl)
theorem dX12_spelled_61 : decode cX12_spelled 61 = .ok (.aaload, 1) := dk_50 (dk_at dksX12_spelled_2 14 rfl rfl)
theorem dX12_spelled_62 : decode cX12_spelled 62 = .ok (.iload_n 3, 1) := dk_29 (dk_at dksX12_spelled_2 15 rfl rfl)
theorem dX12_spelled_63 : decode cX12_spelled 63 = .ok (.iaload, 1) := dk_46 (dk_at dksX12_spelled_2 16 rfl rfl)
theorem dX12_spelled_64 : decode cX12_spelled 64 = .ok (.istore 4, 2) := dk_54 4 (dk_at dksX12_spelled_2 17 rfl rfl)
theorem dX12_spelled_66 : decode cX12_spelled 66 = .ok (.iconst 1, 1) := dk_4 (dk_at dksX12_spelled_2 19 rfl rfl)
theorem dX12_spelled_67 : decode cX12_spelled 67 = .ok (.istore 5, 2) := dk_54 5 (dk_at dksX12_spelled_2 20 rfl rfl)
theorem dX12_spelled_69 : decode cX12_spelled 69 = .ok (.iload_n 3, 1) := dk_29 (dk_at dksX12_spelled_2 22 rfl rfl)
theorem dX12_spelled_70 : decode cX12_spelled 70 = .ok (.iload 5, 2) := dk_21 5 (dk_at dksX12_spelled_3 0 rfl rfl)
theorem dX12_spelled_72 : decode cX12_spelled 72 = .ok (.iadd, 1) := dk_96 (dk_at dksX12_spelled_3 2 rfl rfl)
theorem dX12_spelled_73 : decode cX12_spelled 73 = .ok (.aload_n 0, 1) := dk_42 (dk_at dksX12_spelled_3 3 rfl rfl)
theorem dX12_spelled_74 : decode cX12_spelled 74 = .ok (.getfield 14, 3) := dk_180 0 14 (dk_at dksX12_spelled_3 4 rfl rfl)
theorem dX12_spelled_77 : decode cX12_spelled 77 = .ok (.iload_n 1, 1) := dk_27 (dk_at dksX12_spelled_3 7 rfl rfl)
theorem dX12_spelled_78 : decode cX12_spelled 78 = .ok (.iaload, 1) := dk_46 (dk_at dksX12_spelled_3 8 rfl rfl)
theorem dX12_spelled_79 : decode cX12_spelled 79 = .ok (.if_icmp .ge 39, 3) := dk_162 0 39 (dk_at dksX12_spelled_3 9 rfl rfl)
theorem dX12_spelled_82 : decode cX12_spelled 82 = .ok (.aload_n 0, 1) := dk_42 (dk_at dksX12_spelled_3 12 rfl rfl)
theorem dX12_spelled_83 : decode cX12_spelled 83 = .ok (.getfield 11, 3) := dk_180 0 11 (dk_at dksX12_spelled_3 13 rfl rfl)
theorem dX12_spelled_86 : decode cX12_spelled 86 = .ok (.iload_n 1, 1) := dk_27 (dk_at dksX12_spelled_3 16 rfl rfl)
theorem dX12_spelled_87 : decode cX12_spelled 87 = .ok (.aaload, 1) := dk_50 (dk_at dksX12_spelled_3 17 rfl rfl)
theorem dX12_spelled_88 : decode cX12_spelled 88 = .ok (.iload_n 3, 1) := dk_29 (dk_at dksX12_spelled_3 18 rfl rfl)
theorem dX12_spelled_89 : decode cX12_spelled 89 = .ok (.iload 5, 2) := dk_21 5 (dk_at dksX12_spelled_3 19 rfl rfl)
theorem dX12_spelled_91 : decode cX12_spelled 91 = .ok (.iadd, 1) := dk_96 (dk_at dksX12_spelled_3 21 rfl rfl)
theorem dX12_spelled_92 : decode cX12_spelled 92 = .ok (.iconst 1, 1) := dk_4 (dk_at dksX12_spelled_3 22 rfl rfl)
theorem dX12_spelled_93 : decode cX12_spelled 93 = .ok (.isub, 1) := dk_100 (dk_at dksX12_spelled_3 23 rfl rfl)
theorem dX12_spelled_94 : decode cX12_spelled 94 = .ok (.iaload, 1) := dk_46 (dk_at dksX12_spelled_4 0 rfl rfl)
theorem dX12_spelled_95 : decode cX12_spelled 95 = .ok (.aload_n 0, 1) := dk_42 (dk_at dksX12_spelled_4 1 rfl rfl)
theorem dX12_spelled_96 : decode cX12_spelled 96 = .ok (.getfield 11, 3) := dk_180 0 11 (dk_at dksX12_spelled_4 2 rfl rfl)
theorem dX12_spelled_99 : decode cX12_spelled 99 = .ok (.iload_n 1, 1) := dk_27 (dk_at dksX12_spelled_4 5 rfl rfl)
theorem dX12_spelled_100 : decode cX12_spelled 100 = .ok (.aaload, 1) := dk_50 (dk_at dksX12_spelled_4 6 rfl rfl)
theorem dX12_spelled_101 : decode cX12_spelled 101 = .ok (.iload_n 3, 1) := dk_29 (dk_at dksX12_spelled_4 7 rfl rfl)
theorem dX12_spelled_102 : decode cX12_spelled 102 = .ok (.iload 5, 2) := dk_21 5 (dk_at dksX12_spelled_4 8 rfl rfl)
theorem dX12_spelled_104 : decode cX12_spelled 104 = .ok (.iadd, 1) := dk_96 (dk_at dksX12_spelled_4 10 rfl rfl)
theorem dX12_spelled_105 : decode cX12_spelled 105 = .ok (.iaload, 1) := dk_46 (dk_at dksX12_spelled_4 11 rfl rfl)
theorem dX12_spelled_106 : decode cX12_spelled 106 = .ok (.invokestatic 224, 3) := dk_184 0 224 (dk_at dksX12_spelled_4 12 rfl rfl)
theorem dX12_spelled_109 : decode cX12_spelled 109 = .ok (.ifCond .eq 9, 3) := dk_153 0 9 (dk_at dksX12_spelled_4 15 rfl rfl)
theorem dX12_spelled_112 : decode cX12_spelled 112 = .ok (.iinc 5 1, 3) := dk_132 5 1 (dk_at dksX12_spelled_4 18 rfl rfl)
theorem dX12_spelled_115 : decode cX12_spelled 115 = .ok (.goto (-46), 3) := dk_167 255 210 (dk_at dksX12_spelled_4 21 rfl rfl)
theorem dX12_spelled_118 : decode cX12_spelled 118 = .ok (.iload 4, 2) := dk_21 4 (dk_at dksX12_spelled_5 0 rfl rfl)
theorem dX12_spelled_120 : decode cX12_spelled 120 = .ok (.invokestatic 104, 3) := dk_184 0 104 (dk_at dksX12_spelled_5 2 rfl rfl)
theorem dX12_spelled_123 : decode cX12_spelled 123 = .ok (.ldc 110, 2) := dk_18 110 (dk_at dksX12_spelled_5 5 rfl rfl)
theorem dX12_spelled_125 : decode cX12_spelled 125 = .ok (.if_icmp .ne 50, 3) := dk_160 0 50 (dk_at dksX12_spelled_5 7 rfl rfl)
theorem dX12_spelled_128 : decode cX12_spelled 128 = .ok (.aload_n 0, 1) := dk_42 (dk_at dksX12_spelled_5 10 rfl rfl)
theorem dX12_spelled_129 : decode cX12_spelled 129 = .ok (.bipush 43, 2) := dk_16 43 (dk_at dksX12_spelled_5 11 rfl rfl)
theorem dX12_spelled_131 : decode cX12_spelled 131 = .ok (.invokevirtual 260, 3) := dk_182 1 4 (dk_at dksX12_spelled_5 13 rfl rfl)
theorem dX12_spelled_134 : decode cX12_spelled 134 = .ok (.iconst 0, 1) := dk_3 (dk_at dksX12_spelled_5 16 rfl rfl)
theorem dX12_spelled_135 : decode cX12_spelled 135 = .ok (.istore 6, 2) := dk_54 6 (dk_at dksX12_spelled_5 17 rfl rfl)
theorem dX12_spelled_137 : decode cX12_spelled 137 = .ok (.iload 6, 2) := dk_21 6 (dk_at dksX12_spelled_5 19 rfl rfl)
theorem dX12_spelled_139 : decode cX12_spelled 139 = .ok (.iload 5, 2) := dk_21 5 (dk_at dksX12_spelled_5 21 rfl rfl)
theorem dX12_spelled_141 : decode cX12_spelled 141 = .ok (.if_icmp .ge 31, 3) := dk_162 0 31 (dk_at dksX12_spelled_6 0 rfl rfl)
theorem dX12_spelled_144 : decode cX12_spelled 144 = .ok (.aload_n 0, 1) := dk_42 (dk_at dksX12_spelled_6 3 rfl rfl)
theorem dX12_spelled_145 : decode cX12_spelled 145 = .ok (.bipush 97, 2) := dk_16 97 (dk_at dksX12_spelled_6 4 rfl rfl)
theorem dX12_spelled_147 : decode cX12_spelled 147 = .ok (.aload_n 0, 1) := dk_42 (dk_at dksX12_spelled_6 6 rfl rfl)
theorem dX12_spelled_148 : decode cX12_spelled 148 = .ok (.getfield 11, 3) := dk_180 0 11 (dk_at dksX12_spelled_6 7 rfl rfl)
theorem dX12_spelled_151 : decode cX12_spelled 151 = .ok (.iload_n 1, 1) := dk_27 (dk_at dksX12_spelled_6 10 rfl rfl)
theorem dX12_spelled_152 : decode cX12_spelled 152 = .ok (.aaload, 1) := dk_50 (dk_at dksX12_spelled_6 11 rfl rfl)
theorem dX12_spelled_153 : decode cX12_spelled 153 = .ok (.iload_n 3, 1) := dk_29 (dk_at dksX12_spelled_6 12 rfl rfl)
theorem dX12_spelled_154 : decode cX12_spelled 154 = .ok (.iload 6, 2) := dk_21 6 (dk_at dksX12_spelled_6 13 rfl rfl)
theorem dX12_spelled_156 : decode cX12_spelled 156 = .ok (.iadd, 1) := dk_96 (dk_at dksX12_spelled_6 15 rfl rfl)
theorem dX12_spelled_157 : decode cX12_spelled 157 = .ok (.iaload, 1) := dk_46 (dk_at dksX12_spelled_6 16 rfl rfl)
theorem dX12_spelled_158 : decode cX12_spelled 158 = .ok (.sipush 255, 3) := dk_17 0 255 (dk_at dksX12_spelled_6 17 rfl rfl)
theorem dX12_spelled_161 : decode cX12_spelled 161 = .ok (.iand, 1) := dk_126 (dk_at dksX12_spelled_6 20 rfl rfl)
theorem dX12_spelled_162 : decode cX12_spelled 162 = .ok (.iadd, 1) := dk_96 (dk_at dksX12_spelled_6 21 rfl rfl)
theorem dX12_spelled_163 : decode cX12_spelled 163 = .ok (.invokevirtual 260, 3) := dk_182 1 4 (dk_at dksX12_spelled_7 0 rfl rfl)
theorem dX12_spelled_166 : decode cX12_spelled 166 = .ok (.iinc 6 1, 3) := dk_132 6 1 (dk_at dksX12_spelled_7 3 rfl rfl)
theorem dX12_spelled_169 : decode cX12_spelled 169 = .ok (.goto (-32), 3) := dk_167 255 224 (dk_at dksX12_spelled_7 6 rfl rfl)
theorem dX12_spelled_172 : decode cX12_spelled 172 = .ok (.goto 11, 3) := dk_167 0 11 (dk_at dksX12_spelled_7 9 rfl rfl)
theorem dX12_spelled_175 : decode cX12_spelled 175 = .ok (.aload_n 0, 1) := dk_42 (dk_at dksX12_spelled_7 12 rfl rfl)
theorem dX12_spelled_176 : decode cX12_spelled 176 = .ok (.iload 4, 2) := dk_21 4 (dk_at dksX12_spelled_7 13 rfl rfl)
theorem dX12_spelled_178 : decode cX12_spelled 178 = .ok (.iload 5, 2) := dk_21 5 (dk_at dksX12_spelled_7 15 rfl rfl)
theorem dX12_spelled_180 : decode cX12_spelled 180 = .ok (.invokevirtual 263, 3) := dk_182 1 7 (dk_at dksX12_spelled_7 17 rfl rfl)
theorem dX12_spelled_183 : decode cX12_spelled 183 = .ok (.iload_n 3, 1) := dk_29 (dk_at dksX12_spelled_7 20 rfl rfl)
theorem dX12_spelled_184 : decode cX12_spelled 184 = .ok (.iload 5, 2) := dk_21 5 (dk_at dksX12_spelled_7 21 rfl rfl)
theorem dX12_spelled_186 : decode cX12_spelled 186 = .ok (.iadd, 1) := dk_96 (dk_at dksX12_spelled_7 23 rfl rfl)
theorem dX12_spelled_187 : decode cX12_spelled 187 = .ok (.istore_n 3, 1) := dk_62 (dk_at dksX12_spelled_8 0 rfl rfl)
theorem dX12_spelled_188 : decode cX12_spelled 188 = .ok (.goto (-142), 3) := dk_167 255 114 (dk_at dksX12_spelled_8 1 rfl rfl)
theorem dX12_spelled_191 : decode cX12_spelled 191 = .ok (.aload_n 0, 1) := dk_42 (dk_at dksX12_spelled_8 4 rfl rfl)
theorem dX12_spelled_192 : decode cX12_spelled 192 = .ok (.getfield 254, 3) := dk_180 0 254 (dk_at dksX12_spelled_8 5 rfl rfl)
theorem dX12_spelled_195 : decode cX12_spelled 195 = .ok (.ireturn, 1) := dk_172 (dk_at dksX12_spelled_8 8 rfl rfl)
abbrev cX12_tells : ByteArray := prog_24_method_51_code
def yX12_tells : MethodName := ⟨RX12, "tells", "(I)V"⟩
def dkwX12_tells_1 : List UInt8 := [89, 180, 0, 248, 4, 96, 181, 0, 248, 177]
abbrev dktX12_tells_1 : List UInt8 := dkwX12_tells_1 ++ []
def dkwX12_tells_0 : List UInt8 := [42, 42, 180, 0, 248, 42, 180, 0, 251, 160, 0, 7, 27, 167, 0, 7, 42, 180, 0, 254, 181, 0, 254, 42]
abbrev dktX12_tells_0 : List UInt8 := dkwX12_tells_0 ++ dktX12_tells_1
theorem dksX12_tells_0 : cX12_tells.data.toList.drop 0 = dktX12_tells_0 := by decide +kernel
theorem dksX12_tells_1 : cX12_tells.data.toList.drop 24 = dktX12_tells_1 := dk_seg dksX12_tells_0 24 rfl rfl
theorem dX12_tells_0 : decode cX12_tells 0 = .ok (.aload_n 0, 1) := dk_42 (dk_at dksX12_tells_0 0 rfl rfl)
theorem dX12_tells_1 : decode cX12_tells 1 = .ok (.aload_n 0, 1) := dk_42 (dk_at dksX12_tells_0 1 rfl rfl)
theorem dX12_tells_2 : decode cX12_tells 2 = .ok (.getfield 248, 3) := dk_180 0 248 (dk_at dksX12_tells_0 2 rfl rfl)
theorem dX12_tells_5 : decode cX12_tells 5 = .ok (.aload_n 0, 1) := dk_42 (dk_at dksX12_tells_0 5 rfl rfl)
theorem dX12_tells_6 : decode cX12_tells 6 = .ok (.getfield 251, 3) := dk_180 0 251 (dk_at dksX12_tells_0 6 rfl rfl)
theorem dX12_tells_9 : decode cX12_tells 9 = .ok (.if_icmp .ne 7, 3) := dk_160 0 7 (dk_at dksX12_tells_0 9 rfl rfl)
theorem dX12_tells_12 : decode cX12_tells 12 = .ok (.iload_n 1, 1) := dk_27 (dk_at dksX12_tells_0 12 rfl rfl)
theorem dX12_tells_13 : decode cX12_tells 13 = .ok (.goto 7, 3) := dk_167 0 7 (dk_at dksX12_tells_0 13 rfl rfl)
theorem dX12_tells_16 : decode cX12_tells 16 = .ok (.aload_n 0, 1) := dk_42 (dk_at dksX12_tells_0 16 rfl rfl)
theorem dX12_tells_17 : decode cX12_tells 17 = .ok (.getfield 254, 3) := dk_180 0 254 (dk_at dksX12_tells_0 17 rfl rfl)
theorem dX12_tells_20 : decode cX12_tells 20 = .ok (.putfield 254, 3) := dk_181 0 254 (dk_at dksX12_tells_0 20 rfl rfl)
theorem dX12_tells_23 : decode cX12_tells 23 = .ok (.aload_n 0, 1) := dk_42 (dk_at dksX12_tells_0 23 rfl rfl)
theorem dX12_tells_24 : decode cX12_tells 24 = .ok (.dup, 1) := dk_89 (dk_at dksX12_tells_1 0 rfl rfl)
theorem dX12_tells_25 : decode cX12_tells 25 = .ok (.getfield 248, 3) := dk_180 0 248 (dk_at dksX12_tells_1 1 rfl rfl)
theorem dX12_tells_28 : decode cX12_tells 28 = .ok (.iconst 1, 1) := dk_4 (dk_at dksX12_tells_1 4 rfl rfl)
theorem dX12_tells_29 : decode cX12_tells 29 = .ok (.iadd, 1) := dk_96 (dk_at dksX12_tells_1 5 rfl rfl)
theorem dX12_tells_30 : decode cX12_tells 30 = .ok (.putfield 248, 3) := dk_181 0 248 (dk_at dksX12_tells_1 6 rfl rfl)
theorem dX12_tells_33 : decode cX12_tells 33 = .ok (.return_, 1) := dk_177 (dk_at dksX12_tells_1 9 rfl rfl)
abbrev cX12_tellsPart : ByteArray := prog_24_method_53_code
def yX12_tellsPart : MethodName := ⟨RX12, "tellsPart", "(II)V"⟩
def dkwX12_tellsPart_5 : List UInt8 := [182, 1, 1, 177]
abbrev dktX12_tellsPart_5 : List UInt8 := dkwX12_tellsPart_5 ++ []
def dkwX12_tellsPart_4 : List UInt8 := [21, 4, 182, 1, 1, 29, 158, 0, 20, 21, 4, 158, 0, 15, 42, 16, 95, 182, 1, 4, 42, 21, 4]
abbrev dktX12_tellsPart_4 : List UInt8 := dkwX12_tellsPart_4 ++ dktX12_tellsPart_5
def dkwX12_tellsPart_3 : List UInt8 := [182, 1, 4, 42, 28, 182, 1, 1, 42, 16, 46, 182, 1, 4, 42, 29, 158, 0, 7, 29, 167, 0, 5]
abbrev dktX12_tellsPart_3 : List UInt8 := dkwX12_tellsPart_3 ++ dktX12_tellsPart_4
def dkwX12_tellsPart_2 : List UInt8 := [16, 15, 126, 62, 27, 16, 15, 126, 54, 4, 42, 29, 158, 0, 8, 16, 94, 167, 0, 5, 16, 95]
abbrev dktX12_tellsPart_2 : List UInt8 := dkwX12_tellsPart_2 ++ dktX12_tellsPart_3
def dkwX12_tellsPart_1 : List UInt8 := [18, 108, 160, 0, 8, 16, 61, 167, 0, 5, 16, 45, 182, 1, 4, 42, 28, 182, 1, 1, 177, 27, 7, 122]
abbrev dktX12_tellsPart_1 : List UInt8 := dkwX12_tellsPart_1 ++ dktX12_tellsPart_2
def dkwX12_tellsPart_0 : List UInt8 := [27, 184, 0, 104, 18, 108, 159, 0, 12, 27, 184, 0, 104, 18, 109, 160, 0, 29, 42, 27, 184, 0, 104]
abbrev dktX12_tellsPart_0 : List UInt8 := dkwX12_tellsPart_0 ++ dktX12_tellsPart_1
theorem dksX12_tellsPart_0 : cX12_tellsPart.data.toList.drop 0 = dktX12_tellsPart_0 := by decide +kernel
theorem dksX12_tellsPart_1 : cX12_tellsPart.data.toList.drop 23 = dktX12_tellsPart_1 := dk_seg dksX12_tellsPart_0 23 rfl rfl
theorem dksX12_tellsPart_2 : cX12_tellsPart.data.toList.drop 47 = dktX12_tellsPart_2 := dk_seg dksX12_tellsPart_1 24 rfl rfl
theorem dksX12_tellsPart_3 : cX12_tellsPart.data.toList.drop 69 = dktX12_tellsPart_3 := dk_seg dksX12_tellsPart_2 22 rfl rfl
theorem dksX12_tellsPart_4 : cX12_tellsPart.data.toList.drop 92 = dktX12_tellsPart_4 := dk_seg dksX12_tellsPart_3 23 rfl rfl
theorem dksX12_tellsPart_5 : cX12_tellsPart.data.toList.drop 115 = dktX12_tellsPart_5 := dk_seg dksX12_tellsPart_4 23 rfl rfl
theorem dX12_tellsPart_0 : decode cX12_tellsPart 0 = .ok (.iload_n 1, 1) := dk_27 (dk_at dksX12_tellsPart_0 0 rfl rfl)
theorem dX12_tellsPart_1 : decode cX12_tellsPart 1 = .ok (.invokestatic 104, 3) := dk_184 0 104 (dk_at dksX12_tellsPart_0 1 rfl rfl)
theorem dX12_tellsPart_4 : decode cX12_tellsPart 4 = .ok (.ldc 108, 2) := dk_18 108 (dk_at dksX12_tellsPart_0 4 rfl rfl)
theorem dX12_tellsPart_6 : decode cX12_tellsPart 6 = .ok (.if_icmp .eq 12, 3) := dk_159 0 12 (dk_at dksX12_tellsPart_0 6 rfl rfl)
theorem dX12_tellsPart_9 : decode cX12_tellsPart 9 = .ok (.iload_n 1, 1) := dk_27 (dk_at dksX12_tellsPart_0 9 rfl rfl)
theorem dX12_tellsPart_10 : decode cX12_tellsPart 10 = .ok (.invokestatic 104, 3) := dk_184 0 104 (dk_at dksX12_tellsPart_0 10 rfl rfl)
theorem dX12_tellsPart_13 : decode cX12_tellsPart 13 = .ok (.ldc 109, 2) := dk_18 109 (dk_at dksX12_tellsPart_0 13 rfl rfl)
theorem dX12_tellsPart_15 : decode cX12_tellsPart 15 = .ok (.if_icmp .ne 29, 3) := dk_160 0 29 (dk_at dksX12_tellsPart_0 15 rfl rfl)
theorem dX12_tellsPart_18 : decode cX12_tellsPart 18 = .ok (.aload_n 0, 1) := dk_42 (dk_at dksX12_tellsPart_0 18 rfl rfl)
theorem dX12_tellsPart_19 : decode cX12_tellsPart 19 = .ok (.iload_n 1, 1) := dk_27 (dk_at dksX12_tellsPart_0 19 rfl rfl)
theorem dX12_tellsPart_20 : decode cX12_tellsPart 20 = .ok (.invokestatic 104, 3) := dk_184 0 104 (dk_at dksX12_tellsPart_0 20 rfl rfl)
theorem dX12_tellsPart_23 : decode cX12_tellsPart 23 = .ok (.ldc 108, 2) := dk_18 108 (dk_at dksX12_tellsPart_1 0 rfl rfl)
theorem dX12_tellsPart_25 : decode cX12_tellsPart 25 = .ok (.if_icmp .ne 8, 3) := dk_160 0 8 (dk_at dksX12_tellsPart_1 2 rfl rfl)
theorem dX12_tellsPart_28 : decode cX12_tellsPart 28 = .ok (.bipush 61, 2) := dk_16 61 (dk_at dksX12_tellsPart_1 5 rfl rfl)
theorem dX12_tellsPart_30 : decode cX12_tellsPart 30 = .ok (.goto 5, 3) := dk_167 0 5 (dk_at dksX12_tellsPart_1 7 rfl rfl)
theorem dX12_tellsPart_33 : decode cX12_tellsPart 33 = .ok (.bipush 45, 2) := dk_16 45 (dk_at dksX12_tellsPart_1 10 rfl rfl)
theorem dX12_tellsPart_35 : decode cX12_tellsPart 35 = .ok (.invokevirtual 260, 3) := dk_182 1 4 (dk_at dksX12_tellsPart_1 12 rfl rfl)
theorem dX12_tellsPart_38 : decode cX12_tellsPart 38 = .ok (.aload_n 0, 1) := dk_42 (dk_at dksX12_tellsPart_1 15 rfl rfl)
theorem dX12_tellsPart_39 : decode cX12_tellsPart 39 = .ok (.iload_n 2, 1) := dk_28 (dk_at dksX12_tellsPart_1 16 rfl rfl)
theorem dX12_tellsPart_40 : decode cX12_tellsPart 40 = .ok (.invokevirtual 257, 3) := dk_182 1 1 (dk_at dksX12_tellsPart_1 17 rfl rfl)
theorem dX12_tellsPart_43 : decode cX12_tellsPart 43 = .ok (.return_, 1) := dk_177 (dk_at dksX12_tellsPart_1 20 rfl rfl)
theorem dX12_tellsPart_44 : decode cX12_tellsPart 44 = .ok (.iload_n 1, 1) := dk_27 (dk_at dksX12_tellsPart_1 21 rfl rfl)
theorem dX12_tellsPart_45 : decode cX12_tellsPart 45 = .ok (.iconst 4, 1) := dk_7 (dk_at dksX12_tellsPart_1 22 rfl rfl)
theorem dX12_tellsPart_46 : decode cX12_tellsPart 46 = .ok (.ishr, 1) := dk_122 (dk_at dksX12_tellsPart_1 23 rfl rfl)
theorem dX12_tellsPart_47 : decode cX12_tellsPart 47 = .ok (.bipush 15, 2) := dk_16 15 (dk_at dksX12_tellsPart_2 0 rfl rfl)
theorem dX12_tellsPart_49 : decode cX12_tellsPart 49 = .ok (.iand, 1) := dk_126 (dk_at dksX12_tellsPart_2 2 rfl rfl)
theorem dX12_tellsPart_50 : decode cX12_tellsPart 50 = .ok (.istore_n 3, 1) := dk_62 (dk_at dksX12_tellsPart_2 3 rfl rfl)
theorem dX12_tellsPart_51 : decode cX12_tellsPart 51 = .ok (.iload_n 1, 1) := dk_27 (dk_at dksX12_tellsPart_2 4 rfl rfl)
theorem dX12_tellsPart_52 : decode cX12_tellsPart 52 = .ok (.bipush 15, 2) := dk_16 15 (dk_at dksX12_tellsPart_2 5 rfl rfl)
theorem dX12_tellsPart_54 : decode cX12_tellsPart 54 = .ok (.iand, 1) := dk_126 (dk_at dksX12_tellsPart_2 7 rfl rfl)
theorem dX12_tellsPart_55 : decode cX12_tellsPart 55 = .ok (.istore 4, 2) := dk_54 4 (dk_at dksX12_tellsPart_2 8 rfl rfl)
theorem dX12_tellsPart_57 : decode cX12_tellsPart 57 = .ok (.aload_n 0, 1) := dk_42 (dk_at dksX12_tellsPart_2 10 rfl rfl)
theorem dX12_tellsPart_58 : decode cX12_tellsPart 58 = .ok (.iload_n 3, 1) := dk_29 (dk_at dksX12_tellsPart_2 11 rfl rfl)
theorem dX12_tellsPart_59 : decode cX12_tellsPart 59 = .ok (.ifCond .le 8, 3) := dk_158 0 8 (dk_at dksX12_tellsPart_2 12 rfl rfl)
theorem dX12_tellsPart_62 : decode cX12_tellsPart 62 = .ok (.bipush 94, 2) := dk_16 94 (dk_at dksX12_tellsPart_2 15 rfl rfl)
theorem dX12_tellsPart_64 : decode cX12_tellsPart 64 = .ok (.goto 5, 3) := dk_167 0 5 (dk_at dksX12_tellsPart_2 17 rfl rfl)
theorem dX12_tellsPart_67 : decode cX12_tellsPart 67 = .ok (.bipush 95, 2) := dk_16 95 (dk_at dksX12_tellsPart_2 20 rfl rfl)
theorem dX12_tellsPart_69 : decode cX12_tellsPart 69 = .ok (.invokevirtual 260, 3) := dk_182 1 4 (dk_at dksX12_tellsPart_3 0 rfl rfl)
theorem dX12_tellsPart_72 : decode cX12_tellsPart 72 = .ok (.aload_n 0, 1) := dk_42 (dk_at dksX12_tellsPart_3 3 rfl rfl)
theorem dX12_tellsPart_73 : decode cX12_tellsPart 73 = .ok (.iload_n 2, 1) := dk_28 (dk_at dksX12_tellsPart_3 4 rfl rfl)
theorem dX12_tellsPart_74 : decode cX12_tellsPart 74 = .ok (.invokevirtual 257, 3) := dk_182 1 1 (dk_at dksX12_tellsPart_3 5 rfl rfl)
theorem dX12_tellsPart_77 : decode cX12_tellsPart 77 = .ok (.aload_n 0, 1) := dk_42 (dk_at dksX12_tellsPart_3 8 rfl rfl)
theorem dX12_tellsPart_78 : decode cX12_tellsPart 78 = .ok (.bipush 46, 2) := dk_16 46 (dk_at dksX12_tellsPart_3 9 rfl rfl)
theorem dX12_tellsPart_80 : decode cX12_tellsPart 80 = .ok (.invokevirtual 260, 3) := dk_182 1 4 (dk_at dksX12_tellsPart_3 11 rfl rfl)
theorem dX12_tellsPart_83 : decode cX12_tellsPart 83 = .ok (.aload_n 0, 1) := dk_42 (dk_at dksX12_tellsPart_3 14 rfl rfl)
theorem dX12_tellsPart_84 : decode cX12_tellsPart 84 = .ok (.iload_n 3, 1) := dk_29 (dk_at dksX12_tellsPart_3 15 rfl rfl)
theorem dX12_tellsPart_85 : decode cX12_tellsPart 85 = .ok (.ifCond .le 7, 3) := dk_158 0 7 (dk_at dksX12_tellsPart_3 16 rfl rfl)
theorem dX12_tellsPart_88 : decode cX12_tellsPart 88 = .ok (.iload_n 3, 1) := dk_29 (dk_at dksX12_tellsPart_3 19 rfl rfl)
theorem dX12_tellsPart_89 : decode cX12_tellsPart 89 = .ok (.goto 5, 3) := dk_167 0 5 (dk_at dksX12_tellsPart_3 20 rfl rfl)
theorem dX12_tellsPart_92 : decode cX12_tellsPart 92 = .ok (.iload 4, 2) := dk_21 4 (dk_at dksX12_tellsPart_4 0 rfl rfl)
theorem dX12_tellsPart_94 : decode cX12_tellsPart 94 = .ok (.invokevirtual 257, 3) := dk_182 1 1 (dk_at dksX12_tellsPart_4 2 rfl rfl)
theorem dX12_tellsPart_97 : decode cX12_tellsPart 97 = .ok (.iload_n 3, 1) := dk_29 (dk_at dksX12_tellsPart_4 5 rfl rfl)
theorem dX12_tellsPart_98 : decode cX12_tellsPart 98 = .ok (.ifCond .le 20, 3) := dk_158 0 20 (dk_at dksX12_tellsPart_4 6 rfl rfl)
theorem dX12_tellsPart_101 : decode cX12_tellsPart 101 = .ok (.iload 4, 2) := dk_21 4 (dk_at dksX12_tellsPart_4 9 rfl rfl)
theorem dX12_tellsPart_103 : decode cX12_tellsPart 103 = .ok (.ifCond .le 15, 3) := dk_158 0 15 (dk_at dksX12_tellsPart_4 11 rfl rfl)
theorem dX12_tellsPart_106 : decode cX12_tellsPart 106 = .ok (.aload_n 0, 1) := dk_42 (dk_at dksX12_tellsPart_4 14 rfl rfl)
theorem dX12_tellsPart_107 : decode cX12_tellsPart 107 = .ok (.bipush 95, 2) := dk_16 95 (dk_at dksX12_tellsPart_4 15 rfl rfl)
theorem dX12_tellsPart_109 : decode cX12_tellsPart 109 = .ok (.invokevirtual 260, 3) := dk_182 1 4 (dk_at dksX12_tellsPart_4 17 rfl rfl)
theorem dX12_tellsPart_112 : decode cX12_tellsPart 112 = .ok (.aload_n 0, 1) := dk_42 (dk_at dksX12_tellsPart_4 20 rfl rfl)
theorem dX12_tellsPart_113 : decode cX12_tellsPart 113 = .ok (.iload 4, 2) := dk_21 4 (dk_at dksX12_tellsPart_4 21 rfl rfl)
theorem dX12_tellsPart_115 : decode cX12_tellsPart 115 = .ok (.invokevirtual 257, 3) := dk_182 1 1 (dk_at dksX12_tellsPart_5 0 rfl rfl)
theorem dX12_tellsPart_118 : decode cX12_tellsPart 118 = .ok (.return_, 1) := dk_177 (dk_at dksX12_tellsPart_5 3 rfl rfl)
abbrev cX12_tellsNumber : ByteArray := prog_24_method_52_code
def yX12_tellsNumber : MethodName := ⟨RX12, "tellsNumber", "(I)V"⟩
def dkwX12_tellsNumber_1 : List UInt8 := [182, 1, 4, 177]
abbrev dktX12_tellsNumber_1 : List UInt8 := dkwX12_tellsNumber_1 ++ []
def dkwX12_tellsNumber_0 : List UInt8 := [27, 16, 9, 164, 0, 11, 42, 27, 16, 10, 108, 182, 1, 1, 42, 16, 48, 27, 16, 10, 112, 96]
abbrev dktX12_tellsNumber_0 : List UInt8 := dkwX12_tellsNumber_0 ++ dktX12_tellsNumber_1
theorem dksX12_tellsNumber_0 : cX12_tellsNumber.data.toList.drop 0 = dktX12_tellsNumber_0 := by decide +kernel
theorem dksX12_tellsNumber_1 : cX12_tellsNumber.data.toList.drop 22 = dktX12_tellsNumber_1 := dk_seg dksX12_tellsNumber_0 22 rfl rfl
theorem dX12_tellsNumber_0 : decode cX12_tellsNumber 0 = .ok (.iload_n 1, 1) := dk_27 (dk_at dksX12_tellsNumber_0 0 rfl rfl)
theorem dX12_tellsNumber_1 : decode cX12_tellsNumber 1 = .ok (.bipush 9, 2) := dk_16 9 (dk_at dksX12_tellsNumber_0 1 rfl rfl)
theorem dX12_tellsNumber_3 : decode cX12_tellsNumber 3 = .ok (.if_icmp .le 11, 3) := dk_164 0 11 (dk_at dksX12_tellsNumber_0 3 rfl rfl)
theorem dX12_tellsNumber_6 : decode cX12_tellsNumber 6 = .ok (.aload_n 0, 1) := dk_42 (dk_at dksX12_tellsNumber_0 6 rfl rfl)
theorem dX12_tellsNumber_7 : decode cX12_tellsNumber 7 = .ok (.iload_n 1, 1) := dk_27 (dk_at dksX12_tellsNumber_0 7 rfl rfl)
theorem dX12_tellsNumber_8 : decode cX12_tellsNumber 8 = .ok (.bipush 10, 2) := dk_16 10 (dk_at dksX12_tellsNumber_0 8 rfl rfl)
theorem dX12_tellsNumber_10 : decode cX12_tellsNumber 10 = .ok (.idiv, 1) := dk_108 (dk_at dksX12_tellsNumber_0 10 rfl rfl)
theorem dX12_tellsNumber_11 : decode cX12_tellsNumber 11 = .ok (.invokevirtual 257, 3) := dk_182 1 1 (dk_at dksX12_tellsNumber_0 11 rfl rfl)
theorem dX12_tellsNumber_14 : decode cX12_tellsNumber 14 = .ok (.aload_n 0, 1) := dk_42 (dk_at dksX12_tellsNumber_0 14 rfl rfl)
theorem dX12_tellsNumber_15 : decode cX12_tellsNumber 15 = .ok (.bipush 48, 2) := dk_16 48 (dk_at dksX12_tellsNumber_0 15 rfl rfl)
theorem dX12_tellsNumber_17 : decode cX12_tellsNumber 17 = .ok (.iload_n 1, 1) := dk_27 (dk_at dksX12_tellsNumber_0 17 rfl rfl)
theorem dX12_tellsNumber_18 : decode cX12_tellsNumber 18 = .ok (.bipush 10, 2) := dk_16 10 (dk_at dksX12_tellsNumber_0 18 rfl rfl)
theorem dX12_tellsNumber_20 : decode cX12_tellsNumber 20 = .ok (.irem, 1) := dk_112 (dk_at dksX12_tellsNumber_0 20 rfl rfl)
theorem dX12_tellsNumber_21 : decode cX12_tellsNumber 21 = .ok (.iadd, 1) := dk_96 (dk_at dksX12_tellsNumber_0 21 rfl rfl)
theorem dX12_tellsNumber_22 : decode cX12_tellsNumber 22 = .ok (.invokevirtual 260, 3) := dk_182 1 4 (dk_at dksX12_tellsNumber_1 0 rfl rfl)
theorem dX12_tellsNumber_25 : decode cX12_tellsNumber 25 = .ok (.return_, 1) := dk_177 (dk_at dksX12_tellsNumber_1 3 rfl rfl)
abbrev cX12_behind : ByteArray := prog_24_method_56_code
def yX12_behind : MethodName := ⟨RX12, "behind", "(III)I"⟩
def dkwX12_behind_4 : List UInt8 := [182, 1, 13, 172]
abbrev dktX12_behind_4 : List UInt8 := dkwX12_behind_4 ++ []
def dkwX12_behind_3 : List UInt8 := [42, 3, 28, 182, 0, 97, 42, 4, 29, 182, 0, 97, 42, 3, 4, 5, 182, 0, 158, 42, 27, 5]
abbrev dktX12_behind_3 : List UInt8 := dkwX12_behind_3 ++ dktX12_behind_4
def dkwX12_behind_2 : List UInt8 := [182, 0, 183, 172, 42, 28, 182, 0, 236, 42, 29, 182, 0, 233, 159, 0, 10, 42, 16, 251, 182, 0, 183, 172]
abbrev dktX12_behind_2 : List UInt8 := dkwX12_behind_2 ++ dktX12_behind_3
def dkwX12_behind_1 : List UInt8 := [182, 0, 183, 172, 42, 28, 182, 0, 230, 153, 0, 11, 42, 29, 182, 0, 230, 154, 0, 10, 42, 16, 252]
abbrev dktX12_behind_1 : List UInt8 := dkwX12_behind_1 ++ dktX12_behind_2
def dkwX12_behind_0 : List UInt8 := [27, 184, 0, 211, 153, 0, 17, 28, 184, 0, 211, 153, 0, 10, 29, 184, 0, 211, 154, 0, 10, 42, 16, 254]
abbrev dktX12_behind_0 : List UInt8 := dkwX12_behind_0 ++ dktX12_behind_1
theorem dksX12_behind_0 : cX12_behind.data.toList.drop 0 = dktX12_behind_0 := by decide +kernel
theorem dksX12_behind_1 : cX12_behind.data.toList.drop 24 = dktX12_behind_1 := dk_seg dksX12_behind_0 24 rfl rfl
theorem dksX12_behind_2 : cX12_behind.data.toList.drop 47 = dktX12_behind_2 := dk_seg dksX12_behind_1 23 rfl rfl
theorem dksX12_behind_3 : cX12_behind.data.toList.drop 71 = dktX12_behind_3 := dk_seg dksX12_behind_2 24 rfl rfl
theorem dksX12_behind_4 : cX12_behind.data.toList.drop 93 = dktX12_behind_4 := dk_seg dksX12_behind_3 22 rfl rfl
theorem dX12_behind_0 : decode cX12_behind 0 = .ok (.iload_n 1, 1) := dk_27 (dk_at dksX12_behind_0 0 rfl rfl)
theorem dX12_behind_1 : decode cX12_behind 1 = .ok (.invokestatic 211, 3) := dk_184 0 211 (dk_at dksX12_behind_0 1 rfl rfl)
theorem dX12_behind_4 : decode cX12_behind 4 = .ok (.ifCond .eq 17, 3) := dk_153 0 17 (dk_at dksX12_behind_0 4 rfl rfl)
theorem dX12_behind_7 : decode cX12_behind 7 = .ok (.iload_n 2, 1) := dk_28 (dk_at dksX12_behind_0 7 rfl rfl)
theorem dX12_behind_8 : decode cX12_behind 8 = .ok (.invokestatic 211, 3) := dk_184 0 211 (dk_at dksX12_behind_0 8 rfl rfl)
theorem dX12_behind_11 : decode cX12_behind 11 = .ok (.ifCond .eq 10, 3) := dk_153 0 10 (dk_at dksX12_behind_0 11 rfl rfl)
theorem dX12_behind_14 : decode cX12_behind 14 = .ok (.iload_n 3, 1) := dk_29 (dk_at dksX12_behind_0 14 rfl rfl)
theorem dX12_behind_15 : decode cX12_behind 15 = .ok (.invokestatic 211, 3) := dk_184 0 211 (dk_at dksX12_behind_0 15 rfl rfl)
theorem dX12_behind_18 : decode cX12_behind 18 = .ok (.ifCond .ne 10, 3) := dk_154 0 10 (dk_at dksX12_behind_0 18 rfl rfl)
theorem dX12_behind_21 : decode cX12_behind 21 = .ok (.aload_n 0, 1) := dk_42 (dk_at dksX12_behind_0 21 rfl rfl)
theorem dX12_behind_22 : decode cX12_behind 22 = .ok (.bipush (-2), 2) := dk_16 254 (dk_at dksX12_behind_0 22 rfl rfl)
theorem dX12_behind_24 : decode cX12_behind 24 = .ok (.invokevirtual 183, 3) := dk_182 0 183 (dk_at dksX12_behind_1 0 rfl rfl)
theorem dX12_behind_27 : decode cX12_behind 27 = .ok (.ireturn, 1) := dk_172 (dk_at dksX12_behind_1 3 rfl rfl)
theorem dX12_behind_28 : decode cX12_behind 28 = .ok (.aload_n 0, 1) := dk_42 (dk_at dksX12_behind_1 4 rfl rfl)
theorem dX12_behind_29 : decode cX12_behind 29 = .ok (.iload_n 2, 1) := dk_28 (dk_at dksX12_behind_1 5 rfl rfl)
theorem dX12_behind_30 : decode cX12_behind 30 = .ok (.invokevirtual 230, 3) := dk_182 0 230 (dk_at dksX12_behind_1 6 rfl rfl)
theorem dX12_behind_33 : decode cX12_behind 33 = .ok (.ifCond .eq 11, 3) := dk_153 0 11 (dk_at dksX12_behind_1 9 rfl rfl)
theorem dX12_behind_36 : decode cX12_behind 36 = .ok (.aload_n 0, 1) := dk_42 (dk_at dksX12_behind_1 12 rfl rfl)
theorem dX12_behind_37 : decode cX12_behind 37 = .ok (.iload_n 3, 1) := dk_29 (dk_at dksX12_behind_1 13 rfl rfl)
theorem dX12_behind_38 : decode cX12_behind 38 = .ok (.invokevirtual 230, 3) := dk_182 0 230 (dk_at dksX12_behind_1 14 rfl rfl)
theorem dX12_behind_41 : decode cX12_behind 41 = .ok (.ifCond .ne 10, 3) := dk_154 0 10 (dk_at dksX12_behind_1 17 rfl rfl)
theorem dX12_behind_44 : decode cX12_behind 44 = .ok (.aload_n 0, 1) := dk_42 (dk_at dksX12_behind_1 20 rfl rfl)
theorem dX12_behind_45 : decode cX12_behind 45 = .ok (.bipush (-4), 2) := dk_16 252 (dk_at dksX12_behind_1 21 rfl rfl)
theorem dX12_behind_47 : decode cX12_behind 47 = .ok (.invokevirtual 183, 3) := dk_182 0 183 (dk_at dksX12_behind_2 0 rfl rfl)
theorem dX12_behind_50 : decode cX12_behind 50 = .ok (.ireturn, 1) := dk_172 (dk_at dksX12_behind_2 3 rfl rfl)
theorem dX12_behind_51 : decode cX12_behind 51 = .ok (.aload_n 0, 1) := dk_42 (dk_at dksX12_behind_2 4 rfl rfl)
theorem dX12_behind_52 : decode cX12_behind 52 = .ok (.iload_n 2, 1) := dk_28 (dk_at dksX12_behind_2 5 rfl rfl)
theorem dX12_behind_53 : decode cX12_behind 53 = .ok (.invokevirtual 236, 3) := dk_182 0 236 (dk_at dksX12_behind_2 6 rfl rfl)
theorem dX12_behind_56 : decode cX12_behind 56 = .ok (.aload_n 0, 1) := dk_42 (dk_at dksX12_behind_2 9 rfl rfl)
theorem dX12_behind_57 : decode cX12_behind 57 = .ok (.iload_n 3, 1) := dk_29 (dk_at dksX12_behind_2 10 rfl rfl)
theorem dX12_behind_58 : decode cX12_behind 58 = .ok (.invokevirtual 233, 3) := dk_182 0 233 (dk_at dksX12_behind_2 11 rfl rfl)
theorem dX12_behind_61 : decode cX12_behind 61 = .ok (.if_icmp .eq 10, 3) := dk_159 0 10 (dk_at dksX12_behind_2 14 rfl rfl)
theorem dX12_behind_64 : decode cX12_behind 64 = .ok (.aload_n 0, 1) := dk_42 (dk_at dksX12_behind_2 17 rfl rfl)
theorem dX12_behind_65 : decode cX12_behind 65 = .ok (.bipush (-5), 2) := dk_16 251 (dk_at dksX12_behind_2 18 rfl rfl)
theorem dX12_behind_67 : decode cX12_behind 67 = .ok (.invokevirtual 183, 3) := dk_182 0 183 (dk_at dksX12_behind_2 20 rfl rfl)
theorem dX12_behind_70 : decode cX12_behind 70 = .ok (.ireturn, 1) := dk_172 (dk_at dksX12_behind_2 23 rfl rfl)
theorem dX12_behind_71 : decode cX12_behind 71 = .ok (.aload_n 0, 1) := dk_42 (dk_at dksX12_behind_3 0 rfl rfl)
theorem dX12_behind_72 : decode cX12_behind 72 = .ok (.iconst 0, 1) := dk_3 (dk_at dksX12_behind_3 1 rfl rfl)
theorem dX12_behind_73 : decode cX12_behind 73 = .ok (.iload_n 2, 1) := dk_28 (dk_at dksX12_behind_3 2 rfl rfl)
theorem dX12_behind_74 : decode cX12_behind 74 = .ok (.invokevirtual 97, 3) := dk_182 0 97 (dk_at dksX12_behind_3 3 rfl rfl)
theorem dX12_behind_77 : decode cX12_behind 77 = .ok (.aload_n 0, 1) := dk_42 (dk_at dksX12_behind_3 6 rfl rfl)
theorem dX12_behind_78 : decode cX12_behind 78 = .ok (.iconst 1, 1) := dk_4 (dk_at dksX12_behind_3 7 rfl rfl)
theorem dX12_behind_79 : decode cX12_behind 79 = .ok (.iload_n 3, 1) := dk_29 (dk_at dksX12_behind_3 8 rfl rfl)
theorem dX12_behind_80 : decode cX12_behind 80 = .ok (.invokevirtual 97, 3) := dk_182 0 97 (dk_at dksX12_behind_3 9 rfl rfl)
theorem dX12_behind_83 : decode cX12_behind 83 = .ok (.aload_n 0, 1) := dk_42 (dk_at dksX12_behind_3 12 rfl rfl)
theorem dX12_behind_84 : decode cX12_behind 84 = .ok (.iconst 0, 1) := dk_3 (dk_at dksX12_behind_3 13 rfl rfl)
theorem dX12_behind_85 : decode cX12_behind 85 = .ok (.iconst 1, 1) := dk_4 (dk_at dksX12_behind_3 14 rfl rfl)
theorem dX12_behind_86 : decode cX12_behind 86 = .ok (.iconst 2, 1) := dk_5 (dk_at dksX12_behind_3 15 rfl rfl)
theorem dX12_behind_87 : decode cX12_behind 87 = .ok (.invokevirtual 158, 3) := dk_182 0 158 (dk_at dksX12_behind_3 16 rfl rfl)
theorem dX12_behind_90 : decode cX12_behind 90 = .ok (.aload_n 0, 1) := dk_42 (dk_at dksX12_behind_3 19 rfl rfl)
theorem dX12_behind_91 : decode cX12_behind 91 = .ok (.iload_n 1, 1) := dk_27 (dk_at dksX12_behind_3 20 rfl rfl)
theorem dX12_behind_92 : decode cX12_behind 92 = .ok (.iconst 2, 1) := dk_5 (dk_at dksX12_behind_3 21 rfl rfl)
theorem dX12_behind_93 : decode cX12_behind 93 = .ok (.invokevirtual 269, 3) := dk_182 1 13 (dk_at dksX12_behind_4 0 rfl rfl)
theorem dX12_behind_96 : decode cX12_behind 96 = .ok (.ireturn, 1) := dk_172 (dk_at dksX12_behind_4 3 rfl rfl)
abbrev cX12_takesRow : ByteArray := prog_24_method_7_code
def yX12_takesRow : MethodName := ⟨RX12, "takesRow", "(II)V"⟩
def dkwX12_takesRow_1 : List UInt8 := [42, 180, 0, 40, 27, 50, 29, 42, 180, 0, 11, 28, 50, 29, 46, 79, 132, 3, 1, 167, 255, 227, 177]
abbrev dktX12_takesRow_1 : List UInt8 := dkwX12_takesRow_1 ++ []
def dkwX12_takesRow_0 : List UInt8 := [42, 180, 0, 43, 27, 42, 180, 0, 14, 28, 46, 79, 3, 62, 29, 42, 180, 0, 14, 28, 46, 162, 0, 25]
abbrev dktX12_takesRow_0 : List UInt8 := dkwX12_takesRow_0 ++ dktX12_takesRow_1
theorem dksX12_takesRow_0 : cX12_takesRow.data.toList.drop 0 = dktX12_takesRow_0 := by decide +kernel
theorem dksX12_takesRow_1 : cX12_takesRow.data.toList.drop 24 = dktX12_takesRow_1 := dk_seg dksX12_takesRow_0 24 rfl rfl
theorem dX12_takesRow_0 : decode cX12_takesRow 0 = .ok (.aload_n 0, 1) := dk_42 (dk_at dksX12_takesRow_0 0 rfl rfl)
theorem dX12_takesRow_1 : decode cX12_takesRow 1 = .ok (.getfield 43, 3) := dk_180 0 43 (dk_at dksX12_takesRow_0 1 rfl rfl)
theorem dX12_takesRow_4 : decode cX12_takesRow 4 = .ok (.iload_n 1, 1) := dk_27 (dk_at dksX12_takesRow_0 4 rfl rfl)
theorem dX12_takesRow_5 : decode cX12_takesRow 5 = .ok (.aload_n 0, 1) := dk_42 (dk_at dksX12_takesRow_0 5 rfl rfl)
theorem dX12_takesRow_6 : decode cX12_takesRow 6 = .ok (.getfield 14, 3) := dk_180 0 14 (dk_at dksX12_takesRow_0 6 rfl rfl)
theorem dX12_takesRow_9 : decode cX12_takesRow 9 = .ok (.iload_n 2, 1) := dk_28 (dk_at dksX12_takesRow_0 9 rfl rfl)
theorem dX12_takesRow_10 : decode cX12_takesRow 10 = .ok (.iaload, 1) := dk_46 (dk_at dksX12_takesRow_0 10 rfl rfl)
theorem dX12_takesRow_11 : decode cX12_takesRow 11 = .ok (.iastore, 1) := dk_79 (dk_at dksX12_takesRow_0 11 rfl rfl)
theorem dX12_takesRow_12 : decode cX12_takesRow 12 = .ok (.iconst 0, 1) := dk_3 (dk_at dksX12_takesRow_0 12 rfl rfl)
theorem dX12_takesRow_13 : decode cX12_takesRow 13 = .ok (.istore_n 3, 1) := dk_62 (dk_at dksX12_takesRow_0 13 rfl rfl)
theorem dX12_takesRow_14 : decode cX12_takesRow 14 = .ok (.iload_n 3, 1) := dk_29 (dk_at dksX12_takesRow_0 14 rfl rfl)
theorem dX12_takesRow_15 : decode cX12_takesRow 15 = .ok (.aload_n 0, 1) := dk_42 (dk_at dksX12_takesRow_0 15 rfl rfl)
theorem dX12_takesRow_16 : decode cX12_takesRow 16 = .ok (.getfield 14, 3) := dk_180 0 14 (dk_at dksX12_takesRow_0 16 rfl rfl)
theorem dX12_takesRow_19 : decode cX12_takesRow 19 = .ok (.iload_n 2, 1) := dk_28 (dk_at dksX12_takesRow_0 19 rfl rfl)
theorem dX12_takesRow_20 : decode cX12_takesRow 20 = .ok (.iaload, 1) := dk_46 (dk_at dksX12_takesRow_0 20 rfl rfl)
theorem dX12_takesRow_21 : decode cX12_takesRow 21 = .ok (.if_icmp .ge 25, 3) := dk_162 0 25 (dk_at dksX12_takesRow_0 21 rfl rfl)
theorem dX12_takesRow_24 : decode cX12_takesRow 24 = .ok (.aload_n 0, 1) := dk_42 (dk_at dksX12_takesRow_1 0 rfl rfl)
theorem dX12_takesRow_25 : decode cX12_takesRow 25 = .ok (.getfield 40, 3) := dk_180 0 40 (dk_at dksX12_takesRow_1 1 rfl rfl)
theorem dX12_takesRow_28 : decode cX12_takesRow 28 = .ok (.iload_n 1, 1) := dk_27 (dk_at dksX12_takesRow_1 4 rfl rfl)
theorem dX12_takesRow_29 : decode cX12_takesRow 29 = .ok (.aaload, 1) := dk_50 (dk_at dksX12_takesRow_1 5 rfl rfl)
theorem dX12_takesRow_30 : decode cX12_takesRow 30 = .ok (.iload_n 3, 1) := dk_29 (dk_at dksX12_takesRow_1 6 rfl rfl)
theorem dX12_takesRow_31 : decode cX12_takesRow 31 = .ok (.aload_n 0, 1) := dk_42 (dk_at dksX12_takesRow_1 7 rfl rfl)
theorem dX12_takesRow_32 : decode cX12_takesRow 32 = .ok (.getfield 11, 3) := dk_180 0 11 (dk_at dksX12_takesRow_1 8 rfl rfl)
theorem dX12_takesRow_35 : decode cX12_takesRow 35 = .ok (.iload_n 2, 1) := dk_28 (dk_at dksX12_takesRow_1 11 rfl rfl)
theorem dX12_takesRow_36 : decode cX12_takesRow 36 = .ok (.aaload, 1) := dk_50 (dk_at dksX12_takesRow_1 12 rfl rfl)
theorem dX12_takesRow_37 : decode cX12_takesRow 37 = .ok (.iload_n 3, 1) := dk_29 (dk_at dksX12_takesRow_1 13 rfl rfl)
theorem dX12_takesRow_38 : decode cX12_takesRow 38 = .ok (.iaload, 1) := dk_46 (dk_at dksX12_takesRow_1 14 rfl rfl)
theorem dX12_takesRow_39 : decode cX12_takesRow 39 = .ok (.iastore, 1) := dk_79 (dk_at dksX12_takesRow_1 15 rfl rfl)
theorem dX12_takesRow_40 : decode cX12_takesRow 40 = .ok (.iinc 3 1, 3) := dk_132 3 1 (dk_at dksX12_takesRow_1 16 rfl rfl)
theorem dX12_takesRow_43 : decode cX12_takesRow 43 = .ok (.goto (-29), 3) := dk_167 255 227 (dk_at dksX12_takesRow_1 19 rfl rfl)
theorem dX12_takesRow_46 : decode cX12_takesRow 46 = .ok (.return_, 1) := dk_177 (dk_at dksX12_takesRow_1 22 rfl rfl)
abbrev cX12_behindRow : ByteArray := prog_24_method_16_code
def yX12_behindRow : MethodName := ⟨RX12, "behindRow", "(III)V"⟩
def dkwX12_behindRow_6 : List UInt8 := [42, 21, 6, 21, 7, 29, 182, 0, 118, 167, 255, 121, 42, 29, 182, 0, 122, 177]
abbrev dktX12_behindRow_6 : List UInt8 := dkwX12_behindRow_6 ++ []
def dkwX12_behindRow_5 : List UInt8 := [18, 110, 160, 0, 16, 42, 29, 21, 7, 182, 0, 115, 132, 5, 1, 167, 0, 18, 132, 4, 1, 132, 5, 1]
abbrev dktX12_behindRow_5 : List UInt8 := dkwX12_behindRow_5 ++ dktX12_behindRow_6
def dkwX12_behindRow_4 : List UInt8 := [18, 109, 160, 0, 16, 42, 29, 21, 6, 182, 0, 115, 132, 4, 1, 167, 0, 41, 21, 7, 184, 0, 104]
abbrev dktX12_behindRow_4 : List UInt8 := dkwX12_behindRow_4 ++ dktX12_behindRow_5
def dkwX12_behindRow_3 : List UInt8 := [162, 0, 15, 42, 180, 0, 40, 28, 50, 21, 5, 46, 167, 0, 4, 3, 54, 7, 21, 6, 184, 0, 104]
abbrev dktX12_behindRow_3 : List UInt8 := dkwX12_behindRow_3 ++ dktX12_behindRow_4
def dkwX12_behindRow_2 : List UInt8 := [180, 0, 40, 27, 50, 21, 4, 46, 167, 0, 4, 3, 54, 6, 21, 5, 42, 180, 0, 43, 28, 46]
abbrev dktX12_behindRow_2 : List UInt8 := dkwX12_behindRow_2 ++ dktX12_behindRow_3
def dkwX12_behindRow_1 : List UInt8 := [21, 5, 42, 180, 0, 43, 28, 46, 162, 0, 119, 21, 4, 42, 180, 0, 43, 27, 46, 162, 0, 15, 42]
abbrev dktX12_behindRow_1 : List UInt8 := dkwX12_behindRow_1 ++ dktX12_behindRow_2
def dkwX12_behindRow_0 : List UInt8 := [3, 54, 4, 3, 54, 5, 42, 180, 0, 43, 29, 3, 79, 21, 4, 42, 180, 0, 43, 27, 46, 161, 0, 14]
abbrev dktX12_behindRow_0 : List UInt8 := dkwX12_behindRow_0 ++ dktX12_behindRow_1
theorem dksX12_behindRow_0 : cX12_behindRow.data.toList.drop 0 = dktX12_behindRow_0 := by decide +kernel
theorem dksX12_behindRow_1 : cX12_behindRow.data.toList.drop 24 = dktX12_behindRow_1 := dk_seg dksX12_behindRow_0 24 rfl rfl
theorem dksX12_behindRow_2 : cX12_behindRow.data.toList.drop 47 = dktX12_behindRow_2 := dk_seg dksX12_behindRow_1 23 rfl rfl
theorem dksX12_behindRow_3 : cX12_behindRow.data.toList.drop 69 = dktX12_behindRow_3 := dk_seg dksX12_behindRow_2 22 rfl rfl
theorem dksX12_behindRow_4 : cX12_behindRow.data.toList.drop 92 = dktX12_behindRow_4 := dk_seg dksX12_behindRow_3 23 rfl rfl
theorem dksX12_behindRow_5 : cX12_behindRow.data.toList.drop 115 = dktX12_behindRow_5 := dk_seg dksX12_behindRow_4 23 rfl rfl
theorem dksX12_behindRow_6 : cX12_behindRow.data.toList.drop 139 = dktX12_behindRow_6 := dk_seg dksX12_behindRow_5 24 rfl rfl
theorem dX12_behindRow_0 : decode cX12_behindRow 0 = .ok (.iconst 0, 1) := dk_3 (dk_at dksX12_behindRow_0 0 rfl rfl)
theorem dX12_behindRow_1 : decode cX12_behindRow 1 = .ok (.istore 4, 2) := dk_54 4 (dk_at dksX12_behindRow_0 1 rfl rfl)
theorem dX12_behindRow_3 : decode cX12_behindRow 3 = .ok (.iconst 0, 1) := dk_3 (dk_at dksX12_behindRow_0 3 rfl rfl)
theorem dX12_behindRow_4 : decode cX12_behindRow 4 = .ok (.istore 5, 2) := dk_54 5 (dk_at dksX12_behindRow_0 4 rfl rfl)
theorem dX12_behindRow_6 : decode cX12_behindRow 6 = .ok (.aload_n 0, 1) := dk_42 (dk_at dksX12_behindRow_0 6 rfl rfl)
theorem dX12_behindRow_7 : decode cX12_behindRow 7 = .ok (.getfield 43, 3) := dk_180 0 43 (dk_at dksX12_behindRow_0 7 rfl rfl)
theorem dX12_behindRow_10 : decode cX12_behindRow 10 = .ok (.iload_n 3, 1) := dk_29 (dk_at dksX12_behindRow_0 10 rfl rfl)
theorem dX12_behindRow_11 : decode cX12_behindRow 11 = .ok (.iconst 0, 1) := dk_3 (dk_at dksX12_behindRow_0 11 rfl rfl)
theorem dX12_behindRow_12 : decode cX12_behindRow 12 = .ok (.iastore, 1) := dk_79 (dk_at dksX12_behindRow_0 12 rfl rfl)
theorem dX12_behindRow_13 : decode cX12_behindRow 13 = .ok (.iload 4, 2) := dk_21 4 (dk_at dksX12_behindRow_0 13 rfl rfl)
theorem dX12_behindRow_15 : decode cX12_behindRow 15 = .ok (.aload_n 0, 1) := dk_42 (dk_at dksX12_behindRow_0 15 rfl rfl)
theorem dX12_behindRow_16 : decode cX12_behindRow 16 = .ok (.getfield 43, 3) := dk_180 0 43 (dk_at dksX12_behindRow_0 16 rfl rfl)
theorem dX12_behindRow_19 : decode cX12_behindRow 19 = .ok (.iload_n 1, 1) := dk_27 (dk_at dksX12_behindRow_0 19 rfl rfl)
theorem dX12_behindRow_20 : decode cX12_behindRow 20 = .ok (.iaload, 1) := dk_46 (dk_at dksX12_behindRow_0 20 rfl rfl)
theorem dX12_behindRow_21 : decode cX12_behindRow 21 = .ok (.if_icmp .lt 14, 3) := dk_161 0 14 (dk_at dksX12_behindRow_0 21 rfl rfl)
theorem dX12_behindRow_24 : decode cX12_behindRow 24 = .ok (.iload 5, 2) := dk_21 5 (dk_at dksX12_behindRow_1 0 rfl rfl)
theorem dX12_behindRow_26 : decode cX12_behindRow 26 = .ok (.aload_n 0, 1) := dk_42 (dk_at dksX12_behindRow_1 2 rfl rfl)
theorem dX12_behindRow_27 : decode cX12_behindRow 27 = .ok (.getfield 43, 3) := dk_180 0 43 (dk_at dksX12_behindRow_1 3 rfl rfl)
theorem dX12_behindRow_30 : decode cX12_behindRow 30 = .ok (.iload_n 2, 1) := dk_28 (dk_at dksX12_behindRow_1 6 rfl rfl)
theorem dX12_behindRow_31 : decode cX12_behindRow 31 = .ok (.iaload, 1) := dk_46 (dk_at dksX12_behindRow_1 7 rfl rfl)
theorem dX12_behindRow_32 : decode cX12_behindRow 32 = .ok (.if_icmp .ge 119, 3) := dk_162 0 119 (dk_at dksX12_behindRow_1 8 rfl rfl)
theorem dX12_behindRow_35 : decode cX12_behindRow 35 = .ok (.iload 4, 2) := dk_21 4 (dk_at dksX12_behindRow_1 11 rfl rfl)
theorem dX12_behindRow_37 : decode cX12_behindRow 37 = .ok (.aload_n 0, 1) := dk_42 (dk_at dksX12_behindRow_1 13 rfl rfl)
theorem dX12_behindRow_38 : decode cX12_behindRow 38 = .ok (.getfield 43, 3) := dk_180 0 43 (dk_at dksX12_behindRow_1 14 rfl rfl)
theorem dX12_behindRow_41 : decode cX12_behindRow 41 = .ok (.iload_n 1, 1) := dk_27 (dk_at dksX12_behindRow_1 17 rfl rfl)
theorem dX12_behindRow_42 : decode cX12_behindRow 42 = .ok (.iaload, 1) := dk_46 (dk_at dksX12_behindRow_1 18 rfl rfl)
theorem dX12_behindRow_43 : decode cX12_behindRow 43 = .ok (.if_icmp .ge 15, 3) := dk_162 0 15 (dk_at dksX12_behindRow_1 19 rfl rfl)
theorem dX12_behindRow_46 : decode cX12_behindRow 46 = .ok (.aload_n 0, 1) := dk_42 (dk_at dksX12_behindRow_1 22 rfl rfl)
theorem dX12_behindRow_47 : decode cX12_behindRow 47 = .ok (.getfield 40, 3) := dk_180 0 40 (dk_at dksX12_behindRow_2 0 rfl rfl)
theorem dX12_behindRow_50 : decode cX12_behindRow 50 = .ok (.iload_n 1, 1) := dk_27 (dk_at dksX12_behindRow_2 3 rfl rfl)
theorem dX12_behindRow_51 : decode cX12_behindRow 51 = .ok (.aaload, 1) := dk_50 (dk_at dksX12_behindRow_2 4 rfl rfl)
theorem dX12_behindRow_52 : decode cX12_behindRow 52 = .ok (.iload 4, 2) := dk_21 4 (dk_at dksX12_behindRow_2 5 rfl rfl)
theorem dX12_behindRow_54 : decode cX12_behindRow 54 = .ok (.iaload, 1) := dk_46 (dk_at dksX12_behindRow_2 7 rfl rfl)
theorem dX12_behindRow_55 : decode cX12_behindRow 55 = .ok (.goto 4, 3) := dk_167 0 4 (dk_at dksX12_behindRow_2 8 rfl rfl)
theorem dX12_behindRow_58 : decode cX12_behindRow 58 = .ok (.iconst 0, 1) := dk_3 (dk_at dksX12_behindRow_2 11 rfl rfl)
theorem dX12_behindRow_59 : decode cX12_behindRow 59 = .ok (.istore 6, 2) := dk_54 6 (dk_at dksX12_behindRow_2 12 rfl rfl)
theorem dX12_behindRow_61 : decode cX12_behindRow 61 = .ok (.iload 5, 2) := dk_21 5 (dk_at dksX12_behindRow_2 14 rfl rfl)
theorem dX12_behindRow_63 : decode cX12_behindRow 63 = .ok (.aload_n 0, 1) := dk_42 (dk_at dksX12_behindRow_2 16 rfl rfl)
theorem dX12_behindRow_64 : decode cX12_behindRow 64 = .ok (.getfield 43, 3) := dk_180 0 43 (dk_at dksX12_behindRow_2 17 rfl rfl)
theorem dX12_behindRow_67 : decode cX12_behindRow 67 = .ok (.iload_n 2, 1) := dk_28 (dk_at dksX12_behindRow_2 20 rfl rfl)
theorem dX12_behindRow_68 : decode cX12_behindRow 68 = .ok (.iaload, 1) := dk_46 (dk_at dksX12_behindRow_2 21 rfl rfl)
theorem dX12_behindRow_69 : decode cX12_behindRow 69 = .ok (.if_icmp .ge 15, 3) := dk_162 0 15 (dk_at dksX12_behindRow_3 0 rfl rfl)
theorem dX12_behindRow_72 : decode cX12_behindRow 72 = .ok (.aload_n 0, 1) := dk_42 (dk_at dksX12_behindRow_3 3 rfl rfl)
theorem dX12_behindRow_73 : decode cX12_behindRow 73 = .ok (.getfield 40, 3) := dk_180 0 40 (dk_at dksX12_behindRow_3 4 rfl rfl)
theorem dX12_behindRow_76 : decode cX12_behindRow 76 = .ok (.iload_n 2, 1) := dk_28 (dk_at dksX12_behindRow_3 7 rfl rfl)
theorem dX12_behindRow_77 : decode cX12_behindRow 77 = .ok (.aaload, 1) := dk_50 (dk_at dksX12_behindRow_3 8 rfl rfl)
theorem dX12_behindRow_78 : decode cX12_behindRow 78 = .ok (.iload 5, 2) := dk_21 5 (dk_at dksX12_behindRow_3 9 rfl rfl)
theorem dX12_behindRow_80 : decode cX12_behindRow 80 = .ok (.iaload, 1) := dk_46 (dk_at dksX12_behindRow_3 11 rfl rfl)
theorem dX12_behindRow_81 : decode cX12_behindRow 81 = .ok (.goto 4, 3) := dk_167 0 4 (dk_at dksX12_behindRow_3 12 rfl rfl)
theorem dX12_behindRow_84 : decode cX12_behindRow 84 = .ok (.iconst 0, 1) := dk_3 (dk_at dksX12_behindRow_3 15 rfl rfl)
theorem dX12_behindRow_85 : decode cX12_behindRow 85 = .ok (.istore 7, 2) := dk_54 7 (dk_at dksX12_behindRow_3 16 rfl rfl)
theorem dX12_behindRow_87 : decode cX12_behindRow 87 = .ok (.iload 6, 2) := dk_21 6 (dk_at dksX12_behindRow_3 18 rfl rfl)
theorem dX12_behindRow_89 : decode cX12_behindRow 89 = .ok (.invokestatic 104, 3) := dk_184 0 104 (dk_at dksX12_behindRow_3 20 rfl rfl)
theorem dX12_behindRow_92 : decode cX12_behindRow 92 = .ok (.ldc 109, 2) := dk_18 109 (dk_at dksX12_behindRow_4 0 rfl rfl)
theorem dX12_behindRow_94 : decode cX12_behindRow 94 = .ok (.if_icmp .ne 16, 3) := dk_160 0 16 (dk_at dksX12_behindRow_4 2 rfl rfl)
theorem dX12_behindRow_97 : decode cX12_behindRow 97 = .ok (.aload_n 0, 1) := dk_42 (dk_at dksX12_behindRow_4 5 rfl rfl)
theorem dX12_behindRow_98 : decode cX12_behindRow 98 = .ok (.iload_n 3, 1) := dk_29 (dk_at dksX12_behindRow_4 6 rfl rfl)
theorem dX12_behindRow_99 : decode cX12_behindRow 99 = .ok (.iload 6, 2) := dk_21 6 (dk_at dksX12_behindRow_4 7 rfl rfl)
theorem dX12_behindRow_101 : decode cX12_behindRow 101 = .ok (.invokevirtual 115, 3) := dk_182 0 115 (dk_at dksX12_behindRow_4 9 rfl rfl)
theorem dX12_behindRow_104 : decode cX12_behindRow 104 = .ok (.iinc 4 1, 3) := dk_132 4 1 (dk_at dksX12_behindRow_4 12 rfl rfl)
theorem dX12_behindRow_107 : decode cX12_behindRow 107 = .ok (.goto 41, 3) := dk_167 0 41 (dk_at dksX12_behindRow_4 15 rfl rfl)
theorem dX12_behindRow_110 : decode cX12_behindRow 110 = .ok (.iload 7, 2) := dk_21 7 (dk_at dksX12_behindRow_4 18 rfl rfl)
theorem dX12_behindRow_112 : decode cX12_behindRow 112 = .ok (.invokestatic 104, 3) := dk_184 0 104 (dk_at dksX12_behindRow_4 20 rfl rfl)
theorem dX12_behindRow_115 : decode cX12_behindRow 115 = .ok (.ldc 110, 2) := dk_18 110 (dk_at dksX12_behindRow_5 0 rfl rfl)
theorem dX12_behindRow_117 : decode cX12_behindRow 117 = .ok (.if_icmp .ne 16, 3) := dk_160 0 16 (dk_at dksX12_behindRow_5 2 rfl rfl)
theorem dX12_behindRow_120 : decode cX12_behindRow 120 = .ok (.aload_n 0, 1) := dk_42 (dk_at dksX12_behindRow_5 5 rfl rfl)
theorem dX12_behindRow_121 : decode cX12_behindRow 121 = .ok (.iload_n 3, 1) := dk_29 (dk_at dksX12_behindRow_5 6 rfl rfl)
theorem dX12_behindRow_122 : decode cX12_behindRow 122 = .ok (.iload 7, 2) := dk_21 7 (dk_at dksX12_behindRow_5 7 rfl rfl)
theorem dX12_behindRow_124 : decode cX12_behindRow 124 = .ok (.invokevirtual 115, 3) := dk_182 0 115 (dk_at dksX12_behindRow_5 9 rfl rfl)
theorem dX12_behindRow_127 : decode cX12_behindRow 127 = .ok (.iinc 5 1, 3) := dk_132 5 1 (dk_at dksX12_behindRow_5 12 rfl rfl)
theorem dX12_behindRow_130 : decode cX12_behindRow 130 = .ok (.goto 18, 3) := dk_167 0 18 (dk_at dksX12_behindRow_5 15 rfl rfl)
theorem dX12_behindRow_133 : decode cX12_behindRow 133 = .ok (.iinc 4 1, 3) := dk_132 4 1 (dk_at dksX12_behindRow_5 18 rfl rfl)
theorem dX12_behindRow_136 : decode cX12_behindRow 136 = .ok (.iinc 5 1, 3) := dk_132 5 1 (dk_at dksX12_behindRow_5 21 rfl rfl)
theorem dX12_behindRow_139 : decode cX12_behindRow 139 = .ok (.aload_n 0, 1) := dk_42 (dk_at dksX12_behindRow_6 0 rfl rfl)
theorem dX12_behindRow_140 : decode cX12_behindRow 140 = .ok (.iload 6, 2) := dk_21 6 (dk_at dksX12_behindRow_6 1 rfl rfl)
theorem dX12_behindRow_142 : decode cX12_behindRow 142 = .ok (.iload 7, 2) := dk_21 7 (dk_at dksX12_behindRow_6 3 rfl rfl)
theorem dX12_behindRow_144 : decode cX12_behindRow 144 = .ok (.iload_n 3, 1) := dk_29 (dk_at dksX12_behindRow_6 5 rfl rfl)
theorem dX12_behindRow_145 : decode cX12_behindRow 145 = .ok (.invokevirtual 118, 3) := dk_182 0 118 (dk_at dksX12_behindRow_6 6 rfl rfl)
theorem dX12_behindRow_148 : decode cX12_behindRow 148 = .ok (.goto (-135), 3) := dk_167 255 121 (dk_at dksX12_behindRow_6 9 rfl rfl)
theorem dX12_behindRow_151 : decode cX12_behindRow 151 = .ok (.aload_n 0, 1) := dk_42 (dk_at dksX12_behindRow_6 12 rfl rfl)
theorem dX12_behindRow_152 : decode cX12_behindRow 152 = .ok (.iload_n 3, 1) := dk_29 (dk_at dksX12_behindRow_6 13 rfl rfl)
theorem dX12_behindRow_153 : decode cX12_behindRow 153 = .ok (.invokevirtual 122, 3) := dk_182 0 122 (dk_at dksX12_behindRow_6 14 rfl rfl)
theorem dX12_behindRow_156 : decode cX12_behindRow 156 = .ok (.return_, 1) := dk_177 (dk_at dksX12_behindRow_6 17 rfl rfl)
abbrev cX12_together : ByteArray := prog_24_method_17_code
def yX12_together : MethodName := ⟨RX12, "together", "(III)V"⟩
def dkwX12_together_6 : List UInt8 := [18, 126, 21, 4, 7, 120, 128, 21, 5, 128, 182, 0, 115, 177]
abbrev dktX12_together_6 : List UInt8 := dkwX12_together_6 ++ []
def dkwX12_together_5 : List UInt8 := [54, 4, 27, 16, 15, 126, 28, 7, 122, 16, 15, 126, 2, 130, 126, 28, 16, 15, 126, 128, 54, 5, 42, 29]
abbrev dktX12_together_5 : List UInt8 := dkwX12_together_5 ++ dktX12_together_6
def dkwX12_together_4 : List UInt8 := [167, 0, 60, 27, 7, 122, 16, 15, 126, 28, 16, 15, 126, 2, 130, 126, 28, 7, 122, 16, 15, 126, 128]
abbrev dktX12_together_4 : List UInt8 := dkwX12_together_4 ++ dktX12_together_5
def dkwX12_together_3 : List UInt8 := [28, 184, 0, 104, 18, 109, 159, 0, 12, 27, 184, 0, 104, 18, 108, 160, 0, 12, 42, 29, 28, 182, 0, 115]
abbrev dktX12_together_3 : List UInt8 := dkwX12_together_3 ++ dktX12_together_4
def dkwX12_together_2 : List UInt8 := [54, 4, 42, 29, 18, 110, 21, 4, 16, 8, 120, 128, 27, 17, 0, 255, 126, 128, 182, 0, 115, 167, 0, 87]
abbrev dktX12_together_2 : List UInt8 := dkwX12_together_2 ++ dktX12_together_3
def dkwX12_together_1 : List UInt8 := [160, 0, 47, 28, 184, 0, 104, 18, 126, 160, 0, 122, 27, 16, 8, 122, 16, 15, 126, 28, 184, 0, 127]
abbrev dktX12_together_1 : List UInt8 := dkwX12_together_1 ++ dktX12_together_2
def dkwX12_together_0 : List UInt8 := [28, 184, 0, 104, 18, 108, 160, 0, 12, 42, 29, 27, 182, 0, 115, 167, 0, 140, 27, 184, 0, 104, 18, 110]
abbrev dktX12_together_0 : List UInt8 := dkwX12_together_0 ++ dktX12_together_1
theorem dksX12_together_0 : cX12_together.data.toList.drop 0 = dktX12_together_0 := by decide +kernel
theorem dksX12_together_1 : cX12_together.data.toList.drop 24 = dktX12_together_1 := dk_seg dksX12_together_0 24 rfl rfl
theorem dksX12_together_2 : cX12_together.data.toList.drop 47 = dktX12_together_2 := dk_seg dksX12_together_1 23 rfl rfl
theorem dksX12_together_3 : cX12_together.data.toList.drop 71 = dktX12_together_3 := dk_seg dksX12_together_2 24 rfl rfl
theorem dksX12_together_4 : cX12_together.data.toList.drop 95 = dktX12_together_4 := dk_seg dksX12_together_3 24 rfl rfl
theorem dksX12_together_5 : cX12_together.data.toList.drop 118 = dktX12_together_5 := dk_seg dksX12_together_4 23 rfl rfl
theorem dksX12_together_6 : cX12_together.data.toList.drop 142 = dktX12_together_6 := dk_seg dksX12_together_5 24 rfl rfl
theorem dX12_together_0 : decode cX12_together 0 = .ok (.iload_n 2, 1) := dk_28 (dk_at dksX12_together_0 0 rfl rfl)
theorem dX12_together_1 : decode cX12_together 1 = .ok (.invokestatic 104, 3) := dk_184 0 104 (dk_at dksX12_together_0 1 rfl rfl)
theorem dX12_together_4 : decode cX12_together 4 = .ok (.ldc 108, 2) := dk_18 108 (dk_at dksX12_together_0 4 rfl rfl)
theorem dX12_together_6 : decode cX12_together 6 = .ok (.if_icmp .ne 12, 3) := dk_160 0 12 (dk_at dksX12_together_0 6 rfl rfl)
theorem dX12_together_9 : decode cX12_together 9 = .ok (.aload_n 0, 1) := dk_42 (dk_at dksX12_together_0 9 rfl rfl)
theorem dX12_together_10 : decode cX12_together 10 = .ok (.iload_n 3, 1) := dk_29 (dk_at dksX12_together_0 10 rfl rfl)
theorem dX12_together_11 : decode cX12_together 11 = .ok (.iload_n 1, 1) := dk_27 (dk_at dksX12_together_0 11 rfl rfl)
theorem dX12_together_12 : decode cX12_together 12 = .ok (.invokevirtual 115, 3) := dk_182 0 115 (dk_at dksX12_together_0 12 rfl rfl)
theorem dX12_together_15 : decode cX12_together 15 = .ok (.goto 140, 3) := dk_167 0 140 (dk_at dksX12_together_0 15 rfl rfl)
theorem dX12_together_18 : decode cX12_together 18 = .ok (.iload_n 1, 1) := dk_27 (dk_at dksX12_together_0 18 rfl rfl)
theorem dX12_together_19 : decode cX12_together 19 = .ok (.invokestatic 104, 3) := dk_184 0 104 (dk_at dksX12_together_0 19 rfl rfl)
theorem dX12_together_22 : decode cX12_together 22 = .ok (.ldc 110, 2) := dk_18 110 (dk_at dksX12_together_0 22 rfl rfl)
theorem dX12_together_24 : decode cX12_together 24 = .ok (.if_icmp .ne 47, 3) := dk_160 0 47 (dk_at dksX12_together_1 0 rfl rfl)
theorem dX12_together_27 : decode cX12_together 27 = .ok (.iload_n 2, 1) := dk_28 (dk_at dksX12_together_1 3 rfl rfl)
theorem dX12_together_28 : decode cX12_together 28 = .ok (.invokestatic 104, 3) := dk_184 0 104 (dk_at dksX12_together_1 4 rfl rfl)
theorem dX12_together_31 : decode cX12_together 31 = .ok (.ldc 126, 2) := dk_18 126 (dk_at dksX12_together_1 7 rfl rfl)
theorem dX12_together_33 : decode cX12_together 33 = .ok (.if_icmp .ne 122, 3) := dk_160 0 122 (dk_at dksX12_together_1 9 rfl rfl)
theorem dX12_together_36 : decode cX12_together 36 = .ok (.iload_n 1, 1) := dk_27 (dk_at dksX12_together_1 12 rfl rfl)
theorem dX12_together_37 : decode cX12_together 37 = .ok (.bipush 8, 2) := dk_16 8 (dk_at dksX12_together_1 13 rfl rfl)
theorem dX12_together_39 : decode cX12_together 39 = .ok (.ishr, 1) := dk_122 (dk_at dksX12_together_1 15 rfl rfl)
theorem dX12_together_40 : decode cX12_together 40 = .ok (.bipush 15, 2) := dk_16 15 (dk_at dksX12_together_1 16 rfl rfl)
theorem dX12_together_42 : decode cX12_together 42 = .ok (.iand, 1) := dk_126 (dk_at dksX12_together_1 18 rfl rfl)
theorem dX12_together_43 : decode cX12_together 43 = .ok (.iload_n 2, 1) := dk_28 (dk_at dksX12_together_1 19 rfl rfl)
theorem dX12_together_44 : decode cX12_together 44 = .ok (.invokestatic 127, 3) := dk_184 0 127 (dk_at dksX12_together_1 20 rfl rfl)
theorem dX12_together_47 : decode cX12_together 47 = .ok (.istore 4, 2) := dk_54 4 (dk_at dksX12_together_2 0 rfl rfl)
theorem dX12_together_49 : decode cX12_together 49 = .ok (.aload_n 0, 1) := dk_42 (dk_at dksX12_together_2 2 rfl rfl)
theorem dX12_together_50 : decode cX12_together 50 = .ok (.iload_n 3, 1) := dk_29 (dk_at dksX12_together_2 3 rfl rfl)
theorem dX12_together_51 : decode cX12_together 51 = .ok (.ldc 110, 2) := dk_18 110 (dk_at dksX12_together_2 4 rfl rfl)
theorem dX12_together_53 : decode cX12_together 53 = .ok (.iload 4, 2) := dk_21 4 (dk_at dksX12_together_2 6 rfl rfl)
theorem dX12_together_55 : decode cX12_together 55 = .ok (.bipush 8, 2) := dk_16 8 (dk_at dksX12_together_2 8 rfl rfl)
theorem dX12_together_57 : decode cX12_together 57 = .ok (.ishl, 1) := dk_120 (dk_at dksX12_together_2 10 rfl rfl)
theorem dX12_together_58 : decode cX12_together 58 = .ok (.ior, 1) := dk_128 (dk_at dksX12_together_2 11 rfl rfl)
theorem dX12_together_59 : decode cX12_together 59 = .ok (.iload_n 1, 1) := dk_27 (dk_at dksX12_together_2 12 rfl rfl)
theorem dX12_together_60 : decode cX12_together 60 = .ok (.sipush 255, 3) := dk_17 0 255 (dk_at dksX12_together_2 13 rfl rfl)
theorem dX12_together_63 : decode cX12_together 63 = .ok (.iand, 1) := dk_126 (dk_at dksX12_together_2 16 rfl rfl)
theorem dX12_together_64 : decode cX12_together 64 = .ok (.ior, 1) := dk_128 (dk_at dksX12_together_2 17 rfl rfl)
theorem dX12_together_65 : decode cX12_together 65 = .ok (.invokevirtual 115, 3) := dk_182 0 115 (dk_at dksX12_together_2 18 rfl rfl)
theorem dX12_together_68 : decode cX12_together 68 = .ok (.goto 87, 3) := dk_167 0 87 (dk_at dksX12_together_2 21 rfl rfl)
theorem dX12_together_71 : decode cX12_together 71 = .ok (.iload_n 2, 1) := dk_28 (dk_at dksX12_together_3 0 rfl rfl)
theorem dX12_together_72 : decode cX12_together 72 = .ok (.invokestatic 104, 3) := dk_184 0 104 (dk_at dksX12_together_3 1 rfl rfl)
theorem dX12_together_75 : decode cX12_together 75 = .ok (.ldc 109, 2) := dk_18 109 (dk_at dksX12_together_3 4 rfl rfl)
theorem dX12_together_77 : decode cX12_together 77 = .ok (.if_icmp .eq 12, 3) := dk_159 0 12 (dk_at dksX12_together_3 6 rfl rfl)
theorem dX12_together_80 : decode cX12_together 80 = .ok (.iload_n 1, 1) := dk_27 (dk_at dksX12_together_3 9 rfl rfl)
theorem dX12_together_81 : decode cX12_together 81 = .ok (.invokestatic 104, 3) := dk_184 0 104 (dk_at dksX12_together_3 10 rfl rfl)
theorem dX12_together_84 : decode cX12_together 84 = .ok (.ldc 108, 2) := dk_18 108 (dk_at dksX12_together_3 13 rfl rfl)
theorem dX12_together_86 : decode cX12_together 86 = .ok (.if_icmp .ne 12, 3) := dk_160 0 12 (dk_at dksX12_together_3 15 rfl rfl)
theorem dX12_together_89 : decode cX12_together 89 = .ok (.aload_n 0, 1) := dk_42 (dk_at dksX12_together_3 18 rfl rfl)
theorem dX12_together_90 : decode cX12_together 90 = .ok (.iload_n 3, 1) := dk_29 (dk_at dksX12_together_3 19 rfl rfl)
theorem dX12_together_91 : decode cX12_together 91 = .ok (.iload_n 2, 1) := dk_28 (dk_at dksX12_together_3 20 rfl rfl)
theorem dX12_together_92 : decode cX12_together 92 = .ok (.invokevirtual 115, 3) := dk_182 0 115 (dk_at dksX12_together_3 21 rfl rfl)
theorem dX12_together_95 : decode cX12_together 95 = .ok (.goto 60, 3) := dk_167 0 60 (dk_at dksX12_together_4 0 rfl rfl)
theorem dX12_together_98 : decode cX12_together 98 = .ok (.iload_n 1, 1) := dk_27 (dk_at dksX12_together_4 3 rfl rfl)
theorem dX12_together_99 : decode cX12_together 99 = .ok (.iconst 4, 1) := dk_7 (dk_at dksX12_together_4 4 rfl rfl)
theorem dX12_together_100 : decode cX12_together 100 = .ok (.ishr, 1) := dk_122 (dk_at dksX12_together_4 5 rfl rfl)
theorem dX12_together_101 : decode cX12_together 101 = .ok (.bipush 15, 2) := dk_16 15 (dk_at dksX12_together_4 6 rfl rfl)
theorem dX12_together_103 : decode cX12_together 103 = .ok (.iand, 1) := dk_126 (dk_at dksX12_together_4 8 rfl rfl)
theorem dX12_together_104 : decode cX12_together 104 = .ok (.iload_n 2, 1) := dk_28 (dk_at dksX12_together_4 9 rfl rfl)
theorem dX12_together_105 : decode cX12_together 105 = .ok (.bipush 15, 2) := dk_16 15 (dk_at dksX12_together_4 10 rfl rfl)
theorem dX12_together_107 : decode cX12_together 107 = .ok (.iand, 1) := dk_126 (dk_at dksX12_together_4 12 rfl rfl)
theorem dX12_together_108 : decode cX12_together 108 = .ok (.iconst (-1), 1) := dk_2 (dk_at dksX12_together_4 13 rfl rfl)
theorem dX12_together_109 : decode cX12_together 109 = .ok (.ixor, 1) := dk_130 (dk_at dksX12_together_4 14 rfl rfl)
theorem dX12_together_110 : decode cX12_together 110 = .ok (.iand, 1) := dk_126 (dk_at dksX12_together_4 15 rfl rfl)
theorem dX12_together_111 : decode cX12_together 111 = .ok (.iload_n 2, 1) := dk_28 (dk_at dksX12_together_4 16 rfl rfl)
theorem dX12_together_112 : decode cX12_together 112 = .ok (.iconst 4, 1) := dk_7 (dk_at dksX12_together_4 17 rfl rfl)
theorem dX12_together_113 : decode cX12_together 113 = .ok (.ishr, 1) := dk_122 (dk_at dksX12_together_4 18 rfl rfl)
theorem dX12_together_114 : decode cX12_together 114 = .ok (.bipush 15, 2) := dk_16 15 (dk_at dksX12_together_4 19 rfl rfl)
theorem dX12_together_116 : decode cX12_together 116 = .ok (.iand, 1) := dk_126 (dk_at dksX12_together_4 21 rfl rfl)
theorem dX12_together_117 : decode cX12_together 117 = .ok (.ior, 1) := dk_128 (dk_at dksX12_together_4 22 rfl rfl)
theorem dX12_together_118 : decode cX12_together 118 = .ok (.istore 4, 2) := dk_54 4 (dk_at dksX12_together_5 0 rfl rfl)
theorem dX12_together_120 : decode cX12_together 120 = .ok (.iload_n 1, 1) := dk_27 (dk_at dksX12_together_5 2 rfl rfl)
theorem dX12_together_121 : decode cX12_together 121 = .ok (.bipush 15, 2) := dk_16 15 (dk_at dksX12_together_5 3 rfl rfl)
theorem dX12_together_123 : decode cX12_together 123 = .ok (.iand, 1) := dk_126 (dk_at dksX12_together_5 5 rfl rfl)
theorem dX12_together_124 : decode cX12_together 124 = .ok (.iload_n 2, 1) := dk_28 (dk_at dksX12_together_5 6 rfl rfl)
theorem dX12_together_125 : decode cX12_together 125 = .ok (.iconst 4, 1) := dk_7 (dk_at dksX12_together_5 7 rfl rfl)
theorem dX12_together_126 : decode cX12_together 126 = .ok (.ishr, 1) := dk_122 (dk_at dksX12_together_5 8 rfl rfl)
theorem dX12_together_127 : decode cX12_together 127 = .ok (.bipush 15, 2) := dk_16 15 (dk_at dksX12_together_5 9 rfl rfl)
theorem dX12_together_129 : decode cX12_together 129 = .ok (.iand, 1) := dk_126 (dk_at dksX12_together_5 11 rfl rfl)
theorem dX12_together_130 : decode cX12_together 130 = .ok (.iconst (-1), 1) := dk_2 (dk_at dksX12_together_5 12 rfl rfl)
theorem dX12_together_131 : decode cX12_together 131 = .ok (.ixor, 1) := dk_130 (dk_at dksX12_together_5 13 rfl rfl)
theorem dX12_together_132 : decode cX12_together 132 = .ok (.iand, 1) := dk_126 (dk_at dksX12_together_5 14 rfl rfl)
theorem dX12_together_133 : decode cX12_together 133 = .ok (.iload_n 2, 1) := dk_28 (dk_at dksX12_together_5 15 rfl rfl)
theorem dX12_together_134 : decode cX12_together 134 = .ok (.bipush 15, 2) := dk_16 15 (dk_at dksX12_together_5 16 rfl rfl)
theorem dX12_together_136 : decode cX12_together 136 = .ok (.iand, 1) := dk_126 (dk_at dksX12_together_5 18 rfl rfl)
theorem dX12_together_137 : decode cX12_together 137 = .ok (.ior, 1) := dk_128 (dk_at dksX12_together_5 19 rfl rfl)
theorem dX12_together_138 : decode cX12_together 138 = .ok (.istore 5, 2) := dk_54 5 (dk_at dksX12_together_5 20 rfl rfl)
theorem dX12_together_140 : decode cX12_together 140 = .ok (.aload_n 0, 1) := dk_42 (dk_at dksX12_together_5 22 rfl rfl)
theorem dX12_together_141 : decode cX12_together 141 = .ok (.iload_n 3, 1) := dk_29 (dk_at dksX12_together_5 23 rfl rfl)
theorem dX12_together_142 : decode cX12_together 142 = .ok (.ldc 126, 2) := dk_18 126 (dk_at dksX12_together_6 0 rfl rfl)
theorem dX12_together_144 : decode cX12_together 144 = .ok (.iload 4, 2) := dk_21 4 (dk_at dksX12_together_6 2 rfl rfl)
theorem dX12_together_146 : decode cX12_together 146 = .ok (.iconst 4, 1) := dk_7 (dk_at dksX12_together_6 4 rfl rfl)
theorem dX12_together_147 : decode cX12_together 147 = .ok (.ishl, 1) := dk_120 (dk_at dksX12_together_6 5 rfl rfl)
theorem dX12_together_148 : decode cX12_together 148 = .ok (.ior, 1) := dk_128 (dk_at dksX12_together_6 6 rfl rfl)
theorem dX12_together_149 : decode cX12_together 149 = .ok (.iload 5, 2) := dk_21 5 (dk_at dksX12_together_6 7 rfl rfl)
theorem dX12_together_151 : decode cX12_together 151 = .ok (.ior, 1) := dk_128 (dk_at dksX12_together_6 9 rfl rfl)
theorem dX12_together_152 : decode cX12_together 152 = .ok (.invokevirtual 115, 3) := dk_182 0 115 (dk_at dksX12_together_6 10 rfl rfl)
theorem dX12_together_155 : decode cX12_together 155 = .ok (.return_, 1) := dk_177 (dk_at dksX12_together_6 13 rfl rfl)
abbrev cX12_marksOf : ByteArray := prog_24_method_15_code
def yX12_marksOf : MethodName := ⟨RX12, "marksOf", "(II)I"⟩
def dkwX12_marksOf_0 : List UInt8 := [26, 27, 7, 122, 16, 15, 126, 128, 27, 16, 15, 126, 2, 130, 126, 172]
abbrev dktX12_marksOf_0 : List UInt8 := dkwX12_marksOf_0 ++ []
theorem dksX12_marksOf_0 : cX12_marksOf.data.toList.drop 0 = dktX12_marksOf_0 := by decide +kernel
theorem dX12_marksOf_0 : decode cX12_marksOf 0 = .ok (.iload_n 0, 1) := dk_26 (dk_at dksX12_marksOf_0 0 rfl rfl)
theorem dX12_marksOf_1 : decode cX12_marksOf 1 = .ok (.iload_n 1, 1) := dk_27 (dk_at dksX12_marksOf_0 1 rfl rfl)
theorem dX12_marksOf_2 : decode cX12_marksOf 2 = .ok (.iconst 4, 1) := dk_7 (dk_at dksX12_marksOf_0 2 rfl rfl)
theorem dX12_marksOf_3 : decode cX12_marksOf 3 = .ok (.ishr, 1) := dk_122 (dk_at dksX12_marksOf_0 3 rfl rfl)
theorem dX12_marksOf_4 : decode cX12_marksOf 4 = .ok (.bipush 15, 2) := dk_16 15 (dk_at dksX12_marksOf_0 4 rfl rfl)
theorem dX12_marksOf_6 : decode cX12_marksOf 6 = .ok (.iand, 1) := dk_126 (dk_at dksX12_marksOf_0 6 rfl rfl)
theorem dX12_marksOf_7 : decode cX12_marksOf 7 = .ok (.ior, 1) := dk_128 (dk_at dksX12_marksOf_0 7 rfl rfl)
theorem dX12_marksOf_8 : decode cX12_marksOf 8 = .ok (.iload_n 1, 1) := dk_27 (dk_at dksX12_marksOf_0 8 rfl rfl)
theorem dX12_marksOf_9 : decode cX12_marksOf 9 = .ok (.bipush 15, 2) := dk_16 15 (dk_at dksX12_marksOf_0 9 rfl rfl)
theorem dX12_marksOf_11 : decode cX12_marksOf 11 = .ok (.iand, 1) := dk_126 (dk_at dksX12_marksOf_0 11 rfl rfl)
theorem dX12_marksOf_12 : decode cX12_marksOf 12 = .ok (.iconst (-1), 1) := dk_2 (dk_at dksX12_marksOf_0 12 rfl rfl)
theorem dX12_marksOf_13 : decode cX12_marksOf 13 = .ok (.ixor, 1) := dk_130 (dk_at dksX12_marksOf_0 13 rfl rfl)
theorem dX12_marksOf_14 : decode cX12_marksOf 14 = .ok (.iand, 1) := dk_126 (dk_at dksX12_marksOf_0 14 rfl rfl)
theorem dX12_marksOf_15 : decode cX12_marksOf 15 = .ok (.ireturn, 1) := dk_172 (dk_at dksX12_marksOf_0 15 rfl rfl)
abbrev cX12_made : ByteArray := prog_24_method_55_code
def yX12_made : MethodName := ⟨RX12, "made", "(II)I"⟩
def dkwX12_made_0 : List UInt8 := [42, 28, 182, 1, 10, 153, 0, 12, 42, 16, 250, 182, 0, 183, 167, 0, 9, 42, 27, 28, 182, 0, 218, 172]
abbrev dktX12_made_0 : List UInt8 := dkwX12_made_0 ++ []
theorem dksX12_made_0 : cX12_made.data.toList.drop 0 = dktX12_made_0 := by decide +kernel
theorem dX12_made_0 : decode cX12_made 0 = .ok (.aload_n 0, 1) := dk_42 (dk_at dksX12_made_0 0 rfl rfl)
theorem dX12_made_1 : decode cX12_made 1 = .ok (.iload_n 2, 1) := dk_28 (dk_at dksX12_made_0 1 rfl rfl)
theorem dX12_made_2 : decode cX12_made 2 = .ok (.invokevirtual 266, 3) := dk_182 1 10 (dk_at dksX12_made_0 2 rfl rfl)
theorem dX12_made_5 : decode cX12_made 5 = .ok (.ifCond .eq 12, 3) := dk_153 0 12 (dk_at dksX12_made_0 5 rfl rfl)
theorem dX12_made_8 : decode cX12_made 8 = .ok (.aload_n 0, 1) := dk_42 (dk_at dksX12_made_0 8 rfl rfl)
theorem dX12_made_9 : decode cX12_made 9 = .ok (.bipush (-6), 2) := dk_16 250 (dk_at dksX12_made_0 9 rfl rfl)
theorem dX12_made_11 : decode cX12_made 11 = .ok (.invokevirtual 183, 3) := dk_182 0 183 (dk_at dksX12_made_0 11 rfl rfl)
theorem dX12_made_14 : decode cX12_made 14 = .ok (.goto 9, 3) := dk_167 0 9 (dk_at dksX12_made_0 14 rfl rfl)
theorem dX12_made_17 : decode cX12_made 17 = .ok (.aload_n 0, 1) := dk_42 (dk_at dksX12_made_0 17 rfl rfl)
theorem dX12_made_18 : decode cX12_made 18 = .ok (.iload_n 1, 1) := dk_27 (dk_at dksX12_made_0 18 rfl rfl)
theorem dX12_made_19 : decode cX12_made 19 = .ok (.iload_n 2, 1) := dk_28 (dk_at dksX12_made_0 19 rfl rfl)
theorem dX12_made_20 : decode cX12_made 20 = .ok (.invokevirtual 218, 3) := dk_182 0 218 (dk_at dksX12_made_0 20 rfl rfl)
theorem dX12_made_23 : decode cX12_made 23 = .ok (.ireturn, 1) := dk_172 (dk_at dksX12_made_0 23 rfl rfl)
abbrev cX12_isTooLarge : ByteArray := prog_24_method_14_code
def yX12_isTooLarge : MethodName := ⟨RX12, "isTooLarge", "(I)Z"⟩
def dkwX12_isTooLarge_3 : List UInt8 := [167, 0, 4, 3, 172]
abbrev dktX12_isTooLarge_3 : List UInt8 := dkwX12_isTooLarge_3 ++ []
def dkwX12_isTooLarge_2 : List UInt8 := [180, 0, 40, 27, 50, 42, 180, 0, 43, 27, 46, 18, 109, 184, 0, 111, 100, 17, 39, 15, 164, 0, 7, 4]
abbrev dktX12_isTooLarge_2 : List UInt8 := dkwX12_isTooLarge_2 ++ dktX12_isTooLarge_3
def dkwX12_isTooLarge_1 : List UInt8 := [163, 0, 47, 42, 180, 0, 43, 27, 46, 28, 100, 17, 39, 15, 163, 0, 33, 42, 180, 0, 43, 27, 46, 42]
abbrev dktX12_isTooLarge_1 : List UInt8 := dkwX12_isTooLarge_1 ++ dktX12_isTooLarge_2
def dkwX12_isTooLarge_0 : List UInt8 := [42, 180, 0, 40, 27, 50, 42, 180, 0, 43, 27, 46, 18, 110, 184, 0, 111, 61, 28, 17, 1, 144]
abbrev dktX12_isTooLarge_0 : List UInt8 := dkwX12_isTooLarge_0 ++ dktX12_isTooLarge_1
theorem dksX12_isTooLarge_0 : cX12_isTooLarge.data.toList.drop 0 = dktX12_isTooLarge_0 := by decide +kernel
theorem dksX12_isTooLarge_1 : cX12_isTooLarge.data.toList.drop 22 = dktX12_isTooLarge_1 := dk_seg dksX12_isTooLarge_0 22 rfl rfl
theorem dksX12_isTooLarge_2 : cX12_isTooLarge.data.toList.drop 46 = dktX12_isTooLarge_2 := dk_seg dksX12_isTooLarge_1 24 rfl rfl
theorem dksX12_isTooLarge_3 : cX12_isTooLarge.data.toList.drop 70 = dktX12_isTooLarge_3 := dk_seg dksX12_isTooLarge_2 24 rfl rfl
theorem dX12_isTooLarge_0 : decode cX12_isTooLarge 0 = .ok (.aload_n 0, 1) := dk_42 (dk_at dksX12_isTooLarge_0 0 rfl rfl)
theorem dX12_isTooLarge_1 : decode cX12_isTooLarge 1 = .ok (.getfield 40, 3) := dk_180 0 40 (dk_at dksX12_isTooLarge_0 1 rfl rfl)
theorem dX12_isTooLarge_4 : decode cX12_isTooLarge 4 = .ok (.iload_n 1, 1) := dk_27 (dk_at dksX12_isTooLarge_0 4 rfl rfl)
theorem dX12_isTooLarge_5 : decode cX12_isTooLarge 5 = .ok (.aaload, 1) := dk_50 (dk_at dksX12_isTooLarge_0 5 rfl rfl)
theorem dX12_isTooLarge_6 : decode cX12_isTooLarge 6 = .ok (.aload_n 0, 1) := dk_42 (dk_at dksX12_isTooLarge_0 6 rfl rfl)
theorem dX12_isTooLarge_7 : decode cX12_isTooLarge 7 = .ok (.getfield 43, 3) := dk_180 0 43 (dk_at dksX12_isTooLarge_0 7 rfl rfl)
theorem dX12_isTooLarge_10 : decode cX12_isTooLarge 10 = .ok (.iload_n 1, 1) := dk_27 (dk_at dksX12_isTooLarge_0 10 rfl rfl)
theorem dX12_isTooLarge_11 : decode cX12_isTooLarge 11 = .ok (.iaload, 1) := dk_46 (dk_at dksX12_isTooLarge_0 11 rfl rfl)
theorem dX12_isTooLarge_12 : decode cX12_isTooLarge 12 = .ok (.ldc 110, 2) := dk_18 110 (dk_at dksX12_isTooLarge_0 12 rfl rfl)
theorem dX12_isTooLarge_14 : decode cX12_isTooLarge 14 = .ok (.invokestatic 111, 3) := dk_184 0 111 (dk_at dksX12_isTooLarge_0 14 rfl rfl)
theorem dX12_isTooLarge_17 : decode cX12_isTooLarge 17 = .ok (.istore_n 2, 1) := dk_61 (dk_at dksX12_isTooLarge_0 17 rfl rfl)
theorem dX12_isTooLarge_18 : decode cX12_isTooLarge 18 = .ok (.iload_n 2, 1) := dk_28 (dk_at dksX12_isTooLarge_0 18 rfl rfl)
theorem dX12_isTooLarge_19 : decode cX12_isTooLarge 19 = .ok (.sipush 400, 3) := dk_17 1 144 (dk_at dksX12_isTooLarge_0 19 rfl rfl)
theorem dX12_isTooLarge_22 : decode cX12_isTooLarge 22 = .ok (.if_icmp .gt 47, 3) := dk_163 0 47 (dk_at dksX12_isTooLarge_1 0 rfl rfl)
theorem dX12_isTooLarge_25 : decode cX12_isTooLarge 25 = .ok (.aload_n 0, 1) := dk_42 (dk_at dksX12_isTooLarge_1 3 rfl rfl)
theorem dX12_isTooLarge_26 : decode cX12_isTooLarge 26 = .ok (.getfield 43, 3) := dk_180 0 43 (dk_at dksX12_isTooLarge_1 4 rfl rfl)
theorem dX12_isTooLarge_29 : decode cX12_isTooLarge 29 = .ok (.iload_n 1, 1) := dk_27 (dk_at dksX12_isTooLarge_1 7 rfl rfl)
theorem dX12_isTooLarge_30 : decode cX12_isTooLarge 30 = .ok (.iaload, 1) := dk_46 (dk_at dksX12_isTooLarge_1 8 rfl rfl)
theorem dX12_isTooLarge_31 : decode cX12_isTooLarge 31 = .ok (.iload_n 2, 1) := dk_28 (dk_at dksX12_isTooLarge_1 9 rfl rfl)
theorem dX12_isTooLarge_32 : decode cX12_isTooLarge 32 = .ok (.isub, 1) := dk_100 (dk_at dksX12_isTooLarge_1 10 rfl rfl)
theorem dX12_isTooLarge_33 : decode cX12_isTooLarge 33 = .ok (.sipush 9999, 3) := dk_17 39 15 (dk_at dksX12_isTooLarge_1 11 rfl rfl)
theorem dX12_isTooLarge_36 : decode cX12_isTooLarge 36 = .ok (.if_icmp .gt 33, 3) := dk_163 0 33 (dk_at dksX12_isTooLarge_1 14 rfl rfl)
theorem dX12_isTooLarge_39 : decode cX12_isTooLarge 39 = .ok (.aload_n 0, 1) := dk_42 (dk_at dksX12_isTooLarge_1 17 rfl rfl)
theorem dX12_isTooLarge_40 : decode cX12_isTooLarge 40 = .ok (.getfield 43, 3) := dk_180 0 43 (dk_at dksX12_isTooLarge_1 18 rfl rfl)
theorem dX12_isTooLarge_43 : decode cX12_isTooLarge 43 = .ok (.iload_n 1, 1) := dk_27 (dk_at dksX12_isTooLarge_1 21 rfl rfl)
theorem dX12_isTooLarge_44 : decode cX12_isTooLarge 44 = .ok (.iaload, 1) := dk_46 (dk_at dksX12_isTooLarge_1 22 rfl rfl)
theorem dX12_isTooLarge_45 : decode cX12_isTooLarge 45 = .ok (.aload_n 0, 1) := dk_42 (dk_at dksX12_isTooLarge_1 23 rfl rfl)
theorem dX12_isTooLarge_46 : decode cX12_isTooLarge 46 = .ok (.getfield 40, 3) := dk_180 0 40 (dk_at dksX12_isTooLarge_2 0 rfl rfl)
theorem dX12_isTooLarge_49 : decode cX12_isTooLarge 49 = .ok (.iload_n 1, 1) := dk_27 (dk_at dksX12_isTooLarge_2 3 rfl rfl)
theorem dX12_isTooLarge_50 : decode cX12_isTooLarge 50 = .ok (.aaload, 1) := dk_50 (dk_at dksX12_isTooLarge_2 4 rfl rfl)
theorem dX12_isTooLarge_51 : decode cX12_isTooLarge 51 = .ok (.aload_n 0, 1) := dk_42 (dk_at dksX12_isTooLarge_2 5 rfl rfl)
theorem dX12_isTooLarge_52 : decode cX12_isTooLarge 52 = .ok (.getfield 43, 3) := dk_180 0 43 (dk_at dksX12_isTooLarge_2 6 rfl rfl)
theorem dX12_isTooLarge_55 : decode cX12_isTooLarge 55 = .ok (.iload_n 1, 1) := dk_27 (dk_at dksX12_isTooLarge_2 9 rfl rfl)
theorem dX12_isTooLarge_56 : decode cX12_isTooLarge 56 = .ok (.iaload, 1) := dk_46 (dk_at dksX12_isTooLarge_2 10 rfl rfl)
theorem dX12_isTooLarge_57 : decode cX12_isTooLarge 57 = .ok (.ldc 109, 2) := dk_18 109 (dk_at dksX12_isTooLarge_2 11 rfl rfl)
theorem dX12_isTooLarge_59 : decode cX12_isTooLarge 59 = .ok (.invokestatic 111, 3) := dk_184 0 111 (dk_at dksX12_isTooLarge_2 13 rfl rfl)
theorem dX12_isTooLarge_62 : decode cX12_isTooLarge 62 = .ok (.isub, 1) := dk_100 (dk_at dksX12_isTooLarge_2 16 rfl rfl)
theorem dX12_isTooLarge_63 : decode cX12_isTooLarge 63 = .ok (.sipush 9999, 3) := dk_17 39 15 (dk_at dksX12_isTooLarge_2 17 rfl rfl)
theorem dX12_isTooLarge_66 : decode cX12_isTooLarge 66 = .ok (.if_icmp .le 7, 3) := dk_164 0 7 (dk_at dksX12_isTooLarge_2 20 rfl rfl)
theorem dX12_isTooLarge_69 : decode cX12_isTooLarge 69 = .ok (.iconst 1, 1) := dk_4 (dk_at dksX12_isTooLarge_2 23 rfl rfl)
theorem dX12_isTooLarge_70 : decode cX12_isTooLarge 70 = .ok (.goto 4, 3) := dk_167 0 4 (dk_at dksX12_isTooLarge_3 0 rfl rfl)
theorem dX12_isTooLarge_73 : decode cX12_isTooLarge 73 = .ok (.iconst 0, 1) := dk_3 (dk_at dksX12_isTooLarge_3 3 rfl rfl)
theorem dX12_isTooLarge_74 : decode cX12_isTooLarge 74 = .ok (.ireturn, 1) := dk_172 (dk_at dksX12_isTooLarge_3 4 rfl rfl)
abbrev cX12_over : ByteArray := prog_24_method_57_code
def yX12_over : MethodName := ⟨RX12, "over", "(IIII)I"⟩
def dkwX12_over_4 : List UInt8 := [4, 21, 4, 5, 182, 0, 164, 42, 27, 5, 182, 1, 13, 172]
abbrev dktX12_over_4 : List UInt8 := dkwX12_over_4 ++ []
def dkwX12_over_3 : List UInt8 := [159, 0, 10, 42, 16, 251, 182, 0, 183, 172, 42, 3, 28, 182, 0, 97, 42, 4, 29, 182, 0, 97, 42, 3]
abbrev dktX12_over_3 : List UInt8 := dkwX12_over_3 ++ dktX12_over_4
def dkwX12_over_2 : List UInt8 := [29, 182, 0, 230, 154, 0, 10, 42, 16, 252, 182, 0, 183, 172, 42, 28, 182, 0, 233, 42, 29, 182, 0, 233]
abbrev dktX12_over_2 : List UInt8 := dkwX12_over_2 ++ dktX12_over_3
def dkwX12_over_1 : List UInt8 := [9, 10, 184, 0, 175, 154, 0, 10, 42, 16, 254, 182, 0, 183, 172, 42, 28, 182, 0, 230, 153, 0, 11, 42]
abbrev dktX12_over_1 : List UInt8 := dkwX12_over_1 ++ dktX12_over_2
def dkwX12_over_0 : List UInt8 := [27, 184, 0, 211, 153, 0, 28, 28, 184, 0, 211, 153, 0, 21, 29, 184, 0, 211, 153, 0, 14, 21, 4, 133]
abbrev dktX12_over_0 : List UInt8 := dkwX12_over_0 ++ dktX12_over_1
theorem dksX12_over_0 : cX12_over.data.toList.drop 0 = dktX12_over_0 := by decide +kernel
theorem dksX12_over_1 : cX12_over.data.toList.drop 24 = dktX12_over_1 := dk_seg dksX12_over_0 24 rfl rfl
theorem dksX12_over_2 : cX12_over.data.toList.drop 48 = dktX12_over_2 := dk_seg dksX12_over_1 24 rfl rfl
theorem dksX12_over_3 : cX12_over.data.toList.drop 72 = dktX12_over_3 := dk_seg dksX12_over_2 24 rfl rfl
theorem dksX12_over_4 : cX12_over.data.toList.drop 96 = dktX12_over_4 := dk_seg dksX12_over_3 24 rfl rfl
theorem dX12_over_0 : decode cX12_over 0 = .ok (.iload_n 1, 1) := dk_27 (dk_at dksX12_over_0 0 rfl rfl)
theorem dX12_over_1 : decode cX12_over 1 = .ok (.invokestatic 211, 3) := dk_184 0 211 (dk_at dksX12_over_0 1 rfl rfl)
theorem dX12_over_4 : decode cX12_over 4 = .ok (.ifCond .eq 28, 3) := dk_153 0 28 (dk_at dksX12_over_0 4 rfl rfl)
theorem dX12_over_7 : decode cX12_over 7 = .ok (.iload_n 2, 1) := dk_28 (dk_at dksX12_over_0 7 rfl rfl)
theorem dX12_over_8 : decode cX12_over 8 = .ok (.invokestatic 211, 3) := dk_184 0 211 (dk_at dksX12_over_0 8 rfl rfl)
theorem dX12_over_11 : decode cX12_over 11 = .ok (.ifCond .eq 21, 3) := dk_153 0 21 (dk_at dksX12_over_0 11 rfl rfl)
theorem dX12_over_14 : decode cX12_over 14 = .ok (.iload_n 3, 1) := dk_29 (dk_at dksX12_over_0 14 rfl rfl)
theorem dX12_over_15 : decode cX12_over 15 = .ok (.invokestatic 211, 3) := dk_184 0 211 (dk_at dksX12_over_0 15 rfl rfl)
theorem dX12_over_18 : decode cX12_over 18 = .ok (.ifCond .eq 14, 3) := dk_153 0 14 (dk_at dksX12_over_0 18 rfl rfl)
theorem dX12_over_21 : decode cX12_over 21 = .ok (.iload 4, 2) := dk_21 4 (dk_at dksX12_over_0 21 rfl rfl)
theorem dX12_over_23 : decode cX12_over 23 = .ok (.i2l, 1) := dk_133 (dk_at dksX12_over_0 23 rfl rfl)
theorem dX12_over_24 : decode cX12_over 24 = .ok (.lconst 0, 1) := dk_9 (dk_at dksX12_over_1 0 rfl rfl)
theorem dX12_over_25 : decode cX12_over 25 = .ok (.lconst 1, 1) := dk_10 (dk_at dksX12_over_1 1 rfl rfl)
theorem dX12_over_26 : decode cX12_over 26 = .ok (.invokestatic 175, 3) := dk_184 0 175 (dk_at dksX12_over_1 2 rfl rfl)
theorem dX12_over_29 : decode cX12_over 29 = .ok (.ifCond .ne 10, 3) := dk_154 0 10 (dk_at dksX12_over_1 5 rfl rfl)
theorem dX12_over_32 : decode cX12_over 32 = .ok (.aload_n 0, 1) := dk_42 (dk_at dksX12_over_1 8 rfl rfl)
theorem dX12_over_33 : decode cX12_over 33 = .ok (.bipush (-2), 2) := dk_16 254 (dk_at dksX12_over_1 9 rfl rfl)
theorem dX12_over_35 : decode cX12_over 35 = .ok (.invokevirtual 183, 3) := dk_182 0 183 (dk_at dksX12_over_1 11 rfl rfl)
theorem dX12_over_38 : decode cX12_over 38 = .ok (.ireturn, 1) := dk_172 (dk_at dksX12_over_1 14 rfl rfl)
theorem dX12_over_39 : decode cX12_over 39 = .ok (.aload_n 0, 1) := dk_42 (dk_at dksX12_over_1 15 rfl rfl)
theorem dX12_over_40 : decode cX12_over 40 = .ok (.iload_n 2, 1) := dk_28 (dk_at dksX12_over_1 16 rfl rfl)
theorem dX12_over_41 : decode cX12_over 41 = .ok (.invokevirtual 230, 3) := dk_182 0 230 (dk_at dksX12_over_1 17 rfl rfl)
theorem dX12_over_44 : decode cX12_over 44 = .ok (.ifCond .eq 11, 3) := dk_153 0 11 (dk_at dksX12_over_1 20 rfl rfl)
theorem dX12_over_47 : decode cX12_over 47 = .ok (.aload_n 0, 1) := dk_42 (dk_at dksX12_over_1 23 rfl rfl)
theorem dX12_over_48 : decode cX12_over 48 = .ok (.iload_n 3, 1) := dk_29 (dk_at dksX12_over_2 0 rfl rfl)
theorem dX12_over_49 : decode cX12_over 49 = .ok (.invokevirtual 230, 3) := dk_182 0 230 (dk_at dksX12_over_2 1 rfl rfl)
theorem dX12_over_52 : decode cX12_over 52 = .ok (.ifCond .ne 10, 3) := dk_154 0 10 (dk_at dksX12_over_2 4 rfl rfl)
theorem dX12_over_55 : decode cX12_over 55 = .ok (.aload_n 0, 1) := dk_42 (dk_at dksX12_over_2 7 rfl rfl)
theorem dX12_over_56 : decode cX12_over 56 = .ok (.bipush (-4), 2) := dk_16 252 (dk_at dksX12_over_2 8 rfl rfl)
theorem dX12_over_58 : decode cX12_over 58 = .ok (.invokevirtual 183, 3) := dk_182 0 183 (dk_at dksX12_over_2 10 rfl rfl)
theorem dX12_over_61 : decode cX12_over 61 = .ok (.ireturn, 1) := dk_172 (dk_at dksX12_over_2 13 rfl rfl)
theorem dX12_over_62 : decode cX12_over 62 = .ok (.aload_n 0, 1) := dk_42 (dk_at dksX12_over_2 14 rfl rfl)
theorem dX12_over_63 : decode cX12_over 63 = .ok (.iload_n 2, 1) := dk_28 (dk_at dksX12_over_2 15 rfl rfl)
theorem dX12_over_64 : decode cX12_over 64 = .ok (.invokevirtual 233, 3) := dk_182 0 233 (dk_at dksX12_over_2 16 rfl rfl)
theorem dX12_over_67 : decode cX12_over 67 = .ok (.aload_n 0, 1) := dk_42 (dk_at dksX12_over_2 19 rfl rfl)
theorem dX12_over_68 : decode cX12_over 68 = .ok (.iload_n 3, 1) := dk_29 (dk_at dksX12_over_2 20 rfl rfl)
theorem dX12_over_69 : decode cX12_over 69 = .ok (.invokevirtual 233, 3) := dk_182 0 233 (dk_at dksX12_over_2 21 rfl rfl)
theorem dX12_over_72 : decode cX12_over 72 = .ok (.if_icmp .eq 10, 3) := dk_159 0 10 (dk_at dksX12_over_3 0 rfl rfl)
theorem dX12_over_75 : decode cX12_over 75 = .ok (.aload_n 0, 1) := dk_42 (dk_at dksX12_over_3 3 rfl rfl)
theorem dX12_over_76 : decode cX12_over 76 = .ok (.bipush (-5), 2) := dk_16 251 (dk_at dksX12_over_3 4 rfl rfl)
theorem dX12_over_78 : decode cX12_over 78 = .ok (.invokevirtual 183, 3) := dk_182 0 183 (dk_at dksX12_over_3 6 rfl rfl)
theorem dX12_over_81 : decode cX12_over 81 = .ok (.ireturn, 1) := dk_172 (dk_at dksX12_over_3 9 rfl rfl)
theorem dX12_over_82 : decode cX12_over 82 = .ok (.aload_n 0, 1) := dk_42 (dk_at dksX12_over_3 10 rfl rfl)
theorem dX12_over_83 : decode cX12_over 83 = .ok (.iconst 0, 1) := dk_3 (dk_at dksX12_over_3 11 rfl rfl)
theorem dX12_over_84 : decode cX12_over 84 = .ok (.iload_n 2, 1) := dk_28 (dk_at dksX12_over_3 12 rfl rfl)
theorem dX12_over_85 : decode cX12_over 85 = .ok (.invokevirtual 97, 3) := dk_182 0 97 (dk_at dksX12_over_3 13 rfl rfl)
theorem dX12_over_88 : decode cX12_over 88 = .ok (.aload_n 0, 1) := dk_42 (dk_at dksX12_over_3 16 rfl rfl)
theorem dX12_over_89 : decode cX12_over 89 = .ok (.iconst 1, 1) := dk_4 (dk_at dksX12_over_3 17 rfl rfl)
theorem dX12_over_90 : decode cX12_over 90 = .ok (.iload_n 3, 1) := dk_29 (dk_at dksX12_over_3 18 rfl rfl)
theorem dX12_over_91 : decode cX12_over 91 = .ok (.invokevirtual 97, 3) := dk_182 0 97 (dk_at dksX12_over_3 19 rfl rfl)
theorem dX12_over_94 : decode cX12_over 94 = .ok (.aload_n 0, 1) := dk_42 (dk_at dksX12_over_3 22 rfl rfl)
theorem dX12_over_95 : decode cX12_over 95 = .ok (.iconst 0, 1) := dk_3 (dk_at dksX12_over_3 23 rfl rfl)
theorem dX12_over_96 : decode cX12_over 96 = .ok (.iconst 1, 1) := dk_4 (dk_at dksX12_over_4 0 rfl rfl)
theorem dX12_over_97 : decode cX12_over 97 = .ok (.iload 4, 2) := dk_21 4 (dk_at dksX12_over_4 1 rfl rfl)
theorem dX12_over_99 : decode cX12_over 99 = .ok (.iconst 2, 1) := dk_5 (dk_at dksX12_over_4 3 rfl rfl)
theorem dX12_over_100 : decode cX12_over 100 = .ok (.invokevirtual 164, 3) := dk_182 0 164 (dk_at dksX12_over_4 4 rfl rfl)
theorem dX12_over_103 : decode cX12_over 103 = .ok (.aload_n 0, 1) := dk_42 (dk_at dksX12_over_4 7 rfl rfl)
theorem dX12_over_104 : decode cX12_over 104 = .ok (.iload_n 1, 1) := dk_27 (dk_at dksX12_over_4 8 rfl rfl)
theorem dX12_over_105 : decode cX12_over 105 = .ok (.iconst 2, 1) := dk_5 (dk_at dksX12_over_4 9 rfl rfl)
theorem dX12_over_106 : decode cX12_over 106 = .ok (.invokevirtual 269, 3) := dk_182 1 13 (dk_at dksX12_over_4 10 rfl rfl)
theorem dX12_over_109 : decode cX12_over 109 = .ok (.ireturn, 1) := dk_172 (dk_at dksX12_over_4 13 rfl rfl)
abbrev cX12_overRow : ByteArray := prog_24_method_18_code
def yX12_overRow : MethodName := ⟨RX12, "overRow", "(IIII)V"⟩
def dkwX12_overRow_8 : List UInt8 := [21, 4, 182, 0, 131, 132, 5, 1, 132, 6, 1, 167, 255, 78, 42, 21, 4, 182, 0, 122, 177]
abbrev dktX12_overRow_8 : List UInt8 := dkwX12_overRow_8 ++ []
def dkwX12_overRow_7 : List UInt8 := [167, 0, 34, 42, 42, 180, 0, 40, 27, 50, 21, 5, 46, 42, 180, 0, 40, 28, 50, 21, 6, 46, 29]
abbrev dktX12_overRow_7 : List UInt8 := dkwX12_overRow_7 ++ dktX12_overRow_8
def dkwX12_overRow_6 : List UInt8 := [132, 5, 1, 167, 0, 53, 21, 8, 153, 0, 17, 42, 21, 4, 18, 108, 182, 0, 115, 132, 6, 1]
abbrev dktX12_overRow_6 : List UInt8 := dkwX12_overRow_6 ++ dktX12_overRow_7
def dkwX12_overRow_5 : List UInt8 := [159, 0, 8, 21, 8, 154, 0, 24, 42, 21, 4, 42, 180, 0, 40, 27, 50, 21, 5, 46, 182, 0, 115]
abbrev dktX12_overRow_5 : List UInt8 := dkwX12_overRow_5 ++ dktX12_overRow_6
def dkwX12_overRow_4 : List UInt8 := [184, 0, 104, 18, 110, 160, 0, 7, 4, 167, 0, 4, 3, 54, 8, 21, 7, 153, 0, 34, 29, 4]
abbrev dktX12_overRow_4 : List UInt8 := dkwX12_overRow_4 ++ dktX12_overRow_5
def dkwX12_overRow_3 : List UInt8 := [3, 54, 7, 21, 6, 42, 180, 0, 43, 28, 46, 162, 0, 24, 42, 180, 0, 40, 28, 50, 21, 6, 46]
abbrev dktX12_overRow_3 : List UInt8 := dkwX12_overRow_3 ++ dktX12_overRow_4
def dkwX12_overRow_2 : List UInt8 := [162, 0, 24, 42, 180, 0, 40, 27, 50, 21, 5, 46, 184, 0, 104, 18, 110, 160, 0, 7, 4, 167, 0, 4]
abbrev dktX12_overRow_2 : List UInt8 := dkwX12_overRow_2 ++ dktX12_overRow_3
def dkwX12_overRow_1 : List UInt8 := [161, 0, 14, 21, 6, 42, 180, 0, 43, 28, 46, 162, 0, 162, 21, 5, 42, 180, 0, 43, 27, 46]
abbrev dktX12_overRow_1 : List UInt8 := dkwX12_overRow_1 ++ dktX12_overRow_2
def dkwX12_overRow_0 : List UInt8 := [3, 54, 5, 3, 54, 6, 42, 180, 0, 43, 21, 4, 3, 79, 21, 5, 42, 180, 0, 43, 27, 46]
abbrev dktX12_overRow_0 : List UInt8 := dkwX12_overRow_0 ++ dktX12_overRow_1
theorem dksX12_overRow_0 : cX12_overRow.data.toList.drop 0 = dktX12_overRow_0 := by decide +kernel
theorem dksX12_overRow_1 : cX12_overRow.data.toList.drop 22 = dktX12_overRow_1 := dk_seg dksX12_overRow_0 22 rfl rfl
theorem dksX12_overRow_2 : cX12_overRow.data.toList.drop 44 = dktX12_overRow_2 := dk_seg dksX12_overRow_1 22 rfl rfl
theorem dksX12_overRow_3 : cX12_overRow.data.toList.drop 68 = dktX12_overRow_3 := dk_seg dksX12_overRow_2 24 rfl rfl
theorem dksX12_overRow_4 : cX12_overRow.data.toList.drop 91 = dktX12_overRow_4 := dk_seg dksX12_overRow_3 23 rfl rfl
theorem dksX12_overRow_5 : cX12_overRow.data.toList.drop 113 = dktX12_overRow_5 := dk_seg dksX12_overRow_4 22 rfl rfl
theorem dksX12_overRow_6 : cX12_overRow.data.toList.drop 136 = dktX12_overRow_6 := dk_seg dksX12_overRow_5 23 rfl rfl
theorem dksX12_overRow_7 : cX12_overRow.data.toList.drop 158 = dktX12_overRow_7 := dk_seg dksX12_overRow_6 22 rfl rfl
theorem dksX12_overRow_8 : cX12_overRow.data.toList.drop 181 = dktX12_overRow_8 := dk_seg dksX12_overRow_7 23 rfl rfl
theorem dX12_overRow_0 : decode cX12_overRow 0 = .ok (.iconst 0, 1) := dk_3 (dk_at dksX12_overRow_0 0 rfl rfl)
theorem dX12_overRow_1 : decode cX12_overRow 1 = .ok (.istore 5, 2) := dk_54 5 (dk_at dksX12_overRow_0 1 rfl rfl)
theorem dX12_overRow_3 : decode cX12_overRow 3 = .ok (.iconst 0, 1) := dk_3 (dk_at dksX12_overRow_0 3 rfl rfl)
theorem dX12_overRow_4 : decode cX12_overRow 4 = .ok (.istore 6, 2) := dk_54 6 (dk_at dksX12_overRow_0 4 rfl rfl)
theorem dX12_overRow_6 : decode cX12_overRow 6 = .ok (.aload_n 0, 1) := dk_42 (dk_at dksX12_overRow_0 6 rfl rfl)
theorem dX12_overRow_7 : decode cX12_overRow 7 = .ok (.getfield 43, 3) := dk_180 0 43 (dk_at dksX12_overRow_0 7 rfl rfl)
theorem dX12_overRow_10 : decode cX12_overRow 10 = .ok (.iload 4, 2) := dk_21 4 (dk_at dksX12_overRow_0 10 rfl rfl)
theorem dX12_overRow_12 : decode cX12_overRow 12 = .ok (.iconst 0, 1) := dk_3 (dk_at dksX12_overRow_0 12 rfl rfl)
theorem dX12_overRow_13 : decode cX12_overRow 13 = .ok (.iastore, 1) := dk_79 (dk_at dksX12_overRow_0 13 rfl rfl)
theorem dX12_overRow_14 : decode cX12_overRow 14 = .ok (.iload 5, 2) := dk_21 5 (dk_at dksX12_overRow_0 14 rfl rfl)
theorem dX12_overRow_16 : decode cX12_overRow 16 = .ok (.aload_n 0, 1) := dk_42 (dk_at dksX12_overRow_0 16 rfl rfl)
theorem dX12_overRow_17 : decode cX12_overRow 17 = .ok (.getfield 43, 3) := dk_180 0 43 (dk_at dksX12_overRow_0 17 rfl rfl)
theorem dX12_overRow_20 : decode cX12_overRow 20 = .ok (.iload_n 1, 1) := dk_27 (dk_at dksX12_overRow_0 20 rfl rfl)
theorem dX12_overRow_21 : decode cX12_overRow 21 = .ok (.iaload, 1) := dk_46 (dk_at dksX12_overRow_0 21 rfl rfl)
theorem dX12_overRow_22 : decode cX12_overRow 22 = .ok (.if_icmp .lt 14, 3) := dk_161 0 14 (dk_at dksX12_overRow_1 0 rfl rfl)
theorem dX12_overRow_25 : decode cX12_overRow 25 = .ok (.iload 6, 2) := dk_21 6 (dk_at dksX12_overRow_1 3 rfl rfl)
theorem dX12_overRow_27 : decode cX12_overRow 27 = .ok (.aload_n 0, 1) := dk_42 (dk_at dksX12_overRow_1 5 rfl rfl)
theorem dX12_overRow_28 : decode cX12_overRow 28 = .ok (.getfield 43, 3) := dk_180 0 43 (dk_at dksX12_overRow_1 6 rfl rfl)
theorem dX12_overRow_31 : decode cX12_overRow 31 = .ok (.iload_n 2, 1) := dk_28 (dk_at dksX12_overRow_1 9 rfl rfl)
theorem dX12_overRow_32 : decode cX12_overRow 32 = .ok (.iaload, 1) := dk_46 (dk_at dksX12_overRow_1 10 rfl rfl)
theorem dX12_overRow_33 : decode cX12_overRow 33 = .ok (.if_icmp .ge 162, 3) := dk_162 0 162 (dk_at dksX12_overRow_1 11 rfl rfl)
theorem dX12_overRow_36 : decode cX12_overRow 36 = .ok (.iload 5, 2) := dk_21 5 (dk_at dksX12_overRow_1 14 rfl rfl)
theorem dX12_overRow_38 : decode cX12_overRow 38 = .ok (.aload_n 0, 1) := dk_42 (dk_at dksX12_overRow_1 16 rfl rfl)
theorem dX12_overRow_39 : decode cX12_overRow 39 = .ok (.getfield 43, 3) := dk_180 0 43 (dk_at dksX12_overRow_1 17 rfl rfl)
theorem dX12_overRow_42 : decode cX12_overRow 42 = .ok (.iload_n 1, 1) := dk_27 (dk_at dksX12_overRow_1 20 rfl rfl)
theorem dX12_overRow_43 : decode cX12_overRow 43 = .ok (.iaload, 1) := dk_46 (dk_at dksX12_overRow_1 21 rfl rfl)
theorem dX12_overRow_44 : decode cX12_overRow 44 = .ok (.if_icmp .ge 24, 3) := dk_162 0 24 (dk_at dksX12_overRow_2 0 rfl rfl)
theorem dX12_overRow_47 : decode cX12_overRow 47 = .ok (.aload_n 0, 1) := dk_42 (dk_at dksX12_overRow_2 3 rfl rfl)
theorem dX12_overRow_48 : decode cX12_overRow 48 = .ok (.getfield 40, 3) := dk_180 0 40 (dk_at dksX12_overRow_2 4 rfl rfl)
theorem dX12_overRow_51 : decode cX12_overRow 51 = .ok (.iload_n 1, 1) := dk_27 (dk_at dksX12_overRow_2 7 rfl rfl)
theorem dX12_overRow_52 : decode cX12_overRow 52 = .ok (.aaload, 1) := dk_50 (dk_at dksX12_overRow_2 8 rfl rfl)
theorem dX12_overRow_53 : decode cX12_overRow 53 = .ok (.iload 5, 2) := dk_21 5 (dk_at dksX12_overRow_2 9 rfl rfl)
theorem dX12_overRow_55 : decode cX12_overRow 55 = .ok (.iaload, 1) := dk_46 (dk_at dksX12_overRow_2 11 rfl rfl)
theorem dX12_overRow_56 : decode cX12_overRow 56 = .ok (.invokestatic 104, 3) := dk_184 0 104 (dk_at dksX12_overRow_2 12 rfl rfl)
theorem dX12_overRow_59 : decode cX12_overRow 59 = .ok (.ldc 110, 2) := dk_18 110 (dk_at dksX12_overRow_2 15 rfl rfl)
theorem dX12_overRow_61 : decode cX12_overRow 61 = .ok (.if_icmp .ne 7, 3) := dk_160 0 7 (dk_at dksX12_overRow_2 17 rfl rfl)
theorem dX12_overRow_64 : decode cX12_overRow 64 = .ok (.iconst 1, 1) := dk_4 (dk_at dksX12_overRow_2 20 rfl rfl)
theorem dX12_overRow_65 : decode cX12_overRow 65 = .ok (.goto 4, 3) := dk_167 0 4 (dk_at dksX12_overRow_2 21 rfl rfl)
theorem dX12_overRow_68 : decode cX12_overRow 68 = .ok (.iconst 0, 1) := dk_3 (dk_at dksX12_overRow_3 0 rfl rfl)
theorem dX12_overRow_69 : decode cX12_overRow 69 = .ok (.istore 7, 2) := dk_54 7 (dk_at dksX12_overRow_3 1 rfl rfl)
theorem dX12_overRow_71 : decode cX12_overRow 71 = .ok (.iload 6, 2) := dk_21 6 (dk_at dksX12_overRow_3 3 rfl rfl)
theorem dX12_overRow_73 : decode cX12_overRow 73 = .ok (.aload_n 0, 1) := dk_42 (dk_at dksX12_overRow_3 5 rfl rfl)
theorem dX12_overRow_74 : decode cX12_overRow 74 = .ok (.getfield 43, 3) := dk_180 0 43 (dk_at dksX12_overRow_3 6 rfl rfl)
theorem dX12_overRow_77 : decode cX12_overRow 77 = .ok (.iload_n 2, 1) := dk_28 (dk_at dksX12_overRow_3 9 rfl rfl)
theorem dX12_overRow_78 : decode cX12_overRow 78 = .ok (.iaload, 1) := dk_46 (dk_at dksX12_overRow_3 10 rfl rfl)
theorem dX12_overRow_79 : decode cX12_overRow 79 = .ok (.if_icmp .ge 24, 3) := dk_162 0 24 (dk_at dksX12_overRow_3 11 rfl rfl)
theorem dX12_overRow_82 : decode cX12_overRow 82 = .ok (.aload_n 0, 1) := dk_42 (dk_at dksX12_overRow_3 14 rfl rfl)
theorem dX12_overRow_83 : decode cX12_overRow 83 = .ok (.getfield 40, 3) := dk_180 0 40 (dk_at dksX12_overRow_3 15 rfl rfl)
theorem dX12_overRow_86 : decode cX12_overRow 86 = .ok (.iload_n 2, 1) := dk_28 (dk_at dksX12_overRow_3 18 rfl rfl)
theorem dX12_overRow_87 : decode cX12_overRow 87 = .ok (.aaload, 1) := dk_50 (dk_at dksX12_overRow_3 19 rfl rfl)
theorem dX12_overRow_88 : decode cX12_overRow 88 = .ok (.iload 6, 2) := dk_21 6 (dk_at dksX12_overRow_3 20 rfl rfl)
theorem dX12_overRow_90 : decode cX12_overRow 90 = .ok (.iaload, 1) := dk_46 (dk_at dksX12_overRow_3 22 rfl rfl)
theorem dX12_overRow_91 : decode cX12_overRow 91 = .ok (.invokestatic 104, 3) := dk_184 0 104 (dk_at dksX12_overRow_4 0 rfl rfl)
theorem dX12_overRow_94 : decode cX12_overRow 94 = .ok (.ldc 110, 2) := dk_18 110 (dk_at dksX12_overRow_4 3 rfl rfl)
theorem dX12_overRow_96 : decode cX12_overRow 96 = .ok (.if_icmp .ne 7, 3) := dk_160 0 7 (dk_at dksX12_overRow_4 5 rfl rfl)
theorem dX12_overRow_99 : decode cX12_overRow 99 = .ok (.iconst 1, 1) := dk_4 (dk_at dksX12_overRow_4 8 rfl rfl)
theorem dX12_overRow_100 : decode cX12_overRow 100 = .ok (.goto 4, 3) := dk_167 0 4 (dk_at dksX12_overRow_4 9 rfl rfl)
theorem dX12_overRow_103 : decode cX12_overRow 103 = .ok (.iconst 0, 1) := dk_3 (dk_at dksX12_overRow_4 12 rfl rfl)
theorem dX12_overRow_104 : decode cX12_overRow 104 = .ok (.istore 8, 2) := dk_54 8 (dk_at dksX12_overRow_4 13 rfl rfl)
theorem dX12_overRow_106 : decode cX12_overRow 106 = .ok (.iload 7, 2) := dk_21 7 (dk_at dksX12_overRow_4 15 rfl rfl)
theorem dX12_overRow_108 : decode cX12_overRow 108 = .ok (.ifCond .eq 34, 3) := dk_153 0 34 (dk_at dksX12_overRow_4 17 rfl rfl)
theorem dX12_overRow_111 : decode cX12_overRow 111 = .ok (.iload_n 3, 1) := dk_29 (dk_at dksX12_overRow_4 20 rfl rfl)
theorem dX12_overRow_112 : decode cX12_overRow 112 = .ok (.iconst 1, 1) := dk_4 (dk_at dksX12_overRow_4 21 rfl rfl)
theorem dX12_overRow_113 : decode cX12_overRow 113 = .ok (.if_icmp .eq 8, 3) := dk_159 0 8 (dk_at dksX12_overRow_5 0 rfl rfl)
theorem dX12_overRow_116 : decode cX12_overRow 116 = .ok (.iload 8, 2) := dk_21 8 (dk_at dksX12_overRow_5 3 rfl rfl)
theorem dX12_overRow_118 : decode cX12_overRow 118 = .ok (.ifCond .ne 24, 3) := dk_154 0 24 (dk_at dksX12_overRow_5 5 rfl rfl)
theorem dX12_overRow_121 : decode cX12_overRow 121 = .ok (.aload_n 0, 1) := dk_42 (dk_at dksX12_overRow_5 8 rfl rfl)
theorem dX12_overRow_122 : decode cX12_overRow 122 = .ok (.iload 4, 2) := dk_21 4 (dk_at dksX12_overRow_5 9 rfl rfl)
theorem dX12_overRow_124 : decode cX12_overRow 124 = .ok (.aload_n 0, 1) := dk_42 (dk_at dksX12_overRow_5 11 rfl rfl)
theorem dX12_overRow_125 : decode cX12_overRow 125 = .ok (.getfield 40, 3) := dk_180 0 40 (dk_at dksX12_overRow_5 12 rfl rfl)
theorem dX12_overRow_128 : decode cX12_overRow 128 = .ok (.iload_n 1, 1) := dk_27 (dk_at dksX12_overRow_5 15 rfl rfl)
theorem dX12_overRow_129 : decode cX12_overRow 129 = .ok (.aaload, 1) := dk_50 (dk_at dksX12_overRow_5 16 rfl rfl)
theorem dX12_overRow_130 : decode cX12_overRow 130 = .ok (.iload 5, 2) := dk_21 5 (dk_at dksX12_overRow_5 17 rfl rfl)
theorem dX12_overRow_132 : decode cX12_overRow 132 = .ok (.iaload, 1) := dk_46 (dk_at dksX12_overRow_5 19 rfl rfl)
theorem dX12_overRow_133 : decode cX12_overRow 133 = .ok (.invokevirtual 115, 3) := dk_182 0 115 (dk_at dksX12_overRow_5 20 rfl rfl)
theorem dX12_overRow_136 : decode cX12_overRow 136 = .ok (.iinc 5 1, 3) := dk_132 5 1 (dk_at dksX12_overRow_6 0 rfl rfl)
theorem dX12_overRow_139 : decode cX12_overRow 139 = .ok (.goto 53, 3) := dk_167 0 53 (dk_at dksX12_overRow_6 3 rfl rfl)
theorem dX12_overRow_142 : decode cX12_overRow 142 = .ok (.iload 8, 2) := dk_21 8 (dk_at dksX12_overRow_6 6 rfl rfl)
theorem dX12_overRow_144 : decode cX12_overRow 144 = .ok (.ifCond .eq 17, 3) := dk_153 0 17 (dk_at dksX12_overRow_6 8 rfl rfl)
theorem dX12_overRow_147 : decode cX12_overRow 147 = .ok (.aload_n 0, 1) := dk_42 (dk_at dksX12_overRow_6 11 rfl rfl)
theorem dX12_overRow_148 : decode cX12_overRow 148 = .ok (.iload 4, 2) := dk_21 4 (dk_at dksX12_overRow_6 12 rfl rfl)
theorem dX12_overRow_150 : decode cX12_overRow 150 = .ok (.ldc 108, 2) := dk_18 108 (dk_at dksX12_overRow_6 14 rfl rfl)
theorem dX12_overRow_152 : decode cX12_overRow 152 = .ok (.invokevirtual 115, 3) := dk_182 0 115 (dk_at dksX12_overRow_6 16 rfl rfl)
theorem dX12_overRow_155 : decode cX12_overRow 155 = .ok (.iinc 6 1, 3) := dk_132 6 1 (dk_at dksX12_overRow_6 19 rfl rfl)
theorem dX12_overRow_158 : decode cX12_overRow 158 = .ok (.goto 34, 3) := dk_167 0 34 (dk_at dksX12_overRow_7 0 rfl rfl)
theorem dX12_overRow_161 : decode cX12_overRow 161 = .ok (.aload_n 0, 1) := dk_42 (dk_at dksX12_overRow_7 3 rfl rfl)
theorem dX12_overRow_162 : decode cX12_overRow 162 = .ok (.aload_n 0, 1) := dk_42 (dk_at dksX12_overRow_7 4 rfl rfl)
theorem dX12_overRow_163 : decode cX12_overRow 163 = .ok (.getfield 40, 3) := dk_180 0 40 (dk_at dksX12_overRow_7 5 rfl rfl)
theorem dX12_overRow_166 : decode cX12_overRow 166 = .ok (.iload_n 1, 1) := dk_27 (dk_at dksX12_overRow_7 8 rfl rfl)
theorem dX12_overRow_167 : decode cX12_overRow 167 = .ok (.aaload, 1) := dk_50 (dk_at dksX12_overRow_7 9 rfl rfl)
theorem dX12_overRow_168 : decode cX12_overRow 168 = .ok (.iload 5, 2) := dk_21 5 (dk_at dksX12_overRow_7 10 rfl rfl)
theorem dX12_overRow_170 : decode cX12_overRow 170 = .ok (.iaload, 1) := dk_46 (dk_at dksX12_overRow_7 12 rfl rfl)
theorem dX12_overRow_171 : decode cX12_overRow 171 = .ok (.aload_n 0, 1) := dk_42 (dk_at dksX12_overRow_7 13 rfl rfl)
theorem dX12_overRow_172 : decode cX12_overRow 172 = .ok (.getfield 40, 3) := dk_180 0 40 (dk_at dksX12_overRow_7 14 rfl rfl)
theorem dX12_overRow_175 : decode cX12_overRow 175 = .ok (.iload_n 2, 1) := dk_28 (dk_at dksX12_overRow_7 17 rfl rfl)
theorem dX12_overRow_176 : decode cX12_overRow 176 = .ok (.aaload, 1) := dk_50 (dk_at dksX12_overRow_7 18 rfl rfl)
theorem dX12_overRow_177 : decode cX12_overRow 177 = .ok (.iload 6, 2) := dk_21 6 (dk_at dksX12_overRow_7 19 rfl rfl)
theorem dX12_overRow_179 : decode cX12_overRow 179 = .ok (.iaload, 1) := dk_46 (dk_at dksX12_overRow_7 21 rfl rfl)
theorem dX12_overRow_180 : decode cX12_overRow 180 = .ok (.iload_n 3, 1) := dk_29 (dk_at dksX12_overRow_7 22 rfl rfl)
theorem dX12_overRow_181 : decode cX12_overRow 181 = .ok (.iload 4, 2) := dk_21 4 (dk_at dksX12_overRow_8 0 rfl rfl)
theorem dX12_overRow_183 : decode cX12_overRow 183 = .ok (.invokevirtual 131, 3) := dk_182 0 131 (dk_at dksX12_overRow_8 2 rfl rfl)
theorem dX12_overRow_186 : decode cX12_overRow 186 = .ok (.iinc 5 1, 3) := dk_132 5 1 (dk_at dksX12_overRow_8 5 rfl rfl)
theorem dX12_overRow_189 : decode cX12_overRow 189 = .ok (.iinc 6 1, 3) := dk_132 6 1 (dk_at dksX12_overRow_8 8 rfl rfl)
theorem dX12_overRow_192 : decode cX12_overRow 192 = .ok (.goto (-178), 3) := dk_167 255 78 (dk_at dksX12_overRow_8 11 rfl rfl)
theorem dX12_overRow_195 : decode cX12_overRow 195 = .ok (.aload_n 0, 1) := dk_42 (dk_at dksX12_overRow_8 14 rfl rfl)
theorem dX12_overRow_196 : decode cX12_overRow 196 = .ok (.iload 4, 2) := dk_21 4 (dk_at dksX12_overRow_8 15 rfl rfl)
theorem dX12_overRow_198 : decode cX12_overRow 198 = .ok (.invokevirtual 122, 3) := dk_182 0 122 (dk_at dksX12_overRow_8 17 rfl rfl)
theorem dX12_overRow_201 : decode cX12_overRow 201 = .ok (.return_, 1) := dk_177 (dk_at dksX12_overRow_8 20 rfl rfl)
abbrev cX12_overOne : ByteArray := prog_24_method_19_code
def yX12_overOne : MethodName := ⟨RX12, "overOne", "(IIII)V"⟩
def dkwX12_overOne_4 : List UInt8 := [182, 0, 115, 177]
abbrev dktX12_overOne_4 : List UInt8 := dkwX12_overOne_4 ++ []
def dkwX12_overOne_3 : List UInt8 := [154, 0, 8, 18, 108, 167, 0, 8, 18, 126, 21, 6, 128, 182, 0, 115, 167, 0, 10, 42, 21, 4, 27]
abbrev dktX12_overOne_3 : List UInt8 := dkwX12_overOne_3 ++ dktX12_overOne_4
def dkwX12_overOne_2 : List UInt8 := [21, 5, 2, 130, 126, 21, 5, 7, 120, 2, 130, 126, 17, 0, 255, 126, 54, 6, 42, 21, 4, 21, 6]
abbrev dktX12_overOne_2 : List UInt8 := dkwX12_overOne_2 ++ dktX12_overOne_3
def dkwX12_overOne_1 : List UInt8 := [18, 126, 160, 0, 64, 29, 4, 160, 0, 59, 28, 7, 122, 16, 15, 126, 28, 16, 15, 126, 128, 54, 5, 27]
abbrev dktX12_overOne_1 : List UInt8 := dkwX12_overOne_1 ++ dktX12_overOne_2
def dkwX12_overOne_0 : List UInt8 := [28, 184, 0, 104, 18, 109, 160, 0, 4, 177, 27, 184, 0, 104, 18, 126, 160, 0, 73, 28, 184, 0, 104]
abbrev dktX12_overOne_0 : List UInt8 := dkwX12_overOne_0 ++ dktX12_overOne_1
theorem dksX12_overOne_0 : cX12_overOne.data.toList.drop 0 = dktX12_overOne_0 := by decide +kernel
theorem dksX12_overOne_1 : cX12_overOne.data.toList.drop 23 = dktX12_overOne_1 := dk_seg dksX12_overOne_0 23 rfl rfl
theorem dksX12_overOne_2 : cX12_overOne.data.toList.drop 47 = dktX12_overOne_2 := dk_seg dksX12_overOne_1 24 rfl rfl
theorem dksX12_overOne_3 : cX12_overOne.data.toList.drop 70 = dktX12_overOne_3 := dk_seg dksX12_overOne_2 23 rfl rfl
theorem dksX12_overOne_4 : cX12_overOne.data.toList.drop 93 = dktX12_overOne_4 := dk_seg dksX12_overOne_3 23 rfl rfl
theorem dX12_overOne_0 : decode cX12_overOne 0 = .ok (.iload_n 2, 1) := dk_28 (dk_at dksX12_overOne_0 0 rfl rfl)
theorem dX12_overOne_1 : decode cX12_overOne 1 = .ok (.invokestatic 104, 3) := dk_184 0 104 (dk_at dksX12_overOne_0 1 rfl rfl)
theorem dX12_overOne_4 : decode cX12_overOne 4 = .ok (.ldc 109, 2) := dk_18 109 (dk_at dksX12_overOne_0 4 rfl rfl)
theorem dX12_overOne_6 : decode cX12_overOne 6 = .ok (.if_icmp .ne 4, 3) := dk_160 0 4 (dk_at dksX12_overOne_0 6 rfl rfl)
theorem dX12_overOne_9 : decode cX12_overOne 9 = .ok (.return_, 1) := dk_177 (dk_at dksX12_overOne_0 9 rfl rfl)
theorem dX12_overOne_10 : decode cX12_overOne 10 = .ok (.iload_n 1, 1) := dk_27 (dk_at dksX12_overOne_0 10 rfl rfl)
theorem dX12_overOne_11 : decode cX12_overOne 11 = .ok (.invokestatic 104, 3) := dk_184 0 104 (dk_at dksX12_overOne_0 11 rfl rfl)
theorem dX12_overOne_14 : decode cX12_overOne 14 = .ok (.ldc 126, 2) := dk_18 126 (dk_at dksX12_overOne_0 14 rfl rfl)
theorem dX12_overOne_16 : decode cX12_overOne 16 = .ok (.if_icmp .ne 73, 3) := dk_160 0 73 (dk_at dksX12_overOne_0 16 rfl rfl)
theorem dX12_overOne_19 : decode cX12_overOne 19 = .ok (.iload_n 2, 1) := dk_28 (dk_at dksX12_overOne_0 19 rfl rfl)
theorem dX12_overOne_20 : decode cX12_overOne 20 = .ok (.invokestatic 104, 3) := dk_184 0 104 (dk_at dksX12_overOne_0 20 rfl rfl)
theorem dX12_overOne_23 : decode cX12_overOne 23 = .ok (.ldc 126, 2) := dk_18 126 (dk_at dksX12_overOne_1 0 rfl rfl)
theorem dX12_overOne_25 : decode cX12_overOne 25 = .ok (.if_icmp .ne 64, 3) := dk_160 0 64 (dk_at dksX12_overOne_1 2 rfl rfl)
theorem dX12_overOne_28 : decode cX12_overOne 28 = .ok (.iload_n 3, 1) := dk_29 (dk_at dksX12_overOne_1 5 rfl rfl)
theorem dX12_overOne_29 : decode cX12_overOne 29 = .ok (.iconst 1, 1) := dk_4 (dk_at dksX12_overOne_1 6 rfl rfl)
theorem dX12_overOne_30 : decode cX12_overOne 30 = .ok (.if_icmp .ne 59, 3) := dk_160 0 59 (dk_at dksX12_overOne_1 7 rfl rfl)
theorem dX12_overOne_33 : decode cX12_overOne 33 = .ok (.iload_n 2, 1) := dk_28 (dk_at dksX12_overOne_1 10 rfl rfl)
theorem dX12_overOne_34 : decode cX12_overOne 34 = .ok (.iconst 4, 1) := dk_7 (dk_at dksX12_overOne_1 11 rfl rfl)
theorem dX12_overOne_35 : decode cX12_overOne 35 = .ok (.ishr, 1) := dk_122 (dk_at dksX12_overOne_1 12 rfl rfl)
theorem dX12_overOne_36 : decode cX12_overOne 36 = .ok (.bipush 15, 2) := dk_16 15 (dk_at dksX12_overOne_1 13 rfl rfl)
theorem dX12_overOne_38 : decode cX12_overOne 38 = .ok (.iand, 1) := dk_126 (dk_at dksX12_overOne_1 15 rfl rfl)
theorem dX12_overOne_39 : decode cX12_overOne 39 = .ok (.iload_n 2, 1) := dk_28 (dk_at dksX12_overOne_1 16 rfl rfl)
theorem dX12_overOne_40 : decode cX12_overOne 40 = .ok (.bipush 15, 2) := dk_16 15 (dk_at dksX12_overOne_1 17 rfl rfl)
theorem dX12_overOne_42 : decode cX12_overOne 42 = .ok (.iand, 1) := dk_126 (dk_at dksX12_overOne_1 19 rfl rfl)
theorem dX12_overOne_43 : decode cX12_overOne 43 = .ok (.ior, 1) := dk_128 (dk_at dksX12_overOne_1 20 rfl rfl)
theorem dX12_overOne_44 : decode cX12_overOne 44 = .ok (.istore 5, 2) := dk_54 5 (dk_at dksX12_overOne_1 21 rfl rfl)
theorem dX12_overOne_46 : decode cX12_overOne 46 = .ok (.iload_n 1, 1) := dk_27 (dk_at dksX12_overOne_1 23 rfl rfl)
theorem dX12_overOne_47 : decode cX12_overOne 47 = .ok (.iload 5, 2) := dk_21 5 (dk_at dksX12_overOne_2 0 rfl rfl)
theorem dX12_overOne_49 : decode cX12_overOne 49 = .ok (.iconst (-1), 1) := dk_2 (dk_at dksX12_overOne_2 2 rfl rfl)
theorem dX12_overOne_50 : decode cX12_overOne 50 = .ok (.ixor, 1) := dk_130 (dk_at dksX12_overOne_2 3 rfl rfl)
theorem dX12_overOne_51 : decode cX12_overOne 51 = .ok (.iand, 1) := dk_126 (dk_at dksX12_overOne_2 4 rfl rfl)
theorem dX12_overOne_52 : decode cX12_overOne 52 = .ok (.iload 5, 2) := dk_21 5 (dk_at dksX12_overOne_2 5 rfl rfl)
theorem dX12_overOne_54 : decode cX12_overOne 54 = .ok (.iconst 4, 1) := dk_7 (dk_at dksX12_overOne_2 7 rfl rfl)
theorem dX12_overOne_55 : decode cX12_overOne 55 = .ok (.ishl, 1) := dk_120 (dk_at dksX12_overOne_2 8 rfl rfl)
theorem dX12_overOne_56 : decode cX12_overOne 56 = .ok (.iconst (-1), 1) := dk_2 (dk_at dksX12_overOne_2 9 rfl rfl)
theorem dX12_overOne_57 : decode cX12_overOne 57 = .ok (.ixor, 1) := dk_130 (dk_at dksX12_overOne_2 10 rfl rfl)
theorem dX12_overOne_58 : decode cX12_overOne 58 = .ok (.iand, 1) := dk_126 (dk_at dksX12_overOne_2 11 rfl rfl)
theorem dX12_overOne_59 : decode cX12_overOne 59 = .ok (.sipush 255, 3) := dk_17 0 255 (dk_at dksX12_overOne_2 12 rfl rfl)
theorem dX12_overOne_62 : decode cX12_overOne 62 = .ok (.iand, 1) := dk_126 (dk_at dksX12_overOne_2 15 rfl rfl)
theorem dX12_overOne_63 : decode cX12_overOne 63 = .ok (.istore 6, 2) := dk_54 6 (dk_at dksX12_overOne_2 16 rfl rfl)
theorem dX12_overOne_65 : decode cX12_overOne 65 = .ok (.aload_n 0, 1) := dk_42 (dk_at dksX12_overOne_2 18 rfl rfl)
theorem dX12_overOne_66 : decode cX12_overOne 66 = .ok (.iload 4, 2) := dk_21 4 (dk_at dksX12_overOne_2 19 rfl rfl)
theorem dX12_overOne_68 : decode cX12_overOne 68 = .ok (.iload 6, 2) := dk_21 6 (dk_at dksX12_overOne_2 21 rfl rfl)
theorem dX12_overOne_70 : decode cX12_overOne 70 = .ok (.ifCond .ne 8, 3) := dk_154 0 8 (dk_at dksX12_overOne_3 0 rfl rfl)
theorem dX12_overOne_73 : decode cX12_overOne 73 = .ok (.ldc 108, 2) := dk_18 108 (dk_at dksX12_overOne_3 3 rfl rfl)
theorem dX12_overOne_75 : decode cX12_overOne 75 = .ok (.goto 8, 3) := dk_167 0 8 (dk_at dksX12_overOne_3 5 rfl rfl)
theorem dX12_overOne_78 : decode cX12_overOne 78 = .ok (.ldc 126, 2) := dk_18 126 (dk_at dksX12_overOne_3 8 rfl rfl)
theorem dX12_overOne_80 : decode cX12_overOne 80 = .ok (.iload 6, 2) := dk_21 6 (dk_at dksX12_overOne_3 10 rfl rfl)
theorem dX12_overOne_82 : decode cX12_overOne 82 = .ok (.ior, 1) := dk_128 (dk_at dksX12_overOne_3 12 rfl rfl)
theorem dX12_overOne_83 : decode cX12_overOne 83 = .ok (.invokevirtual 115, 3) := dk_182 0 115 (dk_at dksX12_overOne_3 13 rfl rfl)
theorem dX12_overOne_86 : decode cX12_overOne 86 = .ok (.goto 10, 3) := dk_167 0 10 (dk_at dksX12_overOne_3 16 rfl rfl)
theorem dX12_overOne_89 : decode cX12_overOne 89 = .ok (.aload_n 0, 1) := dk_42 (dk_at dksX12_overOne_3 19 rfl rfl)
theorem dX12_overOne_90 : decode cX12_overOne 90 = .ok (.iload 4, 2) := dk_21 4 (dk_at dksX12_overOne_3 20 rfl rfl)
theorem dX12_overOne_92 : decode cX12_overOne 92 = .ok (.iload_n 1, 1) := dk_27 (dk_at dksX12_overOne_3 22 rfl rfl)
theorem dX12_overOne_93 : decode cX12_overOne 93 = .ok (.invokevirtual 115, 3) := dk_182 0 115 (dk_at dksX12_overOne_4 0 rfl rfl)
theorem dX12_overOne_96 : decode cX12_overOne 96 = .ok (.return_, 1) := dk_177 (dk_at dksX12_overOne_4 3 rfl rfl)
abbrev cX12_turned : ByteArray := prog_24_method_58_code
def yX12_turned : MethodName := ⟨RX12, "turned", "(III)I"⟩
def dkwX12_turned_3 : List UInt8 := [29, 4, 182, 0, 145, 42, 27, 4, 182, 1, 13, 172]
abbrev dktX12_turned_3 : List UInt8 := dkwX12_turned_3 ++ []
def dkwX12_turned_2 : List UInt8 := [42, 180, 0, 25, 29, 46, 159, 0, 10, 42, 16, 251, 182, 0, 183, 172, 42, 3, 28, 182, 0, 97, 42, 3]
abbrev dktX12_turned_2 : List UInt8 := dkwX12_turned_2 ++ dktX12_turned_3
def dkwX12_turned_1 : List UInt8 := [182, 0, 183, 172, 42, 28, 182, 0, 230, 154, 0, 10, 42, 16, 252, 182, 0, 183, 172, 42, 28, 182, 0, 233]
abbrev dktX12_turned_1 : List UInt8 := dkwX12_turned_1 ++ dktX12_turned_2
def dkwX12_turned_0 : List UInt8 := [27, 184, 0, 211, 153, 0, 17, 28, 184, 0, 211, 153, 0, 10, 29, 184, 1, 16, 154, 0, 10, 42, 16, 254]
abbrev dktX12_turned_0 : List UInt8 := dkwX12_turned_0 ++ dktX12_turned_1
theorem dksX12_turned_0 : cX12_turned.data.toList.drop 0 = dktX12_turned_0 := by decide +kernel
theorem dksX12_turned_1 : cX12_turned.data.toList.drop 24 = dktX12_turned_1 := dk_seg dksX12_turned_0 24 rfl rfl
theorem dksX12_turned_2 : cX12_turned.data.toList.drop 48 = dktX12_turned_2 := dk_seg dksX12_turned_1 24 rfl rfl
theorem dksX12_turned_3 : cX12_turned.data.toList.drop 72 = dktX12_turned_3 := dk_seg dksX12_turned_2 24 rfl rfl
theorem dX12_turned_0 : decode cX12_turned 0 = .ok (.iload_n 1, 1) := dk_27 (dk_at dksX12_turned_0 0 rfl rfl)
theorem dX12_turned_1 : decode cX12_turned 1 = .ok (.invokestatic 211, 3) := dk_184 0 211 (dk_at dksX12_turned_0 1 rfl rfl)
theorem dX12_turned_4 : decode cX12_turned 4 = .ok (.ifCond .eq 17, 3) := dk_153 0 17 (dk_at dksX12_turned_0 4 rfl rfl)
theorem dX12_turned_7 : decode cX12_turned 7 = .ok (.iload_n 2, 1) := dk_28 (dk_at dksX12_turned_0 7 rfl rfl)
theorem dX12_turned_8 : decode cX12_turned 8 = .ok (.invokestatic 211, 3) := dk_184 0 211 (dk_at dksX12_turned_0 8 rfl rfl)
theorem dX12_turned_11 : decode cX12_turned 11 = .ok (.ifCond .eq 10, 3) := dk_153 0 10 (dk_at dksX12_turned_0 11 rfl rfl)
theorem dX12_turned_14 : decode cX12_turned 14 = .ok (.iload_n 3, 1) := dk_29 (dk_at dksX12_turned_0 14 rfl rfl)
theorem dX12_turned_15 : decode cX12_turned 15 = .ok (.invokestatic 272, 3) := dk_184 1 16 (dk_at dksX12_turned_0 15 rfl rfl)
theorem dX12_turned_18 : decode cX12_turned 18 = .ok (.ifCond .ne 10, 3) := dk_154 0 10 (dk_at dksX12_turned_0 18 rfl rfl)
theorem dX12_turned_21 : decode cX12_turned 21 = .ok (.aload_n 0, 1) := dk_42 (dk_at dksX12_turned_0 21 rfl rfl)
theorem dX12_turned_22 : decode cX12_turned 22 = .ok (.bipush (-2), 2) := dk_16 254 (dk_at dksX12_turned_0 22 rfl rfl)
theorem dX12_turned_24 : decode cX12_turned 24 = .ok (.invokevirtual 183, 3) := dk_182 0 183 (dk_at dksX12_turned_1 0 rfl rfl)
theorem dX12_turned_27 : decode cX12_turned 27 = .ok (.ireturn, 1) := dk_172 (dk_at dksX12_turned_1 3 rfl rfl)
theorem dX12_turned_28 : decode cX12_turned 28 = .ok (.aload_n 0, 1) := dk_42 (dk_at dksX12_turned_1 4 rfl rfl)
theorem dX12_turned_29 : decode cX12_turned 29 = .ok (.iload_n 2, 1) := dk_28 (dk_at dksX12_turned_1 5 rfl rfl)
theorem dX12_turned_30 : decode cX12_turned 30 = .ok (.invokevirtual 230, 3) := dk_182 0 230 (dk_at dksX12_turned_1 6 rfl rfl)
theorem dX12_turned_33 : decode cX12_turned 33 = .ok (.ifCond .ne 10, 3) := dk_154 0 10 (dk_at dksX12_turned_1 9 rfl rfl)
theorem dX12_turned_36 : decode cX12_turned 36 = .ok (.aload_n 0, 1) := dk_42 (dk_at dksX12_turned_1 12 rfl rfl)
theorem dX12_turned_37 : decode cX12_turned 37 = .ok (.bipush (-4), 2) := dk_16 252 (dk_at dksX12_turned_1 13 rfl rfl)
theorem dX12_turned_39 : decode cX12_turned 39 = .ok (.invokevirtual 183, 3) := dk_182 0 183 (dk_at dksX12_turned_1 15 rfl rfl)
theorem dX12_turned_42 : decode cX12_turned 42 = .ok (.ireturn, 1) := dk_172 (dk_at dksX12_turned_1 18 rfl rfl)
theorem dX12_turned_43 : decode cX12_turned 43 = .ok (.aload_n 0, 1) := dk_42 (dk_at dksX12_turned_1 19 rfl rfl)
theorem dX12_turned_44 : decode cX12_turned 44 = .ok (.iload_n 2, 1) := dk_28 (dk_at dksX12_turned_1 20 rfl rfl)
theorem dX12_turned_45 : decode cX12_turned 45 = .ok (.invokevirtual 233, 3) := dk_182 0 233 (dk_at dksX12_turned_1 21 rfl rfl)
theorem dX12_turned_48 : decode cX12_turned 48 = .ok (.aload_n 0, 1) := dk_42 (dk_at dksX12_turned_2 0 rfl rfl)
theorem dX12_turned_49 : decode cX12_turned 49 = .ok (.getfield 25, 3) := dk_180 0 25 (dk_at dksX12_turned_2 1 rfl rfl)
theorem dX12_turned_52 : decode cX12_turned 52 = .ok (.iload_n 3, 1) := dk_29 (dk_at dksX12_turned_2 4 rfl rfl)
theorem dX12_turned_53 : decode cX12_turned 53 = .ok (.iaload, 1) := dk_46 (dk_at dksX12_turned_2 5 rfl rfl)
theorem dX12_turned_54 : decode cX12_turned 54 = .ok (.if_icmp .eq 10, 3) := dk_159 0 10 (dk_at dksX12_turned_2 6 rfl rfl)
theorem dX12_turned_57 : decode cX12_turned 57 = .ok (.aload_n 0, 1) := dk_42 (dk_at dksX12_turned_2 9 rfl rfl)
theorem dX12_turned_58 : decode cX12_turned 58 = .ok (.bipush (-5), 2) := dk_16 251 (dk_at dksX12_turned_2 10 rfl rfl)
theorem dX12_turned_60 : decode cX12_turned 60 = .ok (.invokevirtual 183, 3) := dk_182 0 183 (dk_at dksX12_turned_2 12 rfl rfl)
theorem dX12_turned_63 : decode cX12_turned 63 = .ok (.ireturn, 1) := dk_172 (dk_at dksX12_turned_2 15 rfl rfl)
theorem dX12_turned_64 : decode cX12_turned 64 = .ok (.aload_n 0, 1) := dk_42 (dk_at dksX12_turned_2 16 rfl rfl)
theorem dX12_turned_65 : decode cX12_turned 65 = .ok (.iconst 0, 1) := dk_3 (dk_at dksX12_turned_2 17 rfl rfl)
theorem dX12_turned_66 : decode cX12_turned 66 = .ok (.iload_n 2, 1) := dk_28 (dk_at dksX12_turned_2 18 rfl rfl)
theorem dX12_turned_67 : decode cX12_turned 67 = .ok (.invokevirtual 97, 3) := dk_182 0 97 (dk_at dksX12_turned_2 19 rfl rfl)
theorem dX12_turned_70 : decode cX12_turned 70 = .ok (.aload_n 0, 1) := dk_42 (dk_at dksX12_turned_2 22 rfl rfl)
theorem dX12_turned_71 : decode cX12_turned 71 = .ok (.iconst 0, 1) := dk_3 (dk_at dksX12_turned_2 23 rfl rfl)
theorem dX12_turned_72 : decode cX12_turned 72 = .ok (.iload_n 3, 1) := dk_29 (dk_at dksX12_turned_3 0 rfl rfl)
theorem dX12_turned_73 : decode cX12_turned 73 = .ok (.iconst 1, 1) := dk_4 (dk_at dksX12_turned_3 1 rfl rfl)
theorem dX12_turned_74 : decode cX12_turned 74 = .ok (.invokevirtual 145, 3) := dk_182 0 145 (dk_at dksX12_turned_3 2 rfl rfl)
theorem dX12_turned_77 : decode cX12_turned 77 = .ok (.aload_n 0, 1) := dk_42 (dk_at dksX12_turned_3 5 rfl rfl)
theorem dX12_turned_78 : decode cX12_turned 78 = .ok (.iload_n 1, 1) := dk_27 (dk_at dksX12_turned_3 6 rfl rfl)
theorem dX12_turned_79 : decode cX12_turned 79 = .ok (.iconst 1, 1) := dk_4 (dk_at dksX12_turned_3 7 rfl rfl)
theorem dX12_turned_80 : decode cX12_turned 80 = .ok (.invokevirtual 269, 3) := dk_182 1 13 (dk_at dksX12_turned_3 8 rfl rfl)
theorem dX12_turned_83 : decode cX12_turned 83 = .ok (.ireturn, 1) := dk_172 (dk_at dksX12_turned_3 11 rfl rfl)
abbrev cX12_isClient : ByteArray := prog_24_method_33_code
def yX12_isClient : MethodName := ⟨RX12, "isClient", "(I)Z"⟩
def dkwX12_isClient_0 : List UInt8 := [26, 133, 9, 20, 0, 173, 184, 0, 175, 172]
abbrev dktX12_isClient_0 : List UInt8 := dkwX12_isClient_0 ++ []
theorem dksX12_isClient_0 : cX12_isClient.data.toList.drop 0 = dktX12_isClient_0 := by decide +kernel
theorem dX12_isClient_0 : decode cX12_isClient 0 = .ok (.iload_n 0, 1) := dk_26 (dk_at dksX12_isClient_0 0 rfl rfl)
theorem dX12_isClient_1 : decode cX12_isClient 1 = .ok (.i2l, 1) := dk_133 (dk_at dksX12_isClient_0 1 rfl rfl)
theorem dX12_isClient_2 : decode cX12_isClient 2 = .ok (.lconst 0, 1) := dk_9 (dk_at dksX12_isClient_0 2 rfl rfl)
theorem dX12_isClient_3 : decode cX12_isClient 3 = .ok (.ldc2_w 173, 3) := dk_20 0 173 (dk_at dksX12_isClient_0 3 rfl rfl)
theorem dX12_isClient_6 : decode cX12_isClient 6 = .ok (.invokestatic 175, 3) := dk_184 0 175 (dk_at dksX12_isClient_0 6 rfl rfl)
theorem dX12_isClient_9 : decode cX12_isClient 9 = .ok (.ireturn, 1) := dk_172 (dk_at dksX12_isClient_0 9 rfl rfl)
abbrev cX12_turnedRow : ByteArray := prog_24_method_20_code
def yX12_turnedRow : MethodName := ⟨RX12, "turnedRow", "(III)V"⟩
def dkwX12_turnedRow_7 : List UInt8 := [167, 255, 104, 42, 29, 182, 0, 122, 177]
abbrev dktX12_turnedRow_7 : List UInt8 := dkwX12_turnedRow_7 ++ []
def dkwX12_turnedRow_6 : List UInt8 := [184, 0, 104, 18, 108, 160, 0, 8, 18, 108, 167, 0, 8, 18, 110, 21, 7, 128, 182, 0, 115, 132, 5, 1]
abbrev dktX12_turnedRow_6 : List UInt8 := dkwX12_turnedRow_6 ++ dktX12_turnedRow_7
def dkwX12_turnedRow_5 : List UInt8 := [154, 0, 8, 18, 108, 167, 0, 8, 18, 126, 21, 9, 128, 182, 0, 115, 167, 0, 28, 42, 29, 21, 6]
abbrev dktX12_turnedRow_5 : List UInt8 := dkwX12_turnedRow_5 ++ dktX12_turnedRow_6
def dkwX12_turnedRow_4 : List UInt8 := [21, 8, 126, 7, 120, 21, 6, 7, 122, 16, 15, 126, 21, 8, 2, 130, 126, 128, 54, 9, 42, 29, 21, 9]
abbrev dktX12_turnedRow_4 : List UInt8 := dkwX12_turnedRow_4 ++ dktX12_turnedRow_5
def dkwX12_turnedRow_3 : List UInt8 := [184, 0, 104, 18, 126, 160, 0, 61, 21, 7, 16, 8, 122, 16, 15, 126, 54, 8, 21, 6, 16, 15, 126]
abbrev dktX12_turnedRow_3 : List UInt8 := dkwX12_turnedRow_3 ++ dktX12_turnedRow_4
def dkwX12_turnedRow_2 : List UInt8 := [18, 109, 182, 0, 115, 167, 0, 110, 42, 180, 0, 22, 28, 50, 21, 4, 46, 54, 7, 132, 4, 1, 21, 6]
abbrev dktX12_turnedRow_2 : List UInt8 := dkwX12_turnedRow_2 ++ dktX12_turnedRow_3
def dkwX12_turnedRow_1 : List UInt8 := [42, 180, 0, 40, 27, 50, 21, 5, 46, 54, 6, 21, 6, 184, 0, 104, 18, 110, 160, 0, 13, 42, 29]
abbrev dktX12_turnedRow_1 : List UInt8 := dkwX12_turnedRow_1 ++ dktX12_turnedRow_2
def dkwX12_turnedRow_0 : List UInt8 := [3, 54, 4, 42, 180, 0, 43, 29, 3, 79, 3, 54, 5, 21, 5, 42, 180, 0, 43, 27, 46, 162, 0, 147]
abbrev dktX12_turnedRow_0 : List UInt8 := dkwX12_turnedRow_0 ++ dktX12_turnedRow_1
theorem dksX12_turnedRow_0 : cX12_turnedRow.data.toList.drop 0 = dktX12_turnedRow_0 := by decide +kernel
theorem dksX12_turnedRow_1 : cX12_turnedRow.data.toList.drop 24 = dktX12_turnedRow_1 := dk_seg dksX12_turnedRow_0 24 rfl rfl
theorem dksX12_turnedRow_2 : cX12_turnedRow.data.toList.drop 47 = dktX12_turnedRow_2 := dk_seg dksX12_turnedRow_1 23 rfl rfl
theorem dksX12_turnedRow_3 : cX12_turnedRow.data.toList.drop 71 = dktX12_turnedRow_3 := dk_seg dksX12_turnedRow_2 24 rfl rfl
theorem dksX12_turnedRow_4 : cX12_turnedRow.data.toList.drop 94 = dktX12_turnedRow_4 := dk_seg dksX12_turnedRow_3 23 rfl rfl
theorem dksX12_turnedRow_5 : cX12_turnedRow.data.toList.drop 118 = dktX12_turnedRow_5 := dk_seg dksX12_turnedRow_4 24 rfl rfl
theorem dksX12_turnedRow_6 : cX12_turnedRow.data.toList.drop 141 = dktX12_turnedRow_6 := dk_seg dksX12_turnedRow_5 23 rfl rfl
theorem dksX12_turnedRow_7 : cX12_turnedRow.data.toList.drop 165 = dktX12_turnedRow_7 := dk_seg dksX12_turnedRow_6 24 rfl rfl
theorem dX12_turnedRow_0 : decode cX12_turnedRow 0 = .ok (.iconst 0, 1) := dk_3 (dk_at dksX12_turnedRow_0 0 rfl rfl)
theorem dX12_turnedRow_1 : decode cX12_turnedRow 1 = .ok (.istore 4, 2) := dk_54 4 (dk_at dksX12_turnedRow_0 1 rfl rfl)
theorem dX12_turnedRow_3 : decode cX12_turnedRow 3 = .ok (.aload_n 0, 1) := dk_42 (dk_at dksX12_turnedRow_0 3 rfl rfl)
theorem dX12_turnedRow_4 : decode cX12_turnedRow 4 = .ok (.getfield 43, 3) := dk_180 0 43 (dk_at dksX12_turnedRow_0 4 rfl rfl)
theorem dX12_turnedRow_7 : decode cX12_turnedRow 7 = .ok (.iload_n 3, 1) := dk_29 (dk_at dksX12_turnedRow_0 7 rfl rfl)
theorem dX12_turnedRow_8 : decode cX12_turnedRow 8 = .ok (.iconst 0, 1) := dk_3 (dk_at dksX12_turnedRow_0 8 rfl rfl)
theorem dX12_turnedRow_9 : decode cX12_turnedRow 9 = .ok (.iastore, 1) := dk_79 (dk_at dksX12_turnedRow_0 9 rfl rfl)
theorem dX12_turnedRow_10 : decode cX12_turnedRow 10 = .ok (.iconst 0, 1) := dk_3 (dk_at dksX12_turnedRow_0 10 rfl rfl)
theorem dX12_turnedRow_11 : decode cX12_turnedRow 11 = .ok (.istore 5, 2) := dk_54 5 (dk_at dksX12_turnedRow_0 11 rfl rfl)
theorem dX12_turnedRow_13 : decode cX12_turnedRow 13 = .ok (.iload 5, 2) := dk_21 5 (dk_at dksX12_turnedRow_0 13 rfl rfl)
theorem dX12_turnedRow_15 : decode cX12_turnedRow 15 = .ok (.aload_n 0, 1) := dk_42 (dk_at dksX12_turnedRow_0 15 rfl rfl)
theorem dX12_turnedRow_16 : decode cX12_turnedRow 16 = .ok (.getfield 43, 3) := dk_180 0 43 (dk_at dksX12_turnedRow_0 16 rfl rfl)
theorem dX12_turnedRow_19 : decode cX12_turnedRow 19 = .ok (.iload_n 1, 1) := dk_27 (dk_at dksX12_turnedRow_0 19 rfl rfl)
theorem dX12_turnedRow_20 : decode cX12_turnedRow 20 = .ok (.iaload, 1) := dk_46 (dk_at dksX12_turnedRow_0 20 rfl rfl)
theorem dX12_turnedRow_21 : decode cX12_turnedRow 21 = .ok (.if_icmp .ge 147, 3) := dk_162 0 147 (dk_at dksX12_turnedRow_0 21 rfl rfl)
theorem dX12_turnedRow_24 : decode cX12_turnedRow 24 = .ok (.aload_n 0, 1) := dk_42 (dk_at dksX12_turnedRow_1 0 rfl rfl)
theorem dX12_turnedRow_25 : decode cX12_turnedRow 25 = .ok (.getfield 40, 3) := dk_180 0 40 (dk_at dksX12_turnedRow_1 1 rfl rfl)
theorem dX12_turnedRow_28 : decode cX12_turnedRow 28 = .ok (.iload_n 1, 1) := dk_27 (dk_at dksX12_turnedRow_1 4 rfl rfl)
theorem dX12_turnedRow_29 : decode cX12_turnedRow 29 = .ok (.aaload, 1) := dk_50 (dk_at dksX12_turnedRow_1 5 rfl rfl)
theorem dX12_turnedRow_30 : decode cX12_turnedRow 30 = .ok (.iload 5, 2) := dk_21 5 (dk_at dksX12_turnedRow_1 6 rfl rfl)
theorem dX12_turnedRow_32 : decode cX12_turnedRow 32 = .ok (.iaload, 1) := dk_46 (dk_at dksX12_turnedRow_1 8 rfl rfl)
theorem dX12_turnedRow_33 : decode cX12_turnedRow 33 = .ok (.istore 6, 2) := dk_54 6 (dk_at dksX12_turnedRow_1 9 rfl rfl)
theorem dX12_turnedRow_35 : decode cX12_turnedRow 35 = .ok (.iload 6, 2) := dk_21 6 (dk_at dksX12_turnedRow_1 11 rfl rfl)
theorem dX12_turnedRow_37 : decode cX12_turnedRow 37 = .ok (.invokestatic 104, 3) := dk_184 0 104 (dk_at dksX12_turnedRow_1 13 rfl rfl)
theorem dX12_turnedRow_40 : decode cX12_turnedRow 40 = .ok (.ldc 110, 2) := dk_18 110 (dk_at dksX12_turnedRow_1 16 rfl rfl)
theorem dX12_turnedRow_42 : decode cX12_turnedRow 42 = .ok (.if_icmp .ne 13, 3) := dk_160 0 13 (dk_at dksX12_turnedRow_1 18 rfl rfl)
theorem dX12_turnedRow_45 : decode cX12_turnedRow 45 = .ok (.aload_n 0, 1) := dk_42 (dk_at dksX12_turnedRow_1 21 rfl rfl)
theorem dX12_turnedRow_46 : decode cX12_turnedRow 46 = .ok (.iload_n 3, 1) := dk_29 (dk_at dksX12_turnedRow_1 22 rfl rfl)
theorem dX12_turnedRow_47 : decode cX12_turnedRow 47 = .ok (.ldc 109, 2) := dk_18 109 (dk_at dksX12_turnedRow_2 0 rfl rfl)
theorem dX12_turnedRow_49 : decode cX12_turnedRow 49 = .ok (.invokevirtual 115, 3) := dk_182 0 115 (dk_at dksX12_turnedRow_2 2 rfl rfl)
theorem dX12_turnedRow_52 : decode cX12_turnedRow 52 = .ok (.goto 110, 3) := dk_167 0 110 (dk_at dksX12_turnedRow_2 5 rfl rfl)
theorem dX12_turnedRow_55 : decode cX12_turnedRow 55 = .ok (.aload_n 0, 1) := dk_42 (dk_at dksX12_turnedRow_2 8 rfl rfl)
theorem dX12_turnedRow_56 : decode cX12_turnedRow 56 = .ok (.getfield 22, 3) := dk_180 0 22 (dk_at dksX12_turnedRow_2 9 rfl rfl)
theorem dX12_turnedRow_59 : decode cX12_turnedRow 59 = .ok (.iload_n 2, 1) := dk_28 (dk_at dksX12_turnedRow_2 12 rfl rfl)
theorem dX12_turnedRow_60 : decode cX12_turnedRow 60 = .ok (.aaload, 1) := dk_50 (dk_at dksX12_turnedRow_2 13 rfl rfl)
theorem dX12_turnedRow_61 : decode cX12_turnedRow 61 = .ok (.iload 4, 2) := dk_21 4 (dk_at dksX12_turnedRow_2 14 rfl rfl)
theorem dX12_turnedRow_63 : decode cX12_turnedRow 63 = .ok (.iaload, 1) := dk_46 (dk_at dksX12_turnedRow_2 16 rfl rfl)
theorem dX12_turnedRow_64 : decode cX12_turnedRow 64 = .ok (.istore 7, 2) := dk_54 7 (dk_at dksX12_turnedRow_2 17 rfl rfl)
theorem dX12_turnedRow_66 : decode cX12_turnedRow 66 = .ok (.iinc 4 1, 3) := dk_132 4 1 (dk_at dksX12_turnedRow_2 19 rfl rfl)
theorem dX12_turnedRow_69 : decode cX12_turnedRow 69 = .ok (.iload 6, 2) := dk_21 6 (dk_at dksX12_turnedRow_2 22 rfl rfl)
theorem dX12_turnedRow_71 : decode cX12_turnedRow 71 = .ok (.invokestatic 104, 3) := dk_184 0 104 (dk_at dksX12_turnedRow_3 0 rfl rfl)
theorem dX12_turnedRow_74 : decode cX12_turnedRow 74 = .ok (.ldc 126, 2) := dk_18 126 (dk_at dksX12_turnedRow_3 3 rfl rfl)
theorem dX12_turnedRow_76 : decode cX12_turnedRow 76 = .ok (.if_icmp .ne 61, 3) := dk_160 0 61 (dk_at dksX12_turnedRow_3 5 rfl rfl)
theorem dX12_turnedRow_79 : decode cX12_turnedRow 79 = .ok (.iload 7, 2) := dk_21 7 (dk_at dksX12_turnedRow_3 8 rfl rfl)
theorem dX12_turnedRow_81 : decode cX12_turnedRow 81 = .ok (.bipush 8, 2) := dk_16 8 (dk_at dksX12_turnedRow_3 10 rfl rfl)
theorem dX12_turnedRow_83 : decode cX12_turnedRow 83 = .ok (.ishr, 1) := dk_122 (dk_at dksX12_turnedRow_3 12 rfl rfl)
theorem dX12_turnedRow_84 : decode cX12_turnedRow 84 = .ok (.bipush 15, 2) := dk_16 15 (dk_at dksX12_turnedRow_3 13 rfl rfl)
theorem dX12_turnedRow_86 : decode cX12_turnedRow 86 = .ok (.iand, 1) := dk_126 (dk_at dksX12_turnedRow_3 15 rfl rfl)
theorem dX12_turnedRow_87 : decode cX12_turnedRow 87 = .ok (.istore 8, 2) := dk_54 8 (dk_at dksX12_turnedRow_3 16 rfl rfl)
theorem dX12_turnedRow_89 : decode cX12_turnedRow 89 = .ok (.iload 6, 2) := dk_21 6 (dk_at dksX12_turnedRow_3 18 rfl rfl)
theorem dX12_turnedRow_91 : decode cX12_turnedRow 91 = .ok (.bipush 15, 2) := dk_16 15 (dk_at dksX12_turnedRow_3 20 rfl rfl)
theorem dX12_turnedRow_93 : decode cX12_turnedRow 93 = .ok (.iand, 1) := dk_126 (dk_at dksX12_turnedRow_3 22 rfl rfl)
theorem dX12_turnedRow_94 : decode cX12_turnedRow 94 = .ok (.iload 8, 2) := dk_21 8 (dk_at dksX12_turnedRow_4 0 rfl rfl)
theorem dX12_turnedRow_96 : decode cX12_turnedRow 96 = .ok (.iand, 1) := dk_126 (dk_at dksX12_turnedRow_4 2 rfl rfl)
theorem dX12_turnedRow_97 : decode cX12_turnedRow 97 = .ok (.iconst 4, 1) := dk_7 (dk_at dksX12_turnedRow_4 3 rfl rfl)
theorem dX12_turnedRow_98 : decode cX12_turnedRow 98 = .ok (.ishl, 1) := dk_120 (dk_at dksX12_turnedRow_4 4 rfl rfl)
theorem dX12_turnedRow_99 : decode cX12_turnedRow 99 = .ok (.iload 6, 2) := dk_21 6 (dk_at dksX12_turnedRow_4 5 rfl rfl)
theorem dX12_turnedRow_101 : decode cX12_turnedRow 101 = .ok (.iconst 4, 1) := dk_7 (dk_at dksX12_turnedRow_4 7 rfl rfl)
theorem dX12_turnedRow_102 : decode cX12_turnedRow 102 = .ok (.ishr, 1) := dk_122 (dk_at dksX12_turnedRow_4 8 rfl rfl)
theorem dX12_turnedRow_103 : decode cX12_turnedRow 103 = .ok (.bipush 15, 2) := dk_16 15 (dk_at dksX12_turnedRow_4 9 rfl rfl)
theorem dX12_turnedRow_105 : decode cX12_turnedRow 105 = .ok (.iand, 1) := dk_126 (dk_at dksX12_turnedRow_4 11 rfl rfl)
theorem dX12_turnedRow_106 : decode cX12_turnedRow 106 = .ok (.iload 8, 2) := dk_21 8 (dk_at dksX12_turnedRow_4 12 rfl rfl)
theorem dX12_turnedRow_108 : decode cX12_turnedRow 108 = .ok (.iconst (-1), 1) := dk_2 (dk_at dksX12_turnedRow_4 14 rfl rfl)
theorem dX12_turnedRow_109 : decode cX12_turnedRow 109 = .ok (.ixor, 1) := dk_130 (dk_at dksX12_turnedRow_4 15 rfl rfl)
theorem dX12_turnedRow_110 : decode cX12_turnedRow 110 = .ok (.iand, 1) := dk_126 (dk_at dksX12_turnedRow_4 16 rfl rfl)
theorem dX12_turnedRow_111 : decode cX12_turnedRow 111 = .ok (.ior, 1) := dk_128 (dk_at dksX12_turnedRow_4 17 rfl rfl)
theorem dX12_turnedRow_112 : decode cX12_turnedRow 112 = .ok (.istore 9, 2) := dk_54 9 (dk_at dksX12_turnedRow_4 18 rfl rfl)
theorem dX12_turnedRow_114 : decode cX12_turnedRow 114 = .ok (.aload_n 0, 1) := dk_42 (dk_at dksX12_turnedRow_4 20 rfl rfl)
theorem dX12_turnedRow_115 : decode cX12_turnedRow 115 = .ok (.iload_n 3, 1) := dk_29 (dk_at dksX12_turnedRow_4 21 rfl rfl)
theorem dX12_turnedRow_116 : decode cX12_turnedRow 116 = .ok (.iload 9, 2) := dk_21 9 (dk_at dksX12_turnedRow_4 22 rfl rfl)
theorem dX12_turnedRow_118 : decode cX12_turnedRow 118 = .ok (.ifCond .ne 8, 3) := dk_154 0 8 (dk_at dksX12_turnedRow_5 0 rfl rfl)
theorem dX12_turnedRow_121 : decode cX12_turnedRow 121 = .ok (.ldc 108, 2) := dk_18 108 (dk_at dksX12_turnedRow_5 3 rfl rfl)
theorem dX12_turnedRow_123 : decode cX12_turnedRow 123 = .ok (.goto 8, 3) := dk_167 0 8 (dk_at dksX12_turnedRow_5 5 rfl rfl)
theorem dX12_turnedRow_126 : decode cX12_turnedRow 126 = .ok (.ldc 126, 2) := dk_18 126 (dk_at dksX12_turnedRow_5 8 rfl rfl)
theorem dX12_turnedRow_128 : decode cX12_turnedRow 128 = .ok (.iload 9, 2) := dk_21 9 (dk_at dksX12_turnedRow_5 10 rfl rfl)
theorem dX12_turnedRow_130 : decode cX12_turnedRow 130 = .ok (.ior, 1) := dk_128 (dk_at dksX12_turnedRow_5 12 rfl rfl)
theorem dX12_turnedRow_131 : decode cX12_turnedRow 131 = .ok (.invokevirtual 115, 3) := dk_182 0 115 (dk_at dksX12_turnedRow_5 13 rfl rfl)
theorem dX12_turnedRow_134 : decode cX12_turnedRow 134 = .ok (.goto 28, 3) := dk_167 0 28 (dk_at dksX12_turnedRow_5 16 rfl rfl)
theorem dX12_turnedRow_137 : decode cX12_turnedRow 137 = .ok (.aload_n 0, 1) := dk_42 (dk_at dksX12_turnedRow_5 19 rfl rfl)
theorem dX12_turnedRow_138 : decode cX12_turnedRow 138 = .ok (.iload_n 3, 1) := dk_29 (dk_at dksX12_turnedRow_5 20 rfl rfl)
theorem dX12_turnedRow_139 : decode cX12_turnedRow 139 = .ok (.iload 6, 2) := dk_21 6 (dk_at dksX12_turnedRow_5 21 rfl rfl)
theorem dX12_turnedRow_141 : decode cX12_turnedRow 141 = .ok (.invokestatic 104, 3) := dk_184 0 104 (dk_at dksX12_turnedRow_6 0 rfl rfl)
theorem dX12_turnedRow_144 : decode cX12_turnedRow 144 = .ok (.ldc 108, 2) := dk_18 108 (dk_at dksX12_turnedRow_6 3 rfl rfl)
theorem dX12_turnedRow_146 : decode cX12_turnedRow 146 = .ok (.if_icmp .ne 8, 3) := dk_160 0 8 (dk_at dksX12_turnedRow_6 5 rfl rfl)
theorem dX12_turnedRow_149 : decode cX12_turnedRow 149 = .ok (.ldc 108, 2) := dk_18 108 (dk_at dksX12_turnedRow_6 8 rfl rfl)
theorem dX12_turnedRow_151 : decode cX12_turnedRow 151 = .ok (.goto 8, 3) := dk_167 0 8 (dk_at dksX12_turnedRow_6 10 rfl rfl)
theorem dX12_turnedRow_154 : decode cX12_turnedRow 154 = .ok (.ldc 110, 2) := dk_18 110 (dk_at dksX12_turnedRow_6 13 rfl rfl)
theorem dX12_turnedRow_156 : decode cX12_turnedRow 156 = .ok (.iload 7, 2) := dk_21 7 (dk_at dksX12_turnedRow_6 15 rfl rfl)
theorem dX12_turnedRow_158 : decode cX12_turnedRow 158 = .ok (.ior, 1) := dk_128 (dk_at dksX12_turnedRow_6 17 rfl rfl)
theorem dX12_turnedRow_159 : decode cX12_turnedRow 159 = .ok (.invokevirtual 115, 3) := dk_182 0 115 (dk_at dksX12_turnedRow_6 18 rfl rfl)
theorem dX12_turnedRow_162 : decode cX12_turnedRow 162 = .ok (.iinc 5 1, 3) := dk_132 5 1 (dk_at dksX12_turnedRow_6 21 rfl rfl)
theorem dX12_turnedRow_165 : decode cX12_turnedRow 165 = .ok (.goto (-152), 3) := dk_167 255 104 (dk_at dksX12_turnedRow_7 0 rfl rfl)
theorem dX12_turnedRow_168 : decode cX12_turnedRow 168 = .ok (.aload_n 0, 1) := dk_42 (dk_at dksX12_turnedRow_7 3 rfl rfl)
theorem dX12_turnedRow_169 : decode cX12_turnedRow 169 = .ok (.iload_n 3, 1) := dk_29 (dk_at dksX12_turnedRow_7 4 rfl rfl)
theorem dX12_turnedRow_170 : decode cX12_turnedRow 170 = .ok (.invokevirtual 122, 3) := dk_182 0 122 (dk_at dksX12_turnedRow_7 5 rfl rfl)
theorem dX12_turnedRow_173 : decode cX12_turnedRow 173 = .ok (.return_, 1) := dk_177 (dk_at dksX12_turnedRow_7 8 rfl rfl)
abbrev cX12_differ : ByteArray := prog_24_method_59_code
def yX12_differ : MethodName := ⟨RX12, "differ", "(II)I"⟩
def dkwX12_differ_8 : List UInt8 := [21, 8, 154, 0, 6, 21, 4, 172, 132, 4, 1, 167, 255, 123, 2, 172]
abbrev dktX12_differ_8 : List UInt8 := dkwX12_differ_8 ++ []
def dkwX12_differ_7 : List UInt8 := [50, 21, 6, 21, 9, 96, 46, 160, 0, 7, 4, 167, 0, 4, 3, 54, 8, 132, 9, 1, 167, 255, 207]
abbrev dktX12_differ_7 : List UInt8 := dkwX12_differ_7 ++ dktX12_differ_8
def dkwX12_differ_6 : List UInt8 := [21, 9, 21, 7, 162, 0, 43, 42, 180, 0, 11, 27, 50, 21, 5, 21, 9, 96, 46, 42, 180, 0, 11, 28]
abbrev dktX12_differ_6 : List UInt8 := dkwX12_differ_6 ++ dktX12_differ_7
def dkwX12_differ_5 : List UInt8 := [160, 0, 12, 21, 7, 158, 0, 7, 4, 167, 0, 4, 3, 54, 8, 3, 54, 9, 21, 8, 153, 0, 50]
abbrev dktX12_differ_5 : List UInt8 := dkwX12_differ_5 ++ dktX12_differ_6
def dkwX12_differ_4 : List UInt8 := [182, 0, 242, 21, 5, 100, 54, 7, 21, 7, 42, 28, 21, 4, 4, 96, 182, 0, 242, 21, 6, 100]
abbrev dktX12_differ_4 : List UInt8 := dkwX12_differ_4 ++ dktX12_differ_5
def dkwX12_differ_3 : List UInt8 := [21, 4, 182, 0, 242, 54, 5, 42, 28, 21, 4, 182, 0, 242, 54, 6, 42, 27, 21, 4, 4, 96]
abbrev dktX12_differ_3 : List UInt8 := dkwX12_differ_3 ++ dktX12_differ_4
def dkwX12_differ_2 : List UInt8 := [182, 0, 221, 42, 28, 182, 0, 221, 184, 1, 19, 62, 3, 54, 4, 21, 4, 29, 162, 0, 133, 42, 27]
abbrev dktX12_differ_2 : List UInt8 := dkwX12_differ_2 ++ dktX12_differ_3
def dkwX12_differ_1 : List UInt8 := [182, 0, 230, 153, 0, 11, 42, 28, 182, 0, 230, 154, 0, 10, 42, 16, 252, 182, 0, 183, 172, 42, 27]
abbrev dktX12_differ_1 : List UInt8 := dkwX12_differ_1 ++ dktX12_differ_2
def dkwX12_differ_0 : List UInt8 := [27, 184, 0, 211, 153, 0, 10, 28, 184, 0, 211, 154, 0, 10, 42, 16, 254, 182, 0, 183, 172, 42, 27]
abbrev dktX12_differ_0 : List UInt8 := dkwX12_differ_0 ++ dktX12_differ_1
theorem dksX12_differ_0 : cX12_differ.data.toList.drop 0 = dktX12_differ_0 := by decide +kernel
theorem dksX12_differ_1 : cX12_differ.data.toList.drop 23 = dktX12_differ_1 := dk_seg dksX12_differ_0 23 rfl rfl
theorem dksX12_differ_2 : cX12_differ.data.toList.drop 46 = dktX12_differ_2 := dk_seg dksX12_differ_1 23 rfl rfl
theorem dksX12_differ_3 : cX12_differ.data.toList.drop 69 = dktX12_differ_3 := dk_seg dksX12_differ_2 23 rfl rfl
theorem dksX12_differ_4 : cX12_differ.data.toList.drop 91 = dktX12_differ_4 := dk_seg dksX12_differ_3 22 rfl rfl
theorem dksX12_differ_5 : cX12_differ.data.toList.drop 113 = dktX12_differ_5 := dk_seg dksX12_differ_4 22 rfl rfl
theorem dksX12_differ_6 : cX12_differ.data.toList.drop 136 = dktX12_differ_6 := dk_seg dksX12_differ_5 23 rfl rfl
theorem dksX12_differ_7 : cX12_differ.data.toList.drop 160 = dktX12_differ_7 := dk_seg dksX12_differ_6 24 rfl rfl
theorem dksX12_differ_8 : cX12_differ.data.toList.drop 183 = dktX12_differ_8 := dk_seg dksX12_differ_7 23 rfl rfl
theorem dX12_differ_0 : decode cX12_differ 0 = .ok (.iload_n 1, 1) := dk_27 (dk_at dksX12_differ_0 0 rfl rfl)
theorem dX12_differ_1 : decode cX12_differ 1 = .ok (.invokestatic 211, 3) := dk_184 0 211 (dk_at dksX12_differ_0 1 rfl rfl)
theorem dX12_differ_4 : decode cX12_differ 4 = .ok (.ifCond .eq 10, 3) := dk_153 0 10 (dk_at dksX12_differ_0 4 rfl rfl)
theorem dX12_differ_7 : decode cX12_differ 7 = .ok (.iload_n 2, 1) := dk_28 (dk_at dksX12_differ_0 7 rfl rfl)
theorem dX12_differ_8 : decode cX12_differ 8 = .ok (.invokestatic 211, 3) := dk_184 0 211 (dk_at dksX12_differ_0 8 rfl rfl)
theorem dX12_differ_11 : decode cX12_differ 11 = .ok (.ifCond .ne 10, 3) := dk_154 0 10 (dk_at dksX12_differ_0 11 rfl rfl)
theorem dX12_differ_14 : decode cX12_differ 14 = .ok (.aload_n 0, 1) := dk_42 (dk_at dksX12_differ_0 14 rfl rfl)
theorem dX12_differ_15 : decode cX12_differ 15 = .ok (.bipush (-2), 2) := dk_16 254 (dk_at dksX12_differ_0 15 rfl rfl)
theorem dX12_differ_17 : decode cX12_differ 17 = .ok (.invokevirtual 183, 3) := dk_182 0 183 (dk_at dksX12_differ_0 17 rfl rfl)
theorem dX12_differ_20 : decode cX12_differ 20 = .ok (.ireturn, 1) := dk_172 (dk_at dksX12_differ_0 20 rfl rfl)
theorem dX12_differ_21 : decode cX12_differ 21 = .ok (.aload_n 0, 1) := dk_42 (dk_at dksX12_differ_0 21 rfl rfl)
theorem dX12_differ_22 : decode cX12_differ 22 = .ok (.iload_n 1, 1) := dk_27 (dk_at dksX12_differ_0 22 rfl rfl)
theorem dX12_differ_23 : decode cX12_differ 23 = .ok (.invokevirtual 230, 3) := dk_182 0 230 (dk_at dksX12_differ_1 0 rfl rfl)
theorem dX12_differ_26 : decode cX12_differ 26 = .ok (.ifCond .eq 11, 3) := dk_153 0 11 (dk_at dksX12_differ_1 3 rfl rfl)
theorem dX12_differ_29 : decode cX12_differ 29 = .ok (.aload_n 0, 1) := dk_42 (dk_at dksX12_differ_1 6 rfl rfl)
theorem dX12_differ_30 : decode cX12_differ 30 = .ok (.iload_n 2, 1) := dk_28 (dk_at dksX12_differ_1 7 rfl rfl)
theorem dX12_differ_31 : decode cX12_differ 31 = .ok (.invokevirtual 230, 3) := dk_182 0 230 (dk_at dksX12_differ_1 8 rfl rfl)
theorem dX12_differ_34 : decode cX12_differ 34 = .ok (.ifCond .ne 10, 3) := dk_154 0 10 (dk_at dksX12_differ_1 11 rfl rfl)
theorem dX12_differ_37 : decode cX12_differ 37 = .ok (.aload_n 0, 1) := dk_42 (dk_at dksX12_differ_1 14 rfl rfl)
theorem dX12_differ_38 : decode cX12_differ 38 = .ok (.bipush (-4), 2) := dk_16 252 (dk_at dksX12_differ_1 15 rfl rfl)
theorem dX12_differ_40 : decode cX12_differ 40 = .ok (.invokevirtual 183, 3) := dk_182 0 183 (dk_at dksX12_differ_1 17 rfl rfl)
theorem dX12_differ_43 : decode cX12_differ 43 = .ok (.ireturn, 1) := dk_172 (dk_at dksX12_differ_1 20 rfl rfl)
theorem dX12_differ_44 : decode cX12_differ 44 = .ok (.aload_n 0, 1) := dk_42 (dk_at dksX12_differ_1 21 rfl rfl)
theorem dX12_differ_45 : decode cX12_differ 45 = .ok (.iload_n 1, 1) := dk_27 (dk_at dksX12_differ_1 22 rfl rfl)
theorem dX12_differ_46 : decode cX12_differ 46 = .ok (.invokevirtual 221, 3) := dk_182 0 221 (dk_at dksX12_differ_2 0 rfl rfl)
theorem dX12_differ_49 : decode cX12_differ 49 = .ok (.aload_n 0, 1) := dk_42 (dk_at dksX12_differ_2 3 rfl rfl)
theorem dX12_differ_50 : decode cX12_differ 50 = .ok (.iload_n 2, 1) := dk_28 (dk_at dksX12_differ_2 4 rfl rfl)
theorem dX12_differ_51 : decode cX12_differ 51 = .ok (.invokevirtual 221, 3) := dk_182 0 221 (dk_at dksX12_differ_2 5 rfl rfl)
theorem dX12_differ_54 : decode cX12_differ 54 = .ok (.invokestatic 275, 3) := dk_184 1 19 (dk_at dksX12_differ_2 8 rfl rfl)
theorem dX12_differ_57 : decode cX12_differ 57 = .ok (.istore_n 3, 1) := dk_62 (dk_at dksX12_differ_2 11 rfl rfl)
theorem dX12_differ_58 : decode cX12_differ 58 = .ok (.iconst 0, 1) := dk_3 (dk_at dksX12_differ_2 12 rfl rfl)
theorem dX12_differ_59 : decode cX12_differ 59 = .ok (.istore 4, 2) := dk_54 4 (dk_at dksX12_differ_2 13 rfl rfl)
theorem dX12_differ_61 : decode cX12_differ 61 = .ok (.iload 4, 2) := dk_21 4 (dk_at dksX12_differ_2 15 rfl rfl)
theorem dX12_differ_63 : decode cX12_differ 63 = .ok (.iload_n 3, 1) := dk_29 (dk_at dksX12_differ_2 17 rfl rfl)
theorem dX12_differ_64 : decode cX12_differ 64 = .ok (.if_icmp .ge 133, 3) := dk_162 0 133 (dk_at dksX12_differ_2 18 rfl rfl)
theorem dX12_differ_67 : decode cX12_differ 67 = .ok (.aload_n 0, 1) := dk_42 (dk_at dksX12_differ_2 21 rfl rfl)
theorem dX12_differ_68 : decode cX12_differ 68 = .ok (.iload_n 1, 1) := dk_27 (dk_at dksX12_differ_2 22 rfl rfl)
theorem dX12_differ_69 : decode cX12_differ 69 = .ok (.iload 4, 2) := dk_21 4 (dk_at dksX12_differ_3 0 rfl rfl)
theorem dX12_differ_71 : decode cX12_differ 71 = .ok (.invokevirtual 242, 3) := dk_182 0 242 (dk_at dksX12_differ_3 2 rfl rfl)
theorem dX12_differ_74 : decode cX12_differ 74 = .ok (.istore 5, 2) := dk_54 5 (dk_at dksX12_differ_3 5 rfl rfl)
theorem dX12_differ_76 : decode cX12_differ 76 = .ok (.aload_n 0, 1) := dk_42 (dk_at dksX12_differ_3 7 rfl rfl)
theorem dX12_differ_77 : decode cX12_differ 77 = .ok (.iload_n 2, 1) := dk_28 (dk_at dksX12_differ_3 8 rfl rfl)
theorem dX12_differ_78 : decode cX12_differ 78 = .ok (.iload 4, 2) := dk_21 4 (dk_at dksX12_differ_3 9 rfl rfl)
theorem dX12_differ_80 : decode cX12_differ 80 = .ok (.invokevirtual 242, 3) := dk_182 0 242 (dk_at dksX12_differ_3 11 rfl rfl)
theorem dX12_differ_83 : decode cX12_differ 83 = .ok (.istore 6, 2) := dk_54 6 (dk_at dksX12_differ_3 14 rfl rfl)
theorem dX12_differ_85 : decode cX12_differ 85 = .ok (.aload_n 0, 1) := dk_42 (dk_at dksX12_differ_3 16 rfl rfl)
theorem dX12_differ_86 : decode cX12_differ 86 = .ok (.iload_n 1, 1) := dk_27 (dk_at dksX12_differ_3 17 rfl rfl)
theorem dX12_differ_87 : decode cX12_differ 87 = .ok (.iload 4, 2) := dk_21 4 (dk_at dksX12_differ_3 18 rfl rfl)
theorem dX12_differ_89 : decode cX12_differ 89 = .ok (.iconst 1, 1) := dk_4 (dk_at dksX12_differ_3 20 rfl rfl)
theorem dX12_differ_90 : decode cX12_differ 90 = .ok (.iadd, 1) := dk_96 (dk_at dksX12_differ_3 21 rfl rfl)
theorem dX12_differ_91 : decode cX12_differ 91 = .ok (.invokevirtual 242, 3) := dk_182 0 242 (dk_at dksX12_differ_4 0 rfl rfl)
theorem dX12_differ_94 : decode cX12_differ 94 = .ok (.iload 5, 2) := dk_21 5 (dk_at dksX12_differ_4 3 rfl rfl)
theorem dX12_differ_96 : decode cX12_differ 96 = .ok (.isub, 1) := dk_100 (dk_at dksX12_differ_4 5 rfl rfl)
theorem dX12_differ_97 : decode cX12_differ 97 = .ok (.istore 7, 2) := dk_54 7 (dk_at dksX12_differ_4 6 rfl rfl)
theorem dX12_differ_99 : decode cX12_differ 99 = .ok (.iload 7, 2) := dk_21 7 (dk_at dksX12_differ_4 8 rfl rfl)
theorem dX12_differ_101 : decode cX12_differ 101 = .ok (.aload_n 0, 1) := dk_42 (dk_at dksX12_differ_4 10 rfl rfl)
theorem dX12_differ_102 : decode cX12_differ 102 = .ok (.iload_n 2, 1) := dk_28 (dk_at dksX12_differ_4 11 rfl rfl)
theorem dX12_differ_103 : decode cX12_differ 103 = .ok (.iload 4, 2) := dk_21 4 (dk_at dksX12_differ_4 12 rfl rfl)
theorem dX12_differ_105 : decode cX12_differ 105 = .ok (.iconst 1, 1) := dk_4 (dk_at dksX12_differ_4 14 rfl rfl)
theorem dX12_differ_106 : decode cX12_differ 106 = .ok (.iadd, 1) := dk_96 (dk_at dksX12_differ_4 15 rfl rfl)
theorem dX12_differ_107 : decode cX12_differ 107 = .ok (.invokevirtual 242, 3) := dk_182 0 242 (dk_at dksX12_differ_4 16 rfl rfl)
theorem dX12_differ_110 : decode cX12_differ 110 = .ok (.iload 6, 2) := dk_21 6 (dk_at dksX12_differ_4 19 rfl rfl)
theorem dX12_differ_112 : decode cX12_differ 112 = .ok (.isub, 1) := dk_100 (dk_at dksX12_differ_4 21 rfl rfl)
theorem dX12_differ_113 : decode cX12_differ 113 = .ok (.if_icmp .ne 12, 3) := dk_160 0 12 (dk_at dksX12_differ_5 0 rfl rfl)
theorem dX12_differ_116 : decode cX12_differ 116 = .ok (.iload 7, 2) := dk_21 7 (dk_at dksX12_differ_5 3 rfl rfl)
theorem dX12_differ_118 : decode cX12_differ 118 = .ok (.ifCond .le 7, 3) := dk_158 0 7 (dk_at dksX12_differ_5 5 rfl rfl)
theorem dX12_differ_121 : decode cX12_differ 121 = .ok (.iconst 1, 1) := dk_4 (dk_at dksX12_differ_5 8 rfl rfl)
theorem dX12_differ_122 : decode cX12_differ 122 = .ok (.goto 4, 3) := dk_167 0 4 (dk_at dksX12_differ_5 9 rfl rfl)
theorem dX12_differ_125 : decode cX12_differ 125 = .ok (.iconst 0, 1) := dk_3 (dk_at dksX12_differ_5 12 rfl rfl)
theorem dX12_differ_126 : decode cX12_differ 126 = .ok (.istore 8, 2) := dk_54 8 (dk_at dksX12_differ_5 13 rfl rfl)
theorem dX12_differ_128 : decode cX12_differ 128 = .ok (.iconst 0, 1) := dk_3 (dk_at dksX12_differ_5 15 rfl rfl)
theorem dX12_differ_129 : decode cX12_differ 129 = .ok (.istore 9, 2) := dk_54 9 (dk_at dksX12_differ_5 16 rfl rfl)
theorem dX12_differ_131 : decode cX12_differ 131 = .ok (.iload 8, 2) := dk_21 8 (dk_at dksX12_differ_5 18 rfl rfl)
theorem dX12_differ_133 : decode cX12_differ 133 = .ok (.ifCond .eq 50, 3) := dk_153 0 50 (dk_at dksX12_differ_5 20 rfl rfl)
theorem dX12_differ_136 : decode cX12_differ 136 = .ok (.iload 9, 2) := dk_21 9 (dk_at dksX12_differ_6 0 rfl rfl)
theorem dX12_differ_138 : decode cX12_differ 138 = .ok (.iload 7, 2) := dk_21 7 (dk_at dksX12_differ_6 2 rfl rfl)
theorem dX12_differ_140 : decode cX12_differ 140 = .ok (.if_icmp .ge 43, 3) := dk_162 0 43 (dk_at dksX12_differ_6 4 rfl rfl)
theorem dX12_differ_143 : decode cX12_differ 143 = .ok (.aload_n 0, 1) := dk_42 (dk_at dksX12_differ_6 7 rfl rfl)
theorem dX12_differ_144 : decode cX12_differ 144 = .ok (.getfield 11, 3) := dk_180 0 11 (dk_at dksX12_differ_6 8 rfl rfl)
theorem dX12_differ_147 : decode cX12_differ 147 = .ok (.iload_n 1, 1) := dk_27 (dk_at dksX12_differ_6 11 rfl rfl)
theorem dX12_differ_148 : decode cX12_differ 148 = .ok (.aaload, 1) := dk_50 (dk_at dksX12_differ_6 12 rfl rfl)
theorem dX12_differ_149 : decode cX12_differ 149 = .ok (.iload 5, 2) := dk_21 5 (dk_at dksX12_differ_6 13 rfl rfl)
theorem dX12_differ_151 : decode cX12_differ 151 = .ok (.iload 9, 2) := dk_21 9 (dk_at dksX12_differ_6 15 rfl rfl)
theorem dX12_differ_153 : decode cX12_differ 153 = .ok (.iadd, 1) := dk_96 (dk_at dksX12_differ_6 17 rfl rfl)
theorem dX12_differ_154 : decode cX12_differ 154 = .ok (.iaload, 1) := dk_46 (dk_at dksX12_differ_6 18 rfl rfl)
theorem dX12_differ_155 : decode cX12_differ 155 = .ok (.aload_n 0, 1) := dk_42 (dk_at dksX12_differ_6 19 rfl rfl)
theorem dX12_differ_156 : decode cX12_differ 156 = .ok (.getfield 11, 3) := dk_180 0 11 (dk_at dksX12_differ_6 20 rfl rfl)
theorem dX12_differ_159 : decode cX12_differ 159 = .ok (.iload_n 2, 1) := dk_28 (dk_at dksX12_differ_6 23 rfl rfl)
theorem dX12_differ_160 : decode cX12_differ 160 = .ok (.aaload, 1) := dk_50 (dk_at dksX12_differ_7 0 rfl rfl)
theorem dX12_differ_161 : decode cX12_differ 161 = .ok (.iload 6, 2) := dk_21 6 (dk_at dksX12_differ_7 1 rfl rfl)
theorem dX12_differ_163 : decode cX12_differ 163 = .ok (.iload 9, 2) := dk_21 9 (dk_at dksX12_differ_7 3 rfl rfl)
theorem dX12_differ_165 : decode cX12_differ 165 = .ok (.iadd, 1) := dk_96 (dk_at dksX12_differ_7 5 rfl rfl)
theorem dX12_differ_166 : decode cX12_differ 166 = .ok (.iaload, 1) := dk_46 (dk_at dksX12_differ_7 6 rfl rfl)
theorem dX12_differ_167 : decode cX12_differ 167 = .ok (.if_icmp .ne 7, 3) := dk_160 0 7 (dk_at dksX12_differ_7 7 rfl rfl)
theorem dX12_differ_170 : decode cX12_differ 170 = .ok (.iconst 1, 1) := dk_4 (dk_at dksX12_differ_7 10 rfl rfl)
theorem dX12_differ_171 : decode cX12_differ 171 = .ok (.goto 4, 3) := dk_167 0 4 (dk_at dksX12_differ_7 11 rfl rfl)
theorem dX12_differ_174 : decode cX12_differ 174 = .ok (.iconst 0, 1) := dk_3 (dk_at dksX12_differ_7 14 rfl rfl)
theorem dX12_differ_175 : decode cX12_differ 175 = .ok (.istore 8, 2) := dk_54 8 (dk_at dksX12_differ_7 15 rfl rfl)
theorem dX12_differ_177 : decode cX12_differ 177 = .ok (.iinc 9 1, 3) := dk_132 9 1 (dk_at dksX12_differ_7 17 rfl rfl)
theorem dX12_differ_180 : decode cX12_differ 180 = .ok (.goto (-49), 3) := dk_167 255 207 (dk_at dksX12_differ_7 20 rfl rfl)
theorem dX12_differ_183 : decode cX12_differ 183 = .ok (.iload 8, 2) := dk_21 8 (dk_at dksX12_differ_8 0 rfl rfl)
theorem dX12_differ_185 : decode cX12_differ 185 = .ok (.ifCond .ne 6, 3) := dk_154 0 6 (dk_at dksX12_differ_8 2 rfl rfl)
theorem dX12_differ_188 : decode cX12_differ 188 = .ok (.iload 4, 2) := dk_21 4 (dk_at dksX12_differ_8 5 rfl rfl)
theorem dX12_differ_190 : decode cX12_differ 190 = .ok (.ireturn, 1) := dk_172 (dk_at dksX12_differ_8 7 rfl rfl)
theorem dX12_differ_191 : decode cX12_differ 191 = .ok (.iinc 4 1, 3) := dk_132 4 1 (dk_at dksX12_differ_8 8 rfl rfl)
theorem dX12_differ_194 : decode cX12_differ 194 = .ok (.goto (-133), 3) := dk_167 255 123 (dk_at dksX12_differ_8 11 rfl rfl)
theorem dX12_differ_197 : decode cX12_differ 197 = .ok (.iconst (-1), 1) := dk_2 (dk_at dksX12_differ_8 14 rfl rfl)
theorem dX12_differ_198 : decode cX12_differ 198 = .ok (.ireturn, 1) := dk_172 (dk_at dksX12_differ_8 15 rfl rfl)
abbrev cX12_does : ByteArray := prog_24_method_60_code
def yX12_does : MethodName := ⟨RX12, "does", "(II)I"⟩
def dkwX12_does_3 : List UInt8 := [153, 0, 10, 42, 16, 250, 182, 0, 183, 172, 42, 27, 7, 4, 182, 1, 27, 42, 180, 0, 25, 27, 46, 172]
abbrev dktX12_does_3 : List UInt8 := dkwX12_does_3 ++ []
def dkwX12_does_2 : List UInt8 := [159, 0, 10, 42, 16, 251, 182, 0, 183, 172, 42, 3, 28, 182, 0, 97, 42, 27, 3, 182, 1, 24]
abbrev dktX12_does_2 : List UInt8 := dkwX12_does_2 ++ dktX12_does_3
def dkwX12_does_1 : List UInt8 := [182, 0, 230, 154, 0, 10, 42, 16, 252, 182, 0, 183, 172, 42, 28, 182, 0, 233, 42, 180, 0, 25, 27, 46]
abbrev dktX12_does_1 : List UInt8 := dkwX12_does_1 ++ dktX12_does_2
def dkwX12_does_0 : List UInt8 := [27, 184, 1, 16, 153, 0, 10, 28, 184, 0, 211, 154, 0, 10, 42, 16, 254, 182, 0, 183, 172, 42, 28]
abbrev dktX12_does_0 : List UInt8 := dkwX12_does_0 ++ dktX12_does_1
theorem dksX12_does_0 : cX12_does.data.toList.drop 0 = dktX12_does_0 := by decide +kernel
theorem dksX12_does_1 : cX12_does.data.toList.drop 23 = dktX12_does_1 := dk_seg dksX12_does_0 23 rfl rfl
theorem dksX12_does_2 : cX12_does.data.toList.drop 47 = dktX12_does_2 := dk_seg dksX12_does_1 24 rfl rfl
theorem dksX12_does_3 : cX12_does.data.toList.drop 69 = dktX12_does_3 := dk_seg dksX12_does_2 22 rfl rfl
theorem dX12_does_0 : decode cX12_does 0 = .ok (.iload_n 1, 1) := dk_27 (dk_at dksX12_does_0 0 rfl rfl)
theorem dX12_does_1 : decode cX12_does 1 = .ok (.invokestatic 272, 3) := dk_184 1 16 (dk_at dksX12_does_0 1 rfl rfl)
theorem dX12_does_4 : decode cX12_does 4 = .ok (.ifCond .eq 10, 3) := dk_153 0 10 (dk_at dksX12_does_0 4 rfl rfl)
theorem dX12_does_7 : decode cX12_does 7 = .ok (.iload_n 2, 1) := dk_28 (dk_at dksX12_does_0 7 rfl rfl)
theorem dX12_does_8 : decode cX12_does 8 = .ok (.invokestatic 211, 3) := dk_184 0 211 (dk_at dksX12_does_0 8 rfl rfl)
theorem dX12_does_11 : decode cX12_does 11 = .ok (.ifCond .ne 10, 3) := dk_154 0 10 (dk_at dksX12_does_0 11 rfl rfl)
theorem dX12_does_14 : decode cX12_does 14 = .ok (.aload_n 0, 1) := dk_42 (dk_at dksX12_does_0 14 rfl rfl)
theorem dX12_does_15 : decode cX12_does 15 = .ok (.bipush (-2), 2) := dk_16 254 (dk_at dksX12_does_0 15 rfl rfl)
theorem dX12_does_17 : decode cX12_does 17 = .ok (.invokevirtual 183, 3) := dk_182 0 183 (dk_at dksX12_does_0 17 rfl rfl)
theorem dX12_does_20 : decode cX12_does 20 = .ok (.ireturn, 1) := dk_172 (dk_at dksX12_does_0 20 rfl rfl)
theorem dX12_does_21 : decode cX12_does 21 = .ok (.aload_n 0, 1) := dk_42 (dk_at dksX12_does_0 21 rfl rfl)
theorem dX12_does_22 : decode cX12_does 22 = .ok (.iload_n 2, 1) := dk_28 (dk_at dksX12_does_0 22 rfl rfl)
theorem dX12_does_23 : decode cX12_does 23 = .ok (.invokevirtual 230, 3) := dk_182 0 230 (dk_at dksX12_does_1 0 rfl rfl)
theorem dX12_does_26 : decode cX12_does 26 = .ok (.ifCond .ne 10, 3) := dk_154 0 10 (dk_at dksX12_does_1 3 rfl rfl)
theorem dX12_does_29 : decode cX12_does 29 = .ok (.aload_n 0, 1) := dk_42 (dk_at dksX12_does_1 6 rfl rfl)
theorem dX12_does_30 : decode cX12_does 30 = .ok (.bipush (-4), 2) := dk_16 252 (dk_at dksX12_does_1 7 rfl rfl)
theorem dX12_does_32 : decode cX12_does 32 = .ok (.invokevirtual 183, 3) := dk_182 0 183 (dk_at dksX12_does_1 9 rfl rfl)
theorem dX12_does_35 : decode cX12_does 35 = .ok (.ireturn, 1) := dk_172 (dk_at dksX12_does_1 12 rfl rfl)
theorem dX12_does_36 : decode cX12_does 36 = .ok (.aload_n 0, 1) := dk_42 (dk_at dksX12_does_1 13 rfl rfl)
theorem dX12_does_37 : decode cX12_does 37 = .ok (.iload_n 2, 1) := dk_28 (dk_at dksX12_does_1 14 rfl rfl)
theorem dX12_does_38 : decode cX12_does 38 = .ok (.invokevirtual 233, 3) := dk_182 0 233 (dk_at dksX12_does_1 15 rfl rfl)
theorem dX12_does_41 : decode cX12_does 41 = .ok (.aload_n 0, 1) := dk_42 (dk_at dksX12_does_1 18 rfl rfl)
theorem dX12_does_42 : decode cX12_does 42 = .ok (.getfield 25, 3) := dk_180 0 25 (dk_at dksX12_does_1 19 rfl rfl)
theorem dX12_does_45 : decode cX12_does 45 = .ok (.iload_n 1, 1) := dk_27 (dk_at dksX12_does_1 22 rfl rfl)
theorem dX12_does_46 : decode cX12_does 46 = .ok (.iaload, 1) := dk_46 (dk_at dksX12_does_1 23 rfl rfl)
theorem dX12_does_47 : decode cX12_does 47 = .ok (.if_icmp .eq 10, 3) := dk_159 0 10 (dk_at dksX12_does_2 0 rfl rfl)
theorem dX12_does_50 : decode cX12_does 50 = .ok (.aload_n 0, 1) := dk_42 (dk_at dksX12_does_2 3 rfl rfl)
theorem dX12_does_51 : decode cX12_does 51 = .ok (.bipush (-5), 2) := dk_16 251 (dk_at dksX12_does_2 4 rfl rfl)
theorem dX12_does_53 : decode cX12_does 53 = .ok (.invokevirtual 183, 3) := dk_182 0 183 (dk_at dksX12_does_2 6 rfl rfl)
theorem dX12_does_56 : decode cX12_does 56 = .ok (.ireturn, 1) := dk_172 (dk_at dksX12_does_2 9 rfl rfl)
theorem dX12_does_57 : decode cX12_does 57 = .ok (.aload_n 0, 1) := dk_42 (dk_at dksX12_does_2 10 rfl rfl)
theorem dX12_does_58 : decode cX12_does 58 = .ok (.iconst 0, 1) := dk_3 (dk_at dksX12_does_2 11 rfl rfl)
theorem dX12_does_59 : decode cX12_does 59 = .ok (.iload_n 2, 1) := dk_28 (dk_at dksX12_does_2 12 rfl rfl)
theorem dX12_does_60 : decode cX12_does 60 = .ok (.invokevirtual 97, 3) := dk_182 0 97 (dk_at dksX12_does_2 13 rfl rfl)
theorem dX12_does_63 : decode cX12_does 63 = .ok (.aload_n 0, 1) := dk_42 (dk_at dksX12_does_2 16 rfl rfl)
theorem dX12_does_64 : decode cX12_does 64 = .ok (.iload_n 1, 1) := dk_27 (dk_at dksX12_does_2 17 rfl rfl)
theorem dX12_does_65 : decode cX12_does 65 = .ok (.iconst 0, 1) := dk_3 (dk_at dksX12_does_2 18 rfl rfl)
theorem dX12_does_66 : decode cX12_does 66 = .ok (.invokevirtual 280, 3) := dk_182 1 24 (dk_at dksX12_does_2 19 rfl rfl)
theorem dX12_does_69 : decode cX12_does 69 = .ok (.ifCond .eq 10, 3) := dk_153 0 10 (dk_at dksX12_does_3 0 rfl rfl)
theorem dX12_does_72 : decode cX12_does 72 = .ok (.aload_n 0, 1) := dk_42 (dk_at dksX12_does_3 3 rfl rfl)
theorem dX12_does_73 : decode cX12_does 73 = .ok (.bipush (-6), 2) := dk_16 250 (dk_at dksX12_does_3 4 rfl rfl)
theorem dX12_does_75 : decode cX12_does 75 = .ok (.invokevirtual 183, 3) := dk_182 0 183 (dk_at dksX12_does_3 6 rfl rfl)
theorem dX12_does_78 : decode cX12_does 78 = .ok (.ireturn, 1) := dk_172 (dk_at dksX12_does_3 9 rfl rfl)
theorem dX12_does_79 : decode cX12_does 79 = .ok (.aload_n 0, 1) := dk_42 (dk_at dksX12_does_3 10 rfl rfl)
theorem dX12_does_80 : decode cX12_does 80 = .ok (.iload_n 1, 1) := dk_27 (dk_at dksX12_does_3 11 rfl rfl)
theorem dX12_does_81 : decode cX12_does 81 = .ok (.iconst 4, 1) := dk_7 (dk_at dksX12_does_3 12 rfl rfl)
theorem dX12_does_82 : decode cX12_does 82 = .ok (.iconst 1, 1) := dk_4 (dk_at dksX12_does_3 13 rfl rfl)
theorem dX12_does_83 : decode cX12_does 83 = .ok (.invokevirtual 283, 3) := dk_182 1 27 (dk_at dksX12_does_3 14 rfl rfl)
theorem dX12_does_86 : decode cX12_does 86 = .ok (.aload_n 0, 1) := dk_42 (dk_at dksX12_does_3 17 rfl rfl)
theorem dX12_does_87 : decode cX12_does 87 = .ok (.getfield 25, 3) := dk_180 0 25 (dk_at dksX12_does_3 18 rfl rfl)
theorem dX12_does_90 : decode cX12_does 90 = .ok (.iload_n 1, 1) := dk_27 (dk_at dksX12_does_3 21 rfl rfl)
theorem dX12_does_91 : decode cX12_does 91 = .ok (.iaload, 1) := dk_46 (dk_at dksX12_does_3 22 rfl rfl)
theorem dX12_does_92 : decode cX12_does 92 = .ok (.ireturn, 1) := dk_172 (dk_at dksX12_does_3 23 rfl rfl)
abbrev cX12_isFull : ByteArray := prog_24_method_28_code
def yX12_isFull : MethodName := ⟨RX12, "isFull", "(II)Z"⟩
def dkwX12_isFull_1 : List UInt8 := [4, 167, 0, 4, 3, 172]
abbrev dktX12_isFull_1 : List UInt8 := dkwX12_isFull_1 ++ []
def dkwX12_isFull_0 : List UInt8 := [42, 28, 182, 0, 161, 16, 60, 164, 0, 21, 42, 28, 182, 0, 161, 42, 180, 0, 25, 27, 46, 164, 0, 7]
abbrev dktX12_isFull_0 : List UInt8 := dkwX12_isFull_0 ++ dktX12_isFull_1
theorem dksX12_isFull_0 : cX12_isFull.data.toList.drop 0 = dktX12_isFull_0 := by decide +kernel
theorem dksX12_isFull_1 : cX12_isFull.data.toList.drop 24 = dktX12_isFull_1 := dk_seg dksX12_isFull_0 24 rfl rfl
theorem dX12_isFull_0 : decode cX12_isFull 0 = .ok (.aload_n 0, 1) := dk_42 (dk_at dksX12_isFull_0 0 rfl rfl)
theorem dX12_isFull_1 : decode cX12_isFull 1 = .ok (.iload_n 2, 1) := dk_28 (dk_at dksX12_isFull_0 1 rfl rfl)
theorem dX12_isFull_2 : decode cX12_isFull 2 = .ok (.invokevirtual 161, 3) := dk_182 0 161 (dk_at dksX12_isFull_0 2 rfl rfl)
theorem dX12_isFull_5 : decode cX12_isFull 5 = .ok (.bipush 60, 2) := dk_16 60 (dk_at dksX12_isFull_0 5 rfl rfl)
theorem dX12_isFull_7 : decode cX12_isFull 7 = .ok (.if_icmp .le 21, 3) := dk_164 0 21 (dk_at dksX12_isFull_0 7 rfl rfl)
theorem dX12_isFull_10 : decode cX12_isFull 10 = .ok (.aload_n 0, 1) := dk_42 (dk_at dksX12_isFull_0 10 rfl rfl)
theorem dX12_isFull_11 : decode cX12_isFull 11 = .ok (.iload_n 2, 1) := dk_28 (dk_at dksX12_isFull_0 11 rfl rfl)
theorem dX12_isFull_12 : decode cX12_isFull 12 = .ok (.invokevirtual 161, 3) := dk_182 0 161 (dk_at dksX12_isFull_0 12 rfl rfl)
theorem dX12_isFull_15 : decode cX12_isFull 15 = .ok (.aload_n 0, 1) := dk_42 (dk_at dksX12_isFull_0 15 rfl rfl)
theorem dX12_isFull_16 : decode cX12_isFull 16 = .ok (.getfield 25, 3) := dk_180 0 25 (dk_at dksX12_isFull_0 16 rfl rfl)
theorem dX12_isFull_19 : decode cX12_isFull 19 = .ok (.iload_n 1, 1) := dk_27 (dk_at dksX12_isFull_0 19 rfl rfl)
theorem dX12_isFull_20 : decode cX12_isFull 20 = .ok (.iaload, 1) := dk_46 (dk_at dksX12_isFull_0 20 rfl rfl)
theorem dX12_isFull_21 : decode cX12_isFull 21 = .ok (.if_icmp .le 7, 3) := dk_164 0 7 (dk_at dksX12_isFull_0 21 rfl rfl)
theorem dX12_isFull_24 : decode cX12_isFull 24 = .ok (.iconst 1, 1) := dk_4 (dk_at dksX12_isFull_1 0 rfl rfl)
theorem dX12_isFull_25 : decode cX12_isFull 25 = .ok (.goto 4, 3) := dk_167 0 4 (dk_at dksX12_isFull_1 1 rfl rfl)
theorem dX12_isFull_28 : decode cX12_isFull 28 = .ok (.iconst 0, 1) := dk_3 (dk_at dksX12_isFull_1 4 rfl rfl)
theorem dX12_isFull_29 : decode cX12_isFull 29 = .ok (.ireturn, 1) := dk_172 (dk_at dksX12_isFull_1 5 rfl rfl)
abbrev cX12_resultLength : ByteArray := prog_24_method_27_code
def yX12_resultLength : MethodName := ⟨RX12, "resultLength", "(I)I"⟩
def dkwX12_resultLength_1 : List UInt8 := [172]
abbrev dktX12_resultLength_1 : List UInt8 := dkwX12_resultLength_1 ++ []
def dkwX12_resultLength_0 : List UInt8 := [42, 180, 0, 43, 27, 46, 42, 180, 0, 40, 27, 50, 42, 180, 0, 43, 27, 46, 18, 109, 184, 0, 111, 100]
abbrev dktX12_resultLength_0 : List UInt8 := dkwX12_resultLength_0 ++ dktX12_resultLength_1
theorem dksX12_resultLength_0 : cX12_resultLength.data.toList.drop 0 = dktX12_resultLength_0 := by decide +kernel
theorem dksX12_resultLength_1 : cX12_resultLength.data.toList.drop 24 = dktX12_resultLength_1 := dk_seg dksX12_resultLength_0 24 rfl rfl
theorem dX12_resultLength_0 : decode cX12_resultLength 0 = .ok (.aload_n 0, 1) := dk_42 (dk_at dksX12_resultLength_0 0 rfl rfl)
theorem dX12_resultLength_1 : decode cX12_resultLength 1 = .ok (.getfield 43, 3) := dk_180 0 43 (dk_at dksX12_resultLength_0 1 rfl rfl)
theorem dX12_resultLength_4 : decode cX12_resultLength 4 = .ok (.iload_n 1, 1) := dk_27 (dk_at dksX12_resultLength_0 4 rfl rfl)
theorem dX12_resultLength_5 : decode cX12_resultLength 5 = .ok (.iaload, 1) := dk_46 (dk_at dksX12_resultLength_0 5 rfl rfl)
theorem dX12_resultLength_6 : decode cX12_resultLength 6 = .ok (.aload_n 0, 1) := dk_42 (dk_at dksX12_resultLength_0 6 rfl rfl)
theorem dX12_resultLength_7 : decode cX12_resultLength 7 = .ok (.getfield 40, 3) := dk_180 0 40 (dk_at dksX12_resultLength_0 7 rfl rfl)
theorem dX12_resultLength_10 : decode cX12_resultLength 10 = .ok (.iload_n 1, 1) := dk_27 (dk_at dksX12_resultLength_0 10 rfl rfl)
theorem dX12_resultLength_11 : decode cX12_resultLength 11 = .ok (.aaload, 1) := dk_50 (dk_at dksX12_resultLength_0 11 rfl rfl)
theorem dX12_resultLength_12 : decode cX12_resultLength 12 = .ok (.aload_n 0, 1) := dk_42 (dk_at dksX12_resultLength_0 12 rfl rfl)
theorem dX12_resultLength_13 : decode cX12_resultLength 13 = .ok (.getfield 43, 3) := dk_180 0 43 (dk_at dksX12_resultLength_0 13 rfl rfl)
theorem dX12_resultLength_16 : decode cX12_resultLength 16 = .ok (.iload_n 1, 1) := dk_27 (dk_at dksX12_resultLength_0 16 rfl rfl)
theorem dX12_resultLength_17 : decode cX12_resultLength 17 = .ok (.iaload, 1) := dk_46 (dk_at dksX12_resultLength_0 17 rfl rfl)
theorem dX12_resultLength_18 : decode cX12_resultLength 18 = .ok (.ldc 109, 2) := dk_18 109 (dk_at dksX12_resultLength_0 18 rfl rfl)
theorem dX12_resultLength_20 : decode cX12_resultLength 20 = .ok (.invokestatic 111, 3) := dk_184 0 111 (dk_at dksX12_resultLength_0 20 rfl rfl)
theorem dX12_resultLength_23 : decode cX12_resultLength 23 = .ok (.isub, 1) := dk_100 (dk_at dksX12_resultLength_0 23 rfl rfl)
theorem dX12_resultLength_24 : decode cX12_resultLength 24 = .ok (.ireturn, 1) := dk_172 (dk_at dksX12_resultLength_1 0 rfl rfl)
abbrev cX12_done : ByteArray := prog_24_method_26_code
def yX12_done : MethodName := ⟨RX12, "done", "(IIZ)V"⟩
def dkwX12_done_6 : List UInt8 := [182, 0, 97, 42, 4, 3, 5, 182, 0, 158, 42, 16, 20, 27, 96, 5, 182, 0, 101, 177]
abbrev dktX12_done_6 : List UInt8 := dkwX12_done_6 ++ []
def dkwX12_done_5 : List UInt8 := [182, 0, 101, 42, 180, 0, 28, 16, 8, 27, 104, 6, 96, 4, 79, 167, 0, 28, 42, 4, 16, 20, 27, 96]
abbrev dktX12_done_5 : List UInt8 := dkwX12_done_5 ++ dktX12_done_6
def dkwX12_done_4 : List UInt8 := [3, 182, 0, 135, 79, 167, 0, 61, 42, 27, 6, 182, 0, 135, 154, 0, 27, 42, 16, 20, 27, 96, 3]
abbrev dktX12_done_4 : List UInt8 := dkwX12_done_4 ++ dktX12_done_5
def dkwX12_done_3 : List UInt8 := [42, 180, 0, 28, 16, 8, 27, 104, 4, 96, 4, 79, 42, 180, 0, 28, 16, 8, 27, 104, 5, 96, 42, 27]
abbrev dktX12_done_3 : List UInt8 := dkwX12_done_3 ++ dktX12_done_4
def dkwX12_done_2 : List UInt8 := [182, 0, 135, 154, 0, 53, 42, 16, 16, 27, 96, 3, 182, 0, 101, 42, 16, 12, 27, 96, 3, 182, 0, 101]
abbrev dktX12_done_2 : List UInt8 := dkwX12_done_2 ++ dktX12_done_3
def dkwX12_done_1 : List UInt8 := [182, 0, 155, 29, 153, 0, 15, 42, 180, 0, 28, 16, 8, 27, 104, 8, 96, 3, 79, 42, 27, 4]
abbrev dktX12_done_1 : List UInt8 := dkwX12_done_1 ++ dktX12_done_2
def dkwX12_done_0 : List UInt8 := [42, 3, 27, 4, 182, 0, 145, 42, 27, 3, 182, 0, 148, 42, 27, 3, 4, 182, 0, 151, 42, 27, 28, 4]
abbrev dktX12_done_0 : List UInt8 := dkwX12_done_0 ++ dktX12_done_1
theorem dksX12_done_0 : cX12_done.data.toList.drop 0 = dktX12_done_0 := by decide +kernel
theorem dksX12_done_1 : cX12_done.data.toList.drop 24 = dktX12_done_1 := dk_seg dksX12_done_0 24 rfl rfl
theorem dksX12_done_2 : cX12_done.data.toList.drop 46 = dktX12_done_2 := dk_seg dksX12_done_1 22 rfl rfl
theorem dksX12_done_3 : cX12_done.data.toList.drop 70 = dktX12_done_3 := dk_seg dksX12_done_2 24 rfl rfl
theorem dksX12_done_4 : cX12_done.data.toList.drop 94 = dktX12_done_4 := dk_seg dksX12_done_3 24 rfl rfl
theorem dksX12_done_5 : cX12_done.data.toList.drop 117 = dktX12_done_5 := dk_seg dksX12_done_4 23 rfl rfl
theorem dksX12_done_6 : cX12_done.data.toList.drop 141 = dktX12_done_6 := dk_seg dksX12_done_5 24 rfl rfl
theorem dX12_done_0 : decode cX12_done 0 = .ok (.aload_n 0, 1) := dk_42 (dk_at dksX12_done_0 0 rfl rfl)
theorem dX12_done_1 : decode cX12_done 1 = .ok (.iconst 0, 1) := dk_3 (dk_at dksX12_done_0 1 rfl rfl)
theorem dX12_done_2 : decode cX12_done 2 = .ok (.iload_n 1, 1) := dk_27 (dk_at dksX12_done_0 2 rfl rfl)
theorem dX12_done_3 : decode cX12_done 3 = .ok (.iconst 1, 1) := dk_4 (dk_at dksX12_done_0 3 rfl rfl)
theorem dX12_done_4 : decode cX12_done 4 = .ok (.invokevirtual 145, 3) := dk_182 0 145 (dk_at dksX12_done_0 4 rfl rfl)
theorem dX12_done_7 : decode cX12_done 7 = .ok (.aload_n 0, 1) := dk_42 (dk_at dksX12_done_0 7 rfl rfl)
theorem dX12_done_8 : decode cX12_done 8 = .ok (.iload_n 1, 1) := dk_27 (dk_at dksX12_done_0 8 rfl rfl)
theorem dX12_done_9 : decode cX12_done 9 = .ok (.iconst 0, 1) := dk_3 (dk_at dksX12_done_0 9 rfl rfl)
theorem dX12_done_10 : decode cX12_done 10 = .ok (.invokevirtual 148, 3) := dk_182 0 148 (dk_at dksX12_done_0 10 rfl rfl)
theorem dX12_done_13 : decode cX12_done 13 = .ok (.aload_n 0, 1) := dk_42 (dk_at dksX12_done_0 13 rfl rfl)
theorem dX12_done_14 : decode cX12_done 14 = .ok (.iload_n 1, 1) := dk_27 (dk_at dksX12_done_0 14 rfl rfl)
theorem dX12_done_15 : decode cX12_done 15 = .ok (.iconst 0, 1) := dk_3 (dk_at dksX12_done_0 15 rfl rfl)
theorem dX12_done_16 : decode cX12_done 16 = .ok (.iconst 1, 1) := dk_4 (dk_at dksX12_done_0 16 rfl rfl)
theorem dX12_done_17 : decode cX12_done 17 = .ok (.invokevirtual 151, 3) := dk_182 0 151 (dk_at dksX12_done_0 17 rfl rfl)
theorem dX12_done_20 : decode cX12_done 20 = .ok (.aload_n 0, 1) := dk_42 (dk_at dksX12_done_0 20 rfl rfl)
theorem dX12_done_21 : decode cX12_done 21 = .ok (.iload_n 1, 1) := dk_27 (dk_at dksX12_done_0 21 rfl rfl)
theorem dX12_done_22 : decode cX12_done 22 = .ok (.iload_n 2, 1) := dk_28 (dk_at dksX12_done_0 22 rfl rfl)
theorem dX12_done_23 : decode cX12_done 23 = .ok (.iconst 1, 1) := dk_4 (dk_at dksX12_done_0 23 rfl rfl)
theorem dX12_done_24 : decode cX12_done 24 = .ok (.invokevirtual 155, 3) := dk_182 0 155 (dk_at dksX12_done_1 0 rfl rfl)
theorem dX12_done_27 : decode cX12_done 27 = .ok (.iload_n 3, 1) := dk_29 (dk_at dksX12_done_1 3 rfl rfl)
theorem dX12_done_28 : decode cX12_done 28 = .ok (.ifCond .eq 15, 3) := dk_153 0 15 (dk_at dksX12_done_1 4 rfl rfl)
theorem dX12_done_31 : decode cX12_done 31 = .ok (.aload_n 0, 1) := dk_42 (dk_at dksX12_done_1 7 rfl rfl)
theorem dX12_done_32 : decode cX12_done 32 = .ok (.getfield 28, 3) := dk_180 0 28 (dk_at dksX12_done_1 8 rfl rfl)
theorem dX12_done_35 : decode cX12_done 35 = .ok (.bipush 8, 2) := dk_16 8 (dk_at dksX12_done_1 11 rfl rfl)
theorem dX12_done_37 : decode cX12_done 37 = .ok (.iload_n 1, 1) := dk_27 (dk_at dksX12_done_1 13 rfl rfl)
theorem dX12_done_38 : decode cX12_done 38 = .ok (.imul, 1) := dk_104 (dk_at dksX12_done_1 14 rfl rfl)
theorem dX12_done_39 : decode cX12_done 39 = .ok (.iconst 5, 1) := dk_8 (dk_at dksX12_done_1 15 rfl rfl)
theorem dX12_done_40 : decode cX12_done 40 = .ok (.iadd, 1) := dk_96 (dk_at dksX12_done_1 16 rfl rfl)
theorem dX12_done_41 : decode cX12_done 41 = .ok (.iconst 0, 1) := dk_3 (dk_at dksX12_done_1 17 rfl rfl)
theorem dX12_done_42 : decode cX12_done 42 = .ok (.iastore, 1) := dk_79 (dk_at dksX12_done_1 18 rfl rfl)
theorem dX12_done_43 : decode cX12_done 43 = .ok (.aload_n 0, 1) := dk_42 (dk_at dksX12_done_1 19 rfl rfl)
theorem dX12_done_44 : decode cX12_done 44 = .ok (.iload_n 1, 1) := dk_27 (dk_at dksX12_done_1 20 rfl rfl)
theorem dX12_done_45 : decode cX12_done 45 = .ok (.iconst 1, 1) := dk_4 (dk_at dksX12_done_1 21 rfl rfl)
theorem dX12_done_46 : decode cX12_done 46 = .ok (.invokevirtual 135, 3) := dk_182 0 135 (dk_at dksX12_done_2 0 rfl rfl)
theorem dX12_done_49 : decode cX12_done 49 = .ok (.ifCond .ne 53, 3) := dk_154 0 53 (dk_at dksX12_done_2 3 rfl rfl)
theorem dX12_done_52 : decode cX12_done 52 = .ok (.aload_n 0, 1) := dk_42 (dk_at dksX12_done_2 6 rfl rfl)
theorem dX12_done_53 : decode cX12_done 53 = .ok (.bipush 16, 2) := dk_16 16 (dk_at dksX12_done_2 7 rfl rfl)
theorem dX12_done_55 : decode cX12_done 55 = .ok (.iload_n 1, 1) := dk_27 (dk_at dksX12_done_2 9 rfl rfl)
theorem dX12_done_56 : decode cX12_done 56 = .ok (.iadd, 1) := dk_96 (dk_at dksX12_done_2 10 rfl rfl)
theorem dX12_done_57 : decode cX12_done 57 = .ok (.iconst 0, 1) := dk_3 (dk_at dksX12_done_2 11 rfl rfl)
theorem dX12_done_58 : decode cX12_done 58 = .ok (.invokevirtual 101, 3) := dk_182 0 101 (dk_at dksX12_done_2 12 rfl rfl)
theorem dX12_done_61 : decode cX12_done 61 = .ok (.aload_n 0, 1) := dk_42 (dk_at dksX12_done_2 15 rfl rfl)
theorem dX12_done_62 : decode cX12_done 62 = .ok (.bipush 12, 2) := dk_16 12 (dk_at dksX12_done_2 16 rfl rfl)
theorem dX12_done_64 : decode cX12_done 64 = .ok (.iload_n 1, 1) := dk_27 (dk_at dksX12_done_2 18 rfl rfl)
theorem dX12_done_65 : decode cX12_done 65 = .ok (.iadd, 1) := dk_96 (dk_at dksX12_done_2 19 rfl rfl)
theorem dX12_done_66 : decode cX12_done 66 = .ok (.iconst 0, 1) := dk_3 (dk_at dksX12_done_2 20 rfl rfl)
theorem dX12_done_67 : decode cX12_done 67 = .ok (.invokevirtual 101, 3) := dk_182 0 101 (dk_at dksX12_done_2 21 rfl rfl)
theorem dX12_done_70 : decode cX12_done 70 = .ok (.aload_n 0, 1) := dk_42 (dk_at dksX12_done_3 0 rfl rfl)
theorem dX12_done_71 : decode cX12_done 71 = .ok (.getfield 28, 3) := dk_180 0 28 (dk_at dksX12_done_3 1 rfl rfl)
theorem dX12_done_74 : decode cX12_done 74 = .ok (.bipush 8, 2) := dk_16 8 (dk_at dksX12_done_3 4 rfl rfl)
theorem dX12_done_76 : decode cX12_done 76 = .ok (.iload_n 1, 1) := dk_27 (dk_at dksX12_done_3 6 rfl rfl)
theorem dX12_done_77 : decode cX12_done 77 = .ok (.imul, 1) := dk_104 (dk_at dksX12_done_3 7 rfl rfl)
theorem dX12_done_78 : decode cX12_done 78 = .ok (.iconst 1, 1) := dk_4 (dk_at dksX12_done_3 8 rfl rfl)
theorem dX12_done_79 : decode cX12_done 79 = .ok (.iadd, 1) := dk_96 (dk_at dksX12_done_3 9 rfl rfl)
theorem dX12_done_80 : decode cX12_done 80 = .ok (.iconst 1, 1) := dk_4 (dk_at dksX12_done_3 10 rfl rfl)
theorem dX12_done_81 : decode cX12_done 81 = .ok (.iastore, 1) := dk_79 (dk_at dksX12_done_3 11 rfl rfl)
theorem dX12_done_82 : decode cX12_done 82 = .ok (.aload_n 0, 1) := dk_42 (dk_at dksX12_done_3 12 rfl rfl)
theorem dX12_done_83 : decode cX12_done 83 = .ok (.getfield 28, 3) := dk_180 0 28 (dk_at dksX12_done_3 13 rfl rfl)
theorem dX12_done_86 : decode cX12_done 86 = .ok (.bipush 8, 2) := dk_16 8 (dk_at dksX12_done_3 16 rfl rfl)
theorem dX12_done_88 : decode cX12_done 88 = .ok (.iload_n 1, 1) := dk_27 (dk_at dksX12_done_3 18 rfl rfl)
theorem dX12_done_89 : decode cX12_done 89 = .ok (.imul, 1) := dk_104 (dk_at dksX12_done_3 19 rfl rfl)
theorem dX12_done_90 : decode cX12_done 90 = .ok (.iconst 2, 1) := dk_5 (dk_at dksX12_done_3 20 rfl rfl)
theorem dX12_done_91 : decode cX12_done 91 = .ok (.iadd, 1) := dk_96 (dk_at dksX12_done_3 21 rfl rfl)
theorem dX12_done_92 : decode cX12_done 92 = .ok (.aload_n 0, 1) := dk_42 (dk_at dksX12_done_3 22 rfl rfl)
theorem dX12_done_93 : decode cX12_done 93 = .ok (.iload_n 1, 1) := dk_27 (dk_at dksX12_done_3 23 rfl rfl)
theorem dX12_done_94 : decode cX12_done 94 = .ok (.iconst 0, 1) := dk_3 (dk_at dksX12_done_4 0 rfl rfl)
theorem dX12_done_95 : decode cX12_done 95 = .ok (.invokevirtual 135, 3) := dk_182 0 135 (dk_at dksX12_done_4 1 rfl rfl)
theorem dX12_done_98 : decode cX12_done 98 = .ok (.iastore, 1) := dk_79 (dk_at dksX12_done_4 4 rfl rfl)
theorem dX12_done_99 : decode cX12_done 99 = .ok (.goto 61, 3) := dk_167 0 61 (dk_at dksX12_done_4 5 rfl rfl)
theorem dX12_done_102 : decode cX12_done 102 = .ok (.aload_n 0, 1) := dk_42 (dk_at dksX12_done_4 8 rfl rfl)
theorem dX12_done_103 : decode cX12_done 103 = .ok (.iload_n 1, 1) := dk_27 (dk_at dksX12_done_4 9 rfl rfl)
theorem dX12_done_104 : decode cX12_done 104 = .ok (.iconst 3, 1) := dk_6 (dk_at dksX12_done_4 10 rfl rfl)
theorem dX12_done_105 : decode cX12_done 105 = .ok (.invokevirtual 135, 3) := dk_182 0 135 (dk_at dksX12_done_4 11 rfl rfl)
theorem dX12_done_108 : decode cX12_done 108 = .ok (.ifCond .ne 27, 3) := dk_154 0 27 (dk_at dksX12_done_4 14 rfl rfl)
theorem dX12_done_111 : decode cX12_done 111 = .ok (.aload_n 0, 1) := dk_42 (dk_at dksX12_done_4 17 rfl rfl)
theorem dX12_done_112 : decode cX12_done 112 = .ok (.bipush 20, 2) := dk_16 20 (dk_at dksX12_done_4 18 rfl rfl)
theorem dX12_done_114 : decode cX12_done 114 = .ok (.iload_n 1, 1) := dk_27 (dk_at dksX12_done_4 20 rfl rfl)
theorem dX12_done_115 : decode cX12_done 115 = .ok (.iadd, 1) := dk_96 (dk_at dksX12_done_4 21 rfl rfl)
theorem dX12_done_116 : decode cX12_done 116 = .ok (.iconst 0, 1) := dk_3 (dk_at dksX12_done_4 22 rfl rfl)
theorem dX12_done_117 : decode cX12_done 117 = .ok (.invokevirtual 101, 3) := dk_182 0 101 (dk_at dksX12_done_5 0 rfl rfl)
theorem dX12_done_120 : decode cX12_done 120 = .ok (.aload_n 0, 1) := dk_42 (dk_at dksX12_done_5 3 rfl rfl)
theorem dX12_done_121 : decode cX12_done 121 = .ok (.getfield 28, 3) := dk_180 0 28 (dk_at dksX12_done_5 4 rfl rfl)
theorem dX12_done_124 : decode cX12_done 124 = .ok (.bipush 8, 2) := dk_16 8 (dk_at dksX12_done_5 7 rfl rfl)
theorem dX12_done_126 : decode cX12_done 126 = .ok (.iload_n 1, 1) := dk_27 (dk_at dksX12_done_5 9 rfl rfl)
theorem dX12_done_127 : decode cX12_done 127 = .ok (.imul, 1) := dk_104 (dk_at dksX12_done_5 10 rfl rfl)
theorem dX12_done_128 : decode cX12_done 128 = .ok (.iconst 3, 1) := dk_6 (dk_at dksX12_done_5 11 rfl rfl)
theorem dX12_done_129 : decode cX12_done 129 = .ok (.iadd, 1) := dk_96 (dk_at dksX12_done_5 12 rfl rfl)
theorem dX12_done_130 : decode cX12_done 130 = .ok (.iconst 1, 1) := dk_4 (dk_at dksX12_done_5 13 rfl rfl)
theorem dX12_done_131 : decode cX12_done 131 = .ok (.iastore, 1) := dk_79 (dk_at dksX12_done_5 14 rfl rfl)
theorem dX12_done_132 : decode cX12_done 132 = .ok (.goto 28, 3) := dk_167 0 28 (dk_at dksX12_done_5 15 rfl rfl)
theorem dX12_done_135 : decode cX12_done 135 = .ok (.aload_n 0, 1) := dk_42 (dk_at dksX12_done_5 18 rfl rfl)
theorem dX12_done_136 : decode cX12_done 136 = .ok (.iconst 1, 1) := dk_4 (dk_at dksX12_done_5 19 rfl rfl)
theorem dX12_done_137 : decode cX12_done 137 = .ok (.bipush 20, 2) := dk_16 20 (dk_at dksX12_done_5 20 rfl rfl)
theorem dX12_done_139 : decode cX12_done 139 = .ok (.iload_n 1, 1) := dk_27 (dk_at dksX12_done_5 22 rfl rfl)
theorem dX12_done_140 : decode cX12_done 140 = .ok (.iadd, 1) := dk_96 (dk_at dksX12_done_5 23 rfl rfl)
theorem dX12_done_141 : decode cX12_done 141 = .ok (.invokevirtual 97, 3) := dk_182 0 97 (dk_at dksX12_done_6 0 rfl rfl)
theorem dX12_done_144 : decode cX12_done 144 = .ok (.aload_n 0, 1) := dk_42 (dk_at dksX12_done_6 3 rfl rfl)
theorem dX12_done_145 : decode cX12_done 145 = .ok (.iconst 1, 1) := dk_4 (dk_at dksX12_done_6 4 rfl rfl)
theorem dX12_done_146 : decode cX12_done 146 = .ok (.iconst 0, 1) := dk_3 (dk_at dksX12_done_6 5 rfl rfl)
theorem dX12_done_147 : decode cX12_done 147 = .ok (.iconst 2, 1) := dk_5 (dk_at dksX12_done_6 6 rfl rfl)
theorem dX12_done_148 : decode cX12_done 148 = .ok (.invokevirtual 158, 3) := dk_182 0 158 (dk_at dksX12_done_6 7 rfl rfl)
theorem dX12_done_151 : decode cX12_done 151 = .ok (.aload_n 0, 1) := dk_42 (dk_at dksX12_done_6 10 rfl rfl)
theorem dX12_done_152 : decode cX12_done 152 = .ok (.bipush 20, 2) := dk_16 20 (dk_at dksX12_done_6 11 rfl rfl)
theorem dX12_done_154 : decode cX12_done 154 = .ok (.iload_n 1, 1) := dk_27 (dk_at dksX12_done_6 13 rfl rfl)
theorem dX12_done_155 : decode cX12_done 155 = .ok (.iadd, 1) := dk_96 (dk_at dksX12_done_6 14 rfl rfl)
theorem dX12_done_156 : decode cX12_done 156 = .ok (.iconst 2, 1) := dk_5 (dk_at dksX12_done_6 15 rfl rfl)
theorem dX12_done_157 : decode cX12_done 157 = .ok (.invokevirtual 101, 3) := dk_182 0 101 (dk_at dksX12_done_6 16 rfl rfl)
theorem dX12_done_160 : decode cX12_done 160 = .ok (.return_, 1) := dk_177 (dk_at dksX12_done_6 19 rfl rfl)
abbrev cX12_makes : ByteArray := prog_24_method_21_code
def yX12_makes : MethodName := ⟨RX12, "makes", "(II)V"⟩
def dkwX12_makes_8 : List UInt8 := [167, 255, 230, 177]
abbrev dktX12_makes_8 : List UInt8 := dkwX12_makes_8 ++ []
def dkwX12_makes_7 : List UInt8 := [162, 0, 25, 42, 180, 0, 22, 27, 50, 21, 5, 42, 180, 0, 46, 21, 5, 46, 79, 132, 5, 1]
abbrev dktX12_makes_7 : List UInt8 := dkwX12_makes_7 ++ dktX12_makes_8
def dkwX12_makes_6 : List UInt8 := [27, 50, 21, 4, 184, 0, 93, 83, 42, 180, 0, 25, 27, 21, 4, 79, 3, 54, 5, 21, 5, 21, 4]
abbrev dktX12_makes_6 : List UInt8 := dkwX12_makes_6 ++ dktX12_makes_7
def dkwX12_makes_5 : List UInt8 := [167, 0, 5, 21, 7, 79, 132, 4, 1, 132, 5, 1, 167, 255, 134, 42, 180, 0, 22, 27, 42, 180, 0, 22]
abbrev dktX12_makes_5 : List UInt8 := dkwX12_makes_5 ++ dktX12_makes_6
def dkwX12_makes_4 : List UInt8 := [160, 0, 26, 21, 7, 16, 8, 122, 21, 6, 184, 0, 127, 16, 8, 120, 21, 7, 17, 0, 255, 126, 128]
abbrev dktX12_makes_4 : List UInt8 := dkwX12_makes_4 ++ dktX12_makes_5
def dkwX12_makes_3 : List UInt8 := [21, 6, 184, 0, 104, 18, 109, 159, 0, 48, 42, 180, 0, 46, 21, 4, 21, 6, 184, 0, 104, 18, 126]
abbrev dktX12_makes_3 : List UInt8 := dkwX12_makes_3 ++ dktX12_makes_4
def dkwX12_makes_2 : List UInt8 := [17, 15, 255, 126, 79, 132, 4, 1, 167, 0, 71, 42, 180, 0, 22, 27, 50, 29, 46, 54, 7, 132, 3, 1]
abbrev dktX12_makes_2 : List UInt8 := dkwX12_makes_2 ++ dktX12_makes_3
def dkwX12_makes_1 : List UInt8 := [50, 21, 5, 46, 54, 6, 21, 6, 184, 0, 104, 18, 110, 160, 0, 22, 42, 180, 0, 46, 21, 4, 21, 6]
abbrev dktX12_makes_1 : List UInt8 := dkwX12_makes_1 ++ dktX12_makes_2
def dkwX12_makes_0 : List UInt8 := [3, 62, 3, 54, 4, 3, 54, 5, 21, 5, 42, 180, 0, 43, 28, 46, 162, 0, 117, 42, 180, 0, 40, 28]
abbrev dktX12_makes_0 : List UInt8 := dkwX12_makes_0 ++ dktX12_makes_1
theorem dksX12_makes_0 : cX12_makes.data.toList.drop 0 = dktX12_makes_0 := by decide +kernel
theorem dksX12_makes_1 : cX12_makes.data.toList.drop 24 = dktX12_makes_1 := dk_seg dksX12_makes_0 24 rfl rfl
theorem dksX12_makes_2 : cX12_makes.data.toList.drop 48 = dktX12_makes_2 := dk_seg dksX12_makes_1 24 rfl rfl
theorem dksX12_makes_3 : cX12_makes.data.toList.drop 72 = dktX12_makes_3 := dk_seg dksX12_makes_2 24 rfl rfl
theorem dksX12_makes_4 : cX12_makes.data.toList.drop 95 = dktX12_makes_4 := dk_seg dksX12_makes_3 23 rfl rfl
theorem dksX12_makes_5 : cX12_makes.data.toList.drop 118 = dktX12_makes_5 := dk_seg dksX12_makes_4 23 rfl rfl
theorem dksX12_makes_6 : cX12_makes.data.toList.drop 142 = dktX12_makes_6 := dk_seg dksX12_makes_5 24 rfl rfl
theorem dksX12_makes_7 : cX12_makes.data.toList.drop 165 = dktX12_makes_7 := dk_seg dksX12_makes_6 23 rfl rfl
theorem dksX12_makes_8 : cX12_makes.data.toList.drop 187 = dktX12_makes_8 := dk_seg dksX12_makes_7 22 rfl rfl
theorem dX12_makes_0 : decode cX12_makes 0 = .ok (.iconst 0, 1) := dk_3 (dk_at dksX12_makes_0 0 rfl rfl)
theorem dX12_makes_1 : decode cX12_makes 1 = .ok (.istore_n 3, 1) := dk_62 (dk_at dksX12_makes_0 1 rfl rfl)
theorem dX12_makes_2 : decode cX12_makes 2 = .ok (.iconst 0, 1) := dk_3 (dk_at dksX12_makes_0 2 rfl rfl)
theorem dX12_makes_3 : decode cX12_makes 3 = .ok (.istore 4, 2) := dk_54 4 (dk_at dksX12_makes_0 3 rfl rfl)
theorem dX12_makes_5 : decode cX12_makes 5 = .ok (.iconst 0, 1) := dk_3 (dk_at dksX12_makes_0 5 rfl rfl)
theorem dX12_makes_6 : decode cX12_makes 6 = .ok (.istore 5, 2) := dk_54 5 (dk_at dksX12_makes_0 6 rfl rfl)
theorem dX12_makes_8 : decode cX12_makes 8 = .ok (.iload 5, 2) := dk_21 5 (dk_at dksX12_makes_0 8 rfl rfl)
theorem dX12_makes_10 : decode cX12_makes 10 = .ok (.aload_n 0, 1) := dk_42 (dk_at dksX12_makes_0 10 rfl rfl)
theorem dX12_makes_11 : decode cX12_makes 11 = .ok (.getfield 43, 3) := dk_180 0 43 (dk_at dksX12_makes_0 11 rfl rfl)
theorem dX12_makes_14 : decode cX12_makes 14 = .ok (.iload_n 2, 1) := dk_28 (dk_at dksX12_makes_0 14 rfl rfl)
theorem dX12_makes_15 : decode cX12_makes 15 = .ok (.iaload, 1) := dk_46 (dk_at dksX12_makes_0 15 rfl rfl)
theorem dX12_makes_16 : decode cX12_makes 16 = .ok (.if_icmp .ge 117, 3) := dk_162 0 117 (dk_at dksX12_makes_0 16 rfl rfl)
theorem dX12_makes_19 : decode cX12_makes 19 = .ok (.aload_n 0, 1) := dk_42 (dk_at dksX12_makes_0 19 rfl rfl)
theorem dX12_makes_20 : decode cX12_makes 20 = .ok (.getfield 40, 3) := dk_180 0 40 (dk_at dksX12_makes_0 20 rfl rfl)
theorem dX12_makes_23 : decode cX12_makes 23 = .ok (.iload_n 2, 1) := dk_28 (dk_at dksX12_makes_0 23 rfl rfl)
theorem dX12_makes_24 : decode cX12_makes 24 = .ok (.aaload, 1) := dk_50 (dk_at dksX12_makes_1 0 rfl rfl)
theorem dX12_makes_25 : decode cX12_makes 25 = .ok (.iload 5, 2) := dk_21 5 (dk_at dksX12_makes_1 1 rfl rfl)
theorem dX12_makes_27 : decode cX12_makes 27 = .ok (.iaload, 1) := dk_46 (dk_at dksX12_makes_1 3 rfl rfl)
theorem dX12_makes_28 : decode cX12_makes 28 = .ok (.istore 6, 2) := dk_54 6 (dk_at dksX12_makes_1 4 rfl rfl)
theorem dX12_makes_30 : decode cX12_makes 30 = .ok (.iload 6, 2) := dk_21 6 (dk_at dksX12_makes_1 6 rfl rfl)
theorem dX12_makes_32 : decode cX12_makes 32 = .ok (.invokestatic 104, 3) := dk_184 0 104 (dk_at dksX12_makes_1 8 rfl rfl)
theorem dX12_makes_35 : decode cX12_makes 35 = .ok (.ldc 110, 2) := dk_18 110 (dk_at dksX12_makes_1 11 rfl rfl)
theorem dX12_makes_37 : decode cX12_makes 37 = .ok (.if_icmp .ne 22, 3) := dk_160 0 22 (dk_at dksX12_makes_1 13 rfl rfl)
theorem dX12_makes_40 : decode cX12_makes 40 = .ok (.aload_n 0, 1) := dk_42 (dk_at dksX12_makes_1 16 rfl rfl)
theorem dX12_makes_41 : decode cX12_makes 41 = .ok (.getfield 46, 3) := dk_180 0 46 (dk_at dksX12_makes_1 17 rfl rfl)
theorem dX12_makes_44 : decode cX12_makes 44 = .ok (.iload 4, 2) := dk_21 4 (dk_at dksX12_makes_1 20 rfl rfl)
theorem dX12_makes_46 : decode cX12_makes 46 = .ok (.iload 6, 2) := dk_21 6 (dk_at dksX12_makes_1 22 rfl rfl)
theorem dX12_makes_48 : decode cX12_makes 48 = .ok (.sipush 4095, 3) := dk_17 15 255 (dk_at dksX12_makes_2 0 rfl rfl)
theorem dX12_makes_51 : decode cX12_makes 51 = .ok (.iand, 1) := dk_126 (dk_at dksX12_makes_2 3 rfl rfl)
theorem dX12_makes_52 : decode cX12_makes 52 = .ok (.iastore, 1) := dk_79 (dk_at dksX12_makes_2 4 rfl rfl)
theorem dX12_makes_53 : decode cX12_makes 53 = .ok (.iinc 4 1, 3) := dk_132 4 1 (dk_at dksX12_makes_2 5 rfl rfl)
theorem dX12_makes_56 : decode cX12_makes 56 = .ok (.goto 71, 3) := dk_167 0 71 (dk_at dksX12_makes_2 8 rfl rfl)
theorem dX12_makes_59 : decode cX12_makes 59 = .ok (.aload_n 0, 1) := dk_42 (dk_at dksX12_makes_2 11 rfl rfl)
theorem dX12_makes_60 : decode cX12_makes 60 = .ok (.getfield 22, 3) := dk_180 0 22 (dk_at dksX12_makes_2 12 rfl rfl)
theorem dX12_makes_63 : decode cX12_makes 63 = .ok (.iload_n 1, 1) := dk_27 (dk_at dksX12_makes_2 15 rfl rfl)
theorem dX12_makes_64 : decode cX12_makes 64 = .ok (.aaload, 1) := dk_50 (dk_at dksX12_makes_2 16 rfl rfl)
theorem dX12_makes_65 : decode cX12_makes 65 = .ok (.iload_n 3, 1) := dk_29 (dk_at dksX12_makes_2 17 rfl rfl)
theorem dX12_makes_66 : decode cX12_makes 66 = .ok (.iaload, 1) := dk_46 (dk_at dksX12_makes_2 18 rfl rfl)
theorem dX12_makes_67 : decode cX12_makes 67 = .ok (.istore 7, 2) := dk_54 7 (dk_at dksX12_makes_2 19 rfl rfl)
theorem dX12_makes_69 : decode cX12_makes 69 = .ok (.iinc 3 1, 3) := dk_132 3 1 (dk_at dksX12_makes_2 21 rfl rfl)
theorem dX12_makes_72 : decode cX12_makes 72 = .ok (.iload 6, 2) := dk_21 6 (dk_at dksX12_makes_3 0 rfl rfl)
theorem dX12_makes_74 : decode cX12_makes 74 = .ok (.invokestatic 104, 3) := dk_184 0 104 (dk_at dksX12_makes_3 2 rfl rfl)
theorem dX12_makes_77 : decode cX12_makes 77 = .ok (.ldc 109, 2) := dk_18 109 (dk_at dksX12_makes_3 5 rfl rfl)
theorem dX12_makes_79 : decode cX12_makes 79 = .ok (.if_icmp .eq 48, 3) := dk_159 0 48 (dk_at dksX12_makes_3 7 rfl rfl)
theorem dX12_makes_82 : decode cX12_makes 82 = .ok (.aload_n 0, 1) := dk_42 (dk_at dksX12_makes_3 10 rfl rfl)
theorem dX12_makes_83 : decode cX12_makes 83 = .ok (.getfield 46, 3) := dk_180 0 46 (dk_at dksX12_makes_3 11 rfl rfl)
theorem dX12_makes_86 : decode cX12_makes 86 = .ok (.iload 4, 2) := dk_21 4 (dk_at dksX12_makes_3 14 rfl rfl)
theorem dX12_makes_88 : decode cX12_makes 88 = .ok (.iload 6, 2) := dk_21 6 (dk_at dksX12_makes_3 16 rfl rfl)
theorem dX12_makes_90 : decode cX12_makes 90 = .ok (.invokestatic 104, 3) := dk_184 0 104 (dk_at dksX12_makes_3 18 rfl rfl)
theorem dX12_makes_93 : decode cX12_makes 93 = .ok (.ldc 126, 2) := dk_18 126 (dk_at dksX12_makes_3 21 rfl rfl)
theorem dX12_makes_95 : decode cX12_makes 95 = .ok (.if_icmp .ne 26, 3) := dk_160 0 26 (dk_at dksX12_makes_4 0 rfl rfl)
theorem dX12_makes_98 : decode cX12_makes 98 = .ok (.iload 7, 2) := dk_21 7 (dk_at dksX12_makes_4 3 rfl rfl)
theorem dX12_makes_100 : decode cX12_makes 100 = .ok (.bipush 8, 2) := dk_16 8 (dk_at dksX12_makes_4 5 rfl rfl)
theorem dX12_makes_102 : decode cX12_makes 102 = .ok (.ishr, 1) := dk_122 (dk_at dksX12_makes_4 7 rfl rfl)
theorem dX12_makes_103 : decode cX12_makes 103 = .ok (.iload 6, 2) := dk_21 6 (dk_at dksX12_makes_4 8 rfl rfl)
theorem dX12_makes_105 : decode cX12_makes 105 = .ok (.invokestatic 127, 3) := dk_184 0 127 (dk_at dksX12_makes_4 10 rfl rfl)
theorem dX12_makes_108 : decode cX12_makes 108 = .ok (.bipush 8, 2) := dk_16 8 (dk_at dksX12_makes_4 13 rfl rfl)
theorem dX12_makes_110 : decode cX12_makes 110 = .ok (.ishl, 1) := dk_120 (dk_at dksX12_makes_4 15 rfl rfl)
theorem dX12_makes_111 : decode cX12_makes 111 = .ok (.iload 7, 2) := dk_21 7 (dk_at dksX12_makes_4 16 rfl rfl)
theorem dX12_makes_113 : decode cX12_makes 113 = .ok (.sipush 255, 3) := dk_17 0 255 (dk_at dksX12_makes_4 18 rfl rfl)
theorem dX12_makes_116 : decode cX12_makes 116 = .ok (.iand, 1) := dk_126 (dk_at dksX12_makes_4 21 rfl rfl)
theorem dX12_makes_117 : decode cX12_makes 117 = .ok (.ior, 1) := dk_128 (dk_at dksX12_makes_4 22 rfl rfl)
theorem dX12_makes_118 : decode cX12_makes 118 = .ok (.goto 5, 3) := dk_167 0 5 (dk_at dksX12_makes_5 0 rfl rfl)
theorem dX12_makes_121 : decode cX12_makes 121 = .ok (.iload 7, 2) := dk_21 7 (dk_at dksX12_makes_5 3 rfl rfl)
theorem dX12_makes_123 : decode cX12_makes 123 = .ok (.iastore, 1) := dk_79 (dk_at dksX12_makes_5 5 rfl rfl)
theorem dX12_makes_124 : decode cX12_makes 124 = .ok (.iinc 4 1, 3) := dk_132 4 1 (dk_at dksX12_makes_5 6 rfl rfl)
theorem dX12_makes_127 : decode cX12_makes 127 = .ok (.iinc 5 1, 3) := dk_132 5 1 (dk_at dksX12_makes_5 9 rfl rfl)
theorem dX12_makes_130 : decode cX12_makes 130 = .ok (.goto (-122), 3) := dk_167 255 134 (dk_at dksX12_makes_5 12 rfl rfl)
theorem dX12_makes_133 : decode cX12_makes 133 = .ok (.aload_n 0, 1) := dk_42 (dk_at dksX12_makes_5 15 rfl rfl)
theorem dX12_makes_134 : decode cX12_makes 134 = .ok (.getfield 22, 3) := dk_180 0 22 (dk_at dksX12_makes_5 16 rfl rfl)
theorem dX12_makes_137 : decode cX12_makes 137 = .ok (.iload_n 1, 1) := dk_27 (dk_at dksX12_makes_5 19 rfl rfl)
theorem dX12_makes_138 : decode cX12_makes 138 = .ok (.aload_n 0, 1) := dk_42 (dk_at dksX12_makes_5 20 rfl rfl)
theorem dX12_makes_139 : decode cX12_makes 139 = .ok (.getfield 22, 3) := dk_180 0 22 (dk_at dksX12_makes_5 21 rfl rfl)
theorem dX12_makes_142 : decode cX12_makes 142 = .ok (.iload_n 1, 1) := dk_27 (dk_at dksX12_makes_6 0 rfl rfl)
theorem dX12_makes_143 : decode cX12_makes 143 = .ok (.aaload, 1) := dk_50 (dk_at dksX12_makes_6 1 rfl rfl)
theorem dX12_makes_144 : decode cX12_makes 144 = .ok (.iload 4, 2) := dk_21 4 (dk_at dksX12_makes_6 2 rfl rfl)
theorem dX12_makes_146 : decode cX12_makes 146 = .ok (.invokestatic 93, 3) := dk_184 0 93 (dk_at dksX12_makes_6 4 rfl rfl)
theorem dX12_makes_149 : decode cX12_makes 149 = .ok (.aastore, 1) := dk_83 (dk_at dksX12_makes_6 7 rfl rfl)
theorem dX12_makes_150 : decode cX12_makes 150 = .ok (.aload_n 0, 1) := dk_42 (dk_at dksX12_makes_6 8 rfl rfl)
theorem dX12_makes_151 : decode cX12_makes 151 = .ok (.getfield 25, 3) := dk_180 0 25 (dk_at dksX12_makes_6 9 rfl rfl)
theorem dX12_makes_154 : decode cX12_makes 154 = .ok (.iload_n 1, 1) := dk_27 (dk_at dksX12_makes_6 12 rfl rfl)
theorem dX12_makes_155 : decode cX12_makes 155 = .ok (.iload 4, 2) := dk_21 4 (dk_at dksX12_makes_6 13 rfl rfl)
theorem dX12_makes_157 : decode cX12_makes 157 = .ok (.iastore, 1) := dk_79 (dk_at dksX12_makes_6 15 rfl rfl)
theorem dX12_makes_158 : decode cX12_makes 158 = .ok (.iconst 0, 1) := dk_3 (dk_at dksX12_makes_6 16 rfl rfl)
theorem dX12_makes_159 : decode cX12_makes 159 = .ok (.istore 5, 2) := dk_54 5 (dk_at dksX12_makes_6 17 rfl rfl)
theorem dX12_makes_161 : decode cX12_makes 161 = .ok (.iload 5, 2) := dk_21 5 (dk_at dksX12_makes_6 19 rfl rfl)
theorem dX12_makes_163 : decode cX12_makes 163 = .ok (.iload 4, 2) := dk_21 4 (dk_at dksX12_makes_6 21 rfl rfl)
theorem dX12_makes_165 : decode cX12_makes 165 = .ok (.if_icmp .ge 25, 3) := dk_162 0 25 (dk_at dksX12_makes_7 0 rfl rfl)
theorem dX12_makes_168 : decode cX12_makes 168 = .ok (.aload_n 0, 1) := dk_42 (dk_at dksX12_makes_7 3 rfl rfl)
theorem dX12_makes_169 : decode cX12_makes 169 = .ok (.getfield 22, 3) := dk_180 0 22 (dk_at dksX12_makes_7 4 rfl rfl)
theorem dX12_makes_172 : decode cX12_makes 172 = .ok (.iload_n 1, 1) := dk_27 (dk_at dksX12_makes_7 7 rfl rfl)
theorem dX12_makes_173 : decode cX12_makes 173 = .ok (.aaload, 1) := dk_50 (dk_at dksX12_makes_7 8 rfl rfl)
theorem dX12_makes_174 : decode cX12_makes 174 = .ok (.iload 5, 2) := dk_21 5 (dk_at dksX12_makes_7 9 rfl rfl)
theorem dX12_makes_176 : decode cX12_makes 176 = .ok (.aload_n 0, 1) := dk_42 (dk_at dksX12_makes_7 11 rfl rfl)
theorem dX12_makes_177 : decode cX12_makes 177 = .ok (.getfield 46, 3) := dk_180 0 46 (dk_at dksX12_makes_7 12 rfl rfl)
theorem dX12_makes_180 : decode cX12_makes 180 = .ok (.iload 5, 2) := dk_21 5 (dk_at dksX12_makes_7 15 rfl rfl)
theorem dX12_makes_182 : decode cX12_makes 182 = .ok (.iaload, 1) := dk_46 (dk_at dksX12_makes_7 17 rfl rfl)
theorem dX12_makes_183 : decode cX12_makes 183 = .ok (.iastore, 1) := dk_79 (dk_at dksX12_makes_7 18 rfl rfl)
theorem dX12_makes_184 : decode cX12_makes 184 = .ok (.iinc 5 1, 3) := dk_132 5 1 (dk_at dksX12_makes_7 19 rfl rfl)
theorem dX12_makes_187 : decode cX12_makes 187 = .ok (.goto (-26), 3) := dk_167 255 230 (dk_at dksX12_makes_8 0 rfl rfl)
theorem dX12_makes_190 : decode cX12_makes 190 = .ok (.return_, 1) := dk_177 (dk_at dksX12_makes_8 3 rfl rfl)
abbrev cX12_cursorGoes : ByteArray := prog_24_method_24_code
def yX12_cursorGoes : MethodName := ⟨RX12, "cursorGoes", "(IIZ)V"⟩
def dkwX12_cursorGoes_2 : List UInt8 := [182, 0, 138, 79, 177]
abbrev dktX12_cursorGoes_2 : List UInt8 := dkwX12_cursorGoes_2 ++ []
def dkwX12_cursorGoes_1 : List UInt8 := [79, 42, 180, 0, 28, 16, 8, 27, 104, 16, 7, 96, 42, 42, 27, 16, 7, 182, 0, 135, 28, 29]
abbrev dktX12_cursorGoes_1 : List UInt8 := dkwX12_cursorGoes_1 ++ dktX12_cursorGoes_2
def dkwX12_cursorGoes_0 : List UInt8 := [42, 180, 0, 28, 16, 8, 27, 104, 16, 6, 96, 42, 42, 27, 16, 6, 182, 0, 135, 28, 29, 182, 0, 138]
abbrev dktX12_cursorGoes_0 : List UInt8 := dkwX12_cursorGoes_0 ++ dktX12_cursorGoes_1
theorem dksX12_cursorGoes_0 : cX12_cursorGoes.data.toList.drop 0 = dktX12_cursorGoes_0 := by decide +kernel
theorem dksX12_cursorGoes_1 : cX12_cursorGoes.data.toList.drop 24 = dktX12_cursorGoes_1 := dk_seg dksX12_cursorGoes_0 24 rfl rfl
theorem dksX12_cursorGoes_2 : cX12_cursorGoes.data.toList.drop 46 = dktX12_cursorGoes_2 := dk_seg dksX12_cursorGoes_1 22 rfl rfl
theorem dX12_cursorGoes_0 : decode cX12_cursorGoes 0 = .ok (.aload_n 0, 1) := dk_42 (dk_at dksX12_cursorGoes_0 0 rfl rfl)
theorem dX12_cursorGoes_1 : decode cX12_cursorGoes 1 = .ok (.getfield 28, 3) := dk_180 0 28 (dk_at dksX12_cursorGoes_0 1 rfl rfl)
theorem dX12_cursorGoes_4 : decode cX12_cursorGoes 4 = .ok (.bipush 8, 2) := dk_16 8 (dk_at dksX12_cursorGoes_0 4 rfl rfl)
theorem dX12_cursorGoes_6 : decode cX12_cursorGoes 6 = .ok (.iload_n 1, 1) := dk_27 (dk_at dksX12_cursorGoes_0 6 rfl rfl)
theorem dX12_cursorGoes_7 : decode cX12_cursorGoes 7 = .ok (.imul, 1) := dk_104 (dk_at dksX12_cursorGoes_0 7 rfl rfl)
theorem dX12_cursorGoes_8 : decode cX12_cursorGoes 8 = .ok (.bipush 6, 2) := dk_16 6 (dk_at dksX12_cursorGoes_0 8 rfl rfl)
theorem dX12_cursorGoes_10 : decode cX12_cursorGoes 10 = .ok (.iadd, 1) := dk_96 (dk_at dksX12_cursorGoes_0 10 rfl rfl)
theorem dX12_cursorGoes_11 : decode cX12_cursorGoes 11 = .ok (.aload_n 0, 1) := dk_42 (dk_at dksX12_cursorGoes_0 11 rfl rfl)
theorem dX12_cursorGoes_12 : decode cX12_cursorGoes 12 = .ok (.aload_n 0, 1) := dk_42 (dk_at dksX12_cursorGoes_0 12 rfl rfl)
theorem dX12_cursorGoes_13 : decode cX12_cursorGoes 13 = .ok (.iload_n 1, 1) := dk_27 (dk_at dksX12_cursorGoes_0 13 rfl rfl)
theorem dX12_cursorGoes_14 : decode cX12_cursorGoes 14 = .ok (.bipush 6, 2) := dk_16 6 (dk_at dksX12_cursorGoes_0 14 rfl rfl)
theorem dX12_cursorGoes_16 : decode cX12_cursorGoes 16 = .ok (.invokevirtual 135, 3) := dk_182 0 135 (dk_at dksX12_cursorGoes_0 16 rfl rfl)
theorem dX12_cursorGoes_19 : decode cX12_cursorGoes 19 = .ok (.iload_n 2, 1) := dk_28 (dk_at dksX12_cursorGoes_0 19 rfl rfl)
theorem dX12_cursorGoes_20 : decode cX12_cursorGoes 20 = .ok (.iload_n 3, 1) := dk_29 (dk_at dksX12_cursorGoes_0 20 rfl rfl)
theorem dX12_cursorGoes_21 : decode cX12_cursorGoes 21 = .ok (.invokevirtual 138, 3) := dk_182 0 138 (dk_at dksX12_cursorGoes_0 21 rfl rfl)
theorem dX12_cursorGoes_24 : decode cX12_cursorGoes 24 = .ok (.iastore, 1) := dk_79 (dk_at dksX12_cursorGoes_1 0 rfl rfl)
theorem dX12_cursorGoes_25 : decode cX12_cursorGoes 25 = .ok (.aload_n 0, 1) := dk_42 (dk_at dksX12_cursorGoes_1 1 rfl rfl)
theorem dX12_cursorGoes_26 : decode cX12_cursorGoes 26 = .ok (.getfield 28, 3) := dk_180 0 28 (dk_at dksX12_cursorGoes_1 2 rfl rfl)
theorem dX12_cursorGoes_29 : decode cX12_cursorGoes 29 = .ok (.bipush 8, 2) := dk_16 8 (dk_at dksX12_cursorGoes_1 5 rfl rfl)
theorem dX12_cursorGoes_31 : decode cX12_cursorGoes 31 = .ok (.iload_n 1, 1) := dk_27 (dk_at dksX12_cursorGoes_1 7 rfl rfl)
theorem dX12_cursorGoes_32 : decode cX12_cursorGoes 32 = .ok (.imul, 1) := dk_104 (dk_at dksX12_cursorGoes_1 8 rfl rfl)
theorem dX12_cursorGoes_33 : decode cX12_cursorGoes 33 = .ok (.bipush 7, 2) := dk_16 7 (dk_at dksX12_cursorGoes_1 9 rfl rfl)
theorem dX12_cursorGoes_35 : decode cX12_cursorGoes 35 = .ok (.iadd, 1) := dk_96 (dk_at dksX12_cursorGoes_1 11 rfl rfl)
theorem dX12_cursorGoes_36 : decode cX12_cursorGoes 36 = .ok (.aload_n 0, 1) := dk_42 (dk_at dksX12_cursorGoes_1 12 rfl rfl)
theorem dX12_cursorGoes_37 : decode cX12_cursorGoes 37 = .ok (.aload_n 0, 1) := dk_42 (dk_at dksX12_cursorGoes_1 13 rfl rfl)
theorem dX12_cursorGoes_38 : decode cX12_cursorGoes 38 = .ok (.iload_n 1, 1) := dk_27 (dk_at dksX12_cursorGoes_1 14 rfl rfl)
theorem dX12_cursorGoes_39 : decode cX12_cursorGoes 39 = .ok (.bipush 7, 2) := dk_16 7 (dk_at dksX12_cursorGoes_1 15 rfl rfl)
theorem dX12_cursorGoes_41 : decode cX12_cursorGoes 41 = .ok (.invokevirtual 135, 3) := dk_182 0 135 (dk_at dksX12_cursorGoes_1 17 rfl rfl)
theorem dX12_cursorGoes_44 : decode cX12_cursorGoes 44 = .ok (.iload_n 2, 1) := dk_28 (dk_at dksX12_cursorGoes_1 20 rfl rfl)
theorem dX12_cursorGoes_45 : decode cX12_cursorGoes 45 = .ok (.iload_n 3, 1) := dk_29 (dk_at dksX12_cursorGoes_1 21 rfl rfl)
theorem dX12_cursorGoes_46 : decode cX12_cursorGoes 46 = .ok (.invokevirtual 138, 3) := dk_182 0 138 (dk_at dksX12_cursorGoes_2 0 rfl rfl)
theorem dX12_cursorGoes_49 : decode cX12_cursorGoes 49 = .ok (.iastore, 1) := dk_79 (dk_at dksX12_cursorGoes_2 3 rfl rfl)
theorem dX12_cursorGoes_50 : decode cX12_cursorGoes 50 = .ok (.return_, 1) := dk_177 (dk_at dksX12_cursorGoes_2 4 rfl rfl)
abbrev cX12_st : ByteArray := prog_24_method_23_code
def yX12_st : MethodName := ⟨RX12, "st", "(II)I"⟩
def dkwX12_st_0 : List UInt8 := [42, 180, 0, 28, 16, 8, 27, 104, 28, 96, 46, 172]
abbrev dktX12_st_0 : List UInt8 := dkwX12_st_0 ++ []
theorem dksX12_st_0 : cX12_st.data.toList.drop 0 = dktX12_st_0 := by decide +kernel
theorem dX12_st_0 : decode cX12_st 0 = .ok (.aload_n 0, 1) := dk_42 (dk_at dksX12_st_0 0 rfl rfl)
theorem dX12_st_1 : decode cX12_st 1 = .ok (.getfield 28, 3) := dk_180 0 28 (dk_at dksX12_st_0 1 rfl rfl)
theorem dX12_st_4 : decode cX12_st 4 = .ok (.bipush 8, 2) := dk_16 8 (dk_at dksX12_st_0 4 rfl rfl)
theorem dX12_st_6 : decode cX12_st 6 = .ok (.iload_n 1, 1) := dk_27 (dk_at dksX12_st_0 6 rfl rfl)
theorem dX12_st_7 : decode cX12_st 7 = .ok (.imul, 1) := dk_104 (dk_at dksX12_st_0 7 rfl rfl)
theorem dX12_st_8 : decode cX12_st 8 = .ok (.iload_n 2, 1) := dk_28 (dk_at dksX12_st_0 8 rfl rfl)
theorem dX12_st_9 : decode cX12_st 9 = .ok (.iadd, 1) := dk_96 (dk_at dksX12_st_0 9 rfl rfl)
theorem dX12_st_10 : decode cX12_st 10 = .ok (.iaload, 1) := dk_46 (dk_at dksX12_st_0 10 rfl rfl)
theorem dX12_st_11 : decode cX12_st 11 = .ok (.ireturn, 1) := dk_172 (dk_at dksX12_st_0 11 rfl rfl)
abbrev cX12_goesAlong : ByteArray := prog_24_method_22_code
def yX12_goesAlong : MethodName := ⟨RX12, "goesAlong", "(IIZ)I"⟩
def dkwX12_goesAlong_4 : List UInt8 := [132, 4, 1, 132, 6, 1, 167, 255, 166, 21, 5, 172]
abbrev dktX12_goesAlong_4 : List UInt8 := dkwX12_goesAlong_4 ++ []
def dkwX12_goesAlong_3 : List UInt8 := [21, 5, 21, 7, 18, 109, 160, 0, 13, 21, 4, 27, 162, 0, 7, 4, 167, 0, 4, 3, 100, 54, 5]
abbrev dktX12_goesAlong_3 : List UInt8 := dkwX12_goesAlong_3 ++ dktX12_goesAlong_4
def dkwX12_goesAlong_2 : List UInt8 := [161, 0, 13, 29, 153, 0, 13, 21, 4, 27, 160, 0, 7, 4, 167, 0, 4, 3, 96, 54, 5, 167, 0, 29]
abbrev dktX12_goesAlong_2 : List UInt8 := dkwX12_goesAlong_2 ++ dktX12_goesAlong_3
def dkwX12_goesAlong_1 : List UInt8 := [28, 50, 21, 6, 46, 184, 0, 104, 54, 7, 21, 7, 18, 110, 160, 0, 32, 21, 5, 21, 4, 27]
abbrev dktX12_goesAlong_1 : List UInt8 := dkwX12_goesAlong_1 ++ dktX12_goesAlong_2
def dkwX12_goesAlong_0 : List UInt8 := [3, 54, 4, 27, 54, 5, 3, 54, 6, 21, 6, 42, 180, 0, 43, 28, 46, 162, 0, 85, 42, 180, 0, 40]
abbrev dktX12_goesAlong_0 : List UInt8 := dkwX12_goesAlong_0 ++ dktX12_goesAlong_1
theorem dksX12_goesAlong_0 : cX12_goesAlong.data.toList.drop 0 = dktX12_goesAlong_0 := by decide +kernel
theorem dksX12_goesAlong_1 : cX12_goesAlong.data.toList.drop 24 = dktX12_goesAlong_1 := dk_seg dksX12_goesAlong_0 24 rfl rfl
theorem dksX12_goesAlong_2 : cX12_goesAlong.data.toList.drop 46 = dktX12_goesAlong_2 := dk_seg dksX12_goesAlong_1 22 rfl rfl
theorem dksX12_goesAlong_3 : cX12_goesAlong.data.toList.drop 70 = dktX12_goesAlong_3 := dk_seg dksX12_goesAlong_2 24 rfl rfl
theorem dksX12_goesAlong_4 : cX12_goesAlong.data.toList.drop 93 = dktX12_goesAlong_4 := dk_seg dksX12_goesAlong_3 23 rfl rfl
theorem dX12_goesAlong_0 : decode cX12_goesAlong 0 = .ok (.iconst 0, 1) := dk_3 (dk_at dksX12_goesAlong_0 0 rfl rfl)
theorem dX12_goesAlong_1 : decode cX12_goesAlong 1 = .ok (.istore 4, 2) := dk_54 4 (dk_at dksX12_goesAlong_0 1 rfl rfl)
theorem dX12_goesAlong_3 : decode cX12_goesAlong 3 = .ok (.iload_n 1, 1) := dk_27 (dk_at dksX12_goesAlong_0 3 rfl rfl)
theorem dX12_goesAlong_4 : decode cX12_goesAlong 4 = .ok (.istore 5, 2) := dk_54 5 (dk_at dksX12_goesAlong_0 4 rfl rfl)
theorem dX12_goesAlong_6 : decode cX12_goesAlong 6 = .ok (.iconst 0, 1) := dk_3 (dk_at dksX12_goesAlong_0 6 rfl rfl)
theorem dX12_goesAlong_7 : decode cX12_goesAlong 7 = .ok (.istore 6, 2) := dk_54 6 (dk_at dksX12_goesAlong_0 7 rfl rfl)
theorem dX12_goesAlong_9 : decode cX12_goesAlong 9 = .ok (.iload 6, 2) := dk_21 6 (dk_at dksX12_goesAlong_0 9 rfl rfl)
theorem dX12_goesAlong_11 : decode cX12_goesAlong 11 = .ok (.aload_n 0, 1) := dk_42 (dk_at dksX12_goesAlong_0 11 rfl rfl)
theorem dX12_goesAlong_12 : decode cX12_goesAlong 12 = .ok (.getfield 43, 3) := dk_180 0 43 (dk_at dksX12_goesAlong_0 12 rfl rfl)
theorem dX12_goesAlong_15 : decode cX12_goesAlong 15 = .ok (.iload_n 2, 1) := dk_28 (dk_at dksX12_goesAlong_0 15 rfl rfl)
theorem dX12_goesAlong_16 : decode cX12_goesAlong 16 = .ok (.iaload, 1) := dk_46 (dk_at dksX12_goesAlong_0 16 rfl rfl)
theorem dX12_goesAlong_17 : decode cX12_goesAlong 17 = .ok (.if_icmp .ge 85, 3) := dk_162 0 85 (dk_at dksX12_goesAlong_0 17 rfl rfl)
theorem dX12_goesAlong_20 : decode cX12_goesAlong 20 = .ok (.aload_n 0, 1) := dk_42 (dk_at dksX12_goesAlong_0 20 rfl rfl)
theorem dX12_goesAlong_21 : decode cX12_goesAlong 21 = .ok (.getfield 40, 3) := dk_180 0 40 (dk_at dksX12_goesAlong_0 21 rfl rfl)
theorem dX12_goesAlong_24 : decode cX12_goesAlong 24 = .ok (.iload_n 2, 1) := dk_28 (dk_at dksX12_goesAlong_1 0 rfl rfl)
theorem dX12_goesAlong_25 : decode cX12_goesAlong 25 = .ok (.aaload, 1) := dk_50 (dk_at dksX12_goesAlong_1 1 rfl rfl)
theorem dX12_goesAlong_26 : decode cX12_goesAlong 26 = .ok (.iload 6, 2) := dk_21 6 (dk_at dksX12_goesAlong_1 2 rfl rfl)
theorem dX12_goesAlong_28 : decode cX12_goesAlong 28 = .ok (.iaload, 1) := dk_46 (dk_at dksX12_goesAlong_1 4 rfl rfl)
theorem dX12_goesAlong_29 : decode cX12_goesAlong 29 = .ok (.invokestatic 104, 3) := dk_184 0 104 (dk_at dksX12_goesAlong_1 5 rfl rfl)
theorem dX12_goesAlong_32 : decode cX12_goesAlong 32 = .ok (.istore 7, 2) := dk_54 7 (dk_at dksX12_goesAlong_1 8 rfl rfl)
theorem dX12_goesAlong_34 : decode cX12_goesAlong 34 = .ok (.iload 7, 2) := dk_21 7 (dk_at dksX12_goesAlong_1 10 rfl rfl)
theorem dX12_goesAlong_36 : decode cX12_goesAlong 36 = .ok (.ldc 110, 2) := dk_18 110 (dk_at dksX12_goesAlong_1 12 rfl rfl)
theorem dX12_goesAlong_38 : decode cX12_goesAlong 38 = .ok (.if_icmp .ne 32, 3) := dk_160 0 32 (dk_at dksX12_goesAlong_1 14 rfl rfl)
theorem dX12_goesAlong_41 : decode cX12_goesAlong 41 = .ok (.iload 5, 2) := dk_21 5 (dk_at dksX12_goesAlong_1 17 rfl rfl)
theorem dX12_goesAlong_43 : decode cX12_goesAlong 43 = .ok (.iload 4, 2) := dk_21 4 (dk_at dksX12_goesAlong_1 19 rfl rfl)
theorem dX12_goesAlong_45 : decode cX12_goesAlong 45 = .ok (.iload_n 1, 1) := dk_27 (dk_at dksX12_goesAlong_1 21 rfl rfl)
theorem dX12_goesAlong_46 : decode cX12_goesAlong 46 = .ok (.if_icmp .lt 13, 3) := dk_161 0 13 (dk_at dksX12_goesAlong_2 0 rfl rfl)
theorem dX12_goesAlong_49 : decode cX12_goesAlong 49 = .ok (.iload_n 3, 1) := dk_29 (dk_at dksX12_goesAlong_2 3 rfl rfl)
theorem dX12_goesAlong_50 : decode cX12_goesAlong 50 = .ok (.ifCond .eq 13, 3) := dk_153 0 13 (dk_at dksX12_goesAlong_2 4 rfl rfl)
theorem dX12_goesAlong_53 : decode cX12_goesAlong 53 = .ok (.iload 4, 2) := dk_21 4 (dk_at dksX12_goesAlong_2 7 rfl rfl)
theorem dX12_goesAlong_55 : decode cX12_goesAlong 55 = .ok (.iload_n 1, 1) := dk_27 (dk_at dksX12_goesAlong_2 9 rfl rfl)
theorem dX12_goesAlong_56 : decode cX12_goesAlong 56 = .ok (.if_icmp .ne 7, 3) := dk_160 0 7 (dk_at dksX12_goesAlong_2 10 rfl rfl)
theorem dX12_goesAlong_59 : decode cX12_goesAlong 59 = .ok (.iconst 1, 1) := dk_4 (dk_at dksX12_goesAlong_2 13 rfl rfl)
theorem dX12_goesAlong_60 : decode cX12_goesAlong 60 = .ok (.goto 4, 3) := dk_167 0 4 (dk_at dksX12_goesAlong_2 14 rfl rfl)
theorem dX12_goesAlong_63 : decode cX12_goesAlong 63 = .ok (.iconst 0, 1) := dk_3 (dk_at dksX12_goesAlong_2 17 rfl rfl)
theorem dX12_goesAlong_64 : decode cX12_goesAlong 64 = .ok (.iadd, 1) := dk_96 (dk_at dksX12_goesAlong_2 18 rfl rfl)
theorem dX12_goesAlong_65 : decode cX12_goesAlong 65 = .ok (.istore 5, 2) := dk_54 5 (dk_at dksX12_goesAlong_2 19 rfl rfl)
theorem dX12_goesAlong_67 : decode cX12_goesAlong 67 = .ok (.goto 29, 3) := dk_167 0 29 (dk_at dksX12_goesAlong_2 21 rfl rfl)
theorem dX12_goesAlong_70 : decode cX12_goesAlong 70 = .ok (.iload 5, 2) := dk_21 5 (dk_at dksX12_goesAlong_3 0 rfl rfl)
theorem dX12_goesAlong_72 : decode cX12_goesAlong 72 = .ok (.iload 7, 2) := dk_21 7 (dk_at dksX12_goesAlong_3 2 rfl rfl)
theorem dX12_goesAlong_74 : decode cX12_goesAlong 74 = .ok (.ldc 109, 2) := dk_18 109 (dk_at dksX12_goesAlong_3 4 rfl rfl)
theorem dX12_goesAlong_76 : decode cX12_goesAlong 76 = .ok (.if_icmp .ne 13, 3) := dk_160 0 13 (dk_at dksX12_goesAlong_3 6 rfl rfl)
theorem dX12_goesAlong_79 : decode cX12_goesAlong 79 = .ok (.iload 4, 2) := dk_21 4 (dk_at dksX12_goesAlong_3 9 rfl rfl)
theorem dX12_goesAlong_81 : decode cX12_goesAlong 81 = .ok (.iload_n 1, 1) := dk_27 (dk_at dksX12_goesAlong_3 11 rfl rfl)
theorem dX12_goesAlong_82 : decode cX12_goesAlong 82 = .ok (.if_icmp .ge 7, 3) := dk_162 0 7 (dk_at dksX12_goesAlong_3 12 rfl rfl)
theorem dX12_goesAlong_85 : decode cX12_goesAlong 85 = .ok (.iconst 1, 1) := dk_4 (dk_at dksX12_goesAlong_3 15 rfl rfl)
theorem dX12_goesAlong_86 : decode cX12_goesAlong 86 = .ok (.goto 4, 3) := dk_167 0 4 (dk_at dksX12_goesAlong_3 16 rfl rfl)
theorem dX12_goesAlong_89 : decode cX12_goesAlong 89 = .ok (.iconst 0, 1) := dk_3 (dk_at dksX12_goesAlong_3 19 rfl rfl)
theorem dX12_goesAlong_90 : decode cX12_goesAlong 90 = .ok (.isub, 1) := dk_100 (dk_at dksX12_goesAlong_3 20 rfl rfl)
theorem dX12_goesAlong_91 : decode cX12_goesAlong 91 = .ok (.istore 5, 2) := dk_54 5 (dk_at dksX12_goesAlong_3 21 rfl rfl)
theorem dX12_goesAlong_93 : decode cX12_goesAlong 93 = .ok (.iinc 4 1, 3) := dk_132 4 1 (dk_at dksX12_goesAlong_4 0 rfl rfl)
theorem dX12_goesAlong_96 : decode cX12_goesAlong 96 = .ok (.iinc 6 1, 3) := dk_132 6 1 (dk_at dksX12_goesAlong_4 3 rfl rfl)
theorem dX12_goesAlong_99 : decode cX12_goesAlong 99 = .ok (.goto (-90), 3) := dk_167 255 166 (dk_at dksX12_goesAlong_4 6 rfl rfl)
theorem dX12_goesAlong_102 : decode cX12_goesAlong 102 = .ok (.iload 5, 2) := dk_21 5 (dk_at dksX12_goesAlong_4 9 rfl rfl)
theorem dX12_goesAlong_104 : decode cX12_goesAlong 104 = .ok (.ireturn, 1) := dk_172 (dk_at dksX12_goesAlong_4 11 rfl rfl)
abbrev cX12_pushes : ByteArray := prog_24_method_25_code
def yX12_pushes : MethodName := ⟨RX12, "pushes", "(III)V"⟩
def dkwX12_pushes_4 : List UInt8 := [4, 96, 79, 177]
abbrev dktX12_pushes_4 : List UInt8 := dkwX12_pushes_4 ++ []
def dkwX12_pushes_3 : List UInt8 := [54, 5, 42, 21, 4, 21, 5, 96, 29, 182, 0, 101, 42, 180, 0, 28, 16, 8, 27, 104, 28, 96, 21, 5]
abbrev dktX12_pushes_3 : List UInt8 := dkwX12_pushes_3 ++ dktX12_pushes_4
def dkwX12_pushes_2 : List UInt8 := [21, 4, 21, 6, 96, 21, 4, 21, 6, 96, 4, 100, 182, 0, 142, 132, 6, 1, 167, 255, 230, 16, 19]
abbrev dktX12_pushes_2 : List UInt8 := dkwX12_pushes_2 ++ dktX12_pushes_3
def dkwX12_pushes_1 : List UInt8 := [182, 0, 135, 54, 5, 21, 5, 16, 20, 160, 0, 39, 4, 54, 6, 21, 6, 16, 20, 162, 0, 25, 42]
abbrev dktX12_pushes_1 : List UInt8 := dkwX12_pushes_1 ++ dktX12_pushes_2
def dkwX12_pushes_0 : List UInt8 := [28, 7, 160, 0, 8, 16, 24, 167, 0, 5, 16, 104, 16, 20, 27, 104, 96, 54, 4, 42, 27, 28]
abbrev dktX12_pushes_0 : List UInt8 := dkwX12_pushes_0 ++ dktX12_pushes_1
theorem dksX12_pushes_0 : cX12_pushes.data.toList.drop 0 = dktX12_pushes_0 := by decide +kernel
theorem dksX12_pushes_1 : cX12_pushes.data.toList.drop 22 = dktX12_pushes_1 := dk_seg dksX12_pushes_0 22 rfl rfl
theorem dksX12_pushes_2 : cX12_pushes.data.toList.drop 45 = dktX12_pushes_2 := dk_seg dksX12_pushes_1 23 rfl rfl
theorem dksX12_pushes_3 : cX12_pushes.data.toList.drop 68 = dktX12_pushes_3 := dk_seg dksX12_pushes_2 23 rfl rfl
theorem dksX12_pushes_4 : cX12_pushes.data.toList.drop 92 = dktX12_pushes_4 := dk_seg dksX12_pushes_3 24 rfl rfl
theorem dX12_pushes_0 : decode cX12_pushes 0 = .ok (.iload_n 2, 1) := dk_28 (dk_at dksX12_pushes_0 0 rfl rfl)
theorem dX12_pushes_1 : decode cX12_pushes 1 = .ok (.iconst 4, 1) := dk_7 (dk_at dksX12_pushes_0 1 rfl rfl)
theorem dX12_pushes_2 : decode cX12_pushes 2 = .ok (.if_icmp .ne 8, 3) := dk_160 0 8 (dk_at dksX12_pushes_0 2 rfl rfl)
theorem dX12_pushes_5 : decode cX12_pushes 5 = .ok (.bipush 24, 2) := dk_16 24 (dk_at dksX12_pushes_0 5 rfl rfl)
theorem dX12_pushes_7 : decode cX12_pushes 7 = .ok (.goto 5, 3) := dk_167 0 5 (dk_at dksX12_pushes_0 7 rfl rfl)
theorem dX12_pushes_10 : decode cX12_pushes 10 = .ok (.bipush 104, 2) := dk_16 104 (dk_at dksX12_pushes_0 10 rfl rfl)
theorem dX12_pushes_12 : decode cX12_pushes 12 = .ok (.bipush 20, 2) := dk_16 20 (dk_at dksX12_pushes_0 12 rfl rfl)
theorem dX12_pushes_14 : decode cX12_pushes 14 = .ok (.iload_n 1, 1) := dk_27 (dk_at dksX12_pushes_0 14 rfl rfl)
theorem dX12_pushes_15 : decode cX12_pushes 15 = .ok (.imul, 1) := dk_104 (dk_at dksX12_pushes_0 15 rfl rfl)
theorem dX12_pushes_16 : decode cX12_pushes 16 = .ok (.iadd, 1) := dk_96 (dk_at dksX12_pushes_0 16 rfl rfl)
theorem dX12_pushes_17 : decode cX12_pushes 17 = .ok (.istore 4, 2) := dk_54 4 (dk_at dksX12_pushes_0 17 rfl rfl)
theorem dX12_pushes_19 : decode cX12_pushes 19 = .ok (.aload_n 0, 1) := dk_42 (dk_at dksX12_pushes_0 19 rfl rfl)
theorem dX12_pushes_20 : decode cX12_pushes 20 = .ok (.iload_n 1, 1) := dk_27 (dk_at dksX12_pushes_0 20 rfl rfl)
theorem dX12_pushes_21 : decode cX12_pushes 21 = .ok (.iload_n 2, 1) := dk_28 (dk_at dksX12_pushes_0 21 rfl rfl)
theorem dX12_pushes_22 : decode cX12_pushes 22 = .ok (.invokevirtual 135, 3) := dk_182 0 135 (dk_at dksX12_pushes_1 0 rfl rfl)
theorem dX12_pushes_25 : decode cX12_pushes 25 = .ok (.istore 5, 2) := dk_54 5 (dk_at dksX12_pushes_1 3 rfl rfl)
theorem dX12_pushes_27 : decode cX12_pushes 27 = .ok (.iload 5, 2) := dk_21 5 (dk_at dksX12_pushes_1 5 rfl rfl)
theorem dX12_pushes_29 : decode cX12_pushes 29 = .ok (.bipush 20, 2) := dk_16 20 (dk_at dksX12_pushes_1 7 rfl rfl)
theorem dX12_pushes_31 : decode cX12_pushes 31 = .ok (.if_icmp .ne 39, 3) := dk_160 0 39 (dk_at dksX12_pushes_1 9 rfl rfl)
theorem dX12_pushes_34 : decode cX12_pushes 34 = .ok (.iconst 1, 1) := dk_4 (dk_at dksX12_pushes_1 12 rfl rfl)
theorem dX12_pushes_35 : decode cX12_pushes 35 = .ok (.istore 6, 2) := dk_54 6 (dk_at dksX12_pushes_1 13 rfl rfl)
theorem dX12_pushes_37 : decode cX12_pushes 37 = .ok (.iload 6, 2) := dk_21 6 (dk_at dksX12_pushes_1 15 rfl rfl)
theorem dX12_pushes_39 : decode cX12_pushes 39 = .ok (.bipush 20, 2) := dk_16 20 (dk_at dksX12_pushes_1 17 rfl rfl)
theorem dX12_pushes_41 : decode cX12_pushes 41 = .ok (.if_icmp .ge 25, 3) := dk_162 0 25 (dk_at dksX12_pushes_1 19 rfl rfl)
theorem dX12_pushes_44 : decode cX12_pushes 44 = .ok (.aload_n 0, 1) := dk_42 (dk_at dksX12_pushes_1 22 rfl rfl)
theorem dX12_pushes_45 : decode cX12_pushes 45 = .ok (.iload 4, 2) := dk_21 4 (dk_at dksX12_pushes_2 0 rfl rfl)
theorem dX12_pushes_47 : decode cX12_pushes 47 = .ok (.iload 6, 2) := dk_21 6 (dk_at dksX12_pushes_2 2 rfl rfl)
theorem dX12_pushes_49 : decode cX12_pushes 49 = .ok (.iadd, 1) := dk_96 (dk_at dksX12_pushes_2 4 rfl rfl)
theorem dX12_pushes_50 : decode cX12_pushes 50 = .ok (.iload 4, 2) := dk_21 4 (dk_at dksX12_pushes_2 5 rfl rfl)
theorem dX12_pushes_52 : decode cX12_pushes 52 = .ok (.iload 6, 2) := dk_21 6 (dk_at dksX12_pushes_2 7 rfl rfl)
theorem dX12_pushes_54 : decode cX12_pushes 54 = .ok (.iadd, 1) := dk_96 (dk_at dksX12_pushes_2 9 rfl rfl)
theorem dX12_pushes_55 : decode cX12_pushes 55 = .ok (.iconst 1, 1) := dk_4 (dk_at dksX12_pushes_2 10 rfl rfl)
theorem dX12_pushes_56 : decode cX12_pushes 56 = .ok (.isub, 1) := dk_100 (dk_at dksX12_pushes_2 11 rfl rfl)
theorem dX12_pushes_57 : decode cX12_pushes 57 = .ok (.invokevirtual 142, 3) := dk_182 0 142 (dk_at dksX12_pushes_2 12 rfl rfl)
theorem dX12_pushes_60 : decode cX12_pushes 60 = .ok (.iinc 6 1, 3) := dk_132 6 1 (dk_at dksX12_pushes_2 15 rfl rfl)
theorem dX12_pushes_63 : decode cX12_pushes 63 = .ok (.goto (-26), 3) := dk_167 255 230 (dk_at dksX12_pushes_2 18 rfl rfl)
theorem dX12_pushes_66 : decode cX12_pushes 66 = .ok (.bipush 19, 2) := dk_16 19 (dk_at dksX12_pushes_2 21 rfl rfl)
theorem dX12_pushes_68 : decode cX12_pushes 68 = .ok (.istore 5, 2) := dk_54 5 (dk_at dksX12_pushes_3 0 rfl rfl)
theorem dX12_pushes_70 : decode cX12_pushes 70 = .ok (.aload_n 0, 1) := dk_42 (dk_at dksX12_pushes_3 2 rfl rfl)
theorem dX12_pushes_71 : decode cX12_pushes 71 = .ok (.iload 4, 2) := dk_21 4 (dk_at dksX12_pushes_3 3 rfl rfl)
theorem dX12_pushes_73 : decode cX12_pushes 73 = .ok (.iload 5, 2) := dk_21 5 (dk_at dksX12_pushes_3 5 rfl rfl)
theorem dX12_pushes_75 : decode cX12_pushes 75 = .ok (.iadd, 1) := dk_96 (dk_at dksX12_pushes_3 7 rfl rfl)
theorem dX12_pushes_76 : decode cX12_pushes 76 = .ok (.iload_n 3, 1) := dk_29 (dk_at dksX12_pushes_3 8 rfl rfl)
theorem dX12_pushes_77 : decode cX12_pushes 77 = .ok (.invokevirtual 101, 3) := dk_182 0 101 (dk_at dksX12_pushes_3 9 rfl rfl)
theorem dX12_pushes_80 : decode cX12_pushes 80 = .ok (.aload_n 0, 1) := dk_42 (dk_at dksX12_pushes_3 12 rfl rfl)
theorem dX12_pushes_81 : decode cX12_pushes 81 = .ok (.getfield 28, 3) := dk_180 0 28 (dk_at dksX12_pushes_3 13 rfl rfl)
theorem dX12_pushes_84 : decode cX12_pushes 84 = .ok (.bipush 8, 2) := dk_16 8 (dk_at dksX12_pushes_3 16 rfl rfl)
theorem dX12_pushes_86 : decode cX12_pushes 86 = .ok (.iload_n 1, 1) := dk_27 (dk_at dksX12_pushes_3 18 rfl rfl)
theorem dX12_pushes_87 : decode cX12_pushes 87 = .ok (.imul, 1) := dk_104 (dk_at dksX12_pushes_3 19 rfl rfl)
theorem dX12_pushes_88 : decode cX12_pushes 88 = .ok (.iload_n 2, 1) := dk_28 (dk_at dksX12_pushes_3 20 rfl rfl)
theorem dX12_pushes_89 : decode cX12_pushes 89 = .ok (.iadd, 1) := dk_96 (dk_at dksX12_pushes_3 21 rfl rfl)
theorem dX12_pushes_90 : decode cX12_pushes 90 = .ok (.iload 5, 2) := dk_21 5 (dk_at dksX12_pushes_3 22 rfl rfl)
theorem dX12_pushes_92 : decode cX12_pushes 92 = .ok (.iconst 1, 1) := dk_4 (dk_at dksX12_pushes_4 0 rfl rfl)
theorem dX12_pushes_93 : decode cX12_pushes 93 = .ok (.iadd, 1) := dk_96 (dk_at dksX12_pushes_4 1 rfl rfl)
theorem dX12_pushes_94 : decode cX12_pushes 94 = .ok (.iastore, 1) := dk_79 (dk_at dksX12_pushes_4 2 rfl rfl)
theorem dX12_pushes_95 : decode cX12_pushes 95 = .ok (.return_, 1) := dk_177 (dk_at dksX12_pushes_4 3 rfl rfl)
abbrev cX12_copiesRow : ByteArray := prog_24_method_9_code
def yX12_copiesRow : MethodName := ⟨RX12, "copiesRow", "(II)V"⟩
def dkwX12_copiesRow_0 : List UInt8 := [42, 6, 27, 182, 0, 97, 42, 28, 6, 182, 0, 101, 177]
abbrev dktX12_copiesRow_0 : List UInt8 := dkwX12_copiesRow_0 ++ []
theorem dksX12_copiesRow_0 : cX12_copiesRow.data.toList.drop 0 = dktX12_copiesRow_0 := by decide +kernel
theorem dX12_copiesRow_0 : decode cX12_copiesRow 0 = .ok (.aload_n 0, 1) := dk_42 (dk_at dksX12_copiesRow_0 0 rfl rfl)
theorem dX12_copiesRow_1 : decode cX12_copiesRow 1 = .ok (.iconst 3, 1) := dk_6 (dk_at dksX12_copiesRow_0 1 rfl rfl)
theorem dX12_copiesRow_2 : decode cX12_copiesRow 2 = .ok (.iload_n 1, 1) := dk_27 (dk_at dksX12_copiesRow_0 2 rfl rfl)
theorem dX12_copiesRow_3 : decode cX12_copiesRow 3 = .ok (.invokevirtual 97, 3) := dk_182 0 97 (dk_at dksX12_copiesRow_0 3 rfl rfl)
theorem dX12_copiesRow_6 : decode cX12_copiesRow 6 = .ok (.aload_n 0, 1) := dk_42 (dk_at dksX12_copiesRow_0 6 rfl rfl)
theorem dX12_copiesRow_7 : decode cX12_copiesRow 7 = .ok (.iload_n 2, 1) := dk_28 (dk_at dksX12_copiesRow_0 7 rfl rfl)
theorem dX12_copiesRow_8 : decode cX12_copiesRow 8 = .ok (.iconst 3, 1) := dk_6 (dk_at dksX12_copiesRow_0 8 rfl rfl)
theorem dX12_copiesRow_9 : decode cX12_copiesRow 9 = .ok (.invokevirtual 101, 3) := dk_182 0 101 (dk_at dksX12_copiesRow_0 9 rfl rfl)
theorem dX12_copiesRow_12 : decode cX12_copiesRow 12 = .ok (.return_, 1) := dk_177 (dk_at dksX12_copiesRow_0 12 rfl rfl)
abbrev cX12_insert : ByteArray := prog_24_method_63_code
def yX12_insert : MethodName := ⟨RX12, "insert", "(IIII)I"⟩
def dkwX12_insert_3 : List UInt8 := [172, 42, 27, 28, 18, 110, 21, 4, 16, 8, 120, 128, 29, 128, 182, 1, 34, 42, 180, 0, 25, 27, 46, 172]
abbrev dktX12_insert_3 : List UInt8 := dkwX12_insert_3 ++ []
def dkwX12_insert_2 : List UInt8 := [42, 16, 254, 182, 0, 183, 172, 42, 180, 0, 25, 27, 46, 16, 60, 161, 0, 10, 42, 16, 250, 182, 0, 183]
abbrev dktX12_insert_2 : List UInt8 := dkwX12_insert_2 ++ dktX12_insert_3
def dkwX12_insert_1 : List UInt8 := [133, 9, 20, 1, 30, 184, 0, 175, 153, 0, 16, 21, 4, 133, 9, 20, 1, 32, 184, 0, 175, 154, 0, 10]
abbrev dktX12_insert_1 : List UInt8 := dkwX12_insert_1 ++ dktX12_insert_2
def dkwX12_insert_0 : List UInt8 := [27, 184, 1, 16, 153, 0, 44, 28, 133, 9, 42, 180, 0, 25, 27, 46, 133, 184, 0, 175, 153, 0, 28, 29]
abbrev dktX12_insert_0 : List UInt8 := dkwX12_insert_0 ++ dktX12_insert_1
theorem dksX12_insert_0 : cX12_insert.data.toList.drop 0 = dktX12_insert_0 := by decide +kernel
theorem dksX12_insert_1 : cX12_insert.data.toList.drop 24 = dktX12_insert_1 := dk_seg dksX12_insert_0 24 rfl rfl
theorem dksX12_insert_2 : cX12_insert.data.toList.drop 48 = dktX12_insert_2 := dk_seg dksX12_insert_1 24 rfl rfl
theorem dksX12_insert_3 : cX12_insert.data.toList.drop 72 = dktX12_insert_3 := dk_seg dksX12_insert_2 24 rfl rfl
theorem dX12_insert_0 : decode cX12_insert 0 = .ok (.iload_n 1, 1) := dk_27 (dk_at dksX12_insert_0 0 rfl rfl)
theorem dX12_insert_1 : decode cX12_insert 1 = .ok (.invokestatic 272, 3) := dk_184 1 16 (dk_at dksX12_insert_0 1 rfl rfl)
theorem dX12_insert_4 : decode cX12_insert 4 = .ok (.ifCond .eq 44, 3) := dk_153 0 44 (dk_at dksX12_insert_0 4 rfl rfl)
theorem dX12_insert_7 : decode cX12_insert 7 = .ok (.iload_n 2, 1) := dk_28 (dk_at dksX12_insert_0 7 rfl rfl)
theorem dX12_insert_8 : decode cX12_insert 8 = .ok (.i2l, 1) := dk_133 (dk_at dksX12_insert_0 8 rfl rfl)
theorem dX12_insert_9 : decode cX12_insert 9 = .ok (.lconst 0, 1) := dk_9 (dk_at dksX12_insert_0 9 rfl rfl)
theorem dX12_insert_10 : decode cX12_insert 10 = .ok (.aload_n 0, 1) := dk_42 (dk_at dksX12_insert_0 10 rfl rfl)
theorem dX12_insert_11 : decode cX12_insert 11 = .ok (.getfield 25, 3) := dk_180 0 25 (dk_at dksX12_insert_0 11 rfl rfl)
theorem dX12_insert_14 : decode cX12_insert 14 = .ok (.iload_n 1, 1) := dk_27 (dk_at dksX12_insert_0 14 rfl rfl)
theorem dX12_insert_15 : decode cX12_insert 15 = .ok (.iaload, 1) := dk_46 (dk_at dksX12_insert_0 15 rfl rfl)
theorem dX12_insert_16 : decode cX12_insert 16 = .ok (.i2l, 1) := dk_133 (dk_at dksX12_insert_0 16 rfl rfl)
theorem dX12_insert_17 : decode cX12_insert 17 = .ok (.invokestatic 175, 3) := dk_184 0 175 (dk_at dksX12_insert_0 17 rfl rfl)
theorem dX12_insert_20 : decode cX12_insert 20 = .ok (.ifCond .eq 28, 3) := dk_153 0 28 (dk_at dksX12_insert_0 20 rfl rfl)
theorem dX12_insert_23 : decode cX12_insert 23 = .ok (.iload_n 3, 1) := dk_29 (dk_at dksX12_insert_0 23 rfl rfl)
theorem dX12_insert_24 : decode cX12_insert 24 = .ok (.i2l, 1) := dk_133 (dk_at dksX12_insert_1 0 rfl rfl)
theorem dX12_insert_25 : decode cX12_insert 25 = .ok (.lconst 0, 1) := dk_9 (dk_at dksX12_insert_1 1 rfl rfl)
theorem dX12_insert_26 : decode cX12_insert 26 = .ok (.ldc2_w 286, 3) := dk_20 1 30 (dk_at dksX12_insert_1 2 rfl rfl)
theorem dX12_insert_29 : decode cX12_insert 29 = .ok (.invokestatic 175, 3) := dk_184 0 175 (dk_at dksX12_insert_1 5 rfl rfl)
theorem dX12_insert_32 : decode cX12_insert 32 = .ok (.ifCond .eq 16, 3) := dk_153 0 16 (dk_at dksX12_insert_1 8 rfl rfl)
theorem dX12_insert_35 : decode cX12_insert 35 = .ok (.iload 4, 2) := dk_21 4 (dk_at dksX12_insert_1 11 rfl rfl)
theorem dX12_insert_37 : decode cX12_insert 37 = .ok (.i2l, 1) := dk_133 (dk_at dksX12_insert_1 13 rfl rfl)
theorem dX12_insert_38 : decode cX12_insert 38 = .ok (.lconst 0, 1) := dk_9 (dk_at dksX12_insert_1 14 rfl rfl)
theorem dX12_insert_39 : decode cX12_insert 39 = .ok (.ldc2_w 288, 3) := dk_20 1 32 (dk_at dksX12_insert_1 15 rfl rfl)
theorem dX12_insert_42 : decode cX12_insert 42 = .ok (.invokestatic 175, 3) := dk_184 0 175 (dk_at dksX12_insert_1 18 rfl rfl)
theorem dX12_insert_45 : decode cX12_insert 45 = .ok (.ifCond .ne 10, 3) := dk_154 0 10 (dk_at dksX12_insert_1 21 rfl rfl)
theorem dX12_insert_48 : decode cX12_insert 48 = .ok (.aload_n 0, 1) := dk_42 (dk_at dksX12_insert_2 0 rfl rfl)
theorem dX12_insert_49 : decode cX12_insert 49 = .ok (.bipush (-2), 2) := dk_16 254 (dk_at dksX12_insert_2 1 rfl rfl)
theorem dX12_insert_51 : decode cX12_insert 51 = .ok (.invokevirtual 183, 3) := dk_182 0 183 (dk_at dksX12_insert_2 3 rfl rfl)
theorem dX12_insert_54 : decode cX12_insert 54 = .ok (.ireturn, 1) := dk_172 (dk_at dksX12_insert_2 6 rfl rfl)
theorem dX12_insert_55 : decode cX12_insert 55 = .ok (.aload_n 0, 1) := dk_42 (dk_at dksX12_insert_2 7 rfl rfl)
theorem dX12_insert_56 : decode cX12_insert 56 = .ok (.getfield 25, 3) := dk_180 0 25 (dk_at dksX12_insert_2 8 rfl rfl)
theorem dX12_insert_59 : decode cX12_insert 59 = .ok (.iload_n 1, 1) := dk_27 (dk_at dksX12_insert_2 11 rfl rfl)
theorem dX12_insert_60 : decode cX12_insert 60 = .ok (.iaload, 1) := dk_46 (dk_at dksX12_insert_2 12 rfl rfl)
theorem dX12_insert_61 : decode cX12_insert 61 = .ok (.bipush 60, 2) := dk_16 60 (dk_at dksX12_insert_2 13 rfl rfl)
theorem dX12_insert_63 : decode cX12_insert 63 = .ok (.if_icmp .lt 10, 3) := dk_161 0 10 (dk_at dksX12_insert_2 15 rfl rfl)
theorem dX12_insert_66 : decode cX12_insert 66 = .ok (.aload_n 0, 1) := dk_42 (dk_at dksX12_insert_2 18 rfl rfl)
theorem dX12_insert_67 : decode cX12_insert 67 = .ok (.bipush (-6), 2) := dk_16 250 (dk_at dksX12_insert_2 19 rfl rfl)
theorem dX12_insert_69 : decode cX12_insert 69 = .ok (.invokevirtual 183, 3) := dk_182 0 183 (dk_at dksX12_insert_2 21 rfl rfl)
theorem dX12_insert_72 : decode cX12_insert 72 = .ok (.ireturn, 1) := dk_172 (dk_at dksX12_insert_3 0 rfl rfl)
theorem dX12_insert_73 : decode cX12_insert 73 = .ok (.aload_n 0, 1) := dk_42 (dk_at dksX12_insert_3 1 rfl rfl)
theorem dX12_insert_74 : decode cX12_insert 74 = .ok (.iload_n 1, 1) := dk_27 (dk_at dksX12_insert_3 2 rfl rfl)
theorem dX12_insert_75 : decode cX12_insert 75 = .ok (.iload_n 2, 1) := dk_28 (dk_at dksX12_insert_3 3 rfl rfl)
theorem dX12_insert_76 : decode cX12_insert 76 = .ok (.ldc 110, 2) := dk_18 110 (dk_at dksX12_insert_3 4 rfl rfl)
theorem dX12_insert_78 : decode cX12_insert 78 = .ok (.iload 4, 2) := dk_21 4 (dk_at dksX12_insert_3 6 rfl rfl)
theorem dX12_insert_80 : decode cX12_insert 80 = .ok (.bipush 8, 2) := dk_16 8 (dk_at dksX12_insert_3 8 rfl rfl)
theorem dX12_insert_82 : decode cX12_insert 82 = .ok (.ishl, 1) := dk_120 (dk_at dksX12_insert_3 10 rfl rfl)
theorem dX12_insert_83 : decode cX12_insert 83 = .ok (.ior, 1) := dk_128 (dk_at dksX12_insert_3 11 rfl rfl)
theorem dX12_insert_84 : decode cX12_insert 84 = .ok (.iload_n 3, 1) := dk_29 (dk_at dksX12_insert_3 12 rfl rfl)
theorem dX12_insert_85 : decode cX12_insert 85 = .ok (.ior, 1) := dk_128 (dk_at dksX12_insert_3 13 rfl rfl)
theorem dX12_insert_86 : decode cX12_insert 86 = .ok (.invokevirtual 290, 3) := dk_182 1 34 (dk_at dksX12_insert_3 14 rfl rfl)
theorem dX12_insert_89 : decode cX12_insert 89 = .ok (.aload_n 0, 1) := dk_42 (dk_at dksX12_insert_3 17 rfl rfl)
theorem dX12_insert_90 : decode cX12_insert 90 = .ok (.getfield 25, 3) := dk_180 0 25 (dk_at dksX12_insert_3 18 rfl rfl)
theorem dX12_insert_93 : decode cX12_insert 93 = .ok (.iload_n 1, 1) := dk_27 (dk_at dksX12_insert_3 21 rfl rfl)
theorem dX12_insert_94 : decode cX12_insert 94 = .ok (.iaload, 1) := dk_46 (dk_at dksX12_insert_3 22 rfl rfl)
theorem dX12_insert_95 : decode cX12_insert 95 = .ok (.ireturn, 1) := dk_172 (dk_at dksX12_insert_3 23 rfl rfl)
abbrev cX12_inserts : ByteArray := prog_24_method_62_code
def yX12_inserts : MethodName := ⟨RX12, "inserts", "(III)V"⟩
def dkwX12_inserts_2 : List UInt8 := [182, 0, 115, 132, 4, 1, 167, 255, 212, 42, 27, 7, 4, 182, 1, 27, 177]
abbrev dktX12_inserts_2 : List UInt8 := dkwX12_inserts_2 ++ []
def dkwX12_inserts_1 : List UInt8 := [160, 0, 9, 42, 3, 29, 182, 0, 115, 21, 4, 42, 180, 0, 25, 27, 46, 162, 0, 10, 42, 3, 18, 108]
abbrev dktX12_inserts_1 : List UInt8 := dkwX12_inserts_1 ++ dktX12_inserts_2
def dkwX12_inserts_0 : List UInt8 := [42, 180, 0, 43, 3, 3, 79, 3, 54, 4, 21, 4, 42, 180, 0, 25, 27, 46, 163, 0, 39, 21, 4, 28]
abbrev dktX12_inserts_0 : List UInt8 := dkwX12_inserts_0 ++ dktX12_inserts_1
theorem dksX12_inserts_0 : cX12_inserts.data.toList.drop 0 = dktX12_inserts_0 := by decide +kernel
theorem dksX12_inserts_1 : cX12_inserts.data.toList.drop 24 = dktX12_inserts_1 := dk_seg dksX12_inserts_0 24 rfl rfl
theorem dksX12_inserts_2 : cX12_inserts.data.toList.drop 48 = dktX12_inserts_2 := dk_seg dksX12_inserts_1 24 rfl rfl
theorem dX12_inserts_0 : decode cX12_inserts 0 = .ok (.aload_n 0, 1) := dk_42 (dk_at dksX12_inserts_0 0 rfl rfl)
theorem dX12_inserts_1 : decode cX12_inserts 1 = .ok (.getfield 43, 3) := dk_180 0 43 (dk_at dksX12_inserts_0 1 rfl rfl)
theorem dX12_inserts_4 : decode cX12_inserts 4 = .ok (.iconst 0, 1) := dk_3 (dk_at dksX12_inserts_0 4 rfl rfl)
theorem dX12_inserts_5 : decode cX12_inserts 5 = .ok (.iconst 0, 1) := dk_3 (dk_at dksX12_inserts_0 5 rfl rfl)
theorem dX12_inserts_6 : decode cX12_inserts 6 = .ok (.iastore, 1) := dk_79 (dk_at dksX12_inserts_0 6 rfl rfl)
theorem dX12_inserts_7 : decode cX12_inserts 7 = .ok (.iconst 0, 1) := dk_3 (dk_at dksX12_inserts_0 7 rfl rfl)
theorem dX12_inserts_8 : decode cX12_inserts 8 = .ok (.istore 4, 2) := dk_54 4 (dk_at dksX12_inserts_0 8 rfl rfl)
theorem dX12_inserts_10 : decode cX12_inserts 10 = .ok (.iload 4, 2) := dk_21 4 (dk_at dksX12_inserts_0 10 rfl rfl)
theorem dX12_inserts_12 : decode cX12_inserts 12 = .ok (.aload_n 0, 1) := dk_42 (dk_at dksX12_inserts_0 12 rfl rfl)
theorem dX12_inserts_13 : decode cX12_inserts 13 = .ok (.getfield 25, 3) := dk_180 0 25 (dk_at dksX12_inserts_0 13 rfl rfl)
theorem dX12_inserts_16 : decode cX12_inserts 16 = .ok (.iload_n 1, 1) := dk_27 (dk_at dksX12_inserts_0 16 rfl rfl)
theorem dX12_inserts_17 : decode cX12_inserts 17 = .ok (.iaload, 1) := dk_46 (dk_at dksX12_inserts_0 17 rfl rfl)
theorem dX12_inserts_18 : decode cX12_inserts 18 = .ok (.if_icmp .gt 39, 3) := dk_163 0 39 (dk_at dksX12_inserts_0 18 rfl rfl)
theorem dX12_inserts_21 : decode cX12_inserts 21 = .ok (.iload 4, 2) := dk_21 4 (dk_at dksX12_inserts_0 21 rfl rfl)
theorem dX12_inserts_23 : decode cX12_inserts 23 = .ok (.iload_n 2, 1) := dk_28 (dk_at dksX12_inserts_0 23 rfl rfl)
theorem dX12_inserts_24 : decode cX12_inserts 24 = .ok (.if_icmp .ne 9, 3) := dk_160 0 9 (dk_at dksX12_inserts_1 0 rfl rfl)
theorem dX12_inserts_27 : decode cX12_inserts 27 = .ok (.aload_n 0, 1) := dk_42 (dk_at dksX12_inserts_1 3 rfl rfl)
theorem dX12_inserts_28 : decode cX12_inserts 28 = .ok (.iconst 0, 1) := dk_3 (dk_at dksX12_inserts_1 4 rfl rfl)
theorem dX12_inserts_29 : decode cX12_inserts 29 = .ok (.iload_n 3, 1) := dk_29 (dk_at dksX12_inserts_1 5 rfl rfl)
theorem dX12_inserts_30 : decode cX12_inserts 30 = .ok (.invokevirtual 115, 3) := dk_182 0 115 (dk_at dksX12_inserts_1 6 rfl rfl)
theorem dX12_inserts_33 : decode cX12_inserts 33 = .ok (.iload 4, 2) := dk_21 4 (dk_at dksX12_inserts_1 9 rfl rfl)
theorem dX12_inserts_35 : decode cX12_inserts 35 = .ok (.aload_n 0, 1) := dk_42 (dk_at dksX12_inserts_1 11 rfl rfl)
theorem dX12_inserts_36 : decode cX12_inserts 36 = .ok (.getfield 25, 3) := dk_180 0 25 (dk_at dksX12_inserts_1 12 rfl rfl)
theorem dX12_inserts_39 : decode cX12_inserts 39 = .ok (.iload_n 1, 1) := dk_27 (dk_at dksX12_inserts_1 15 rfl rfl)
theorem dX12_inserts_40 : decode cX12_inserts 40 = .ok (.iaload, 1) := dk_46 (dk_at dksX12_inserts_1 16 rfl rfl)
theorem dX12_inserts_41 : decode cX12_inserts 41 = .ok (.if_icmp .ge 10, 3) := dk_162 0 10 (dk_at dksX12_inserts_1 17 rfl rfl)
theorem dX12_inserts_44 : decode cX12_inserts 44 = .ok (.aload_n 0, 1) := dk_42 (dk_at dksX12_inserts_1 20 rfl rfl)
theorem dX12_inserts_45 : decode cX12_inserts 45 = .ok (.iconst 0, 1) := dk_3 (dk_at dksX12_inserts_1 21 rfl rfl)
theorem dX12_inserts_46 : decode cX12_inserts 46 = .ok (.ldc 108, 2) := dk_18 108 (dk_at dksX12_inserts_1 22 rfl rfl)
theorem dX12_inserts_48 : decode cX12_inserts 48 = .ok (.invokevirtual 115, 3) := dk_182 0 115 (dk_at dksX12_inserts_2 0 rfl rfl)
theorem dX12_inserts_51 : decode cX12_inserts 51 = .ok (.iinc 4 1, 3) := dk_132 4 1 (dk_at dksX12_inserts_2 3 rfl rfl)
theorem dX12_inserts_54 : decode cX12_inserts 54 = .ok (.goto (-44), 3) := dk_167 255 212 (dk_at dksX12_inserts_2 6 rfl rfl)
theorem dX12_inserts_57 : decode cX12_inserts 57 = .ok (.aload_n 0, 1) := dk_42 (dk_at dksX12_inserts_2 9 rfl rfl)
theorem dX12_inserts_58 : decode cX12_inserts 58 = .ok (.iload_n 1, 1) := dk_27 (dk_at dksX12_inserts_2 10 rfl rfl)
theorem dX12_inserts_59 : decode cX12_inserts 59 = .ok (.iconst 4, 1) := dk_7 (dk_at dksX12_inserts_2 11 rfl rfl)
theorem dX12_inserts_60 : decode cX12_inserts 60 = .ok (.iconst 1, 1) := dk_4 (dk_at dksX12_inserts_2 12 rfl rfl)
theorem dX12_inserts_61 : decode cX12_inserts 61 = .ok (.invokevirtual 283, 3) := dk_182 1 27 (dk_at dksX12_inserts_2 13 rfl rfl)
theorem dX12_inserts_64 : decode cX12_inserts 64 = .ok (.return_, 1) := dk_177 (dk_at dksX12_inserts_2 16 rfl rfl)
abbrev cX12_cut : ByteArray := prog_24_method_65_code
def yX12_cut : MethodName := ⟨RX12, "cut", "(III)I"⟩
def dkwX12_cut_1 : List UInt8 := [182, 1, 41, 42, 27, 7, 4, 182, 1, 27, 42, 180, 0, 25, 27, 46, 172]
abbrev dktX12_cut_1 : List UInt8 := dkwX12_cut_1 ++ []
def dkwX12_cut_0 : List UInt8 := [42, 27, 28, 29, 182, 1, 37, 154, 0, 10, 42, 16, 254, 182, 0, 183, 172, 42, 27, 28, 29, 18, 109]
abbrev dktX12_cut_0 : List UInt8 := dkwX12_cut_0 ++ dktX12_cut_1
theorem dksX12_cut_0 : cX12_cut.data.toList.drop 0 = dktX12_cut_0 := by decide +kernel
theorem dksX12_cut_1 : cX12_cut.data.toList.drop 23 = dktX12_cut_1 := dk_seg dksX12_cut_0 23 rfl rfl
theorem dX12_cut_0 : decode cX12_cut 0 = .ok (.aload_n 0, 1) := dk_42 (dk_at dksX12_cut_0 0 rfl rfl)
theorem dX12_cut_1 : decode cX12_cut 1 = .ok (.iload_n 1, 1) := dk_27 (dk_at dksX12_cut_0 1 rfl rfl)
theorem dX12_cut_2 : decode cX12_cut 2 = .ok (.iload_n 2, 1) := dk_28 (dk_at dksX12_cut_0 2 rfl rfl)
theorem dX12_cut_3 : decode cX12_cut 3 = .ok (.iload_n 3, 1) := dk_29 (dk_at dksX12_cut_0 3 rfl rfl)
theorem dX12_cut_4 : decode cX12_cut 4 = .ok (.invokevirtual 293, 3) := dk_182 1 37 (dk_at dksX12_cut_0 4 rfl rfl)
theorem dX12_cut_7 : decode cX12_cut 7 = .ok (.ifCond .ne 10, 3) := dk_154 0 10 (dk_at dksX12_cut_0 7 rfl rfl)
theorem dX12_cut_10 : decode cX12_cut 10 = .ok (.aload_n 0, 1) := dk_42 (dk_at dksX12_cut_0 10 rfl rfl)
theorem dX12_cut_11 : decode cX12_cut 11 = .ok (.bipush (-2), 2) := dk_16 254 (dk_at dksX12_cut_0 11 rfl rfl)
theorem dX12_cut_13 : decode cX12_cut 13 = .ok (.invokevirtual 183, 3) := dk_182 0 183 (dk_at dksX12_cut_0 13 rfl rfl)
theorem dX12_cut_16 : decode cX12_cut 16 = .ok (.ireturn, 1) := dk_172 (dk_at dksX12_cut_0 16 rfl rfl)
theorem dX12_cut_17 : decode cX12_cut 17 = .ok (.aload_n 0, 1) := dk_42 (dk_at dksX12_cut_0 17 rfl rfl)
theorem dX12_cut_18 : decode cX12_cut 18 = .ok (.iload_n 1, 1) := dk_27 (dk_at dksX12_cut_0 18 rfl rfl)
theorem dX12_cut_19 : decode cX12_cut 19 = .ok (.iload_n 2, 1) := dk_28 (dk_at dksX12_cut_0 19 rfl rfl)
theorem dX12_cut_20 : decode cX12_cut 20 = .ok (.iload_n 3, 1) := dk_29 (dk_at dksX12_cut_0 20 rfl rfl)
theorem dX12_cut_21 : decode cX12_cut 21 = .ok (.ldc 109, 2) := dk_18 109 (dk_at dksX12_cut_0 21 rfl rfl)
theorem dX12_cut_23 : decode cX12_cut 23 = .ok (.invokevirtual 297, 3) := dk_182 1 41 (dk_at dksX12_cut_1 0 rfl rfl)
theorem dX12_cut_26 : decode cX12_cut 26 = .ok (.aload_n 0, 1) := dk_42 (dk_at dksX12_cut_1 3 rfl rfl)
theorem dX12_cut_27 : decode cX12_cut 27 = .ok (.iload_n 1, 1) := dk_27 (dk_at dksX12_cut_1 4 rfl rfl)
theorem dX12_cut_28 : decode cX12_cut 28 = .ok (.iconst 4, 1) := dk_7 (dk_at dksX12_cut_1 5 rfl rfl)
theorem dX12_cut_29 : decode cX12_cut 29 = .ok (.iconst 1, 1) := dk_4 (dk_at dksX12_cut_1 6 rfl rfl)
theorem dX12_cut_30 : decode cX12_cut 30 = .ok (.invokevirtual 283, 3) := dk_182 1 27 (dk_at dksX12_cut_1 7 rfl rfl)
theorem dX12_cut_33 : decode cX12_cut 33 = .ok (.aload_n 0, 1) := dk_42 (dk_at dksX12_cut_1 10 rfl rfl)
theorem dX12_cut_34 : decode cX12_cut 34 = .ok (.getfield 25, 3) := dk_180 0 25 (dk_at dksX12_cut_1 11 rfl rfl)
theorem dX12_cut_37 : decode cX12_cut 37 = .ok (.iload_n 1, 1) := dk_27 (dk_at dksX12_cut_1 14 rfl rfl)
theorem dX12_cut_38 : decode cX12_cut 38 = .ok (.iaload, 1) := dk_46 (dk_at dksX12_cut_1 15 rfl rfl)
theorem dX12_cut_39 : decode cX12_cut 39 = .ok (.ireturn, 1) := dk_172 (dk_at dksX12_cut_1 16 rfl rfl)
abbrev cX12_isStretch : ByteArray := prog_24_method_64_code
def yX12_isStretch : MethodName := ⟨RX12, "isStretch", "(III)Z"⟩
def dkwX12_isStretch_1 : List UInt8 := [184, 0, 175, 153, 0, 19, 29, 42, 180, 0, 25, 27, 46, 28, 100, 163, 0, 7, 4, 167, 0, 4, 3, 172]
abbrev dktX12_isStretch_1 : List UInt8 := dkwX12_isStretch_1 ++ []
def dkwX12_isStretch_0 : List UInt8 := [27, 184, 1, 16, 153, 0, 42, 29, 4, 161, 0, 37, 28, 133, 9, 42, 180, 0, 25, 27, 46, 4, 100, 133]
abbrev dktX12_isStretch_0 : List UInt8 := dkwX12_isStretch_0 ++ dktX12_isStretch_1
theorem dksX12_isStretch_0 : cX12_isStretch.data.toList.drop 0 = dktX12_isStretch_0 := by decide +kernel
theorem dksX12_isStretch_1 : cX12_isStretch.data.toList.drop 24 = dktX12_isStretch_1 := dk_seg dksX12_isStretch_0 24 rfl rfl
theorem dX12_isStretch_0 : decode cX12_isStretch 0 = .ok (.iload_n 1, 1) := dk_27 (dk_at dksX12_isStretch_0 0 rfl rfl)
theorem dX12_isStretch_1 : decode cX12_isStretch 1 = .ok (.invokestatic 272, 3) := dk_184 1 16 (dk_at dksX12_isStretch_0 1 rfl rfl)
theorem dX12_isStretch_4 : decode cX12_isStretch 4 = .ok (.ifCond .eq 42, 3) := dk_153 0 42 (dk_at dksX12_isStretch_0 4 rfl rfl)
theorem dX12_isStretch_7 : decode cX12_isStretch 7 = .ok (.iload_n 3, 1) := dk_29 (dk_at dksX12_isStretch_0 7 rfl rfl)
theorem dX12_isStretch_8 : decode cX12_isStretch 8 = .ok (.iconst 1, 1) := dk_4 (dk_at dksX12_isStretch_0 8 rfl rfl)
theorem dX12_isStretch_9 : decode cX12_isStretch 9 = .ok (.if_icmp .lt 37, 3) := dk_161 0 37 (dk_at dksX12_isStretch_0 9 rfl rfl)
theorem dX12_isStretch_12 : decode cX12_isStretch 12 = .ok (.iload_n 2, 1) := dk_28 (dk_at dksX12_isStretch_0 12 rfl rfl)
theorem dX12_isStretch_13 : decode cX12_isStretch 13 = .ok (.i2l, 1) := dk_133 (dk_at dksX12_isStretch_0 13 rfl rfl)
theorem dX12_isStretch_14 : decode cX12_isStretch 14 = .ok (.lconst 0, 1) := dk_9 (dk_at dksX12_isStretch_0 14 rfl rfl)
theorem dX12_isStretch_15 : decode cX12_isStretch 15 = .ok (.aload_n 0, 1) := dk_42 (dk_at dksX12_isStretch_0 15 rfl rfl)
theorem dX12_isStretch_16 : decode cX12_isStretch 16 = .ok (.getfield 25, 3) := dk_180 0 25 (dk_at dksX12_isStretch_0 16 rfl rfl)
theorem dX12_isStretch_19 : decode cX12_isStretch 19 = .ok (.iload_n 1, 1) := dk_27 (dk_at dksX12_isStretch_0 19 rfl rfl)
theorem dX12_isStretch_20 : decode cX12_isStretch 20 = .ok (.iaload, 1) := dk_46 (dk_at dksX12_isStretch_0 20 rfl rfl)
theorem dX12_isStretch_21 : decode cX12_isStretch 21 = .ok (.iconst 1, 1) := dk_4 (dk_at dksX12_isStretch_0 21 rfl rfl)
theorem dX12_isStretch_22 : decode cX12_isStretch 22 = .ok (.isub, 1) := dk_100 (dk_at dksX12_isStretch_0 22 rfl rfl)
theorem dX12_isStretch_23 : decode cX12_isStretch 23 = .ok (.i2l, 1) := dk_133 (dk_at dksX12_isStretch_0 23 rfl rfl)
theorem dX12_isStretch_24 : decode cX12_isStretch 24 = .ok (.invokestatic 175, 3) := dk_184 0 175 (dk_at dksX12_isStretch_1 0 rfl rfl)
theorem dX12_isStretch_27 : decode cX12_isStretch 27 = .ok (.ifCond .eq 19, 3) := dk_153 0 19 (dk_at dksX12_isStretch_1 3 rfl rfl)
theorem dX12_isStretch_30 : decode cX12_isStretch 30 = .ok (.iload_n 3, 1) := dk_29 (dk_at dksX12_isStretch_1 6 rfl rfl)
theorem dX12_isStretch_31 : decode cX12_isStretch 31 = .ok (.aload_n 0, 1) := dk_42 (dk_at dksX12_isStretch_1 7 rfl rfl)
theorem dX12_isStretch_32 : decode cX12_isStretch 32 = .ok (.getfield 25, 3) := dk_180 0 25 (dk_at dksX12_isStretch_1 8 rfl rfl)
theorem dX12_isStretch_35 : decode cX12_isStretch 35 = .ok (.iload_n 1, 1) := dk_27 (dk_at dksX12_isStretch_1 11 rfl rfl)
theorem dX12_isStretch_36 : decode cX12_isStretch 36 = .ok (.iaload, 1) := dk_46 (dk_at dksX12_isStretch_1 12 rfl rfl)
theorem dX12_isStretch_37 : decode cX12_isStretch 37 = .ok (.iload_n 2, 1) := dk_28 (dk_at dksX12_isStretch_1 13 rfl rfl)
theorem dX12_isStretch_38 : decode cX12_isStretch 38 = .ok (.isub, 1) := dk_100 (dk_at dksX12_isStretch_1 14 rfl rfl)
theorem dX12_isStretch_39 : decode cX12_isStretch 39 = .ok (.if_icmp .gt 7, 3) := dk_163 0 7 (dk_at dksX12_isStretch_1 15 rfl rfl)
theorem dX12_isStretch_42 : decode cX12_isStretch 42 = .ok (.iconst 1, 1) := dk_4 (dk_at dksX12_isStretch_1 18 rfl rfl)
theorem dX12_isStretch_43 : decode cX12_isStretch 43 = .ok (.goto 4, 3) := dk_167 0 4 (dk_at dksX12_isStretch_1 19 rfl rfl)
theorem dX12_isStretch_46 : decode cX12_isStretch 46 = .ok (.iconst 0, 1) := dk_3 (dk_at dksX12_isStretch_1 22 rfl rfl)
theorem dX12_isStretch_47 : decode cX12_isStretch 47 = .ok (.ireturn, 1) := dk_172 (dk_at dksX12_isStretch_1 23 rfl rfl)
abbrev cX12_keepsAllBut : ByteArray := prog_24_method_61_code
def yX12_keepsAllBut : MethodName := ⟨RX12, "keepsAllBut", "(IIII)V"⟩
def dkwX12_keepsAllBut_2 : List UInt8 := [132, 5, 1, 167, 255, 216, 177]
abbrev dktX12_keepsAllBut_2 : List UInt8 := dkwX12_keepsAllBut_2 ++ []
def dkwX12_keepsAllBut_1 : List UInt8 := [21, 5, 28, 161, 0, 16, 21, 5, 28, 29, 96, 162, 0, 8, 21, 4, 167, 0, 5, 18, 108, 182, 0, 115]
abbrev dktX12_keepsAllBut_1 : List UInt8 := dkwX12_keepsAllBut_1 ++ dktX12_keepsAllBut_2
def dkwX12_keepsAllBut_0 : List UInt8 := [42, 180, 0, 43, 3, 3, 79, 3, 54, 5, 21, 5, 42, 180, 0, 25, 27, 46, 162, 0, 35, 42, 3]
abbrev dktX12_keepsAllBut_0 : List UInt8 := dkwX12_keepsAllBut_0 ++ dktX12_keepsAllBut_1
theorem dksX12_keepsAllBut_0 : cX12_keepsAllBut.data.toList.drop 0 = dktX12_keepsAllBut_0 := by decide +kernel
theorem dksX12_keepsAllBut_1 : cX12_keepsAllBut.data.toList.drop 23 = dktX12_keepsAllBut_1 := dk_seg dksX12_keepsAllBut_0 23 rfl rfl
theorem dksX12_keepsAllBut_2 : cX12_keepsAllBut.data.toList.drop 47 = dktX12_keepsAllBut_2 := dk_seg dksX12_keepsAllBut_1 24 rfl rfl
theorem dX12_keepsAllBut_0 : decode cX12_keepsAllBut 0 = .ok (.aload_n 0, 1) := dk_42 (dk_at dksX12_keepsAllBut_0 0 rfl rfl)
theorem dX12_keepsAllBut_1 : decode cX12_keepsAllBut 1 = .ok (.getfield 43, 3) := dk_180 0 43 (dk_at dksX12_keepsAllBut_0 1 rfl rfl)
theorem dX12_keepsAllBut_4 : decode cX12_keepsAllBut 4 = .ok (.iconst 0, 1) := dk_3 (dk_at dksX12_keepsAllBut_0 4 rfl rfl)
theorem dX12_keepsAllBut_5 : decode cX12_keepsAllBut 5 = .ok (.iconst 0, 1) := dk_3 (dk_at dksX12_keepsAllBut_0 5 rfl rfl)
theorem dX12_keepsAllBut_6 : decode cX12_keepsAllBut 6 = .ok (.iastore, 1) := dk_79 (dk_at dksX12_keepsAllBut_0 6 rfl rfl)
theorem dX12_keepsAllBut_7 : decode cX12_keepsAllBut 7 = .ok (.iconst 0, 1) := dk_3 (dk_at dksX12_keepsAllBut_0 7 rfl rfl)
theorem dX12_keepsAllBut_8 : decode cX12_keepsAllBut 8 = .ok (.istore 5, 2) := dk_54 5 (dk_at dksX12_keepsAllBut_0 8 rfl rfl)
theorem dX12_keepsAllBut_10 : decode cX12_keepsAllBut 10 = .ok (.iload 5, 2) := dk_21 5 (dk_at dksX12_keepsAllBut_0 10 rfl rfl)
theorem dX12_keepsAllBut_12 : decode cX12_keepsAllBut 12 = .ok (.aload_n 0, 1) := dk_42 (dk_at dksX12_keepsAllBut_0 12 rfl rfl)
theorem dX12_keepsAllBut_13 : decode cX12_keepsAllBut 13 = .ok (.getfield 25, 3) := dk_180 0 25 (dk_at dksX12_keepsAllBut_0 13 rfl rfl)
theorem dX12_keepsAllBut_16 : decode cX12_keepsAllBut 16 = .ok (.iload_n 1, 1) := dk_27 (dk_at dksX12_keepsAllBut_0 16 rfl rfl)
theorem dX12_keepsAllBut_17 : decode cX12_keepsAllBut 17 = .ok (.iaload, 1) := dk_46 (dk_at dksX12_keepsAllBut_0 17 rfl rfl)
theorem dX12_keepsAllBut_18 : decode cX12_keepsAllBut 18 = .ok (.if_icmp .ge 35, 3) := dk_162 0 35 (dk_at dksX12_keepsAllBut_0 18 rfl rfl)
theorem dX12_keepsAllBut_21 : decode cX12_keepsAllBut 21 = .ok (.aload_n 0, 1) := dk_42 (dk_at dksX12_keepsAllBut_0 21 rfl rfl)
theorem dX12_keepsAllBut_22 : decode cX12_keepsAllBut 22 = .ok (.iconst 0, 1) := dk_3 (dk_at dksX12_keepsAllBut_0 22 rfl rfl)
theorem dX12_keepsAllBut_23 : decode cX12_keepsAllBut 23 = .ok (.iload 5, 2) := dk_21 5 (dk_at dksX12_keepsAllBut_1 0 rfl rfl)
theorem dX12_keepsAllBut_25 : decode cX12_keepsAllBut 25 = .ok (.iload_n 2, 1) := dk_28 (dk_at dksX12_keepsAllBut_1 2 rfl rfl)
theorem dX12_keepsAllBut_26 : decode cX12_keepsAllBut 26 = .ok (.if_icmp .lt 16, 3) := dk_161 0 16 (dk_at dksX12_keepsAllBut_1 3 rfl rfl)
theorem dX12_keepsAllBut_29 : decode cX12_keepsAllBut 29 = .ok (.iload 5, 2) := dk_21 5 (dk_at dksX12_keepsAllBut_1 6 rfl rfl)
theorem dX12_keepsAllBut_31 : decode cX12_keepsAllBut 31 = .ok (.iload_n 2, 1) := dk_28 (dk_at dksX12_keepsAllBut_1 8 rfl rfl)
theorem dX12_keepsAllBut_32 : decode cX12_keepsAllBut 32 = .ok (.iload_n 3, 1) := dk_29 (dk_at dksX12_keepsAllBut_1 9 rfl rfl)
theorem dX12_keepsAllBut_33 : decode cX12_keepsAllBut 33 = .ok (.iadd, 1) := dk_96 (dk_at dksX12_keepsAllBut_1 10 rfl rfl)
theorem dX12_keepsAllBut_34 : decode cX12_keepsAllBut 34 = .ok (.if_icmp .ge 8, 3) := dk_162 0 8 (dk_at dksX12_keepsAllBut_1 11 rfl rfl)
theorem dX12_keepsAllBut_37 : decode cX12_keepsAllBut 37 = .ok (.iload 4, 2) := dk_21 4 (dk_at dksX12_keepsAllBut_1 14 rfl rfl)
theorem dX12_keepsAllBut_39 : decode cX12_keepsAllBut 39 = .ok (.goto 5, 3) := dk_167 0 5 (dk_at dksX12_keepsAllBut_1 16 rfl rfl)
theorem dX12_keepsAllBut_42 : decode cX12_keepsAllBut 42 = .ok (.ldc 108, 2) := dk_18 108 (dk_at dksX12_keepsAllBut_1 19 rfl rfl)
theorem dX12_keepsAllBut_44 : decode cX12_keepsAllBut 44 = .ok (.invokevirtual 115, 3) := dk_182 0 115 (dk_at dksX12_keepsAllBut_1 21 rfl rfl)
theorem dX12_keepsAllBut_47 : decode cX12_keepsAllBut 47 = .ok (.iinc 5 1, 3) := dk_132 5 1 (dk_at dksX12_keepsAllBut_2 0 rfl rfl)
theorem dX12_keepsAllBut_50 : decode cX12_keepsAllBut 50 = .ok (.goto (-40), 3) := dk_167 255 216 (dk_at dksX12_keepsAllBut_2 3 rfl rfl)
theorem dX12_keepsAllBut_53 : decode cX12_keepsAllBut 53 = .ok (.return_, 1) := dk_177 (dk_at dksX12_keepsAllBut_2 6 rfl rfl)
abbrev cX12_mark : ByteArray := prog_24_method_66_code
def yX12_mark : MethodName := ⟨RX12, "mark", "(IIIII)I"⟩
def dkwX12_mark_5 : List UInt8 := [182, 1, 41, 42, 27, 7, 4, 182, 1, 27, 21, 6, 172]
abbrev dktX12_mark_5 : List UInt8 := dkwX12_mark_5 ++ []
def dkwX12_mark_4 : List UInt8 := [28, 29, 18, 126, 21, 5, 4, 160, 0, 11, 16, 16, 21, 4, 120, 167, 0, 7, 4, 21, 4, 120, 128]
abbrev dktX12_mark_4 : List UInt8 := dkwX12_mark_4 ++ dktX12_mark_5
def dkwX12_mark_3 : List UInt8 := [122, 4, 126, 21, 5, 159, 0, 7, 4, 167, 0, 4, 3, 96, 54, 6, 132, 7, 1, 167, 255, 213, 42, 27]
abbrev dktX12_mark_3 : List UInt8 := dkwX12_mark_3 ++ dktX12_mark_4
def dkwX12_mark_2 : List UInt8 := [21, 7, 28, 29, 96, 162, 0, 41, 21, 6, 42, 180, 0, 22, 27, 50, 21, 7, 46, 16, 8, 21, 4, 96]
abbrev dktX12_mark_2 : List UInt8 := dkwX12_mark_2 ++ dktX12_mark_3
def dkwX12_mark_1 : List UInt8 := [21, 5, 133, 9, 10, 184, 0, 175, 154, 0, 10, 42, 16, 254, 182, 0, 183, 172, 3, 54, 6, 28, 54, 7]
abbrev dktX12_mark_1 : List UInt8 := dkwX12_mark_1 ++ dktX12_mark_2
def dkwX12_mark_0 : List UInt8 := [42, 27, 28, 29, 182, 1, 37, 153, 0, 27, 21, 4, 133, 9, 20, 0, 173, 184, 0, 175, 153, 0, 14]
abbrev dktX12_mark_0 : List UInt8 := dkwX12_mark_0 ++ dktX12_mark_1
theorem dksX12_mark_0 : cX12_mark.data.toList.drop 0 = dktX12_mark_0 := by decide +kernel
theorem dksX12_mark_1 : cX12_mark.data.toList.drop 23 = dktX12_mark_1 := dk_seg dksX12_mark_0 23 rfl rfl
theorem dksX12_mark_2 : cX12_mark.data.toList.drop 47 = dktX12_mark_2 := dk_seg dksX12_mark_1 24 rfl rfl
theorem dksX12_mark_3 : cX12_mark.data.toList.drop 71 = dktX12_mark_3 := dk_seg dksX12_mark_2 24 rfl rfl
theorem dksX12_mark_4 : cX12_mark.data.toList.drop 95 = dktX12_mark_4 := dk_seg dksX12_mark_3 24 rfl rfl
theorem dksX12_mark_5 : cX12_mark.data.toList.drop 118 = dktX12_mark_5 := dk_seg dksX12_mark_4 23 rfl rfl
theorem dX12_mark_0 : decode cX12_mark 0 = .ok (.aload_n 0, 1) := dk_42 (dk_at dksX12_mark_0 0 rfl rfl)
theorem dX12_mark_1 : decode cX12_mark 1 = .ok (.iload_n 1, 1) := dk_27 (dk_at dksX12_mark_0 1 rfl rfl)
theorem dX12_mark_2 : decode cX12_mark 2 = .ok (.iload_n 2, 1) := dk_28 (dk_at dksX12_mark_0 2 rfl rfl)
theorem dX12_mark_3 : decode cX12_mark 3 = .ok (.iload_n 3, 1) := dk_29 (dk_at dksX12_mark_0 3 rfl rfl)
theorem dX12_mark_4 : decode cX12_mark 4 = .ok (.invokevirtual 293, 3) := dk_182 1 37 (dk_at dksX12_mark_0 4 rfl rfl)
theorem dX12_mark_7 : decode cX12_mark 7 = .ok (.ifCond .eq 27, 3) := dk_153 0 27 (dk_at dksX12_mark_0 7 rfl rfl)
theorem dX12_mark_10 : decode cX12_mark 10 = .ok (.iload 4, 2) := dk_21 4 (dk_at dksX12_mark_0 10 rfl rfl)
theorem dX12_mark_12 : decode cX12_mark 12 = .ok (.i2l, 1) := dk_133 (dk_at dksX12_mark_0 12 rfl rfl)
theorem dX12_mark_13 : decode cX12_mark 13 = .ok (.lconst 0, 1) := dk_9 (dk_at dksX12_mark_0 13 rfl rfl)
theorem dX12_mark_14 : decode cX12_mark 14 = .ok (.ldc2_w 173, 3) := dk_20 0 173 (dk_at dksX12_mark_0 14 rfl rfl)
theorem dX12_mark_17 : decode cX12_mark 17 = .ok (.invokestatic 175, 3) := dk_184 0 175 (dk_at dksX12_mark_0 17 rfl rfl)
theorem dX12_mark_20 : decode cX12_mark 20 = .ok (.ifCond .eq 14, 3) := dk_153 0 14 (dk_at dksX12_mark_0 20 rfl rfl)
theorem dX12_mark_23 : decode cX12_mark 23 = .ok (.iload 5, 2) := dk_21 5 (dk_at dksX12_mark_1 0 rfl rfl)
theorem dX12_mark_25 : decode cX12_mark 25 = .ok (.i2l, 1) := dk_133 (dk_at dksX12_mark_1 2 rfl rfl)
theorem dX12_mark_26 : decode cX12_mark 26 = .ok (.lconst 0, 1) := dk_9 (dk_at dksX12_mark_1 3 rfl rfl)
theorem dX12_mark_27 : decode cX12_mark 27 = .ok (.lconst 1, 1) := dk_10 (dk_at dksX12_mark_1 4 rfl rfl)
theorem dX12_mark_28 : decode cX12_mark 28 = .ok (.invokestatic 175, 3) := dk_184 0 175 (dk_at dksX12_mark_1 5 rfl rfl)
theorem dX12_mark_31 : decode cX12_mark 31 = .ok (.ifCond .ne 10, 3) := dk_154 0 10 (dk_at dksX12_mark_1 8 rfl rfl)
theorem dX12_mark_34 : decode cX12_mark 34 = .ok (.aload_n 0, 1) := dk_42 (dk_at dksX12_mark_1 11 rfl rfl)
theorem dX12_mark_35 : decode cX12_mark 35 = .ok (.bipush (-2), 2) := dk_16 254 (dk_at dksX12_mark_1 12 rfl rfl)
theorem dX12_mark_37 : decode cX12_mark 37 = .ok (.invokevirtual 183, 3) := dk_182 0 183 (dk_at dksX12_mark_1 14 rfl rfl)
theorem dX12_mark_40 : decode cX12_mark 40 = .ok (.ireturn, 1) := dk_172 (dk_at dksX12_mark_1 17 rfl rfl)
theorem dX12_mark_41 : decode cX12_mark 41 = .ok (.iconst 0, 1) := dk_3 (dk_at dksX12_mark_1 18 rfl rfl)
theorem dX12_mark_42 : decode cX12_mark 42 = .ok (.istore 6, 2) := dk_54 6 (dk_at dksX12_mark_1 19 rfl rfl)
theorem dX12_mark_44 : decode cX12_mark 44 = .ok (.iload_n 2, 1) := dk_28 (dk_at dksX12_mark_1 21 rfl rfl)
theorem dX12_mark_45 : decode cX12_mark 45 = .ok (.istore 7, 2) := dk_54 7 (dk_at dksX12_mark_1 22 rfl rfl)
theorem dX12_mark_47 : decode cX12_mark 47 = .ok (.iload 7, 2) := dk_21 7 (dk_at dksX12_mark_2 0 rfl rfl)
theorem dX12_mark_49 : decode cX12_mark 49 = .ok (.iload_n 2, 1) := dk_28 (dk_at dksX12_mark_2 2 rfl rfl)
theorem dX12_mark_50 : decode cX12_mark 50 = .ok (.iload_n 3, 1) := dk_29 (dk_at dksX12_mark_2 3 rfl rfl)
theorem dX12_mark_51 : decode cX12_mark 51 = .ok (.iadd, 1) := dk_96 (dk_at dksX12_mark_2 4 rfl rfl)
theorem dX12_mark_52 : decode cX12_mark 52 = .ok (.if_icmp .ge 41, 3) := dk_162 0 41 (dk_at dksX12_mark_2 5 rfl rfl)
theorem dX12_mark_55 : decode cX12_mark 55 = .ok (.iload 6, 2) := dk_21 6 (dk_at dksX12_mark_2 8 rfl rfl)
theorem dX12_mark_57 : decode cX12_mark 57 = .ok (.aload_n 0, 1) := dk_42 (dk_at dksX12_mark_2 10 rfl rfl)
theorem dX12_mark_58 : decode cX12_mark 58 = .ok (.getfield 22, 3) := dk_180 0 22 (dk_at dksX12_mark_2 11 rfl rfl)
theorem dX12_mark_61 : decode cX12_mark 61 = .ok (.iload_n 1, 1) := dk_27 (dk_at dksX12_mark_2 14 rfl rfl)
theorem dX12_mark_62 : decode cX12_mark 62 = .ok (.aaload, 1) := dk_50 (dk_at dksX12_mark_2 15 rfl rfl)
theorem dX12_mark_63 : decode cX12_mark 63 = .ok (.iload 7, 2) := dk_21 7 (dk_at dksX12_mark_2 16 rfl rfl)
theorem dX12_mark_65 : decode cX12_mark 65 = .ok (.iaload, 1) := dk_46 (dk_at dksX12_mark_2 18 rfl rfl)
theorem dX12_mark_66 : decode cX12_mark 66 = .ok (.bipush 8, 2) := dk_16 8 (dk_at dksX12_mark_2 19 rfl rfl)
theorem dX12_mark_68 : decode cX12_mark 68 = .ok (.iload 4, 2) := dk_21 4 (dk_at dksX12_mark_2 21 rfl rfl)
theorem dX12_mark_70 : decode cX12_mark 70 = .ok (.iadd, 1) := dk_96 (dk_at dksX12_mark_2 23 rfl rfl)
theorem dX12_mark_71 : decode cX12_mark 71 = .ok (.ishr, 1) := dk_122 (dk_at dksX12_mark_3 0 rfl rfl)
theorem dX12_mark_72 : decode cX12_mark 72 = .ok (.iconst 1, 1) := dk_4 (dk_at dksX12_mark_3 1 rfl rfl)
theorem dX12_mark_73 : decode cX12_mark 73 = .ok (.iand, 1) := dk_126 (dk_at dksX12_mark_3 2 rfl rfl)
theorem dX12_mark_74 : decode cX12_mark 74 = .ok (.iload 5, 2) := dk_21 5 (dk_at dksX12_mark_3 3 rfl rfl)
theorem dX12_mark_76 : decode cX12_mark 76 = .ok (.if_icmp .eq 7, 3) := dk_159 0 7 (dk_at dksX12_mark_3 5 rfl rfl)
theorem dX12_mark_79 : decode cX12_mark 79 = .ok (.iconst 1, 1) := dk_4 (dk_at dksX12_mark_3 8 rfl rfl)
theorem dX12_mark_80 : decode cX12_mark 80 = .ok (.goto 4, 3) := dk_167 0 4 (dk_at dksX12_mark_3 9 rfl rfl)
theorem dX12_mark_83 : decode cX12_mark 83 = .ok (.iconst 0, 1) := dk_3 (dk_at dksX12_mark_3 12 rfl rfl)
theorem dX12_mark_84 : decode cX12_mark 84 = .ok (.iadd, 1) := dk_96 (dk_at dksX12_mark_3 13 rfl rfl)
theorem dX12_mark_85 : decode cX12_mark 85 = .ok (.istore 6, 2) := dk_54 6 (dk_at dksX12_mark_3 14 rfl rfl)
theorem dX12_mark_87 : decode cX12_mark 87 = .ok (.iinc 7 1, 3) := dk_132 7 1 (dk_at dksX12_mark_3 16 rfl rfl)
theorem dX12_mark_90 : decode cX12_mark 90 = .ok (.goto (-43), 3) := dk_167 255 213 (dk_at dksX12_mark_3 19 rfl rfl)
theorem dX12_mark_93 : decode cX12_mark 93 = .ok (.aload_n 0, 1) := dk_42 (dk_at dksX12_mark_3 22 rfl rfl)
theorem dX12_mark_94 : decode cX12_mark 94 = .ok (.iload_n 1, 1) := dk_27 (dk_at dksX12_mark_3 23 rfl rfl)
theorem dX12_mark_95 : decode cX12_mark 95 = .ok (.iload_n 2, 1) := dk_28 (dk_at dksX12_mark_4 0 rfl rfl)
theorem dX12_mark_96 : decode cX12_mark 96 = .ok (.iload_n 3, 1) := dk_29 (dk_at dksX12_mark_4 1 rfl rfl)
theorem dX12_mark_97 : decode cX12_mark 97 = .ok (.ldc 126, 2) := dk_18 126 (dk_at dksX12_mark_4 2 rfl rfl)
theorem dX12_mark_99 : decode cX12_mark 99 = .ok (.iload 5, 2) := dk_21 5 (dk_at dksX12_mark_4 4 rfl rfl)
theorem dX12_mark_101 : decode cX12_mark 101 = .ok (.iconst 1, 1) := dk_4 (dk_at dksX12_mark_4 6 rfl rfl)
theorem dX12_mark_102 : decode cX12_mark 102 = .ok (.if_icmp .ne 11, 3) := dk_160 0 11 (dk_at dksX12_mark_4 7 rfl rfl)
theorem dX12_mark_105 : decode cX12_mark 105 = .ok (.bipush 16, 2) := dk_16 16 (dk_at dksX12_mark_4 10 rfl rfl)
theorem dX12_mark_107 : decode cX12_mark 107 = .ok (.iload 4, 2) := dk_21 4 (dk_at dksX12_mark_4 12 rfl rfl)
theorem dX12_mark_109 : decode cX12_mark 109 = .ok (.ishl, 1) := dk_120 (dk_at dksX12_mark_4 14 rfl rfl)
theorem dX12_mark_110 : decode cX12_mark 110 = .ok (.goto 7, 3) := dk_167 0 7 (dk_at dksX12_mark_4 15 rfl rfl)
theorem dX12_mark_113 : decode cX12_mark 113 = .ok (.iconst 1, 1) := dk_4 (dk_at dksX12_mark_4 18 rfl rfl)
theorem dX12_mark_114 : decode cX12_mark 114 = .ok (.iload 4, 2) := dk_21 4 (dk_at dksX12_mark_4 19 rfl rfl)
theorem dX12_mark_116 : decode cX12_mark 116 = .ok (.ishl, 1) := dk_120 (dk_at dksX12_mark_4 21 rfl rfl)
theorem dX12_mark_117 : decode cX12_mark 117 = .ok (.ior, 1) := dk_128 (dk_at dksX12_mark_4 22 rfl rfl)
theorem dX12_mark_118 : decode cX12_mark 118 = .ok (.invokevirtual 297, 3) := dk_182 1 41 (dk_at dksX12_mark_5 0 rfl rfl)
theorem dX12_mark_121 : decode cX12_mark 121 = .ok (.aload_n 0, 1) := dk_42 (dk_at dksX12_mark_5 3 rfl rfl)
theorem dX12_mark_122 : decode cX12_mark 122 = .ok (.iload_n 1, 1) := dk_27 (dk_at dksX12_mark_5 4 rfl rfl)
theorem dX12_mark_123 : decode cX12_mark 123 = .ok (.iconst 4, 1) := dk_7 (dk_at dksX12_mark_5 5 rfl rfl)
theorem dX12_mark_124 : decode cX12_mark 124 = .ok (.iconst 1, 1) := dk_4 (dk_at dksX12_mark_5 6 rfl rfl)
theorem dX12_mark_125 : decode cX12_mark 125 = .ok (.invokevirtual 283, 3) := dk_182 1 27 (dk_at dksX12_mark_5 7 rfl rfl)
theorem dX12_mark_128 : decode cX12_mark 128 = .ok (.iload 6, 2) := dk_21 6 (dk_at dksX12_mark_5 10 rfl rfl)
theorem dX12_mark_130 : decode cX12_mark 130 = .ok (.ireturn, 1) := dk_172 (dk_at dksX12_mark_5 12 rfl rfl)
abbrev cX12_serve : ByteArray := prog_24_method_67_code
def yX12_serve : MethodName := ⟨RX12, "serve", "(I)I"⟩
def dkwX12_serve_2 : List UInt8 := [167, 0, 8, 42, 27, 182, 1, 44, 172]
abbrev dktX12_serve_2 : List UInt8 := dkwX12_serve_2 ++ []
def dkwX12_serve_1 : List UInt8 := [42, 16, 251, 182, 0, 183, 172, 42, 180, 0, 34, 3, 46, 16, 90, 160, 0, 12, 42, 16, 250, 182, 0, 183]
abbrev dktX12_serve_1 : List UInt8 := dkwX12_serve_1 ++ dktX12_serve_2
def dkwX12_serve_0 : List UInt8 := [27, 184, 1, 16, 154, 0, 10, 42, 16, 254, 182, 0, 183, 172, 42, 27, 4, 182, 0, 135, 4, 159, 0, 10]
abbrev dktX12_serve_0 : List UInt8 := dkwX12_serve_0 ++ dktX12_serve_1
theorem dksX12_serve_0 : cX12_serve.data.toList.drop 0 = dktX12_serve_0 := by decide +kernel
theorem dksX12_serve_1 : cX12_serve.data.toList.drop 24 = dktX12_serve_1 := dk_seg dksX12_serve_0 24 rfl rfl
theorem dksX12_serve_2 : cX12_serve.data.toList.drop 48 = dktX12_serve_2 := dk_seg dksX12_serve_1 24 rfl rfl
theorem dX12_serve_0 : decode cX12_serve 0 = .ok (.iload_n 1, 1) := dk_27 (dk_at dksX12_serve_0 0 rfl rfl)
theorem dX12_serve_1 : decode cX12_serve 1 = .ok (.invokestatic 272, 3) := dk_184 1 16 (dk_at dksX12_serve_0 1 rfl rfl)
theorem dX12_serve_4 : decode cX12_serve 4 = .ok (.ifCond .ne 10, 3) := dk_154 0 10 (dk_at dksX12_serve_0 4 rfl rfl)
theorem dX12_serve_7 : decode cX12_serve 7 = .ok (.aload_n 0, 1) := dk_42 (dk_at dksX12_serve_0 7 rfl rfl)
theorem dX12_serve_8 : decode cX12_serve 8 = .ok (.bipush (-2), 2) := dk_16 254 (dk_at dksX12_serve_0 8 rfl rfl)
theorem dX12_serve_10 : decode cX12_serve 10 = .ok (.invokevirtual 183, 3) := dk_182 0 183 (dk_at dksX12_serve_0 10 rfl rfl)
theorem dX12_serve_13 : decode cX12_serve 13 = .ok (.ireturn, 1) := dk_172 (dk_at dksX12_serve_0 13 rfl rfl)
theorem dX12_serve_14 : decode cX12_serve 14 = .ok (.aload_n 0, 1) := dk_42 (dk_at dksX12_serve_0 14 rfl rfl)
theorem dX12_serve_15 : decode cX12_serve 15 = .ok (.iload_n 1, 1) := dk_27 (dk_at dksX12_serve_0 15 rfl rfl)
theorem dX12_serve_16 : decode cX12_serve 16 = .ok (.iconst 1, 1) := dk_4 (dk_at dksX12_serve_0 16 rfl rfl)
theorem dX12_serve_17 : decode cX12_serve 17 = .ok (.invokevirtual 135, 3) := dk_182 0 135 (dk_at dksX12_serve_0 17 rfl rfl)
theorem dX12_serve_20 : decode cX12_serve 20 = .ok (.iconst 1, 1) := dk_4 (dk_at dksX12_serve_0 20 rfl rfl)
theorem dX12_serve_21 : decode cX12_serve 21 = .ok (.if_icmp .eq 10, 3) := dk_159 0 10 (dk_at dksX12_serve_0 21 rfl rfl)
theorem dX12_serve_24 : decode cX12_serve 24 = .ok (.aload_n 0, 1) := dk_42 (dk_at dksX12_serve_1 0 rfl rfl)
theorem dX12_serve_25 : decode cX12_serve 25 = .ok (.bipush (-5), 2) := dk_16 251 (dk_at dksX12_serve_1 1 rfl rfl)
theorem dX12_serve_27 : decode cX12_serve 27 = .ok (.invokevirtual 183, 3) := dk_182 0 183 (dk_at dksX12_serve_1 3 rfl rfl)
theorem dX12_serve_30 : decode cX12_serve 30 = .ok (.ireturn, 1) := dk_172 (dk_at dksX12_serve_1 6 rfl rfl)
theorem dX12_serve_31 : decode cX12_serve 31 = .ok (.aload_n 0, 1) := dk_42 (dk_at dksX12_serve_1 7 rfl rfl)
theorem dX12_serve_32 : decode cX12_serve 32 = .ok (.getfield 34, 3) := dk_180 0 34 (dk_at dksX12_serve_1 8 rfl rfl)
theorem dX12_serve_35 : decode cX12_serve 35 = .ok (.iconst 0, 1) := dk_3 (dk_at dksX12_serve_1 11 rfl rfl)
theorem dX12_serve_36 : decode cX12_serve 36 = .ok (.iaload, 1) := dk_46 (dk_at dksX12_serve_1 12 rfl rfl)
theorem dX12_serve_37 : decode cX12_serve 37 = .ok (.bipush 90, 2) := dk_16 90 (dk_at dksX12_serve_1 13 rfl rfl)
theorem dX12_serve_39 : decode cX12_serve 39 = .ok (.if_icmp .ne 12, 3) := dk_160 0 12 (dk_at dksX12_serve_1 15 rfl rfl)
theorem dX12_serve_42 : decode cX12_serve 42 = .ok (.aload_n 0, 1) := dk_42 (dk_at dksX12_serve_1 18 rfl rfl)
theorem dX12_serve_43 : decode cX12_serve 43 = .ok (.bipush (-6), 2) := dk_16 250 (dk_at dksX12_serve_1 19 rfl rfl)
theorem dX12_serve_45 : decode cX12_serve 45 = .ok (.invokevirtual 183, 3) := dk_182 0 183 (dk_at dksX12_serve_1 21 rfl rfl)
theorem dX12_serve_48 : decode cX12_serve 48 = .ok (.goto 8, 3) := dk_167 0 8 (dk_at dksX12_serve_2 0 rfl rfl)
theorem dX12_serve_51 : decode cX12_serve 51 = .ok (.aload_n 0, 1) := dk_42 (dk_at dksX12_serve_2 3 rfl rfl)
theorem dX12_serve_52 : decode cX12_serve 52 = .ok (.iload_n 1, 1) := dk_27 (dk_at dksX12_serve_2 4 rfl rfl)
theorem dX12_serve_53 : decode cX12_serve 53 = .ok (.invokevirtual 300, 3) := dk_182 1 44 (dk_at dksX12_serve_2 5 rfl rfl)
theorem dX12_serve_56 : decode cX12_serve 56 = .ok (.ireturn, 1) := dk_172 (dk_at dksX12_serve_2 8 rfl rfl)
abbrev cX12_serves : ByteArray := prog_24_method_29_code
def yX12_serves : MethodName := ⟨RX12, "serves", "(I)I"⟩
def dkwX12_serves_5 : List UInt8 := [46, 172]
abbrev dktX12_serves_5 : List UInt8 := dkwX12_serves_5 ++ []
def dkwX12_serves_4 : List UInt8 := [180, 0, 34, 3, 46, 27, 79, 42, 180, 0, 28, 16, 8, 27, 104, 4, 96, 5, 79, 42, 180, 0, 34, 3]
abbrev dktX12_serves_4 : List UInt8 := dkwX12_serves_4 ++ dktX12_serves_5
def dkwX12_serves_3 : List UInt8 := [96, 79, 42, 17, 0, 184, 42, 180, 0, 34, 3, 46, 96, 3, 182, 0, 101, 42, 180, 0, 31, 42]
abbrev dktX12_serves_3 : List UInt8 := dkwX12_serves_3 ++ dktX12_serves_4
def dkwX12_serves_2 : List UInt8 := [3, 182, 0, 167, 132, 2, 1, 167, 255, 219, 42, 7, 3, 182, 0, 148, 42, 180, 0, 34, 3, 92, 46, 4]
abbrev dktX12_serves_2 : List UInt8 := dkwX12_serves_2 ++ dktX12_serves_3
def dkwX12_serves_1 : List UInt8 := [46, 163, 0, 33, 42, 4, 17, 0, 184, 28, 96, 182, 0, 97, 42, 3, 4, 3, 5, 182, 0, 164, 42, 5]
abbrev dktX12_serves_1 : List UInt8 := dkwX12_serves_1 ++ dktX12_serves_2
def dkwX12_serves_0 : List UInt8 := [42, 3, 16, 12, 27, 96, 182, 0, 97, 42, 27, 5, 182, 0, 135, 4, 96, 61, 28, 42, 180, 0, 34, 3]
abbrev dktX12_serves_0 : List UInt8 := dkwX12_serves_0 ++ dktX12_serves_1
theorem dksX12_serves_0 : cX12_serves.data.toList.drop 0 = dktX12_serves_0 := by decide +kernel
theorem dksX12_serves_1 : cX12_serves.data.toList.drop 24 = dktX12_serves_1 := dk_seg dksX12_serves_0 24 rfl rfl
theorem dksX12_serves_2 : cX12_serves.data.toList.drop 48 = dktX12_serves_2 := dk_seg dksX12_serves_1 24 rfl rfl
theorem dksX12_serves_3 : cX12_serves.data.toList.drop 72 = dktX12_serves_3 := dk_seg dksX12_serves_2 24 rfl rfl
theorem dksX12_serves_4 : cX12_serves.data.toList.drop 94 = dktX12_serves_4 := dk_seg dksX12_serves_3 22 rfl rfl
theorem dksX12_serves_5 : cX12_serves.data.toList.drop 118 = dktX12_serves_5 := dk_seg dksX12_serves_4 24 rfl rfl
theorem dX12_serves_0 : decode cX12_serves 0 = .ok (.aload_n 0, 1) := dk_42 (dk_at dksX12_serves_0 0 rfl rfl)
theorem dX12_serves_1 : decode cX12_serves 1 = .ok (.iconst 0, 1) := dk_3 (dk_at dksX12_serves_0 1 rfl rfl)
theorem dX12_serves_2 : decode cX12_serves 2 = .ok (.bipush 12, 2) := dk_16 12 (dk_at dksX12_serves_0 2 rfl rfl)
theorem dX12_serves_4 : decode cX12_serves 4 = .ok (.iload_n 1, 1) := dk_27 (dk_at dksX12_serves_0 4 rfl rfl)
theorem dX12_serves_5 : decode cX12_serves 5 = .ok (.iadd, 1) := dk_96 (dk_at dksX12_serves_0 5 rfl rfl)
theorem dX12_serves_6 : decode cX12_serves 6 = .ok (.invokevirtual 97, 3) := dk_182 0 97 (dk_at dksX12_serves_0 6 rfl rfl)
theorem dX12_serves_9 : decode cX12_serves 9 = .ok (.aload_n 0, 1) := dk_42 (dk_at dksX12_serves_0 9 rfl rfl)
theorem dX12_serves_10 : decode cX12_serves 10 = .ok (.iload_n 1, 1) := dk_27 (dk_at dksX12_serves_0 10 rfl rfl)
theorem dX12_serves_11 : decode cX12_serves 11 = .ok (.iconst 2, 1) := dk_5 (dk_at dksX12_serves_0 11 rfl rfl)
theorem dX12_serves_12 : decode cX12_serves 12 = .ok (.invokevirtual 135, 3) := dk_182 0 135 (dk_at dksX12_serves_0 12 rfl rfl)
theorem dX12_serves_15 : decode cX12_serves 15 = .ok (.iconst 1, 1) := dk_4 (dk_at dksX12_serves_0 15 rfl rfl)
theorem dX12_serves_16 : decode cX12_serves 16 = .ok (.iadd, 1) := dk_96 (dk_at dksX12_serves_0 16 rfl rfl)
theorem dX12_serves_17 : decode cX12_serves 17 = .ok (.istore_n 2, 1) := dk_61 (dk_at dksX12_serves_0 17 rfl rfl)
theorem dX12_serves_18 : decode cX12_serves 18 = .ok (.iload_n 2, 1) := dk_28 (dk_at dksX12_serves_0 18 rfl rfl)
theorem dX12_serves_19 : decode cX12_serves 19 = .ok (.aload_n 0, 1) := dk_42 (dk_at dksX12_serves_0 19 rfl rfl)
theorem dX12_serves_20 : decode cX12_serves 20 = .ok (.getfield 34, 3) := dk_180 0 34 (dk_at dksX12_serves_0 20 rfl rfl)
theorem dX12_serves_23 : decode cX12_serves 23 = .ok (.iconst 0, 1) := dk_3 (dk_at dksX12_serves_0 23 rfl rfl)
theorem dX12_serves_24 : decode cX12_serves 24 = .ok (.iaload, 1) := dk_46 (dk_at dksX12_serves_1 0 rfl rfl)
theorem dX12_serves_25 : decode cX12_serves 25 = .ok (.if_icmp .gt 33, 3) := dk_163 0 33 (dk_at dksX12_serves_1 1 rfl rfl)
theorem dX12_serves_28 : decode cX12_serves 28 = .ok (.aload_n 0, 1) := dk_42 (dk_at dksX12_serves_1 4 rfl rfl)
theorem dX12_serves_29 : decode cX12_serves 29 = .ok (.iconst 1, 1) := dk_4 (dk_at dksX12_serves_1 5 rfl rfl)
theorem dX12_serves_30 : decode cX12_serves 30 = .ok (.sipush 184, 3) := dk_17 0 184 (dk_at dksX12_serves_1 6 rfl rfl)
theorem dX12_serves_33 : decode cX12_serves 33 = .ok (.iload_n 2, 1) := dk_28 (dk_at dksX12_serves_1 9 rfl rfl)
theorem dX12_serves_34 : decode cX12_serves 34 = .ok (.iadd, 1) := dk_96 (dk_at dksX12_serves_1 10 rfl rfl)
theorem dX12_serves_35 : decode cX12_serves 35 = .ok (.invokevirtual 97, 3) := dk_182 0 97 (dk_at dksX12_serves_1 11 rfl rfl)
theorem dX12_serves_38 : decode cX12_serves 38 = .ok (.aload_n 0, 1) := dk_42 (dk_at dksX12_serves_1 14 rfl rfl)
theorem dX12_serves_39 : decode cX12_serves 39 = .ok (.iconst 0, 1) := dk_3 (dk_at dksX12_serves_1 15 rfl rfl)
theorem dX12_serves_40 : decode cX12_serves 40 = .ok (.iconst 1, 1) := dk_4 (dk_at dksX12_serves_1 16 rfl rfl)
theorem dX12_serves_41 : decode cX12_serves 41 = .ok (.iconst 0, 1) := dk_3 (dk_at dksX12_serves_1 17 rfl rfl)
theorem dX12_serves_42 : decode cX12_serves 42 = .ok (.iconst 2, 1) := dk_5 (dk_at dksX12_serves_1 18 rfl rfl)
theorem dX12_serves_43 : decode cX12_serves 43 = .ok (.invokevirtual 164, 3) := dk_182 0 164 (dk_at dksX12_serves_1 19 rfl rfl)
theorem dX12_serves_46 : decode cX12_serves 46 = .ok (.aload_n 0, 1) := dk_42 (dk_at dksX12_serves_1 22 rfl rfl)
theorem dX12_serves_47 : decode cX12_serves 47 = .ok (.iconst 2, 1) := dk_5 (dk_at dksX12_serves_1 23 rfl rfl)
theorem dX12_serves_48 : decode cX12_serves 48 = .ok (.iconst 0, 1) := dk_3 (dk_at dksX12_serves_2 0 rfl rfl)
theorem dX12_serves_49 : decode cX12_serves 49 = .ok (.invokevirtual 167, 3) := dk_182 0 167 (dk_at dksX12_serves_2 1 rfl rfl)
theorem dX12_serves_52 : decode cX12_serves 52 = .ok (.iinc 2 1, 3) := dk_132 2 1 (dk_at dksX12_serves_2 4 rfl rfl)
theorem dX12_serves_55 : decode cX12_serves 55 = .ok (.goto (-37), 3) := dk_167 255 219 (dk_at dksX12_serves_2 7 rfl rfl)
theorem dX12_serves_58 : decode cX12_serves 58 = .ok (.aload_n 0, 1) := dk_42 (dk_at dksX12_serves_2 10 rfl rfl)
theorem dX12_serves_59 : decode cX12_serves 59 = .ok (.iconst 4, 1) := dk_7 (dk_at dksX12_serves_2 11 rfl rfl)
theorem dX12_serves_60 : decode cX12_serves 60 = .ok (.iconst 0, 1) := dk_3 (dk_at dksX12_serves_2 12 rfl rfl)
theorem dX12_serves_61 : decode cX12_serves 61 = .ok (.invokevirtual 148, 3) := dk_182 0 148 (dk_at dksX12_serves_2 13 rfl rfl)
theorem dX12_serves_64 : decode cX12_serves 64 = .ok (.aload_n 0, 1) := dk_42 (dk_at dksX12_serves_2 16 rfl rfl)
theorem dX12_serves_65 : decode cX12_serves 65 = .ok (.getfield 34, 3) := dk_180 0 34 (dk_at dksX12_serves_2 17 rfl rfl)
theorem dX12_serves_68 : decode cX12_serves 68 = .ok (.iconst 0, 1) := dk_3 (dk_at dksX12_serves_2 20 rfl rfl)
theorem dX12_serves_69 : decode cX12_serves 69 = .ok (.dup2, 1) := dk_92 (dk_at dksX12_serves_2 21 rfl rfl)
theorem dX12_serves_70 : decode cX12_serves 70 = .ok (.iaload, 1) := dk_46 (dk_at dksX12_serves_2 22 rfl rfl)
theorem dX12_serves_71 : decode cX12_serves 71 = .ok (.iconst 1, 1) := dk_4 (dk_at dksX12_serves_2 23 rfl rfl)
theorem dX12_serves_72 : decode cX12_serves 72 = .ok (.iadd, 1) := dk_96 (dk_at dksX12_serves_3 0 rfl rfl)
theorem dX12_serves_73 : decode cX12_serves 73 = .ok (.iastore, 1) := dk_79 (dk_at dksX12_serves_3 1 rfl rfl)
theorem dX12_serves_74 : decode cX12_serves 74 = .ok (.aload_n 0, 1) := dk_42 (dk_at dksX12_serves_3 2 rfl rfl)
theorem dX12_serves_75 : decode cX12_serves 75 = .ok (.sipush 184, 3) := dk_17 0 184 (dk_at dksX12_serves_3 3 rfl rfl)
theorem dX12_serves_78 : decode cX12_serves 78 = .ok (.aload_n 0, 1) := dk_42 (dk_at dksX12_serves_3 6 rfl rfl)
theorem dX12_serves_79 : decode cX12_serves 79 = .ok (.getfield 34, 3) := dk_180 0 34 (dk_at dksX12_serves_3 7 rfl rfl)
theorem dX12_serves_82 : decode cX12_serves 82 = .ok (.iconst 0, 1) := dk_3 (dk_at dksX12_serves_3 10 rfl rfl)
theorem dX12_serves_83 : decode cX12_serves 83 = .ok (.iaload, 1) := dk_46 (dk_at dksX12_serves_3 11 rfl rfl)
theorem dX12_serves_84 : decode cX12_serves 84 = .ok (.iadd, 1) := dk_96 (dk_at dksX12_serves_3 12 rfl rfl)
theorem dX12_serves_85 : decode cX12_serves 85 = .ok (.iconst 0, 1) := dk_3 (dk_at dksX12_serves_3 13 rfl rfl)
theorem dX12_serves_86 : decode cX12_serves 86 = .ok (.invokevirtual 101, 3) := dk_182 0 101 (dk_at dksX12_serves_3 14 rfl rfl)
theorem dX12_serves_89 : decode cX12_serves 89 = .ok (.aload_n 0, 1) := dk_42 (dk_at dksX12_serves_3 17 rfl rfl)
theorem dX12_serves_90 : decode cX12_serves 90 = .ok (.getfield 31, 3) := dk_180 0 31 (dk_at dksX12_serves_3 18 rfl rfl)
theorem dX12_serves_93 : decode cX12_serves 93 = .ok (.aload_n 0, 1) := dk_42 (dk_at dksX12_serves_3 21 rfl rfl)
theorem dX12_serves_94 : decode cX12_serves 94 = .ok (.getfield 34, 3) := dk_180 0 34 (dk_at dksX12_serves_4 0 rfl rfl)
theorem dX12_serves_97 : decode cX12_serves 97 = .ok (.iconst 0, 1) := dk_3 (dk_at dksX12_serves_4 3 rfl rfl)
theorem dX12_serves_98 : decode cX12_serves 98 = .ok (.iaload, 1) := dk_46 (dk_at dksX12_serves_4 4 rfl rfl)
theorem dX12_serves_99 : decode cX12_serves 99 = .ok (.iload_n 1, 1) := dk_27 (dk_at dksX12_serves_4 5 rfl rfl)
theorem dX12_serves_100 : decode cX12_serves 100 = .ok (.iastore, 1) := dk_79 (dk_at dksX12_serves_4 6 rfl rfl)
theorem dX12_serves_101 : decode cX12_serves 101 = .ok (.aload_n 0, 1) := dk_42 (dk_at dksX12_serves_4 7 rfl rfl)
theorem dX12_serves_102 : decode cX12_serves 102 = .ok (.getfield 28, 3) := dk_180 0 28 (dk_at dksX12_serves_4 8 rfl rfl)
theorem dX12_serves_105 : decode cX12_serves 105 = .ok (.bipush 8, 2) := dk_16 8 (dk_at dksX12_serves_4 11 rfl rfl)
theorem dX12_serves_107 : decode cX12_serves 107 = .ok (.iload_n 1, 1) := dk_27 (dk_at dksX12_serves_4 13 rfl rfl)
theorem dX12_serves_108 : decode cX12_serves 108 = .ok (.imul, 1) := dk_104 (dk_at dksX12_serves_4 14 rfl rfl)
theorem dX12_serves_109 : decode cX12_serves 109 = .ok (.iconst 1, 1) := dk_4 (dk_at dksX12_serves_4 15 rfl rfl)
theorem dX12_serves_110 : decode cX12_serves 110 = .ok (.iadd, 1) := dk_96 (dk_at dksX12_serves_4 16 rfl rfl)
theorem dX12_serves_111 : decode cX12_serves 111 = .ok (.iconst 2, 1) := dk_5 (dk_at dksX12_serves_4 17 rfl rfl)
theorem dX12_serves_112 : decode cX12_serves 112 = .ok (.iastore, 1) := dk_79 (dk_at dksX12_serves_4 18 rfl rfl)
theorem dX12_serves_113 : decode cX12_serves 113 = .ok (.aload_n 0, 1) := dk_42 (dk_at dksX12_serves_4 19 rfl rfl)
theorem dX12_serves_114 : decode cX12_serves 114 = .ok (.getfield 34, 3) := dk_180 0 34 (dk_at dksX12_serves_4 20 rfl rfl)
theorem dX12_serves_117 : decode cX12_serves 117 = .ok (.iconst 0, 1) := dk_3 (dk_at dksX12_serves_4 23 rfl rfl)
theorem dX12_serves_118 : decode cX12_serves 118 = .ok (.iaload, 1) := dk_46 (dk_at dksX12_serves_5 0 rfl rfl)
theorem dX12_serves_119 : decode cX12_serves 119 = .ok (.ireturn, 1) := dk_172 (dk_at dksX12_serves_5 1 rfl rfl)
abbrev cX12_keepsWork : ByteArray := prog_24_method_30_code
def yX12_keepsWork : MethodName := ⟨RX12, "keepsWork", "(II)V"⟩
def dkwX12_keepsWork_1 : List UInt8 := [42, 180, 0, 40, 28, 50, 29, 42, 180, 0, 40, 27, 50, 29, 46, 79, 132, 3, 1, 167, 255, 227, 177]
abbrev dktX12_keepsWork_1 : List UInt8 := dkwX12_keepsWork_1 ++ []
def dkwX12_keepsWork_0 : List UInt8 := [42, 180, 0, 43, 28, 42, 180, 0, 43, 27, 46, 79, 3, 62, 29, 42, 180, 0, 43, 27, 46, 162, 0, 25]
abbrev dktX12_keepsWork_0 : List UInt8 := dkwX12_keepsWork_0 ++ dktX12_keepsWork_1
theorem dksX12_keepsWork_0 : cX12_keepsWork.data.toList.drop 0 = dktX12_keepsWork_0 := by decide +kernel
theorem dksX12_keepsWork_1 : cX12_keepsWork.data.toList.drop 24 = dktX12_keepsWork_1 := dk_seg dksX12_keepsWork_0 24 rfl rfl
theorem dX12_keepsWork_0 : decode cX12_keepsWork 0 = .ok (.aload_n 0, 1) := dk_42 (dk_at dksX12_keepsWork_0 0 rfl rfl)
theorem dX12_keepsWork_1 : decode cX12_keepsWork 1 = .ok (.getfield 43, 3) := dk_180 0 43 (dk_at dksX12_keepsWork_0 1 rfl rfl)
theorem dX12_keepsWork_4 : decode cX12_keepsWork 4 = .ok (.iload_n 2, 1) := dk_28 (dk_at dksX12_keepsWork_0 4 rfl rfl)
theorem dX12_keepsWork_5 : decode cX12_keepsWork 5 = .ok (.aload_n 0, 1) := dk_42 (dk_at dksX12_keepsWork_0 5 rfl rfl)
theorem dX12_keepsWork_6 : decode cX12_keepsWork 6 = .ok (.getfield 43, 3) := dk_180 0 43 (dk_at dksX12_keepsWork_0 6 rfl rfl)
theorem dX12_keepsWork_9 : decode cX12_keepsWork 9 = .ok (.iload_n 1, 1) := dk_27 (dk_at dksX12_keepsWork_0 9 rfl rfl)
theorem dX12_keepsWork_10 : decode cX12_keepsWork 10 = .ok (.iaload, 1) := dk_46 (dk_at dksX12_keepsWork_0 10 rfl rfl)
theorem dX12_keepsWork_11 : decode cX12_keepsWork 11 = .ok (.iastore, 1) := dk_79 (dk_at dksX12_keepsWork_0 11 rfl rfl)
theorem dX12_keepsWork_12 : decode cX12_keepsWork 12 = .ok (.iconst 0, 1) := dk_3 (dk_at dksX12_keepsWork_0 12 rfl rfl)
theorem dX12_keepsWork_13 : decode cX12_keepsWork 13 = .ok (.istore_n 3, 1) := dk_62 (dk_at dksX12_keepsWork_0 13 rfl rfl)
theorem dX12_keepsWork_14 : decode cX12_keepsWork 14 = .ok (.iload_n 3, 1) := dk_29 (dk_at dksX12_keepsWork_0 14 rfl rfl)
theorem dX12_keepsWork_15 : decode cX12_keepsWork 15 = .ok (.aload_n 0, 1) := dk_42 (dk_at dksX12_keepsWork_0 15 rfl rfl)
theorem dX12_keepsWork_16 : decode cX12_keepsWork 16 = .ok (.getfield 43, 3) := dk_180 0 43 (dk_at dksX12_keepsWork_0 16 rfl rfl)
theorem dX12_keepsWork_19 : decode cX12_keepsWork 19 = .ok (.iload_n 1, 1) := dk_27 (dk_at dksX12_keepsWork_0 19 rfl rfl)
theorem dX12_keepsWork_20 : decode cX12_keepsWork 20 = .ok (.iaload, 1) := dk_46 (dk_at dksX12_keepsWork_0 20 rfl rfl)
theorem dX12_keepsWork_21 : decode cX12_keepsWork 21 = .ok (.if_icmp .ge 25, 3) := dk_162 0 25 (dk_at dksX12_keepsWork_0 21 rfl rfl)
theorem dX12_keepsWork_24 : decode cX12_keepsWork 24 = .ok (.aload_n 0, 1) := dk_42 (dk_at dksX12_keepsWork_1 0 rfl rfl)
theorem dX12_keepsWork_25 : decode cX12_keepsWork 25 = .ok (.getfield 40, 3) := dk_180 0 40 (dk_at dksX12_keepsWork_1 1 rfl rfl)
theorem dX12_keepsWork_28 : decode cX12_keepsWork 28 = .ok (.iload_n 2, 1) := dk_28 (dk_at dksX12_keepsWork_1 4 rfl rfl)
theorem dX12_keepsWork_29 : decode cX12_keepsWork 29 = .ok (.aaload, 1) := dk_50 (dk_at dksX12_keepsWork_1 5 rfl rfl)
theorem dX12_keepsWork_30 : decode cX12_keepsWork 30 = .ok (.iload_n 3, 1) := dk_29 (dk_at dksX12_keepsWork_1 6 rfl rfl)
theorem dX12_keepsWork_31 : decode cX12_keepsWork 31 = .ok (.aload_n 0, 1) := dk_42 (dk_at dksX12_keepsWork_1 7 rfl rfl)
theorem dX12_keepsWork_32 : decode cX12_keepsWork 32 = .ok (.getfield 40, 3) := dk_180 0 40 (dk_at dksX12_keepsWork_1 8 rfl rfl)
theorem dX12_keepsWork_35 : decode cX12_keepsWork 35 = .ok (.iload_n 1, 1) := dk_27 (dk_at dksX12_keepsWork_1 11 rfl rfl)
theorem dX12_keepsWork_36 : decode cX12_keepsWork 36 = .ok (.aaload, 1) := dk_50 (dk_at dksX12_keepsWork_1 12 rfl rfl)
theorem dX12_keepsWork_37 : decode cX12_keepsWork 37 = .ok (.iload_n 3, 1) := dk_29 (dk_at dksX12_keepsWork_1 13 rfl rfl)
theorem dX12_keepsWork_38 : decode cX12_keepsWork 38 = .ok (.iaload, 1) := dk_46 (dk_at dksX12_keepsWork_1 14 rfl rfl)
theorem dX12_keepsWork_39 : decode cX12_keepsWork 39 = .ok (.iastore, 1) := dk_79 (dk_at dksX12_keepsWork_1 15 rfl rfl)
theorem dX12_keepsWork_40 : decode cX12_keepsWork 40 = .ok (.iinc 3 1, 3) := dk_132 3 1 (dk_at dksX12_keepsWork_1 16 rfl rfl)
theorem dX12_keepsWork_43 : decode cX12_keepsWork 43 = .ok (.goto (-29), 3) := dk_167 255 227 (dk_at dksX12_keepsWork_1 19 rfl rfl)
theorem dX12_keepsWork_46 : decode cX12_keepsWork 46 = .ok (.return_, 1) := dk_177 (dk_at dksX12_keepsWork_1 22 rfl rfl)
abbrev cX12_hear : ByteArray := prog_24_method_68_code
def yX12_hear : MethodName := ⟨RX12, "hear", "(I)I"⟩
def dkwX12_hear_1 : List UInt8 := [3, 46, 160, 0, 10, 42, 16, 251, 182, 0, 183, 172, 42, 27, 182, 1, 47, 42, 27, 3, 182, 0, 135, 172]
abbrev dktX12_hear_1 : List UInt8 := dkwX12_hear_1 ++ []
def dkwX12_hear_0 : List UInt8 := [27, 184, 1, 16, 154, 0, 10, 42, 16, 254, 182, 0, 183, 172, 42, 27, 3, 182, 0, 135, 42, 180, 0, 34]
abbrev dktX12_hear_0 : List UInt8 := dkwX12_hear_0 ++ dktX12_hear_1
theorem dksX12_hear_0 : cX12_hear.data.toList.drop 0 = dktX12_hear_0 := by decide +kernel
theorem dksX12_hear_1 : cX12_hear.data.toList.drop 24 = dktX12_hear_1 := dk_seg dksX12_hear_0 24 rfl rfl
theorem dX12_hear_0 : decode cX12_hear 0 = .ok (.iload_n 1, 1) := dk_27 (dk_at dksX12_hear_0 0 rfl rfl)
theorem dX12_hear_1 : decode cX12_hear 1 = .ok (.invokestatic 272, 3) := dk_184 1 16 (dk_at dksX12_hear_0 1 rfl rfl)
theorem dX12_hear_4 : decode cX12_hear 4 = .ok (.ifCond .ne 10, 3) := dk_154 0 10 (dk_at dksX12_hear_0 4 rfl rfl)
theorem dX12_hear_7 : decode cX12_hear 7 = .ok (.aload_n 0, 1) := dk_42 (dk_at dksX12_hear_0 7 rfl rfl)
theorem dX12_hear_8 : decode cX12_hear 8 = .ok (.bipush (-2), 2) := dk_16 254 (dk_at dksX12_hear_0 8 rfl rfl)
theorem dX12_hear_10 : decode cX12_hear 10 = .ok (.invokevirtual 183, 3) := dk_182 0 183 (dk_at dksX12_hear_0 10 rfl rfl)
theorem dX12_hear_13 : decode cX12_hear 13 = .ok (.ireturn, 1) := dk_172 (dk_at dksX12_hear_0 13 rfl rfl)
theorem dX12_hear_14 : decode cX12_hear 14 = .ok (.aload_n 0, 1) := dk_42 (dk_at dksX12_hear_0 14 rfl rfl)
theorem dX12_hear_15 : decode cX12_hear 15 = .ok (.iload_n 1, 1) := dk_27 (dk_at dksX12_hear_0 15 rfl rfl)
theorem dX12_hear_16 : decode cX12_hear 16 = .ok (.iconst 0, 1) := dk_3 (dk_at dksX12_hear_0 16 rfl rfl)
theorem dX12_hear_17 : decode cX12_hear 17 = .ok (.invokevirtual 135, 3) := dk_182 0 135 (dk_at dksX12_hear_0 17 rfl rfl)
theorem dX12_hear_20 : decode cX12_hear 20 = .ok (.aload_n 0, 1) := dk_42 (dk_at dksX12_hear_0 20 rfl rfl)
theorem dX12_hear_21 : decode cX12_hear 21 = .ok (.getfield 34, 3) := dk_180 0 34 (dk_at dksX12_hear_0 21 rfl rfl)
theorem dX12_hear_24 : decode cX12_hear 24 = .ok (.iconst 0, 1) := dk_3 (dk_at dksX12_hear_1 0 rfl rfl)
theorem dX12_hear_25 : decode cX12_hear 25 = .ok (.iaload, 1) := dk_46 (dk_at dksX12_hear_1 1 rfl rfl)
theorem dX12_hear_26 : decode cX12_hear 26 = .ok (.if_icmp .ne 10, 3) := dk_160 0 10 (dk_at dksX12_hear_1 2 rfl rfl)
theorem dX12_hear_29 : decode cX12_hear 29 = .ok (.aload_n 0, 1) := dk_42 (dk_at dksX12_hear_1 5 rfl rfl)
theorem dX12_hear_30 : decode cX12_hear 30 = .ok (.bipush (-5), 2) := dk_16 251 (dk_at dksX12_hear_1 6 rfl rfl)
theorem dX12_hear_32 : decode cX12_hear 32 = .ok (.invokevirtual 183, 3) := dk_182 0 183 (dk_at dksX12_hear_1 8 rfl rfl)
theorem dX12_hear_35 : decode cX12_hear 35 = .ok (.ireturn, 1) := dk_172 (dk_at dksX12_hear_1 11 rfl rfl)
theorem dX12_hear_36 : decode cX12_hear 36 = .ok (.aload_n 0, 1) := dk_42 (dk_at dksX12_hear_1 12 rfl rfl)
theorem dX12_hear_37 : decode cX12_hear 37 = .ok (.iload_n 1, 1) := dk_27 (dk_at dksX12_hear_1 13 rfl rfl)
theorem dX12_hear_38 : decode cX12_hear 38 = .ok (.invokevirtual 303, 3) := dk_182 1 47 (dk_at dksX12_hear_1 14 rfl rfl)
theorem dX12_hear_41 : decode cX12_hear 41 = .ok (.aload_n 0, 1) := dk_42 (dk_at dksX12_hear_1 17 rfl rfl)
theorem dX12_hear_42 : decode cX12_hear 42 = .ok (.iload_n 1, 1) := dk_27 (dk_at dksX12_hear_1 18 rfl rfl)
theorem dX12_hear_43 : decode cX12_hear 43 = .ok (.iconst 0, 1) := dk_3 (dk_at dksX12_hear_1 19 rfl rfl)
theorem dX12_hear_44 : decode cX12_hear 44 = .ok (.invokevirtual 135, 3) := dk_182 0 135 (dk_at dksX12_hear_1 20 rfl rfl)
theorem dX12_hear_47 : decode cX12_hear 47 = .ok (.ireturn, 1) := dk_172 (dk_at dksX12_hear_1 23 rfl rfl)
abbrev cX12_hears : ByteArray := prog_24_method_32_code
def yX12_hears : MethodName := ⟨RX12, "hears", "(I)V"⟩
def dkwX12_hears_10 : List UInt8 := [132, 3, 255, 167, 255, 236, 177]
abbrev dktX12_hears_10 : List UInt8 := dkwX12_hears_10 ++ []
def dkwX12_hears_9 : List UInt8 := [182, 0, 135, 4, 100, 62, 29, 155, 0, 22, 42, 16, 104, 16, 20, 27, 104, 96, 29, 96, 182, 0, 170]
abbrev dktX12_hears_9 : List UInt8 := dkwX12_hears_9 ++ dktX12_hears_10
def dkwX12_hears_8 : List UInt8 := [96, 29, 96, 182, 0, 170, 132, 3, 255, 167, 255, 236, 42, 3, 17, 1, 19, 182, 0, 97, 42, 27, 8]
abbrev dktX12_hears_8 : List UInt8 := dkwX12_hears_8 ++ dktX12_hears_9
def dkwX12_hears_7 : List UInt8 := [3, 182, 0, 101, 42, 27, 7, 182, 0, 135, 4, 100, 62, 29, 155, 0, 22, 42, 16, 24, 16, 20, 27, 104]
abbrev dktX12_hears_7 : List UInt8 := dkwX12_hears_7 ++ dktX12_hears_8
def dkwX12_hears_6 : List UInt8 := [16, 20, 27, 96, 182, 0, 170, 42, 27, 3, 182, 0, 148, 42, 27, 3, 3, 182, 0, 151, 42, 17, 1, 19]
abbrev dktX12_hears_6 : List UInt8 := dkwX12_hears_6 ++ dktX12_hears_7
def dkwX12_hears_5 : List UInt8 := [182, 0, 135, 158, 0, 11, 42, 16, 16, 27, 96, 182, 0, 170, 42, 27, 6, 182, 0, 135, 158, 0, 11, 42]
abbrev dktX12_hears_5 : List UInt8 := dkwX12_hears_5 ++ dktX12_hears_6
def dkwX12_hears_4 : List UInt8 := [16, 8, 27, 104, 6, 96, 3, 79, 177, 42, 3, 17, 0, 184, 28, 96, 182, 0, 97, 42, 27, 4]
abbrev dktX12_hears_4 : List UInt8 := dkwX12_hears_4 ++ dktX12_hears_5
def dkwX12_hears_3 : List UInt8 := [96, 16, 12, 27, 96, 182, 0, 142, 42, 180, 0, 28, 16, 8, 27, 104, 5, 96, 28, 79, 42, 180, 0, 28]
abbrev dktX12_hears_3 : List UInt8 := dkwX12_hears_3 ++ dktX12_hears_4
def dkwX12_hears_2 : List UInt8 := [6, 182, 0, 135, 4, 160, 0, 51, 42, 16, 20, 27, 96, 16, 16, 27, 96, 182, 0, 142, 42, 16, 20, 27]
abbrev dktX12_hears_2 : List UInt8 := dkwX12_hears_2 ++ dktX12_hears_3
def dkwX12_hears_1 : List UInt8 := [46, 27, 160, 0, 79, 42, 180, 0, 28, 16, 8, 27, 104, 4, 96, 42, 27, 6, 182, 0, 135, 79, 42, 27]
abbrev dktX12_hears_1 : List UInt8 := dkwX12_hears_1 ++ dktX12_hears_2
def dkwX12_hears_0 : List UInt8 := [42, 27, 3, 182, 0, 135, 4, 96, 61, 42, 180, 0, 28, 16, 8, 27, 104, 28, 79, 42, 180, 0, 31, 28]
abbrev dktX12_hears_0 : List UInt8 := dkwX12_hears_0 ++ dktX12_hears_1
theorem dksX12_hears_0 : cX12_hears.data.toList.drop 0 = dktX12_hears_0 := by decide +kernel
theorem dksX12_hears_1 : cX12_hears.data.toList.drop 24 = dktX12_hears_1 := dk_seg dksX12_hears_0 24 rfl rfl
theorem dksX12_hears_2 : cX12_hears.data.toList.drop 48 = dktX12_hears_2 := dk_seg dksX12_hears_1 24 rfl rfl
theorem dksX12_hears_3 : cX12_hears.data.toList.drop 72 = dktX12_hears_3 := dk_seg dksX12_hears_2 24 rfl rfl
theorem dksX12_hears_4 : cX12_hears.data.toList.drop 96 = dktX12_hears_4 := dk_seg dksX12_hears_3 24 rfl rfl
theorem dksX12_hears_5 : cX12_hears.data.toList.drop 118 = dktX12_hears_5 := dk_seg dksX12_hears_4 22 rfl rfl
theorem dksX12_hears_6 : cX12_hears.data.toList.drop 142 = dktX12_hears_6 := dk_seg dksX12_hears_5 24 rfl rfl
theorem dksX12_hears_7 : cX12_hears.data.toList.drop 166 = dktX12_hears_7 := dk_seg dksX12_hears_6 24 rfl rfl
theorem dksX12_hears_8 : cX12_hears.data.toList.drop 190 = dktX12_hears_8 := dk_seg dksX12_hears_7 24 rfl rfl
theorem dksX12_hears_9 : cX12_hears.data.toList.drop 213 = dktX12_hears_9 := dk_seg dksX12_hears_8 23 rfl rfl
theorem dksX12_hears_10 : cX12_hears.data.toList.drop 236 = dktX12_hears_10 := dk_seg dksX12_hears_9 23 rfl rfl
theorem dX12_hears_0 : decode cX12_hears 0 = .ok (.aload_n 0, 1) := dk_42 (dk_at dksX12_hears_0 0 rfl rfl)
theorem dX12_hears_1 : decode cX12_hears 1 = .ok (.iload_n 1, 1) := dk_27 (dk_at dksX12_hears_0 1 rfl rfl)
theorem dX12_hears_2 : decode cX12_hears 2 = .ok (.iconst 0, 1) := dk_3 (dk_at dksX12_hears_0 2 rfl rfl)
theorem dX12_hears_3 : decode cX12_hears 3 = .ok (.invokevirtual 135, 3) := dk_182 0 135 (dk_at dksX12_hears_0 3 rfl rfl)
theorem dX12_hears_6 : decode cX12_hears 6 = .ok (.iconst 1, 1) := dk_4 (dk_at dksX12_hears_0 6 rfl rfl)
theorem dX12_hears_7 : decode cX12_hears 7 = .ok (.iadd, 1) := dk_96 (dk_at dksX12_hears_0 7 rfl rfl)
theorem dX12_hears_8 : decode cX12_hears 8 = .ok (.istore_n 2, 1) := dk_61 (dk_at dksX12_hears_0 8 rfl rfl)
theorem dX12_hears_9 : decode cX12_hears 9 = .ok (.aload_n 0, 1) := dk_42 (dk_at dksX12_hears_0 9 rfl rfl)
theorem dX12_hears_10 : decode cX12_hears 10 = .ok (.getfield 28, 3) := dk_180 0 28 (dk_at dksX12_hears_0 10 rfl rfl)
theorem dX12_hears_13 : decode cX12_hears 13 = .ok (.bipush 8, 2) := dk_16 8 (dk_at dksX12_hears_0 13 rfl rfl)
theorem dX12_hears_15 : decode cX12_hears 15 = .ok (.iload_n 1, 1) := dk_27 (dk_at dksX12_hears_0 15 rfl rfl)
theorem dX12_hears_16 : decode cX12_hears 16 = .ok (.imul, 1) := dk_104 (dk_at dksX12_hears_0 16 rfl rfl)
theorem dX12_hears_17 : decode cX12_hears 17 = .ok (.iload_n 2, 1) := dk_28 (dk_at dksX12_hears_0 17 rfl rfl)
theorem dX12_hears_18 : decode cX12_hears 18 = .ok (.iastore, 1) := dk_79 (dk_at dksX12_hears_0 18 rfl rfl)
theorem dX12_hears_19 : decode cX12_hears 19 = .ok (.aload_n 0, 1) := dk_42 (dk_at dksX12_hears_0 19 rfl rfl)
theorem dX12_hears_20 : decode cX12_hears 20 = .ok (.getfield 31, 3) := dk_180 0 31 (dk_at dksX12_hears_0 20 rfl rfl)
theorem dX12_hears_23 : decode cX12_hears 23 = .ok (.iload_n 2, 1) := dk_28 (dk_at dksX12_hears_0 23 rfl rfl)
theorem dX12_hears_24 : decode cX12_hears 24 = .ok (.iaload, 1) := dk_46 (dk_at dksX12_hears_1 0 rfl rfl)
theorem dX12_hears_25 : decode cX12_hears 25 = .ok (.iload_n 1, 1) := dk_27 (dk_at dksX12_hears_1 1 rfl rfl)
theorem dX12_hears_26 : decode cX12_hears 26 = .ok (.if_icmp .ne 79, 3) := dk_160 0 79 (dk_at dksX12_hears_1 2 rfl rfl)
theorem dX12_hears_29 : decode cX12_hears 29 = .ok (.aload_n 0, 1) := dk_42 (dk_at dksX12_hears_1 5 rfl rfl)
theorem dX12_hears_30 : decode cX12_hears 30 = .ok (.getfield 28, 3) := dk_180 0 28 (dk_at dksX12_hears_1 6 rfl rfl)
theorem dX12_hears_33 : decode cX12_hears 33 = .ok (.bipush 8, 2) := dk_16 8 (dk_at dksX12_hears_1 9 rfl rfl)
theorem dX12_hears_35 : decode cX12_hears 35 = .ok (.iload_n 1, 1) := dk_27 (dk_at dksX12_hears_1 11 rfl rfl)
theorem dX12_hears_36 : decode cX12_hears 36 = .ok (.imul, 1) := dk_104 (dk_at dksX12_hears_1 12 rfl rfl)
theorem dX12_hears_37 : decode cX12_hears 37 = .ok (.iconst 1, 1) := dk_4 (dk_at dksX12_hears_1 13 rfl rfl)
theorem dX12_hears_38 : decode cX12_hears 38 = .ok (.iadd, 1) := dk_96 (dk_at dksX12_hears_1 14 rfl rfl)
theorem dX12_hears_39 : decode cX12_hears 39 = .ok (.aload_n 0, 1) := dk_42 (dk_at dksX12_hears_1 15 rfl rfl)
theorem dX12_hears_40 : decode cX12_hears 40 = .ok (.iload_n 1, 1) := dk_27 (dk_at dksX12_hears_1 16 rfl rfl)
theorem dX12_hears_41 : decode cX12_hears 41 = .ok (.iconst 3, 1) := dk_6 (dk_at dksX12_hears_1 17 rfl rfl)
theorem dX12_hears_42 : decode cX12_hears 42 = .ok (.invokevirtual 135, 3) := dk_182 0 135 (dk_at dksX12_hears_1 18 rfl rfl)
theorem dX12_hears_45 : decode cX12_hears 45 = .ok (.iastore, 1) := dk_79 (dk_at dksX12_hears_1 21 rfl rfl)
theorem dX12_hears_46 : decode cX12_hears 46 = .ok (.aload_n 0, 1) := dk_42 (dk_at dksX12_hears_1 22 rfl rfl)
theorem dX12_hears_47 : decode cX12_hears 47 = .ok (.iload_n 1, 1) := dk_27 (dk_at dksX12_hears_1 23 rfl rfl)
theorem dX12_hears_48 : decode cX12_hears 48 = .ok (.iconst 3, 1) := dk_6 (dk_at dksX12_hears_2 0 rfl rfl)
theorem dX12_hears_49 : decode cX12_hears 49 = .ok (.invokevirtual 135, 3) := dk_182 0 135 (dk_at dksX12_hears_2 1 rfl rfl)
theorem dX12_hears_52 : decode cX12_hears 52 = .ok (.iconst 1, 1) := dk_4 (dk_at dksX12_hears_2 4 rfl rfl)
theorem dX12_hears_53 : decode cX12_hears 53 = .ok (.if_icmp .ne 51, 3) := dk_160 0 51 (dk_at dksX12_hears_2 5 rfl rfl)
theorem dX12_hears_56 : decode cX12_hears 56 = .ok (.aload_n 0, 1) := dk_42 (dk_at dksX12_hears_2 8 rfl rfl)
theorem dX12_hears_57 : decode cX12_hears 57 = .ok (.bipush 20, 2) := dk_16 20 (dk_at dksX12_hears_2 9 rfl rfl)
theorem dX12_hears_59 : decode cX12_hears 59 = .ok (.iload_n 1, 1) := dk_27 (dk_at dksX12_hears_2 11 rfl rfl)
theorem dX12_hears_60 : decode cX12_hears 60 = .ok (.iadd, 1) := dk_96 (dk_at dksX12_hears_2 12 rfl rfl)
theorem dX12_hears_61 : decode cX12_hears 61 = .ok (.bipush 16, 2) := dk_16 16 (dk_at dksX12_hears_2 13 rfl rfl)
theorem dX12_hears_63 : decode cX12_hears 63 = .ok (.iload_n 1, 1) := dk_27 (dk_at dksX12_hears_2 15 rfl rfl)
theorem dX12_hears_64 : decode cX12_hears 64 = .ok (.iadd, 1) := dk_96 (dk_at dksX12_hears_2 16 rfl rfl)
theorem dX12_hears_65 : decode cX12_hears 65 = .ok (.invokevirtual 142, 3) := dk_182 0 142 (dk_at dksX12_hears_2 17 rfl rfl)
theorem dX12_hears_68 : decode cX12_hears 68 = .ok (.aload_n 0, 1) := dk_42 (dk_at dksX12_hears_2 20 rfl rfl)
theorem dX12_hears_69 : decode cX12_hears 69 = .ok (.bipush 20, 2) := dk_16 20 (dk_at dksX12_hears_2 21 rfl rfl)
theorem dX12_hears_71 : decode cX12_hears 71 = .ok (.iload_n 1, 1) := dk_27 (dk_at dksX12_hears_2 23 rfl rfl)
theorem dX12_hears_72 : decode cX12_hears 72 = .ok (.iadd, 1) := dk_96 (dk_at dksX12_hears_3 0 rfl rfl)
theorem dX12_hears_73 : decode cX12_hears 73 = .ok (.bipush 12, 2) := dk_16 12 (dk_at dksX12_hears_3 1 rfl rfl)
theorem dX12_hears_75 : decode cX12_hears 75 = .ok (.iload_n 1, 1) := dk_27 (dk_at dksX12_hears_3 3 rfl rfl)
theorem dX12_hears_76 : decode cX12_hears 76 = .ok (.iadd, 1) := dk_96 (dk_at dksX12_hears_3 4 rfl rfl)
theorem dX12_hears_77 : decode cX12_hears 77 = .ok (.invokevirtual 142, 3) := dk_182 0 142 (dk_at dksX12_hears_3 5 rfl rfl)
theorem dX12_hears_80 : decode cX12_hears 80 = .ok (.aload_n 0, 1) := dk_42 (dk_at dksX12_hears_3 8 rfl rfl)
theorem dX12_hears_81 : decode cX12_hears 81 = .ok (.getfield 28, 3) := dk_180 0 28 (dk_at dksX12_hears_3 9 rfl rfl)
theorem dX12_hears_84 : decode cX12_hears 84 = .ok (.bipush 8, 2) := dk_16 8 (dk_at dksX12_hears_3 12 rfl rfl)
theorem dX12_hears_86 : decode cX12_hears 86 = .ok (.iload_n 1, 1) := dk_27 (dk_at dksX12_hears_3 14 rfl rfl)
theorem dX12_hears_87 : decode cX12_hears 87 = .ok (.imul, 1) := dk_104 (dk_at dksX12_hears_3 15 rfl rfl)
theorem dX12_hears_88 : decode cX12_hears 88 = .ok (.iconst 2, 1) := dk_5 (dk_at dksX12_hears_3 16 rfl rfl)
theorem dX12_hears_89 : decode cX12_hears 89 = .ok (.iadd, 1) := dk_96 (dk_at dksX12_hears_3 17 rfl rfl)
theorem dX12_hears_90 : decode cX12_hears 90 = .ok (.iload_n 2, 1) := dk_28 (dk_at dksX12_hears_3 18 rfl rfl)
theorem dX12_hears_91 : decode cX12_hears 91 = .ok (.iastore, 1) := dk_79 (dk_at dksX12_hears_3 19 rfl rfl)
theorem dX12_hears_92 : decode cX12_hears 92 = .ok (.aload_n 0, 1) := dk_42 (dk_at dksX12_hears_3 20 rfl rfl)
theorem dX12_hears_93 : decode cX12_hears 93 = .ok (.getfield 28, 3) := dk_180 0 28 (dk_at dksX12_hears_3 21 rfl rfl)
theorem dX12_hears_96 : decode cX12_hears 96 = .ok (.bipush 8, 2) := dk_16 8 (dk_at dksX12_hears_4 0 rfl rfl)
theorem dX12_hears_98 : decode cX12_hears 98 = .ok (.iload_n 1, 1) := dk_27 (dk_at dksX12_hears_4 2 rfl rfl)
theorem dX12_hears_99 : decode cX12_hears 99 = .ok (.imul, 1) := dk_104 (dk_at dksX12_hears_4 3 rfl rfl)
theorem dX12_hears_100 : decode cX12_hears 100 = .ok (.iconst 3, 1) := dk_6 (dk_at dksX12_hears_4 4 rfl rfl)
theorem dX12_hears_101 : decode cX12_hears 101 = .ok (.iadd, 1) := dk_96 (dk_at dksX12_hears_4 5 rfl rfl)
theorem dX12_hears_102 : decode cX12_hears 102 = .ok (.iconst 0, 1) := dk_3 (dk_at dksX12_hears_4 6 rfl rfl)
theorem dX12_hears_103 : decode cX12_hears 103 = .ok (.iastore, 1) := dk_79 (dk_at dksX12_hears_4 7 rfl rfl)
theorem dX12_hears_104 : decode cX12_hears 104 = .ok (.return_, 1) := dk_177 (dk_at dksX12_hears_4 8 rfl rfl)
theorem dX12_hears_105 : decode cX12_hears 105 = .ok (.aload_n 0, 1) := dk_42 (dk_at dksX12_hears_4 9 rfl rfl)
theorem dX12_hears_106 : decode cX12_hears 106 = .ok (.iconst 0, 1) := dk_3 (dk_at dksX12_hears_4 10 rfl rfl)
theorem dX12_hears_107 : decode cX12_hears 107 = .ok (.sipush 184, 3) := dk_17 0 184 (dk_at dksX12_hears_4 11 rfl rfl)
theorem dX12_hears_110 : decode cX12_hears 110 = .ok (.iload_n 2, 1) := dk_28 (dk_at dksX12_hears_4 14 rfl rfl)
theorem dX12_hears_111 : decode cX12_hears 111 = .ok (.iadd, 1) := dk_96 (dk_at dksX12_hears_4 15 rfl rfl)
theorem dX12_hears_112 : decode cX12_hears 112 = .ok (.invokevirtual 97, 3) := dk_182 0 97 (dk_at dksX12_hears_4 16 rfl rfl)
theorem dX12_hears_115 : decode cX12_hears 115 = .ok (.aload_n 0, 1) := dk_42 (dk_at dksX12_hears_4 19 rfl rfl)
theorem dX12_hears_116 : decode cX12_hears 116 = .ok (.iload_n 1, 1) := dk_27 (dk_at dksX12_hears_4 20 rfl rfl)
theorem dX12_hears_117 : decode cX12_hears 117 = .ok (.iconst 1, 1) := dk_4 (dk_at dksX12_hears_4 21 rfl rfl)
theorem dX12_hears_118 : decode cX12_hears 118 = .ok (.invokevirtual 135, 3) := dk_182 0 135 (dk_at dksX12_hears_5 0 rfl rfl)
theorem dX12_hears_121 : decode cX12_hears 121 = .ok (.ifCond .le 11, 3) := dk_158 0 11 (dk_at dksX12_hears_5 3 rfl rfl)
theorem dX12_hears_124 : decode cX12_hears 124 = .ok (.aload_n 0, 1) := dk_42 (dk_at dksX12_hears_5 6 rfl rfl)
theorem dX12_hears_125 : decode cX12_hears 125 = .ok (.bipush 16, 2) := dk_16 16 (dk_at dksX12_hears_5 7 rfl rfl)
theorem dX12_hears_127 : decode cX12_hears 127 = .ok (.iload_n 1, 1) := dk_27 (dk_at dksX12_hears_5 9 rfl rfl)
theorem dX12_hears_128 : decode cX12_hears 128 = .ok (.iadd, 1) := dk_96 (dk_at dksX12_hears_5 10 rfl rfl)
theorem dX12_hears_129 : decode cX12_hears 129 = .ok (.invokevirtual 170, 3) := dk_182 0 170 (dk_at dksX12_hears_5 11 rfl rfl)
theorem dX12_hears_132 : decode cX12_hears 132 = .ok (.aload_n 0, 1) := dk_42 (dk_at dksX12_hears_5 14 rfl rfl)
theorem dX12_hears_133 : decode cX12_hears 133 = .ok (.iload_n 1, 1) := dk_27 (dk_at dksX12_hears_5 15 rfl rfl)
theorem dX12_hears_134 : decode cX12_hears 134 = .ok (.iconst 3, 1) := dk_6 (dk_at dksX12_hears_5 16 rfl rfl)
theorem dX12_hears_135 : decode cX12_hears 135 = .ok (.invokevirtual 135, 3) := dk_182 0 135 (dk_at dksX12_hears_5 17 rfl rfl)
theorem dX12_hears_138 : decode cX12_hears 138 = .ok (.ifCond .le 11, 3) := dk_158 0 11 (dk_at dksX12_hears_5 20 rfl rfl)
theorem dX12_hears_141 : decode cX12_hears 141 = .ok (.aload_n 0, 1) := dk_42 (dk_at dksX12_hears_5 23 rfl rfl)
theorem dX12_hears_142 : decode cX12_hears 142 = .ok (.bipush 20, 2) := dk_16 20 (dk_at dksX12_hears_6 0 rfl rfl)
theorem dX12_hears_144 : decode cX12_hears 144 = .ok (.iload_n 1, 1) := dk_27 (dk_at dksX12_hears_6 2 rfl rfl)
theorem dX12_hears_145 : decode cX12_hears 145 = .ok (.iadd, 1) := dk_96 (dk_at dksX12_hears_6 3 rfl rfl)
theorem dX12_hears_146 : decode cX12_hears 146 = .ok (.invokevirtual 170, 3) := dk_182 0 170 (dk_at dksX12_hears_6 4 rfl rfl)
theorem dX12_hears_149 : decode cX12_hears 149 = .ok (.aload_n 0, 1) := dk_42 (dk_at dksX12_hears_6 7 rfl rfl)
theorem dX12_hears_150 : decode cX12_hears 150 = .ok (.iload_n 1, 1) := dk_27 (dk_at dksX12_hears_6 8 rfl rfl)
theorem dX12_hears_151 : decode cX12_hears 151 = .ok (.iconst 0, 1) := dk_3 (dk_at dksX12_hears_6 9 rfl rfl)
theorem dX12_hears_152 : decode cX12_hears 152 = .ok (.invokevirtual 148, 3) := dk_182 0 148 (dk_at dksX12_hears_6 10 rfl rfl)
theorem dX12_hears_155 : decode cX12_hears 155 = .ok (.aload_n 0, 1) := dk_42 (dk_at dksX12_hears_6 13 rfl rfl)
theorem dX12_hears_156 : decode cX12_hears 156 = .ok (.iload_n 1, 1) := dk_27 (dk_at dksX12_hears_6 14 rfl rfl)
theorem dX12_hears_157 : decode cX12_hears 157 = .ok (.iconst 0, 1) := dk_3 (dk_at dksX12_hears_6 15 rfl rfl)
theorem dX12_hears_158 : decode cX12_hears 158 = .ok (.iconst 0, 1) := dk_3 (dk_at dksX12_hears_6 16 rfl rfl)
theorem dX12_hears_159 : decode cX12_hears 159 = .ok (.invokevirtual 151, 3) := dk_182 0 151 (dk_at dksX12_hears_6 17 rfl rfl)
theorem dX12_hears_162 : decode cX12_hears 162 = .ok (.aload_n 0, 1) := dk_42 (dk_at dksX12_hears_6 20 rfl rfl)
theorem dX12_hears_163 : decode cX12_hears 163 = .ok (.sipush 275, 3) := dk_17 1 19 (dk_at dksX12_hears_6 21 rfl rfl)
theorem dX12_hears_166 : decode cX12_hears 166 = .ok (.iconst 0, 1) := dk_3 (dk_at dksX12_hears_7 0 rfl rfl)
theorem dX12_hears_167 : decode cX12_hears 167 = .ok (.invokevirtual 101, 3) := dk_182 0 101 (dk_at dksX12_hears_7 1 rfl rfl)
theorem dX12_hears_170 : decode cX12_hears 170 = .ok (.aload_n 0, 1) := dk_42 (dk_at dksX12_hears_7 4 rfl rfl)
theorem dX12_hears_171 : decode cX12_hears 171 = .ok (.iload_n 1, 1) := dk_27 (dk_at dksX12_hears_7 5 rfl rfl)
theorem dX12_hears_172 : decode cX12_hears 172 = .ok (.iconst 4, 1) := dk_7 (dk_at dksX12_hears_7 6 rfl rfl)
theorem dX12_hears_173 : decode cX12_hears 173 = .ok (.invokevirtual 135, 3) := dk_182 0 135 (dk_at dksX12_hears_7 7 rfl rfl)
theorem dX12_hears_176 : decode cX12_hears 176 = .ok (.iconst 1, 1) := dk_4 (dk_at dksX12_hears_7 10 rfl rfl)
theorem dX12_hears_177 : decode cX12_hears 177 = .ok (.isub, 1) := dk_100 (dk_at dksX12_hears_7 11 rfl rfl)
theorem dX12_hears_178 : decode cX12_hears 178 = .ok (.istore_n 3, 1) := dk_62 (dk_at dksX12_hears_7 12 rfl rfl)
theorem dX12_hears_179 : decode cX12_hears 179 = .ok (.iload_n 3, 1) := dk_29 (dk_at dksX12_hears_7 13 rfl rfl)
theorem dX12_hears_180 : decode cX12_hears 180 = .ok (.ifCond .lt 22, 3) := dk_155 0 22 (dk_at dksX12_hears_7 14 rfl rfl)
theorem dX12_hears_183 : decode cX12_hears 183 = .ok (.aload_n 0, 1) := dk_42 (dk_at dksX12_hears_7 17 rfl rfl)
theorem dX12_hears_184 : decode cX12_hears 184 = .ok (.bipush 24, 2) := dk_16 24 (dk_at dksX12_hears_7 18 rfl rfl)
theorem dX12_hears_186 : decode cX12_hears 186 = .ok (.bipush 20, 2) := dk_16 20 (dk_at dksX12_hears_7 20 rfl rfl)
theorem dX12_hears_188 : decode cX12_hears 188 = .ok (.iload_n 1, 1) := dk_27 (dk_at dksX12_hears_7 22 rfl rfl)
theorem dX12_hears_189 : decode cX12_hears 189 = .ok (.imul, 1) := dk_104 (dk_at dksX12_hears_7 23 rfl rfl)
theorem dX12_hears_190 : decode cX12_hears 190 = .ok (.iadd, 1) := dk_96 (dk_at dksX12_hears_8 0 rfl rfl)
theorem dX12_hears_191 : decode cX12_hears 191 = .ok (.iload_n 3, 1) := dk_29 (dk_at dksX12_hears_8 1 rfl rfl)
theorem dX12_hears_192 : decode cX12_hears 192 = .ok (.iadd, 1) := dk_96 (dk_at dksX12_hears_8 2 rfl rfl)
theorem dX12_hears_193 : decode cX12_hears 193 = .ok (.invokevirtual 170, 3) := dk_182 0 170 (dk_at dksX12_hears_8 3 rfl rfl)
theorem dX12_hears_196 : decode cX12_hears 196 = .ok (.iinc 3 (-1), 3) := dk_132 3 255 (dk_at dksX12_hears_8 6 rfl rfl)
theorem dX12_hears_199 : decode cX12_hears 199 = .ok (.goto (-20), 3) := dk_167 255 236 (dk_at dksX12_hears_8 9 rfl rfl)
theorem dX12_hears_202 : decode cX12_hears 202 = .ok (.aload_n 0, 1) := dk_42 (dk_at dksX12_hears_8 12 rfl rfl)
theorem dX12_hears_203 : decode cX12_hears 203 = .ok (.iconst 0, 1) := dk_3 (dk_at dksX12_hears_8 13 rfl rfl)
theorem dX12_hears_204 : decode cX12_hears 204 = .ok (.sipush 275, 3) := dk_17 1 19 (dk_at dksX12_hears_8 14 rfl rfl)
theorem dX12_hears_207 : decode cX12_hears 207 = .ok (.invokevirtual 97, 3) := dk_182 0 97 (dk_at dksX12_hears_8 17 rfl rfl)
theorem dX12_hears_210 : decode cX12_hears 210 = .ok (.aload_n 0, 1) := dk_42 (dk_at dksX12_hears_8 20 rfl rfl)
theorem dX12_hears_211 : decode cX12_hears 211 = .ok (.iload_n 1, 1) := dk_27 (dk_at dksX12_hears_8 21 rfl rfl)
theorem dX12_hears_212 : decode cX12_hears 212 = .ok (.iconst 5, 1) := dk_8 (dk_at dksX12_hears_8 22 rfl rfl)
theorem dX12_hears_213 : decode cX12_hears 213 = .ok (.invokevirtual 135, 3) := dk_182 0 135 (dk_at dksX12_hears_9 0 rfl rfl)
theorem dX12_hears_216 : decode cX12_hears 216 = .ok (.iconst 1, 1) := dk_4 (dk_at dksX12_hears_9 3 rfl rfl)
theorem dX12_hears_217 : decode cX12_hears 217 = .ok (.isub, 1) := dk_100 (dk_at dksX12_hears_9 4 rfl rfl)
theorem dX12_hears_218 : decode cX12_hears 218 = .ok (.istore_n 3, 1) := dk_62 (dk_at dksX12_hears_9 5 rfl rfl)
theorem dX12_hears_219 : decode cX12_hears 219 = .ok (.iload_n 3, 1) := dk_29 (dk_at dksX12_hears_9 6 rfl rfl)
theorem dX12_hears_220 : decode cX12_hears 220 = .ok (.ifCond .lt 22, 3) := dk_155 0 22 (dk_at dksX12_hears_9 7 rfl rfl)
theorem dX12_hears_223 : decode cX12_hears 223 = .ok (.aload_n 0, 1) := dk_42 (dk_at dksX12_hears_9 10 rfl rfl)
theorem dX12_hears_224 : decode cX12_hears 224 = .ok (.bipush 104, 2) := dk_16 104 (dk_at dksX12_hears_9 11 rfl rfl)
theorem dX12_hears_226 : decode cX12_hears 226 = .ok (.bipush 20, 2) := dk_16 20 (dk_at dksX12_hears_9 13 rfl rfl)
theorem dX12_hears_228 : decode cX12_hears 228 = .ok (.iload_n 1, 1) := dk_27 (dk_at dksX12_hears_9 15 rfl rfl)
theorem dX12_hears_229 : decode cX12_hears 229 = .ok (.imul, 1) := dk_104 (dk_at dksX12_hears_9 16 rfl rfl)
theorem dX12_hears_230 : decode cX12_hears 230 = .ok (.iadd, 1) := dk_96 (dk_at dksX12_hears_9 17 rfl rfl)
theorem dX12_hears_231 : decode cX12_hears 231 = .ok (.iload_n 3, 1) := dk_29 (dk_at dksX12_hears_9 18 rfl rfl)
theorem dX12_hears_232 : decode cX12_hears 232 = .ok (.iadd, 1) := dk_96 (dk_at dksX12_hears_9 19 rfl rfl)
theorem dX12_hears_233 : decode cX12_hears 233 = .ok (.invokevirtual 170, 3) := dk_182 0 170 (dk_at dksX12_hears_9 20 rfl rfl)
theorem dX12_hears_236 : decode cX12_hears 236 = .ok (.iinc 3 (-1), 3) := dk_132 3 255 (dk_at dksX12_hears_10 0 rfl rfl)
theorem dX12_hears_239 : decode cX12_hears 239 = .ok (.goto (-20), 3) := dk_167 255 236 (dk_at dksX12_hears_10 3 rfl rfl)
theorem dX12_hears_242 : decode cX12_hears 242 = .ok (.return_, 1) := dk_177 (dk_at dksX12_hears_10 6 rfl rfl)
abbrev cX12_crosses : ByteArray := prog_24_method_31_code
def yX12_crosses : MethodName := ⟨RX12, "crosses", "(I)V"⟩
def dkwX12_crosses_1 : List UInt8 := [5, 182, 0, 164, 42, 5, 3, 182, 0, 167, 177]
abbrev dktX12_crosses_1 : List UInt8 := dkwX12_crosses_1 ++ []
def dkwX12_crosses_0 : List UInt8 := [42, 4, 27, 182, 0, 97, 42, 4, 3, 3, 5, 182, 0, 164, 42, 27, 5, 182, 0, 101, 42, 3, 4, 4]
abbrev dktX12_crosses_0 : List UInt8 := dkwX12_crosses_0 ++ dktX12_crosses_1
theorem dksX12_crosses_0 : cX12_crosses.data.toList.drop 0 = dktX12_crosses_0 := by decide +kernel
theorem dksX12_crosses_1 : cX12_crosses.data.toList.drop 24 = dktX12_crosses_1 := dk_seg dksX12_crosses_0 24 rfl rfl
theorem dX12_crosses_0 : decode cX12_crosses 0 = .ok (.aload_n 0, 1) := dk_42 (dk_at dksX12_crosses_0 0 rfl rfl)
theorem dX12_crosses_1 : decode cX12_crosses 1 = .ok (.iconst 1, 1) := dk_4 (dk_at dksX12_crosses_0 1 rfl rfl)
theorem dX12_crosses_2 : decode cX12_crosses 2 = .ok (.iload_n 1, 1) := dk_27 (dk_at dksX12_crosses_0 2 rfl rfl)
theorem dX12_crosses_3 : decode cX12_crosses 3 = .ok (.invokevirtual 97, 3) := dk_182 0 97 (dk_at dksX12_crosses_0 3 rfl rfl)
theorem dX12_crosses_6 : decode cX12_crosses 6 = .ok (.aload_n 0, 1) := dk_42 (dk_at dksX12_crosses_0 6 rfl rfl)
theorem dX12_crosses_7 : decode cX12_crosses 7 = .ok (.iconst 1, 1) := dk_4 (dk_at dksX12_crosses_0 7 rfl rfl)
theorem dX12_crosses_8 : decode cX12_crosses 8 = .ok (.iconst 0, 1) := dk_3 (dk_at dksX12_crosses_0 8 rfl rfl)
theorem dX12_crosses_9 : decode cX12_crosses 9 = .ok (.iconst 0, 1) := dk_3 (dk_at dksX12_crosses_0 9 rfl rfl)
theorem dX12_crosses_10 : decode cX12_crosses 10 = .ok (.iconst 2, 1) := dk_5 (dk_at dksX12_crosses_0 10 rfl rfl)
theorem dX12_crosses_11 : decode cX12_crosses 11 = .ok (.invokevirtual 164, 3) := dk_182 0 164 (dk_at dksX12_crosses_0 11 rfl rfl)
theorem dX12_crosses_14 : decode cX12_crosses 14 = .ok (.aload_n 0, 1) := dk_42 (dk_at dksX12_crosses_0 14 rfl rfl)
theorem dX12_crosses_15 : decode cX12_crosses 15 = .ok (.iload_n 1, 1) := dk_27 (dk_at dksX12_crosses_0 15 rfl rfl)
theorem dX12_crosses_16 : decode cX12_crosses 16 = .ok (.iconst 2, 1) := dk_5 (dk_at dksX12_crosses_0 16 rfl rfl)
theorem dX12_crosses_17 : decode cX12_crosses 17 = .ok (.invokevirtual 101, 3) := dk_182 0 101 (dk_at dksX12_crosses_0 17 rfl rfl)
theorem dX12_crosses_20 : decode cX12_crosses 20 = .ok (.aload_n 0, 1) := dk_42 (dk_at dksX12_crosses_0 20 rfl rfl)
theorem dX12_crosses_21 : decode cX12_crosses 21 = .ok (.iconst 0, 1) := dk_3 (dk_at dksX12_crosses_0 21 rfl rfl)
theorem dX12_crosses_22 : decode cX12_crosses 22 = .ok (.iconst 1, 1) := dk_4 (dk_at dksX12_crosses_0 22 rfl rfl)
theorem dX12_crosses_23 : decode cX12_crosses 23 = .ok (.iconst 1, 1) := dk_4 (dk_at dksX12_crosses_0 23 rfl rfl)
theorem dX12_crosses_24 : decode cX12_crosses 24 = .ok (.iconst 2, 1) := dk_5 (dk_at dksX12_crosses_1 0 rfl rfl)
theorem dX12_crosses_25 : decode cX12_crosses 25 = .ok (.invokevirtual 164, 3) := dk_182 0 164 (dk_at dksX12_crosses_1 1 rfl rfl)
theorem dX12_crosses_28 : decode cX12_crosses 28 = .ok (.aload_n 0, 1) := dk_42 (dk_at dksX12_crosses_1 4 rfl rfl)
theorem dX12_crosses_29 : decode cX12_crosses 29 = .ok (.iconst 2, 1) := dk_5 (dk_at dksX12_crosses_1 5 rfl rfl)
theorem dX12_crosses_30 : decode cX12_crosses 30 = .ok (.iconst 0, 1) := dk_3 (dk_at dksX12_crosses_1 6 rfl rfl)
theorem dX12_crosses_31 : decode cX12_crosses 31 = .ok (.invokevirtual 167, 3) := dk_182 0 167 (dk_at dksX12_crosses_1 7 rfl rfl)
theorem dX12_crosses_34 : decode cX12_crosses 34 = .ok (.return_, 1) := dk_177 (dk_at dksX12_crosses_1 10 rfl rfl)
abbrev cX12_meet : ByteArray := prog_24_method_71_code
def yX12_meet : MethodName := ⟨RX12, "meet", "()I"⟩
def dkwX12_meet_3 : List UInt8 := [172]
abbrev dktX12_meet_3 : List UInt8 := dkwX12_meet_3 ++ []
def dkwX12_meet_2 : List UInt8 := [132, 2, 1, 167, 255, 214, 42, 182, 1, 50, 42, 182, 1, 53, 60, 167, 255, 196, 42, 180, 0, 34, 3, 46]
abbrev dktX12_meet_2 : List UInt8 := dkwX12_meet_2 ++ dktX12_meet_3
def dkwX12_meet_1 : List UInt8 := [180, 0, 34, 3, 46, 16, 90, 160, 0, 10, 42, 16, 250, 182, 0, 183, 172, 42, 28, 182, 1, 44, 62]
abbrev dktX12_meet_1 : List UInt8 := dkwX12_meet_1 ++ dktX12_meet_2
def dkwX12_meet_0 : List UInt8 := [4, 60, 27, 153, 0, 62, 3, 61, 28, 7, 162, 0, 43, 42, 28, 4, 182, 0, 135, 4, 160, 0, 27, 42]
abbrev dktX12_meet_0 : List UInt8 := dkwX12_meet_0 ++ dktX12_meet_1
theorem dksX12_meet_0 : cX12_meet.data.toList.drop 0 = dktX12_meet_0 := by decide +kernel
theorem dksX12_meet_1 : cX12_meet.data.toList.drop 24 = dktX12_meet_1 := dk_seg dksX12_meet_0 24 rfl rfl
theorem dksX12_meet_2 : cX12_meet.data.toList.drop 47 = dktX12_meet_2 := dk_seg dksX12_meet_1 23 rfl rfl
theorem dksX12_meet_3 : cX12_meet.data.toList.drop 71 = dktX12_meet_3 := dk_seg dksX12_meet_2 24 rfl rfl
theorem dX12_meet_0 : decode cX12_meet 0 = .ok (.iconst 1, 1) := dk_4 (dk_at dksX12_meet_0 0 rfl rfl)
theorem dX12_meet_1 : decode cX12_meet 1 = .ok (.istore_n 1, 1) := dk_60 (dk_at dksX12_meet_0 1 rfl rfl)
theorem dX12_meet_2 : decode cX12_meet 2 = .ok (.iload_n 1, 1) := dk_27 (dk_at dksX12_meet_0 2 rfl rfl)
theorem dX12_meet_3 : decode cX12_meet 3 = .ok (.ifCond .eq 62, 3) := dk_153 0 62 (dk_at dksX12_meet_0 3 rfl rfl)
theorem dX12_meet_6 : decode cX12_meet 6 = .ok (.iconst 0, 1) := dk_3 (dk_at dksX12_meet_0 6 rfl rfl)
theorem dX12_meet_7 : decode cX12_meet 7 = .ok (.istore_n 2, 1) := dk_61 (dk_at dksX12_meet_0 7 rfl rfl)
theorem dX12_meet_8 : decode cX12_meet 8 = .ok (.iload_n 2, 1) := dk_28 (dk_at dksX12_meet_0 8 rfl rfl)
theorem dX12_meet_9 : decode cX12_meet 9 = .ok (.iconst 4, 1) := dk_7 (dk_at dksX12_meet_0 9 rfl rfl)
theorem dX12_meet_10 : decode cX12_meet 10 = .ok (.if_icmp .ge 43, 3) := dk_162 0 43 (dk_at dksX12_meet_0 10 rfl rfl)
theorem dX12_meet_13 : decode cX12_meet 13 = .ok (.aload_n 0, 1) := dk_42 (dk_at dksX12_meet_0 13 rfl rfl)
theorem dX12_meet_14 : decode cX12_meet 14 = .ok (.iload_n 2, 1) := dk_28 (dk_at dksX12_meet_0 14 rfl rfl)
theorem dX12_meet_15 : decode cX12_meet 15 = .ok (.iconst 1, 1) := dk_4 (dk_at dksX12_meet_0 15 rfl rfl)
theorem dX12_meet_16 : decode cX12_meet 16 = .ok (.invokevirtual 135, 3) := dk_182 0 135 (dk_at dksX12_meet_0 16 rfl rfl)
theorem dX12_meet_19 : decode cX12_meet 19 = .ok (.iconst 1, 1) := dk_4 (dk_at dksX12_meet_0 19 rfl rfl)
theorem dX12_meet_20 : decode cX12_meet 20 = .ok (.if_icmp .ne 27, 3) := dk_160 0 27 (dk_at dksX12_meet_0 20 rfl rfl)
theorem dX12_meet_23 : decode cX12_meet 23 = .ok (.aload_n 0, 1) := dk_42 (dk_at dksX12_meet_0 23 rfl rfl)
theorem dX12_meet_24 : decode cX12_meet 24 = .ok (.getfield 34, 3) := dk_180 0 34 (dk_at dksX12_meet_1 0 rfl rfl)
theorem dX12_meet_27 : decode cX12_meet 27 = .ok (.iconst 0, 1) := dk_3 (dk_at dksX12_meet_1 3 rfl rfl)
theorem dX12_meet_28 : decode cX12_meet 28 = .ok (.iaload, 1) := dk_46 (dk_at dksX12_meet_1 4 rfl rfl)
theorem dX12_meet_29 : decode cX12_meet 29 = .ok (.bipush 90, 2) := dk_16 90 (dk_at dksX12_meet_1 5 rfl rfl)
theorem dX12_meet_31 : decode cX12_meet 31 = .ok (.if_icmp .ne 10, 3) := dk_160 0 10 (dk_at dksX12_meet_1 7 rfl rfl)
theorem dX12_meet_34 : decode cX12_meet 34 = .ok (.aload_n 0, 1) := dk_42 (dk_at dksX12_meet_1 10 rfl rfl)
theorem dX12_meet_35 : decode cX12_meet 35 = .ok (.bipush (-6), 2) := dk_16 250 (dk_at dksX12_meet_1 11 rfl rfl)
theorem dX12_meet_37 : decode cX12_meet 37 = .ok (.invokevirtual 183, 3) := dk_182 0 183 (dk_at dksX12_meet_1 13 rfl rfl)
theorem dX12_meet_40 : decode cX12_meet 40 = .ok (.ireturn, 1) := dk_172 (dk_at dksX12_meet_1 16 rfl rfl)
theorem dX12_meet_41 : decode cX12_meet 41 = .ok (.aload_n 0, 1) := dk_42 (dk_at dksX12_meet_1 17 rfl rfl)
theorem dX12_meet_42 : decode cX12_meet 42 = .ok (.iload_n 2, 1) := dk_28 (dk_at dksX12_meet_1 18 rfl rfl)
theorem dX12_meet_43 : decode cX12_meet 43 = .ok (.invokevirtual 300, 3) := dk_182 1 44 (dk_at dksX12_meet_1 19 rfl rfl)
theorem dX12_meet_46 : decode cX12_meet 46 = .ok (.istore_n 3, 1) := dk_62 (dk_at dksX12_meet_1 22 rfl rfl)
theorem dX12_meet_47 : decode cX12_meet 47 = .ok (.iinc 2 1, 3) := dk_132 2 1 (dk_at dksX12_meet_2 0 rfl rfl)
theorem dX12_meet_50 : decode cX12_meet 50 = .ok (.goto (-42), 3) := dk_167 255 214 (dk_at dksX12_meet_2 3 rfl rfl)
theorem dX12_meet_53 : decode cX12_meet 53 = .ok (.aload_n 0, 1) := dk_42 (dk_at dksX12_meet_2 6 rfl rfl)
theorem dX12_meet_54 : decode cX12_meet 54 = .ok (.invokevirtual 306, 3) := dk_182 1 50 (dk_at dksX12_meet_2 7 rfl rfl)
theorem dX12_meet_57 : decode cX12_meet 57 = .ok (.aload_n 0, 1) := dk_42 (dk_at dksX12_meet_2 10 rfl rfl)
theorem dX12_meet_58 : decode cX12_meet 58 = .ok (.invokevirtual 309, 3) := dk_182 1 53 (dk_at dksX12_meet_2 11 rfl rfl)
theorem dX12_meet_61 : decode cX12_meet 61 = .ok (.istore_n 1, 1) := dk_60 (dk_at dksX12_meet_2 14 rfl rfl)
theorem dX12_meet_62 : decode cX12_meet 62 = .ok (.goto (-60), 3) := dk_167 255 196 (dk_at dksX12_meet_2 15 rfl rfl)
theorem dX12_meet_65 : decode cX12_meet 65 = .ok (.aload_n 0, 1) := dk_42 (dk_at dksX12_meet_2 18 rfl rfl)
theorem dX12_meet_66 : decode cX12_meet 66 = .ok (.getfield 34, 3) := dk_180 0 34 (dk_at dksX12_meet_2 19 rfl rfl)
theorem dX12_meet_69 : decode cX12_meet 69 = .ok (.iconst 0, 1) := dk_3 (dk_at dksX12_meet_2 22 rfl rfl)
theorem dX12_meet_70 : decode cX12_meet 70 = .ok (.iaload, 1) := dk_46 (dk_at dksX12_meet_2 23 rfl rfl)
theorem dX12_meet_71 : decode cX12_meet 71 = .ok (.ireturn, 1) := dk_172 (dk_at dksX12_meet_3 0 rfl rfl)
abbrev cX12_hearAll : ByteArray := prog_24_method_69_code
def yX12_hearAll : MethodName := ⟨RX12, "hearAll", "()V"⟩
def dkwX12_hearAll_1 : List UInt8 := [182, 1, 47, 167, 255, 236, 132, 1, 1, 167, 255, 225, 177]
abbrev dktX12_hearAll_1 : List UInt8 := dkwX12_hearAll_1 ++ []
def dkwX12_hearAll_0 : List UInt8 := [3, 60, 27, 7, 162, 0, 32, 42, 27, 3, 182, 0, 135, 42, 180, 0, 34, 3, 46, 162, 0, 11, 42, 27]
abbrev dktX12_hearAll_0 : List UInt8 := dkwX12_hearAll_0 ++ dktX12_hearAll_1
theorem dksX12_hearAll_0 : cX12_hearAll.data.toList.drop 0 = dktX12_hearAll_0 := by decide +kernel
theorem dksX12_hearAll_1 : cX12_hearAll.data.toList.drop 24 = dktX12_hearAll_1 := dk_seg dksX12_hearAll_0 24 rfl rfl
theorem dX12_hearAll_0 : decode cX12_hearAll 0 = .ok (.iconst 0, 1) := dk_3 (dk_at dksX12_hearAll_0 0 rfl rfl)
theorem dX12_hearAll_1 : decode cX12_hearAll 1 = .ok (.istore_n 1, 1) := dk_60 (dk_at dksX12_hearAll_0 1 rfl rfl)
theorem dX12_hearAll_2 : decode cX12_hearAll 2 = .ok (.iload_n 1, 1) := dk_27 (dk_at dksX12_hearAll_0 2 rfl rfl)
theorem dX12_hearAll_3 : decode cX12_hearAll 3 = .ok (.iconst 4, 1) := dk_7 (dk_at dksX12_hearAll_0 3 rfl rfl)
theorem dX12_hearAll_4 : decode cX12_hearAll 4 = .ok (.if_icmp .ge 32, 3) := dk_162 0 32 (dk_at dksX12_hearAll_0 4 rfl rfl)
theorem dX12_hearAll_7 : decode cX12_hearAll 7 = .ok (.aload_n 0, 1) := dk_42 (dk_at dksX12_hearAll_0 7 rfl rfl)
theorem dX12_hearAll_8 : decode cX12_hearAll 8 = .ok (.iload_n 1, 1) := dk_27 (dk_at dksX12_hearAll_0 8 rfl rfl)
theorem dX12_hearAll_9 : decode cX12_hearAll 9 = .ok (.iconst 0, 1) := dk_3 (dk_at dksX12_hearAll_0 9 rfl rfl)
theorem dX12_hearAll_10 : decode cX12_hearAll 10 = .ok (.invokevirtual 135, 3) := dk_182 0 135 (dk_at dksX12_hearAll_0 10 rfl rfl)
theorem dX12_hearAll_13 : decode cX12_hearAll 13 = .ok (.aload_n 0, 1) := dk_42 (dk_at dksX12_hearAll_0 13 rfl rfl)
theorem dX12_hearAll_14 : decode cX12_hearAll 14 = .ok (.getfield 34, 3) := dk_180 0 34 (dk_at dksX12_hearAll_0 14 rfl rfl)
theorem dX12_hearAll_17 : decode cX12_hearAll 17 = .ok (.iconst 0, 1) := dk_3 (dk_at dksX12_hearAll_0 17 rfl rfl)
theorem dX12_hearAll_18 : decode cX12_hearAll 18 = .ok (.iaload, 1) := dk_46 (dk_at dksX12_hearAll_0 18 rfl rfl)
theorem dX12_hearAll_19 : decode cX12_hearAll 19 = .ok (.if_icmp .ge 11, 3) := dk_162 0 11 (dk_at dksX12_hearAll_0 19 rfl rfl)
theorem dX12_hearAll_22 : decode cX12_hearAll 22 = .ok (.aload_n 0, 1) := dk_42 (dk_at dksX12_hearAll_0 22 rfl rfl)
theorem dX12_hearAll_23 : decode cX12_hearAll 23 = .ok (.iload_n 1, 1) := dk_27 (dk_at dksX12_hearAll_0 23 rfl rfl)
theorem dX12_hearAll_24 : decode cX12_hearAll 24 = .ok (.invokevirtual 303, 3) := dk_182 1 47 (dk_at dksX12_hearAll_1 0 rfl rfl)
theorem dX12_hearAll_27 : decode cX12_hearAll 27 = .ok (.goto (-20), 3) := dk_167 255 236 (dk_at dksX12_hearAll_1 3 rfl rfl)
theorem dX12_hearAll_30 : decode cX12_hearAll 30 = .ok (.iinc 1 1, 3) := dk_132 1 1 (dk_at dksX12_hearAll_1 6 rfl rfl)
theorem dX12_hearAll_33 : decode cX12_hearAll 33 = .ok (.goto (-31), 3) := dk_167 255 225 (dk_at dksX12_hearAll_1 9 rfl rfl)
theorem dX12_hearAll_36 : decode cX12_hearAll 36 = .ok (.return_, 1) := dk_177 (dk_at dksX12_hearAll_1 12 rfl rfl)
abbrev cX12_isAnySent : ByteArray := prog_24_method_70_code
def yX12_isAnySent : MethodName := ⟨RX12, "isAnySent", "()Z"⟩
def dkwX12_isAnySent_1 : List UInt8 := [167, 0, 4, 3, 60, 132, 2, 1, 167, 255, 228, 27, 172]
abbrev dktX12_isAnySent_1 : List UInt8 := dkwX12_isAnySent_1 ++ []
def dkwX12_isAnySent_0 : List UInt8 := [3, 60, 3, 61, 28, 7, 162, 0, 29, 27, 154, 0, 13, 42, 28, 4, 182, 0, 135, 4, 160, 0, 7, 4]
abbrev dktX12_isAnySent_0 : List UInt8 := dkwX12_isAnySent_0 ++ dktX12_isAnySent_1
theorem dksX12_isAnySent_0 : cX12_isAnySent.data.toList.drop 0 = dktX12_isAnySent_0 := by decide +kernel
theorem dksX12_isAnySent_1 : cX12_isAnySent.data.toList.drop 24 = dktX12_isAnySent_1 := dk_seg dksX12_isAnySent_0 24 rfl rfl
theorem dX12_isAnySent_0 : decode cX12_isAnySent 0 = .ok (.iconst 0, 1) := dk_3 (dk_at dksX12_isAnySent_0 0 rfl rfl)
theorem dX12_isAnySent_1 : decode cX12_isAnySent 1 = .ok (.istore_n 1, 1) := dk_60 (dk_at dksX12_isAnySent_0 1 rfl rfl)
theorem dX12_isAnySent_2 : decode cX12_isAnySent 2 = .ok (.iconst 0, 1) := dk_3 (dk_at dksX12_isAnySent_0 2 rfl rfl)
theorem dX12_isAnySent_3 : decode cX12_isAnySent 3 = .ok (.istore_n 2, 1) := dk_61 (dk_at dksX12_isAnySent_0 3 rfl rfl)
theorem dX12_isAnySent_4 : decode cX12_isAnySent 4 = .ok (.iload_n 2, 1) := dk_28 (dk_at dksX12_isAnySent_0 4 rfl rfl)
theorem dX12_isAnySent_5 : decode cX12_isAnySent 5 = .ok (.iconst 4, 1) := dk_7 (dk_at dksX12_isAnySent_0 5 rfl rfl)
theorem dX12_isAnySent_6 : decode cX12_isAnySent 6 = .ok (.if_icmp .ge 29, 3) := dk_162 0 29 (dk_at dksX12_isAnySent_0 6 rfl rfl)
theorem dX12_isAnySent_9 : decode cX12_isAnySent 9 = .ok (.iload_n 1, 1) := dk_27 (dk_at dksX12_isAnySent_0 9 rfl rfl)
theorem dX12_isAnySent_10 : decode cX12_isAnySent 10 = .ok (.ifCond .ne 13, 3) := dk_154 0 13 (dk_at dksX12_isAnySent_0 10 rfl rfl)
theorem dX12_isAnySent_13 : decode cX12_isAnySent 13 = .ok (.aload_n 0, 1) := dk_42 (dk_at dksX12_isAnySent_0 13 rfl rfl)
theorem dX12_isAnySent_14 : decode cX12_isAnySent 14 = .ok (.iload_n 2, 1) := dk_28 (dk_at dksX12_isAnySent_0 14 rfl rfl)
theorem dX12_isAnySent_15 : decode cX12_isAnySent 15 = .ok (.iconst 1, 1) := dk_4 (dk_at dksX12_isAnySent_0 15 rfl rfl)
theorem dX12_isAnySent_16 : decode cX12_isAnySent 16 = .ok (.invokevirtual 135, 3) := dk_182 0 135 (dk_at dksX12_isAnySent_0 16 rfl rfl)
theorem dX12_isAnySent_19 : decode cX12_isAnySent 19 = .ok (.iconst 1, 1) := dk_4 (dk_at dksX12_isAnySent_0 19 rfl rfl)
theorem dX12_isAnySent_20 : decode cX12_isAnySent 20 = .ok (.if_icmp .ne 7, 3) := dk_160 0 7 (dk_at dksX12_isAnySent_0 20 rfl rfl)
theorem dX12_isAnySent_23 : decode cX12_isAnySent 23 = .ok (.iconst 1, 1) := dk_4 (dk_at dksX12_isAnySent_0 23 rfl rfl)
theorem dX12_isAnySent_24 : decode cX12_isAnySent 24 = .ok (.goto 4, 3) := dk_167 0 4 (dk_at dksX12_isAnySent_1 0 rfl rfl)
theorem dX12_isAnySent_27 : decode cX12_isAnySent 27 = .ok (.iconst 0, 1) := dk_3 (dk_at dksX12_isAnySent_1 3 rfl rfl)
theorem dX12_isAnySent_28 : decode cX12_isAnySent 28 = .ok (.istore_n 1, 1) := dk_60 (dk_at dksX12_isAnySent_1 4 rfl rfl)
theorem dX12_isAnySent_29 : decode cX12_isAnySent 29 = .ok (.iinc 2 1, 3) := dk_132 2 1 (dk_at dksX12_isAnySent_1 5 rfl rfl)
theorem dX12_isAnySent_32 : decode cX12_isAnySent 32 = .ok (.goto (-28), 3) := dk_167 255 228 (dk_at dksX12_isAnySent_1 8 rfl rfl)
theorem dX12_isAnySent_35 : decode cX12_isAnySent 35 = .ok (.iload_n 1, 1) := dk_27 (dk_at dksX12_isAnySent_1 11 rfl rfl)
theorem dX12_isAnySent_36 : decode cX12_isAnySent 36 = .ok (.ireturn, 1) := dk_172 (dk_at dksX12_isAnySent_1 12 rfl rfl)
abbrev cX12_undo : ByteArray := prog_24_method_73_code
def yX12_undo : MethodName := ⟨RX12, "undo", "(I)I"⟩
def dkwX12_undo_1 : List UInt8 := [156, 0, 11, 42, 28, 182, 0, 183, 167, 0, 9, 42, 27, 7, 182, 0, 135, 172]
abbrev dktX12_undo_1 : List UInt8 := dkwX12_undo_1 ++ []
def dkwX12_undo_0 : List UInt8 := [27, 184, 1, 16, 154, 0, 10, 42, 16, 254, 182, 0, 183, 172, 42, 27, 7, 182, 1, 56, 61, 28]
abbrev dktX12_undo_0 : List UInt8 := dkwX12_undo_0 ++ dktX12_undo_1
theorem dksX12_undo_0 : cX12_undo.data.toList.drop 0 = dktX12_undo_0 := by decide +kernel
theorem dksX12_undo_1 : cX12_undo.data.toList.drop 22 = dktX12_undo_1 := dk_seg dksX12_undo_0 22 rfl rfl
theorem dX12_undo_0 : decode cX12_undo 0 = .ok (.iload_n 1, 1) := dk_27 (dk_at dksX12_undo_0 0 rfl rfl)
theorem dX12_undo_1 : decode cX12_undo 1 = .ok (.invokestatic 272, 3) := dk_184 1 16 (dk_at dksX12_undo_0 1 rfl rfl)
theorem dX12_undo_4 : decode cX12_undo 4 = .ok (.ifCond .ne 10, 3) := dk_154 0 10 (dk_at dksX12_undo_0 4 rfl rfl)
theorem dX12_undo_7 : decode cX12_undo 7 = .ok (.aload_n 0, 1) := dk_42 (dk_at dksX12_undo_0 7 rfl rfl)
theorem dX12_undo_8 : decode cX12_undo 8 = .ok (.bipush (-2), 2) := dk_16 254 (dk_at dksX12_undo_0 8 rfl rfl)
theorem dX12_undo_10 : decode cX12_undo 10 = .ok (.invokevirtual 183, 3) := dk_182 0 183 (dk_at dksX12_undo_0 10 rfl rfl)
theorem dX12_undo_13 : decode cX12_undo 13 = .ok (.ireturn, 1) := dk_172 (dk_at dksX12_undo_0 13 rfl rfl)
theorem dX12_undo_14 : decode cX12_undo 14 = .ok (.aload_n 0, 1) := dk_42 (dk_at dksX12_undo_0 14 rfl rfl)
theorem dX12_undo_15 : decode cX12_undo 15 = .ok (.iload_n 1, 1) := dk_27 (dk_at dksX12_undo_0 15 rfl rfl)
theorem dX12_undo_16 : decode cX12_undo 16 = .ok (.iconst 4, 1) := dk_7 (dk_at dksX12_undo_0 16 rfl rfl)
theorem dX12_undo_17 : decode cX12_undo 17 = .ok (.invokevirtual 312, 3) := dk_182 1 56 (dk_at dksX12_undo_0 17 rfl rfl)
theorem dX12_undo_20 : decode cX12_undo 20 = .ok (.istore_n 2, 1) := dk_61 (dk_at dksX12_undo_0 20 rfl rfl)
theorem dX12_undo_21 : decode cX12_undo 21 = .ok (.iload_n 2, 1) := dk_28 (dk_at dksX12_undo_0 21 rfl rfl)
theorem dX12_undo_22 : decode cX12_undo 22 = .ok (.ifCond .ge 11, 3) := dk_156 0 11 (dk_at dksX12_undo_1 0 rfl rfl)
theorem dX12_undo_25 : decode cX12_undo 25 = .ok (.aload_n 0, 1) := dk_42 (dk_at dksX12_undo_1 3 rfl rfl)
theorem dX12_undo_26 : decode cX12_undo 26 = .ok (.iload_n 2, 1) := dk_28 (dk_at dksX12_undo_1 4 rfl rfl)
theorem dX12_undo_27 : decode cX12_undo 27 = .ok (.invokevirtual 183, 3) := dk_182 0 183 (dk_at dksX12_undo_1 5 rfl rfl)
theorem dX12_undo_30 : decode cX12_undo 30 = .ok (.goto 9, 3) := dk_167 0 9 (dk_at dksX12_undo_1 8 rfl rfl)
theorem dX12_undo_33 : decode cX12_undo 33 = .ok (.aload_n 0, 1) := dk_42 (dk_at dksX12_undo_1 11 rfl rfl)
theorem dX12_undo_34 : decode cX12_undo 34 = .ok (.iload_n 1, 1) := dk_27 (dk_at dksX12_undo_1 12 rfl rfl)
theorem dX12_undo_35 : decode cX12_undo 35 = .ok (.iconst 4, 1) := dk_7 (dk_at dksX12_undo_1 13 rfl rfl)
theorem dX12_undo_36 : decode cX12_undo 36 = .ok (.invokevirtual 135, 3) := dk_182 0 135 (dk_at dksX12_undo_1 14 rfl rfl)
theorem dX12_undo_39 : decode cX12_undo 39 = .ok (.ireturn, 1) := dk_172 (dk_at dksX12_undo_1 17 rfl rfl)
abbrev cX12_again : ByteArray := prog_24_method_72_code
def yX12_again : MethodName := ⟨RX12, "again", "(II)I"⟩
def dkwX12_again_3 : List UInt8 := [28, 100, 3, 182, 1, 27, 3, 172]
abbrev dktX12_again_3 : List UInt8 := dkwX12_again_3 ++ []
def dkwX12_again_2 : List UInt8 := [153, 0, 6, 16, 250, 172, 42, 180, 0, 28, 16, 8, 27, 104, 28, 96, 29, 4, 100, 79, 42, 27, 16, 9]
abbrev dktX12_again_2 : List UInt8 := dkwX12_again_2 ++ dktX12_again_3
def dkwX12_again_1 : List UInt8 := [167, 0, 5, 16, 104, 16, 20, 27, 104, 96, 29, 96, 4, 100, 182, 0, 97, 42, 27, 3, 182, 1, 24]
abbrev dktX12_again_1 : List UInt8 := dkwX12_again_1 ++ dktX12_again_2
def dkwX12_again_0 : List UInt8 := [42, 27, 28, 182, 0, 135, 62, 29, 154, 0, 6, 16, 251, 172, 42, 3, 28, 7, 160, 0, 8, 16, 24]
abbrev dktX12_again_0 : List UInt8 := dkwX12_again_0 ++ dktX12_again_1
theorem dksX12_again_0 : cX12_again.data.toList.drop 0 = dktX12_again_0 := by decide +kernel
theorem dksX12_again_1 : cX12_again.data.toList.drop 23 = dktX12_again_1 := dk_seg dksX12_again_0 23 rfl rfl
theorem dksX12_again_2 : cX12_again.data.toList.drop 46 = dktX12_again_2 := dk_seg dksX12_again_1 23 rfl rfl
theorem dksX12_again_3 : cX12_again.data.toList.drop 70 = dktX12_again_3 := dk_seg dksX12_again_2 24 rfl rfl
theorem dX12_again_0 : decode cX12_again 0 = .ok (.aload_n 0, 1) := dk_42 (dk_at dksX12_again_0 0 rfl rfl)
theorem dX12_again_1 : decode cX12_again 1 = .ok (.iload_n 1, 1) := dk_27 (dk_at dksX12_again_0 1 rfl rfl)
theorem dX12_again_2 : decode cX12_again 2 = .ok (.iload_n 2, 1) := dk_28 (dk_at dksX12_again_0 2 rfl rfl)
theorem dX12_again_3 : decode cX12_again 3 = .ok (.invokevirtual 135, 3) := dk_182 0 135 (dk_at dksX12_again_0 3 rfl rfl)
theorem dX12_again_6 : decode cX12_again 6 = .ok (.istore_n 3, 1) := dk_62 (dk_at dksX12_again_0 6 rfl rfl)
theorem dX12_again_7 : decode cX12_again 7 = .ok (.iload_n 3, 1) := dk_29 (dk_at dksX12_again_0 7 rfl rfl)
theorem dX12_again_8 : decode cX12_again 8 = .ok (.ifCond .ne 6, 3) := dk_154 0 6 (dk_at dksX12_again_0 8 rfl rfl)
theorem dX12_again_11 : decode cX12_again 11 = .ok (.bipush (-5), 2) := dk_16 251 (dk_at dksX12_again_0 11 rfl rfl)
theorem dX12_again_13 : decode cX12_again 13 = .ok (.ireturn, 1) := dk_172 (dk_at dksX12_again_0 13 rfl rfl)
theorem dX12_again_14 : decode cX12_again 14 = .ok (.aload_n 0, 1) := dk_42 (dk_at dksX12_again_0 14 rfl rfl)
theorem dX12_again_15 : decode cX12_again 15 = .ok (.iconst 0, 1) := dk_3 (dk_at dksX12_again_0 15 rfl rfl)
theorem dX12_again_16 : decode cX12_again 16 = .ok (.iload_n 2, 1) := dk_28 (dk_at dksX12_again_0 16 rfl rfl)
theorem dX12_again_17 : decode cX12_again 17 = .ok (.iconst 4, 1) := dk_7 (dk_at dksX12_again_0 17 rfl rfl)
theorem dX12_again_18 : decode cX12_again 18 = .ok (.if_icmp .ne 8, 3) := dk_160 0 8 (dk_at dksX12_again_0 18 rfl rfl)
theorem dX12_again_21 : decode cX12_again 21 = .ok (.bipush 24, 2) := dk_16 24 (dk_at dksX12_again_0 21 rfl rfl)
theorem dX12_again_23 : decode cX12_again 23 = .ok (.goto 5, 3) := dk_167 0 5 (dk_at dksX12_again_1 0 rfl rfl)
theorem dX12_again_26 : decode cX12_again 26 = .ok (.bipush 104, 2) := dk_16 104 (dk_at dksX12_again_1 3 rfl rfl)
theorem dX12_again_28 : decode cX12_again 28 = .ok (.bipush 20, 2) := dk_16 20 (dk_at dksX12_again_1 5 rfl rfl)
theorem dX12_again_30 : decode cX12_again 30 = .ok (.iload_n 1, 1) := dk_27 (dk_at dksX12_again_1 7 rfl rfl)
theorem dX12_again_31 : decode cX12_again 31 = .ok (.imul, 1) := dk_104 (dk_at dksX12_again_1 8 rfl rfl)
theorem dX12_again_32 : decode cX12_again 32 = .ok (.iadd, 1) := dk_96 (dk_at dksX12_again_1 9 rfl rfl)
theorem dX12_again_33 : decode cX12_again 33 = .ok (.iload_n 3, 1) := dk_29 (dk_at dksX12_again_1 10 rfl rfl)
theorem dX12_again_34 : decode cX12_again 34 = .ok (.iadd, 1) := dk_96 (dk_at dksX12_again_1 11 rfl rfl)
theorem dX12_again_35 : decode cX12_again 35 = .ok (.iconst 1, 1) := dk_4 (dk_at dksX12_again_1 12 rfl rfl)
theorem dX12_again_36 : decode cX12_again 36 = .ok (.isub, 1) := dk_100 (dk_at dksX12_again_1 13 rfl rfl)
theorem dX12_again_37 : decode cX12_again 37 = .ok (.invokevirtual 97, 3) := dk_182 0 97 (dk_at dksX12_again_1 14 rfl rfl)
theorem dX12_again_40 : decode cX12_again 40 = .ok (.aload_n 0, 1) := dk_42 (dk_at dksX12_again_1 17 rfl rfl)
theorem dX12_again_41 : decode cX12_again 41 = .ok (.iload_n 1, 1) := dk_27 (dk_at dksX12_again_1 18 rfl rfl)
theorem dX12_again_42 : decode cX12_again 42 = .ok (.iconst 0, 1) := dk_3 (dk_at dksX12_again_1 19 rfl rfl)
theorem dX12_again_43 : decode cX12_again 43 = .ok (.invokevirtual 280, 3) := dk_182 1 24 (dk_at dksX12_again_1 20 rfl rfl)
theorem dX12_again_46 : decode cX12_again 46 = .ok (.ifCond .eq 6, 3) := dk_153 0 6 (dk_at dksX12_again_2 0 rfl rfl)
theorem dX12_again_49 : decode cX12_again 49 = .ok (.bipush (-6), 2) := dk_16 250 (dk_at dksX12_again_2 3 rfl rfl)
theorem dX12_again_51 : decode cX12_again 51 = .ok (.ireturn, 1) := dk_172 (dk_at dksX12_again_2 5 rfl rfl)
theorem dX12_again_52 : decode cX12_again 52 = .ok (.aload_n 0, 1) := dk_42 (dk_at dksX12_again_2 6 rfl rfl)
theorem dX12_again_53 : decode cX12_again 53 = .ok (.getfield 28, 3) := dk_180 0 28 (dk_at dksX12_again_2 7 rfl rfl)
theorem dX12_again_56 : decode cX12_again 56 = .ok (.bipush 8, 2) := dk_16 8 (dk_at dksX12_again_2 10 rfl rfl)
theorem dX12_again_58 : decode cX12_again 58 = .ok (.iload_n 1, 1) := dk_27 (dk_at dksX12_again_2 12 rfl rfl)
theorem dX12_again_59 : decode cX12_again 59 = .ok (.imul, 1) := dk_104 (dk_at dksX12_again_2 13 rfl rfl)
theorem dX12_again_60 : decode cX12_again 60 = .ok (.iload_n 2, 1) := dk_28 (dk_at dksX12_again_2 14 rfl rfl)
theorem dX12_again_61 : decode cX12_again 61 = .ok (.iadd, 1) := dk_96 (dk_at dksX12_again_2 15 rfl rfl)
theorem dX12_again_62 : decode cX12_again 62 = .ok (.iload_n 3, 1) := dk_29 (dk_at dksX12_again_2 16 rfl rfl)
theorem dX12_again_63 : decode cX12_again 63 = .ok (.iconst 1, 1) := dk_4 (dk_at dksX12_again_2 17 rfl rfl)
theorem dX12_again_64 : decode cX12_again 64 = .ok (.isub, 1) := dk_100 (dk_at dksX12_again_2 18 rfl rfl)
theorem dX12_again_65 : decode cX12_again 65 = .ok (.iastore, 1) := dk_79 (dk_at dksX12_again_2 19 rfl rfl)
theorem dX12_again_66 : decode cX12_again 66 = .ok (.aload_n 0, 1) := dk_42 (dk_at dksX12_again_2 20 rfl rfl)
theorem dX12_again_67 : decode cX12_again 67 = .ok (.iload_n 1, 1) := dk_27 (dk_at dksX12_again_2 21 rfl rfl)
theorem dX12_again_68 : decode cX12_again 68 = .ok (.bipush 9, 2) := dk_16 9 (dk_at dksX12_again_2 22 rfl rfl)
theorem dX12_again_70 : decode cX12_again 70 = .ok (.iload_n 2, 1) := dk_28 (dk_at dksX12_again_3 0 rfl rfl)
theorem dX12_again_71 : decode cX12_again 71 = .ok (.isub, 1) := dk_100 (dk_at dksX12_again_3 1 rfl rfl)
theorem dX12_again_72 : decode cX12_again 72 = .ok (.iconst 0, 1) := dk_3 (dk_at dksX12_again_3 2 rfl rfl)
theorem dX12_again_73 : decode cX12_again 73 = .ok (.invokevirtual 283, 3) := dk_182 1 27 (dk_at dksX12_again_3 3 rfl rfl)
theorem dX12_again_76 : decode cX12_again 76 = .ok (.iconst 0, 1) := dk_3 (dk_at dksX12_again_3 6 rfl rfl)
theorem dX12_again_77 : decode cX12_again 77 = .ok (.ireturn, 1) := dk_172 (dk_at dksX12_again_3 7 rfl rfl)
abbrev cX12_redo : ByteArray := prog_24_method_74_code
def yX12_redo : MethodName := ⟨RX12, "redo", "(I)I"⟩
def dkwX12_redo_1 : List UInt8 := [156, 0, 11, 42, 28, 182, 0, 183, 167, 0, 9, 42, 27, 8, 182, 0, 135, 172]
abbrev dktX12_redo_1 : List UInt8 := dkwX12_redo_1 ++ []
def dkwX12_redo_0 : List UInt8 := [27, 184, 1, 16, 154, 0, 10, 42, 16, 254, 182, 0, 183, 172, 42, 27, 8, 182, 1, 56, 61, 28]
abbrev dktX12_redo_0 : List UInt8 := dkwX12_redo_0 ++ dktX12_redo_1
theorem dksX12_redo_0 : cX12_redo.data.toList.drop 0 = dktX12_redo_0 := by decide +kernel
theorem dksX12_redo_1 : cX12_redo.data.toList.drop 22 = dktX12_redo_1 := dk_seg dksX12_redo_0 22 rfl rfl
theorem dX12_redo_0 : decode cX12_redo 0 = .ok (.iload_n 1, 1) := dk_27 (dk_at dksX12_redo_0 0 rfl rfl)
theorem dX12_redo_1 : decode cX12_redo 1 = .ok (.invokestatic 272, 3) := dk_184 1 16 (dk_at dksX12_redo_0 1 rfl rfl)
theorem dX12_redo_4 : decode cX12_redo 4 = .ok (.ifCond .ne 10, 3) := dk_154 0 10 (dk_at dksX12_redo_0 4 rfl rfl)
theorem dX12_redo_7 : decode cX12_redo 7 = .ok (.aload_n 0, 1) := dk_42 (dk_at dksX12_redo_0 7 rfl rfl)
theorem dX12_redo_8 : decode cX12_redo 8 = .ok (.bipush (-2), 2) := dk_16 254 (dk_at dksX12_redo_0 8 rfl rfl)
theorem dX12_redo_10 : decode cX12_redo 10 = .ok (.invokevirtual 183, 3) := dk_182 0 183 (dk_at dksX12_redo_0 10 rfl rfl)
theorem dX12_redo_13 : decode cX12_redo 13 = .ok (.ireturn, 1) := dk_172 (dk_at dksX12_redo_0 13 rfl rfl)
theorem dX12_redo_14 : decode cX12_redo 14 = .ok (.aload_n 0, 1) := dk_42 (dk_at dksX12_redo_0 14 rfl rfl)
theorem dX12_redo_15 : decode cX12_redo 15 = .ok (.iload_n 1, 1) := dk_27 (dk_at dksX12_redo_0 15 rfl rfl)
theorem dX12_redo_16 : decode cX12_redo 16 = .ok (.iconst 5, 1) := dk_8 (dk_at dksX12_redo_0 16 rfl rfl)
theorem dX12_redo_17 : decode cX12_redo 17 = .ok (.invokevirtual 312, 3) := dk_182 1 56 (dk_at dksX12_redo_0 17 rfl rfl)
theorem dX12_redo_20 : decode cX12_redo 20 = .ok (.istore_n 2, 1) := dk_61 (dk_at dksX12_redo_0 20 rfl rfl)
theorem dX12_redo_21 : decode cX12_redo 21 = .ok (.iload_n 2, 1) := dk_28 (dk_at dksX12_redo_0 21 rfl rfl)
theorem dX12_redo_22 : decode cX12_redo 22 = .ok (.ifCond .ge 11, 3) := dk_156 0 11 (dk_at dksX12_redo_1 0 rfl rfl)
theorem dX12_redo_25 : decode cX12_redo 25 = .ok (.aload_n 0, 1) := dk_42 (dk_at dksX12_redo_1 3 rfl rfl)
theorem dX12_redo_26 : decode cX12_redo 26 = .ok (.iload_n 2, 1) := dk_28 (dk_at dksX12_redo_1 4 rfl rfl)
theorem dX12_redo_27 : decode cX12_redo 27 = .ok (.invokevirtual 183, 3) := dk_182 0 183 (dk_at dksX12_redo_1 5 rfl rfl)
theorem dX12_redo_30 : decode cX12_redo 30 = .ok (.goto 9, 3) := dk_167 0 9 (dk_at dksX12_redo_1 8 rfl rfl)
theorem dX12_redo_33 : decode cX12_redo 33 = .ok (.aload_n 0, 1) := dk_42 (dk_at dksX12_redo_1 11 rfl rfl)
theorem dX12_redo_34 : decode cX12_redo 34 = .ok (.iload_n 1, 1) := dk_27 (dk_at dksX12_redo_1 12 rfl rfl)
theorem dX12_redo_35 : decode cX12_redo 35 = .ok (.iconst 5, 1) := dk_8 (dk_at dksX12_redo_1 13 rfl rfl)
theorem dX12_redo_36 : decode cX12_redo 36 = .ok (.invokevirtual 135, 3) := dk_182 0 135 (dk_at dksX12_redo_1 14 rfl rfl)
theorem dX12_redo_39 : decode cX12_redo 39 = .ok (.ireturn, 1) := dk_172 (dk_at dksX12_redo_1 17 rfl rfl)
abbrev cX12_point : ByteArray := prog_24_method_75_code
def yX12_point : MethodName := ⟨RX12, "point", "(III)I"⟩
def dkwX12_point_3 : List UInt8 := [79, 4, 172]
abbrev dktX12_point_3 : List UInt8 := dkwX12_point_3 ++ []
def dkwX12_point_2 : List UInt8 := [180, 0, 28, 16, 8, 27, 104, 16, 6, 96, 28, 79, 42, 180, 0, 28, 16, 8, 27, 104, 16, 7, 96, 29]
abbrev dktX12_point_2 : List UInt8 := dkwX12_point_2 ++ dktX12_point_3
def dkwX12_point_1 : List UInt8 := [133, 9, 42, 180, 0, 25, 27, 46, 133, 184, 0, 175, 154, 0, 10, 42, 16, 254, 182, 0, 183, 172, 42]
abbrev dktX12_point_1 : List UInt8 := dkwX12_point_1 ++ dktX12_point_2
def dkwX12_point_0 : List UInt8 := [27, 184, 1, 16, 153, 0, 35, 28, 133, 9, 42, 180, 0, 25, 27, 46, 133, 184, 0, 175, 153, 0, 19, 29]
abbrev dktX12_point_0 : List UInt8 := dkwX12_point_0 ++ dktX12_point_1
theorem dksX12_point_0 : cX12_point.data.toList.drop 0 = dktX12_point_0 := by decide +kernel
theorem dksX12_point_1 : cX12_point.data.toList.drop 24 = dktX12_point_1 := dk_seg dksX12_point_0 24 rfl rfl
theorem dksX12_point_2 : cX12_point.data.toList.drop 47 = dktX12_point_2 := dk_seg dksX12_point_1 23 rfl rfl
theorem dksX12_point_3 : cX12_point.data.toList.drop 71 = dktX12_point_3 := dk_seg dksX12_point_2 24 rfl rfl
theorem dX12_point_0 : decode cX12_point 0 = .ok (.iload_n 1, 1) := dk_27 (dk_at dksX12_point_0 0 rfl rfl)
theorem dX12_point_1 : decode cX12_point 1 = .ok (.invokestatic 272, 3) := dk_184 1 16 (dk_at dksX12_point_0 1 rfl rfl)
theorem dX12_point_4 : decode cX12_point 4 = .ok (.ifCond .eq 35, 3) := dk_153 0 35 (dk_at dksX12_point_0 4 rfl rfl)
theorem dX12_point_7 : decode cX12_point 7 = .ok (.iload_n 2, 1) := dk_28 (dk_at dksX12_point_0 7 rfl rfl)
theorem dX12_point_8 : decode cX12_point 8 = .ok (.i2l, 1) := dk_133 (dk_at dksX12_point_0 8 rfl rfl)
theorem dX12_point_9 : decode cX12_point 9 = .ok (.lconst 0, 1) := dk_9 (dk_at dksX12_point_0 9 rfl rfl)
theorem dX12_point_10 : decode cX12_point 10 = .ok (.aload_n 0, 1) := dk_42 (dk_at dksX12_point_0 10 rfl rfl)
theorem dX12_point_11 : decode cX12_point 11 = .ok (.getfield 25, 3) := dk_180 0 25 (dk_at dksX12_point_0 11 rfl rfl)
theorem dX12_point_14 : decode cX12_point 14 = .ok (.iload_n 1, 1) := dk_27 (dk_at dksX12_point_0 14 rfl rfl)
theorem dX12_point_15 : decode cX12_point 15 = .ok (.iaload, 1) := dk_46 (dk_at dksX12_point_0 15 rfl rfl)
theorem dX12_point_16 : decode cX12_point 16 = .ok (.i2l, 1) := dk_133 (dk_at dksX12_point_0 16 rfl rfl)
theorem dX12_point_17 : decode cX12_point 17 = .ok (.invokestatic 175, 3) := dk_184 0 175 (dk_at dksX12_point_0 17 rfl rfl)
theorem dX12_point_20 : decode cX12_point 20 = .ok (.ifCond .eq 19, 3) := dk_153 0 19 (dk_at dksX12_point_0 20 rfl rfl)
theorem dX12_point_23 : decode cX12_point 23 = .ok (.iload_n 3, 1) := dk_29 (dk_at dksX12_point_0 23 rfl rfl)
theorem dX12_point_24 : decode cX12_point 24 = .ok (.i2l, 1) := dk_133 (dk_at dksX12_point_1 0 rfl rfl)
theorem dX12_point_25 : decode cX12_point 25 = .ok (.lconst 0, 1) := dk_9 (dk_at dksX12_point_1 1 rfl rfl)
theorem dX12_point_26 : decode cX12_point 26 = .ok (.aload_n 0, 1) := dk_42 (dk_at dksX12_point_1 2 rfl rfl)
theorem dX12_point_27 : decode cX12_point 27 = .ok (.getfield 25, 3) := dk_180 0 25 (dk_at dksX12_point_1 3 rfl rfl)
theorem dX12_point_30 : decode cX12_point 30 = .ok (.iload_n 1, 1) := dk_27 (dk_at dksX12_point_1 6 rfl rfl)
theorem dX12_point_31 : decode cX12_point 31 = .ok (.iaload, 1) := dk_46 (dk_at dksX12_point_1 7 rfl rfl)
theorem dX12_point_32 : decode cX12_point 32 = .ok (.i2l, 1) := dk_133 (dk_at dksX12_point_1 8 rfl rfl)
theorem dX12_point_33 : decode cX12_point 33 = .ok (.invokestatic 175, 3) := dk_184 0 175 (dk_at dksX12_point_1 9 rfl rfl)
theorem dX12_point_36 : decode cX12_point 36 = .ok (.ifCond .ne 10, 3) := dk_154 0 10 (dk_at dksX12_point_1 12 rfl rfl)
theorem dX12_point_39 : decode cX12_point 39 = .ok (.aload_n 0, 1) := dk_42 (dk_at dksX12_point_1 15 rfl rfl)
theorem dX12_point_40 : decode cX12_point 40 = .ok (.bipush (-2), 2) := dk_16 254 (dk_at dksX12_point_1 16 rfl rfl)
theorem dX12_point_42 : decode cX12_point 42 = .ok (.invokevirtual 183, 3) := dk_182 0 183 (dk_at dksX12_point_1 18 rfl rfl)
theorem dX12_point_45 : decode cX12_point 45 = .ok (.ireturn, 1) := dk_172 (dk_at dksX12_point_1 21 rfl rfl)
theorem dX12_point_46 : decode cX12_point 46 = .ok (.aload_n 0, 1) := dk_42 (dk_at dksX12_point_1 22 rfl rfl)
theorem dX12_point_47 : decode cX12_point 47 = .ok (.getfield 28, 3) := dk_180 0 28 (dk_at dksX12_point_2 0 rfl rfl)
theorem dX12_point_50 : decode cX12_point 50 = .ok (.bipush 8, 2) := dk_16 8 (dk_at dksX12_point_2 3 rfl rfl)
theorem dX12_point_52 : decode cX12_point 52 = .ok (.iload_n 1, 1) := dk_27 (dk_at dksX12_point_2 5 rfl rfl)
theorem dX12_point_53 : decode cX12_point 53 = .ok (.imul, 1) := dk_104 (dk_at dksX12_point_2 6 rfl rfl)
theorem dX12_point_54 : decode cX12_point 54 = .ok (.bipush 6, 2) := dk_16 6 (dk_at dksX12_point_2 7 rfl rfl)
theorem dX12_point_56 : decode cX12_point 56 = .ok (.iadd, 1) := dk_96 (dk_at dksX12_point_2 9 rfl rfl)
theorem dX12_point_57 : decode cX12_point 57 = .ok (.iload_n 2, 1) := dk_28 (dk_at dksX12_point_2 10 rfl rfl)
theorem dX12_point_58 : decode cX12_point 58 = .ok (.iastore, 1) := dk_79 (dk_at dksX12_point_2 11 rfl rfl)
theorem dX12_point_59 : decode cX12_point 59 = .ok (.aload_n 0, 1) := dk_42 (dk_at dksX12_point_2 12 rfl rfl)
theorem dX12_point_60 : decode cX12_point 60 = .ok (.getfield 28, 3) := dk_180 0 28 (dk_at dksX12_point_2 13 rfl rfl)
theorem dX12_point_63 : decode cX12_point 63 = .ok (.bipush 8, 2) := dk_16 8 (dk_at dksX12_point_2 16 rfl rfl)
theorem dX12_point_65 : decode cX12_point 65 = .ok (.iload_n 1, 1) := dk_27 (dk_at dksX12_point_2 18 rfl rfl)
theorem dX12_point_66 : decode cX12_point 66 = .ok (.imul, 1) := dk_104 (dk_at dksX12_point_2 19 rfl rfl)
theorem dX12_point_67 : decode cX12_point 67 = .ok (.bipush 7, 2) := dk_16 7 (dk_at dksX12_point_2 20 rfl rfl)
theorem dX12_point_69 : decode cX12_point 69 = .ok (.iadd, 1) := dk_96 (dk_at dksX12_point_2 22 rfl rfl)
theorem dX12_point_70 : decode cX12_point 70 = .ok (.iload_n 3, 1) := dk_29 (dk_at dksX12_point_2 23 rfl rfl)
theorem dX12_point_71 : decode cX12_point 71 = .ok (.iastore, 1) := dk_79 (dk_at dksX12_point_3 0 rfl rfl)
theorem dX12_point_72 : decode cX12_point 72 = .ok (.iconst 1, 1) := dk_4 (dk_at dksX12_point_3 1 rfl rfl)
theorem dX12_point_73 : decode cX12_point 73 = .ok (.ireturn, 1) := dk_172 (dk_at dksX12_point_3 2 rfl rfl)
abbrev cX12_cursor : ByteArray := prog_24_method_76_code
def yX12_cursor : MethodName := ⟨RX12, "cursor", "(II)I"⟩
def dkwX12_cursor_1 : List UInt8 := [182, 0, 135, 167, 0, 9, 42, 16, 254, 182, 0, 183, 172]
abbrev dktX12_cursor_1 : List UInt8 := dkwX12_cursor_1 ++ []
def dkwX12_cursor_0 : List UInt8 := [27, 184, 1, 16, 153, 0, 25, 28, 133, 9, 10, 184, 0, 175, 153, 0, 15, 42, 27, 16, 6, 28, 96]
abbrev dktX12_cursor_0 : List UInt8 := dkwX12_cursor_0 ++ dktX12_cursor_1
theorem dksX12_cursor_0 : cX12_cursor.data.toList.drop 0 = dktX12_cursor_0 := by decide +kernel
theorem dksX12_cursor_1 : cX12_cursor.data.toList.drop 23 = dktX12_cursor_1 := dk_seg dksX12_cursor_0 23 rfl rfl
theorem dX12_cursor_0 : decode cX12_cursor 0 = .ok (.iload_n 1, 1) := dk_27 (dk_at dksX12_cursor_0 0 rfl rfl)
theorem dX12_cursor_1 : decode cX12_cursor 1 = .ok (.invokestatic 272, 3) := dk_184 1 16 (dk_at dksX12_cursor_0 1 rfl rfl)
theorem dX12_cursor_4 : decode cX12_cursor 4 = .ok (.ifCond .eq 25, 3) := dk_153 0 25 (dk_at dksX12_cursor_0 4 rfl rfl)
theorem dX12_cursor_7 : decode cX12_cursor 7 = .ok (.iload_n 2, 1) := dk_28 (dk_at dksX12_cursor_0 7 rfl rfl)
theorem dX12_cursor_8 : decode cX12_cursor 8 = .ok (.i2l, 1) := dk_133 (dk_at dksX12_cursor_0 8 rfl rfl)
theorem dX12_cursor_9 : decode cX12_cursor 9 = .ok (.lconst 0, 1) := dk_9 (dk_at dksX12_cursor_0 9 rfl rfl)
theorem dX12_cursor_10 : decode cX12_cursor 10 = .ok (.lconst 1, 1) := dk_10 (dk_at dksX12_cursor_0 10 rfl rfl)
theorem dX12_cursor_11 : decode cX12_cursor 11 = .ok (.invokestatic 175, 3) := dk_184 0 175 (dk_at dksX12_cursor_0 11 rfl rfl)
theorem dX12_cursor_14 : decode cX12_cursor 14 = .ok (.ifCond .eq 15, 3) := dk_153 0 15 (dk_at dksX12_cursor_0 14 rfl rfl)
theorem dX12_cursor_17 : decode cX12_cursor 17 = .ok (.aload_n 0, 1) := dk_42 (dk_at dksX12_cursor_0 17 rfl rfl)
theorem dX12_cursor_18 : decode cX12_cursor 18 = .ok (.iload_n 1, 1) := dk_27 (dk_at dksX12_cursor_0 18 rfl rfl)
theorem dX12_cursor_19 : decode cX12_cursor 19 = .ok (.bipush 6, 2) := dk_16 6 (dk_at dksX12_cursor_0 19 rfl rfl)
theorem dX12_cursor_21 : decode cX12_cursor 21 = .ok (.iload_n 2, 1) := dk_28 (dk_at dksX12_cursor_0 21 rfl rfl)
theorem dX12_cursor_22 : decode cX12_cursor 22 = .ok (.iadd, 1) := dk_96 (dk_at dksX12_cursor_0 22 rfl rfl)
theorem dX12_cursor_23 : decode cX12_cursor 23 = .ok (.invokevirtual 135, 3) := dk_182 0 135 (dk_at dksX12_cursor_1 0 rfl rfl)
theorem dX12_cursor_26 : decode cX12_cursor 26 = .ok (.goto 9, 3) := dk_167 0 9 (dk_at dksX12_cursor_1 3 rfl rfl)
theorem dX12_cursor_29 : decode cX12_cursor 29 = .ok (.aload_n 0, 1) := dk_42 (dk_at dksX12_cursor_1 6 rfl rfl)
theorem dX12_cursor_30 : decode cX12_cursor 30 = .ok (.bipush (-2), 2) := dk_16 254 (dk_at dksX12_cursor_1 7 rfl rfl)
theorem dX12_cursor_32 : decode cX12_cursor 32 = .ok (.invokevirtual 183, 3) := dk_182 0 183 (dk_at dksX12_cursor_1 9 rfl rfl)
theorem dX12_cursor_35 : decode cX12_cursor 35 = .ok (.ireturn, 1) := dk_172 (dk_at dksX12_cursor_1 12 rfl rfl)
abbrev cX12_clientOf : ByteArray := prog_24_method_77_code
def yX12_clientOf : MethodName := ⟨RX12, "clientOf", "(II)I"⟩
def dkwX12_clientOf_6 : List UInt8 := [182, 0, 135, 172, 42, 180, 0, 34, 3, 46, 42, 27, 3, 182, 0, 135, 100, 172]
abbrev dktX12_clientOf_6 : List UInt8 := dkwX12_clientOf_6 ++ []
def dkwX12_clientOf_5 : List UInt8 := [182, 0, 135, 158, 0, 14, 42, 16, 20, 27, 96, 182, 0, 221, 167, 0, 4, 3, 172, 42, 27, 28]
abbrev dktX12_clientOf_5 : List UInt8 := dkwX12_clientOf_5 ++ dktX12_clientOf_6
def dkwX12_clientOf_4 : List UInt8 := [167, 0, 4, 3, 172, 42, 27, 4, 182, 0, 135, 5, 160, 0, 7, 4, 167, 0, 4, 3, 172, 42, 27, 6]
abbrev dktX12_clientOf_4 : List UInt8 := dkwX12_clientOf_4 ++ dktX12_clientOf_5
def dkwX12_clientOf_3 : List UInt8 := [42, 27, 3, 182, 0, 135, 172, 42, 27, 4, 182, 0, 135, 158, 0, 14, 42, 16, 16, 27, 96, 182, 0, 221]
abbrev dktX12_clientOf_3 : List UInt8 := dkwX12_clientOf_3 ++ dktX12_clientOf_4
def dkwX12_clientOf_2 : List UInt8 := [170, 0, 0, 0, 111, 0, 0, 0, 0, 0, 0, 0, 5, 0, 0, 0, 37, 0, 0, 0, 44, 0, 0, 0, 66, 0, 0, 0, 82, 0, 0, 0, 104, 0, 0, 0, 104]
abbrev dktX12_clientOf_2 : List UInt8 := dkwX12_clientOf_2 ++ dktX12_clientOf_3
def dkwX12_clientOf_1 : List UInt8 := [182, 0, 183, 172, 28]
abbrev dktX12_clientOf_1 : List UInt8 := dkwX12_clientOf_1 ++ dktX12_clientOf_2
def dkwX12_clientOf_0 : List UInt8 := [27, 184, 1, 16, 153, 0, 15, 28, 133, 9, 20, 1, 59, 184, 0, 175, 154, 0, 10, 42, 16, 254]
abbrev dktX12_clientOf_0 : List UInt8 := dkwX12_clientOf_0 ++ dktX12_clientOf_1
theorem dksX12_clientOf_0 : cX12_clientOf.data.toList.drop 0 = dktX12_clientOf_0 := by decide +kernel
theorem dksX12_clientOf_1 : cX12_clientOf.data.toList.drop 22 = dktX12_clientOf_1 := dk_seg dksX12_clientOf_0 22 rfl rfl
theorem dksX12_clientOf_2 : cX12_clientOf.data.toList.drop 27 = dktX12_clientOf_2 := dk_seg dksX12_clientOf_1 5 rfl rfl
theorem dksX12_clientOf_3 : cX12_clientOf.data.toList.drop 64 = dktX12_clientOf_3 := dk_seg dksX12_clientOf_2 37 rfl rfl
theorem dksX12_clientOf_4 : cX12_clientOf.data.toList.drop 88 = dktX12_clientOf_4 := dk_seg dksX12_clientOf_3 24 rfl rfl
theorem dksX12_clientOf_5 : cX12_clientOf.data.toList.drop 112 = dktX12_clientOf_5 := dk_seg dksX12_clientOf_4 24 rfl rfl
theorem dksX12_clientOf_6 : cX12_clientOf.data.toList.drop 134 = dktX12_clientOf_6 := dk_seg dksX12_clientOf_5 22 rfl rfl
theorem dX12_clientOf_0 : decode cX12_clientOf 0 = .ok (.iload_n 1, 1) := dk_27 (dk_at dksX12_clientOf_0 0 rfl rfl)
theorem dX12_clientOf_1 : decode cX12_clientOf 1 = .ok (.invokestatic 272, 3) := dk_184 1 16 (dk_at dksX12_clientOf_0 1 rfl rfl)
theorem dX12_clientOf_4 : decode cX12_clientOf 4 = .ok (.ifCond .eq 15, 3) := dk_153 0 15 (dk_at dksX12_clientOf_0 4 rfl rfl)
theorem dX12_clientOf_7 : decode cX12_clientOf 7 = .ok (.iload_n 2, 1) := dk_28 (dk_at dksX12_clientOf_0 7 rfl rfl)
theorem dX12_clientOf_8 : decode cX12_clientOf 8 = .ok (.i2l, 1) := dk_133 (dk_at dksX12_clientOf_0 8 rfl rfl)
theorem dX12_clientOf_9 : decode cX12_clientOf 9 = .ok (.lconst 0, 1) := dk_9 (dk_at dksX12_clientOf_0 9 rfl rfl)
theorem dX12_clientOf_10 : decode cX12_clientOf 10 = .ok (.ldc2_w 315, 3) := dk_20 1 59 (dk_at dksX12_clientOf_0 10 rfl rfl)
theorem dX12_clientOf_13 : decode cX12_clientOf 13 = .ok (.invokestatic 175, 3) := dk_184 0 175 (dk_at dksX12_clientOf_0 13 rfl rfl)
theorem dX12_clientOf_16 : decode cX12_clientOf 16 = .ok (.ifCond .ne 10, 3) := dk_154 0 10 (dk_at dksX12_clientOf_0 16 rfl rfl)
theorem dX12_clientOf_19 : decode cX12_clientOf 19 = .ok (.aload_n 0, 1) := dk_42 (dk_at dksX12_clientOf_0 19 rfl rfl)
theorem dX12_clientOf_20 : decode cX12_clientOf 20 = .ok (.bipush (-2), 2) := dk_16 254 (dk_at dksX12_clientOf_0 20 rfl rfl)
theorem dX12_clientOf_22 : decode cX12_clientOf 22 = .ok (.invokevirtual 183, 3) := dk_182 0 183 (dk_at dksX12_clientOf_1 0 rfl rfl)
theorem dX12_clientOf_25 : decode cX12_clientOf 25 = .ok (.ireturn, 1) := dk_172 (dk_at dksX12_clientOf_1 3 rfl rfl)
theorem dX12_clientOf_26 : decode cX12_clientOf 26 = .ok (.iload_n 2, 1) := dk_28 (dk_at dksX12_clientOf_1 4 rfl rfl)
theorem dX12_clientOf_27 : decode cX12_clientOf 27 = .ok (.tableswitch 111 0 5 #[37, 44, 66, 82, 104, 104], 37) := by decide +kernel
theorem dX12_clientOf_64 : decode cX12_clientOf 64 = .ok (.aload_n 0, 1) := dk_42 (dk_at dksX12_clientOf_3 0 rfl rfl)
theorem dX12_clientOf_65 : decode cX12_clientOf 65 = .ok (.iload_n 1, 1) := dk_27 (dk_at dksX12_clientOf_3 1 rfl rfl)
theorem dX12_clientOf_66 : decode cX12_clientOf 66 = .ok (.iconst 0, 1) := dk_3 (dk_at dksX12_clientOf_3 2 rfl rfl)
theorem dX12_clientOf_67 : decode cX12_clientOf 67 = .ok (.invokevirtual 135, 3) := dk_182 0 135 (dk_at dksX12_clientOf_3 3 rfl rfl)
theorem dX12_clientOf_70 : decode cX12_clientOf 70 = .ok (.ireturn, 1) := dk_172 (dk_at dksX12_clientOf_3 6 rfl rfl)
theorem dX12_clientOf_71 : decode cX12_clientOf 71 = .ok (.aload_n 0, 1) := dk_42 (dk_at dksX12_clientOf_3 7 rfl rfl)
theorem dX12_clientOf_72 : decode cX12_clientOf 72 = .ok (.iload_n 1, 1) := dk_27 (dk_at dksX12_clientOf_3 8 rfl rfl)
theorem dX12_clientOf_73 : decode cX12_clientOf 73 = .ok (.iconst 1, 1) := dk_4 (dk_at dksX12_clientOf_3 9 rfl rfl)
theorem dX12_clientOf_74 : decode cX12_clientOf 74 = .ok (.invokevirtual 135, 3) := dk_182 0 135 (dk_at dksX12_clientOf_3 10 rfl rfl)
theorem dX12_clientOf_77 : decode cX12_clientOf 77 = .ok (.ifCond .le 14, 3) := dk_158 0 14 (dk_at dksX12_clientOf_3 13 rfl rfl)
theorem dX12_clientOf_80 : decode cX12_clientOf 80 = .ok (.aload_n 0, 1) := dk_42 (dk_at dksX12_clientOf_3 16 rfl rfl)
theorem dX12_clientOf_81 : decode cX12_clientOf 81 = .ok (.bipush 16, 2) := dk_16 16 (dk_at dksX12_clientOf_3 17 rfl rfl)
theorem dX12_clientOf_83 : decode cX12_clientOf 83 = .ok (.iload_n 1, 1) := dk_27 (dk_at dksX12_clientOf_3 19 rfl rfl)
theorem dX12_clientOf_84 : decode cX12_clientOf 84 = .ok (.iadd, 1) := dk_96 (dk_at dksX12_clientOf_3 20 rfl rfl)
theorem dX12_clientOf_85 : decode cX12_clientOf 85 = .ok (.invokevirtual 221, 3) := dk_182 0 221 (dk_at dksX12_clientOf_3 21 rfl rfl)
theorem dX12_clientOf_88 : decode cX12_clientOf 88 = .ok (.goto 4, 3) := dk_167 0 4 (dk_at dksX12_clientOf_4 0 rfl rfl)
theorem dX12_clientOf_91 : decode cX12_clientOf 91 = .ok (.iconst 0, 1) := dk_3 (dk_at dksX12_clientOf_4 3 rfl rfl)
theorem dX12_clientOf_92 : decode cX12_clientOf 92 = .ok (.ireturn, 1) := dk_172 (dk_at dksX12_clientOf_4 4 rfl rfl)
theorem dX12_clientOf_93 : decode cX12_clientOf 93 = .ok (.aload_n 0, 1) := dk_42 (dk_at dksX12_clientOf_4 5 rfl rfl)
theorem dX12_clientOf_94 : decode cX12_clientOf 94 = .ok (.iload_n 1, 1) := dk_27 (dk_at dksX12_clientOf_4 6 rfl rfl)
theorem dX12_clientOf_95 : decode cX12_clientOf 95 = .ok (.iconst 1, 1) := dk_4 (dk_at dksX12_clientOf_4 7 rfl rfl)
theorem dX12_clientOf_96 : decode cX12_clientOf 96 = .ok (.invokevirtual 135, 3) := dk_182 0 135 (dk_at dksX12_clientOf_4 8 rfl rfl)
theorem dX12_clientOf_99 : decode cX12_clientOf 99 = .ok (.iconst 2, 1) := dk_5 (dk_at dksX12_clientOf_4 11 rfl rfl)
theorem dX12_clientOf_100 : decode cX12_clientOf 100 = .ok (.if_icmp .ne 7, 3) := dk_160 0 7 (dk_at dksX12_clientOf_4 12 rfl rfl)
theorem dX12_clientOf_103 : decode cX12_clientOf 103 = .ok (.iconst 1, 1) := dk_4 (dk_at dksX12_clientOf_4 15 rfl rfl)
theorem dX12_clientOf_104 : decode cX12_clientOf 104 = .ok (.goto 4, 3) := dk_167 0 4 (dk_at dksX12_clientOf_4 16 rfl rfl)
theorem dX12_clientOf_107 : decode cX12_clientOf 107 = .ok (.iconst 0, 1) := dk_3 (dk_at dksX12_clientOf_4 19 rfl rfl)
theorem dX12_clientOf_108 : decode cX12_clientOf 108 = .ok (.ireturn, 1) := dk_172 (dk_at dksX12_clientOf_4 20 rfl rfl)
theorem dX12_clientOf_109 : decode cX12_clientOf 109 = .ok (.aload_n 0, 1) := dk_42 (dk_at dksX12_clientOf_4 21 rfl rfl)
theorem dX12_clientOf_110 : decode cX12_clientOf 110 = .ok (.iload_n 1, 1) := dk_27 (dk_at dksX12_clientOf_4 22 rfl rfl)
theorem dX12_clientOf_111 : decode cX12_clientOf 111 = .ok (.iconst 3, 1) := dk_6 (dk_at dksX12_clientOf_4 23 rfl rfl)
theorem dX12_clientOf_112 : decode cX12_clientOf 112 = .ok (.invokevirtual 135, 3) := dk_182 0 135 (dk_at dksX12_clientOf_5 0 rfl rfl)
theorem dX12_clientOf_115 : decode cX12_clientOf 115 = .ok (.ifCond .le 14, 3) := dk_158 0 14 (dk_at dksX12_clientOf_5 3 rfl rfl)
theorem dX12_clientOf_118 : decode cX12_clientOf 118 = .ok (.aload_n 0, 1) := dk_42 (dk_at dksX12_clientOf_5 6 rfl rfl)
theorem dX12_clientOf_119 : decode cX12_clientOf 119 = .ok (.bipush 20, 2) := dk_16 20 (dk_at dksX12_clientOf_5 7 rfl rfl)
theorem dX12_clientOf_121 : decode cX12_clientOf 121 = .ok (.iload_n 1, 1) := dk_27 (dk_at dksX12_clientOf_5 9 rfl rfl)
theorem dX12_clientOf_122 : decode cX12_clientOf 122 = .ok (.iadd, 1) := dk_96 (dk_at dksX12_clientOf_5 10 rfl rfl)
theorem dX12_clientOf_123 : decode cX12_clientOf 123 = .ok (.invokevirtual 221, 3) := dk_182 0 221 (dk_at dksX12_clientOf_5 11 rfl rfl)
theorem dX12_clientOf_126 : decode cX12_clientOf 126 = .ok (.goto 4, 3) := dk_167 0 4 (dk_at dksX12_clientOf_5 14 rfl rfl)
theorem dX12_clientOf_129 : decode cX12_clientOf 129 = .ok (.iconst 0, 1) := dk_3 (dk_at dksX12_clientOf_5 17 rfl rfl)
theorem dX12_clientOf_130 : decode cX12_clientOf 130 = .ok (.ireturn, 1) := dk_172 (dk_at dksX12_clientOf_5 18 rfl rfl)
theorem dX12_clientOf_131 : decode cX12_clientOf 131 = .ok (.aload_n 0, 1) := dk_42 (dk_at dksX12_clientOf_5 19 rfl rfl)
theorem dX12_clientOf_132 : decode cX12_clientOf 132 = .ok (.iload_n 1, 1) := dk_27 (dk_at dksX12_clientOf_5 20 rfl rfl)
theorem dX12_clientOf_133 : decode cX12_clientOf 133 = .ok (.iload_n 2, 1) := dk_28 (dk_at dksX12_clientOf_5 21 rfl rfl)
theorem dX12_clientOf_134 : decode cX12_clientOf 134 = .ok (.invokevirtual 135, 3) := dk_182 0 135 (dk_at dksX12_clientOf_6 0 rfl rfl)
theorem dX12_clientOf_137 : decode cX12_clientOf 137 = .ok (.ireturn, 1) := dk_172 (dk_at dksX12_clientOf_6 3 rfl rfl)
theorem dX12_clientOf_138 : decode cX12_clientOf 138 = .ok (.aload_n 0, 1) := dk_42 (dk_at dksX12_clientOf_6 4 rfl rfl)
theorem dX12_clientOf_139 : decode cX12_clientOf 139 = .ok (.getfield 34, 3) := dk_180 0 34 (dk_at dksX12_clientOf_6 5 rfl rfl)
theorem dX12_clientOf_142 : decode cX12_clientOf 142 = .ok (.iconst 0, 1) := dk_3 (dk_at dksX12_clientOf_6 8 rfl rfl)
theorem dX12_clientOf_143 : decode cX12_clientOf 143 = .ok (.iaload, 1) := dk_46 (dk_at dksX12_clientOf_6 9 rfl rfl)
theorem dX12_clientOf_144 : decode cX12_clientOf 144 = .ok (.aload_n 0, 1) := dk_42 (dk_at dksX12_clientOf_6 10 rfl rfl)
theorem dX12_clientOf_145 : decode cX12_clientOf 145 = .ok (.iload_n 1, 1) := dk_27 (dk_at dksX12_clientOf_6 11 rfl rfl)
theorem dX12_clientOf_146 : decode cX12_clientOf 146 = .ok (.iconst 0, 1) := dk_3 (dk_at dksX12_clientOf_6 12 rfl rfl)
theorem dX12_clientOf_147 : decode cX12_clientOf 147 = .ok (.invokevirtual 135, 3) := dk_182 0 135 (dk_at dksX12_clientOf_6 13 rfl rfl)
theorem dX12_clientOf_150 : decode cX12_clientOf 150 = .ok (.isub, 1) := dk_100 (dk_at dksX12_clientOf_6 16 rfl rfl)
theorem dX12_clientOf_151 : decode cX12_clientOf 151 = .ok (.ireturn, 1) := dk_172 (dk_at dksX12_clientOf_6 17 rfl rfl)
abbrev cX12_takes : ByteArray := prog_24_method_78_code
def yX12_takes : MethodName := ⟨RX12, "takes", "(III)I"⟩
def dkwX12_takes_6 : List UInt8 := [182, 0, 218, 172]
abbrev dktX12_takes_6 : List UInt8 := dkwX12_takes_6 ++ []
def dkwX12_takes_5 : List UInt8 := [16, 20, 28, 104, 96, 21, 4, 96, 4, 100, 54, 5, 42, 3, 21, 5, 182, 0, 97, 42, 27, 3]
abbrev dktX12_takes_5 : List UInt8 := dkwX12_takes_5 ++ dktX12_takes_6
def dkwX12_takes_4 : List UInt8 := [4, 160, 0, 10, 16, 20, 28, 96, 167, 0, 25, 29, 5, 160, 0, 8, 16, 24, 167, 0, 5, 16, 104]
abbrev dktX12_takes_4 : List UInt8 := dkwX12_takes_4 ++ dktX12_takes_5
def dkwX12_takes_3 : List UInt8 := [21, 4, 154, 0, 10, 42, 16, 251, 182, 0, 183, 172, 29, 154, 0, 10, 16, 16, 28, 96, 167, 0, 37, 29]
abbrev dktX12_takes_3 : List UInt8 := dkwX12_takes_3 ++ dktX12_takes_4
def dkwX12_takes_2 : List UInt8 := [4, 160, 0, 12, 42, 28, 6, 182, 0, 135, 167, 0, 11, 42, 28, 5, 29, 96, 182, 0, 135, 54, 4]
abbrev dktX12_takes_2 : List UInt8 := dkwX12_takes_2 ++ dktX12_takes_3
def dkwX12_takes_1 : List UInt8 := [154, 0, 10, 42, 16, 254, 182, 0, 183, 172, 29, 154, 0, 12, 42, 28, 4, 182, 0, 135, 167, 0, 25, 29]
abbrev dktX12_takes_1 : List UInt8 := dkwX12_takes_1 ++ dktX12_takes_2
def dkwX12_takes_0 : List UInt8 := [27, 184, 0, 211, 153, 0, 22, 28, 184, 1, 16, 153, 0, 15, 29, 133, 9, 20, 0, 173, 184, 0, 175]
abbrev dktX12_takes_0 : List UInt8 := dkwX12_takes_0 ++ dktX12_takes_1
theorem dksX12_takes_0 : cX12_takes.data.toList.drop 0 = dktX12_takes_0 := by decide +kernel
theorem dksX12_takes_1 : cX12_takes.data.toList.drop 23 = dktX12_takes_1 := dk_seg dksX12_takes_0 23 rfl rfl
theorem dksX12_takes_2 : cX12_takes.data.toList.drop 47 = dktX12_takes_2 := dk_seg dksX12_takes_1 24 rfl rfl
theorem dksX12_takes_3 : cX12_takes.data.toList.drop 70 = dktX12_takes_3 := dk_seg dksX12_takes_2 23 rfl rfl
theorem dksX12_takes_4 : cX12_takes.data.toList.drop 94 = dktX12_takes_4 := dk_seg dksX12_takes_3 24 rfl rfl
theorem dksX12_takes_5 : cX12_takes.data.toList.drop 117 = dktX12_takes_5 := dk_seg dksX12_takes_4 23 rfl rfl
theorem dksX12_takes_6 : cX12_takes.data.toList.drop 139 = dktX12_takes_6 := dk_seg dksX12_takes_5 22 rfl rfl
theorem dX12_takes_0 : decode cX12_takes 0 = .ok (.iload_n 1, 1) := dk_27 (dk_at dksX12_takes_0 0 rfl rfl)
theorem dX12_takes_1 : decode cX12_takes 1 = .ok (.invokestatic 211, 3) := dk_184 0 211 (dk_at dksX12_takes_0 1 rfl rfl)
theorem dX12_takes_4 : decode cX12_takes 4 = .ok (.ifCond .eq 22, 3) := dk_153 0 22 (dk_at dksX12_takes_0 4 rfl rfl)
theorem dX12_takes_7 : decode cX12_takes 7 = .ok (.iload_n 2, 1) := dk_28 (dk_at dksX12_takes_0 7 rfl rfl)
theorem dX12_takes_8 : decode cX12_takes 8 = .ok (.invokestatic 272, 3) := dk_184 1 16 (dk_at dksX12_takes_0 8 rfl rfl)
theorem dX12_takes_11 : decode cX12_takes 11 = .ok (.ifCond .eq 15, 3) := dk_153 0 15 (dk_at dksX12_takes_0 11 rfl rfl)
theorem dX12_takes_14 : decode cX12_takes 14 = .ok (.iload_n 3, 1) := dk_29 (dk_at dksX12_takes_0 14 rfl rfl)
theorem dX12_takes_15 : decode cX12_takes 15 = .ok (.i2l, 1) := dk_133 (dk_at dksX12_takes_0 15 rfl rfl)
theorem dX12_takes_16 : decode cX12_takes 16 = .ok (.lconst 0, 1) := dk_9 (dk_at dksX12_takes_0 16 rfl rfl)
theorem dX12_takes_17 : decode cX12_takes 17 = .ok (.ldc2_w 173, 3) := dk_20 0 173 (dk_at dksX12_takes_0 17 rfl rfl)
theorem dX12_takes_20 : decode cX12_takes 20 = .ok (.invokestatic 175, 3) := dk_184 0 175 (dk_at dksX12_takes_0 20 rfl rfl)
theorem dX12_takes_23 : decode cX12_takes 23 = .ok (.ifCond .ne 10, 3) := dk_154 0 10 (dk_at dksX12_takes_1 0 rfl rfl)
theorem dX12_takes_26 : decode cX12_takes 26 = .ok (.aload_n 0, 1) := dk_42 (dk_at dksX12_takes_1 3 rfl rfl)
theorem dX12_takes_27 : decode cX12_takes 27 = .ok (.bipush (-2), 2) := dk_16 254 (dk_at dksX12_takes_1 4 rfl rfl)
theorem dX12_takes_29 : decode cX12_takes 29 = .ok (.invokevirtual 183, 3) := dk_182 0 183 (dk_at dksX12_takes_1 6 rfl rfl)
theorem dX12_takes_32 : decode cX12_takes 32 = .ok (.ireturn, 1) := dk_172 (dk_at dksX12_takes_1 9 rfl rfl)
theorem dX12_takes_33 : decode cX12_takes 33 = .ok (.iload_n 3, 1) := dk_29 (dk_at dksX12_takes_1 10 rfl rfl)
theorem dX12_takes_34 : decode cX12_takes 34 = .ok (.ifCond .ne 12, 3) := dk_154 0 12 (dk_at dksX12_takes_1 11 rfl rfl)
theorem dX12_takes_37 : decode cX12_takes 37 = .ok (.aload_n 0, 1) := dk_42 (dk_at dksX12_takes_1 14 rfl rfl)
theorem dX12_takes_38 : decode cX12_takes 38 = .ok (.iload_n 2, 1) := dk_28 (dk_at dksX12_takes_1 15 rfl rfl)
theorem dX12_takes_39 : decode cX12_takes 39 = .ok (.iconst 1, 1) := dk_4 (dk_at dksX12_takes_1 16 rfl rfl)
theorem dX12_takes_40 : decode cX12_takes 40 = .ok (.invokevirtual 135, 3) := dk_182 0 135 (dk_at dksX12_takes_1 17 rfl rfl)
theorem dX12_takes_43 : decode cX12_takes 43 = .ok (.goto 25, 3) := dk_167 0 25 (dk_at dksX12_takes_1 20 rfl rfl)
theorem dX12_takes_46 : decode cX12_takes 46 = .ok (.iload_n 3, 1) := dk_29 (dk_at dksX12_takes_1 23 rfl rfl)
theorem dX12_takes_47 : decode cX12_takes 47 = .ok (.iconst 1, 1) := dk_4 (dk_at dksX12_takes_2 0 rfl rfl)
theorem dX12_takes_48 : decode cX12_takes 48 = .ok (.if_icmp .ne 12, 3) := dk_160 0 12 (dk_at dksX12_takes_2 1 rfl rfl)
theorem dX12_takes_51 : decode cX12_takes 51 = .ok (.aload_n 0, 1) := dk_42 (dk_at dksX12_takes_2 4 rfl rfl)
theorem dX12_takes_52 : decode cX12_takes 52 = .ok (.iload_n 2, 1) := dk_28 (dk_at dksX12_takes_2 5 rfl rfl)
theorem dX12_takes_53 : decode cX12_takes 53 = .ok (.iconst 3, 1) := dk_6 (dk_at dksX12_takes_2 6 rfl rfl)
theorem dX12_takes_54 : decode cX12_takes 54 = .ok (.invokevirtual 135, 3) := dk_182 0 135 (dk_at dksX12_takes_2 7 rfl rfl)
theorem dX12_takes_57 : decode cX12_takes 57 = .ok (.goto 11, 3) := dk_167 0 11 (dk_at dksX12_takes_2 10 rfl rfl)
theorem dX12_takes_60 : decode cX12_takes 60 = .ok (.aload_n 0, 1) := dk_42 (dk_at dksX12_takes_2 13 rfl rfl)
theorem dX12_takes_61 : decode cX12_takes 61 = .ok (.iload_n 2, 1) := dk_28 (dk_at dksX12_takes_2 14 rfl rfl)
theorem dX12_takes_62 : decode cX12_takes 62 = .ok (.iconst 2, 1) := dk_5 (dk_at dksX12_takes_2 15 rfl rfl)
theorem dX12_takes_63 : decode cX12_takes 63 = .ok (.iload_n 3, 1) := dk_29 (dk_at dksX12_takes_2 16 rfl rfl)
theorem dX12_takes_64 : decode cX12_takes 64 = .ok (.iadd, 1) := dk_96 (dk_at dksX12_takes_2 17 rfl rfl)
theorem dX12_takes_65 : decode cX12_takes 65 = .ok (.invokevirtual 135, 3) := dk_182 0 135 (dk_at dksX12_takes_2 18 rfl rfl)
theorem dX12_takes_68 : decode cX12_takes 68 = .ok (.istore 4, 2) := dk_54 4 (dk_at dksX12_takes_2 21 rfl rfl)
theorem dX12_takes_70 : decode cX12_takes 70 = .ok (.iload 4, 2) := dk_21 4 (dk_at dksX12_takes_3 0 rfl rfl)
theorem dX12_takes_72 : decode cX12_takes 72 = .ok (.ifCond .ne 10, 3) := dk_154 0 10 (dk_at dksX12_takes_3 2 rfl rfl)
theorem dX12_takes_75 : decode cX12_takes 75 = .ok (.aload_n 0, 1) := dk_42 (dk_at dksX12_takes_3 5 rfl rfl)
theorem dX12_takes_76 : decode cX12_takes 76 = .ok (.bipush (-5), 2) := dk_16 251 (dk_at dksX12_takes_3 6 rfl rfl)
theorem dX12_takes_78 : decode cX12_takes 78 = .ok (.invokevirtual 183, 3) := dk_182 0 183 (dk_at dksX12_takes_3 8 rfl rfl)
theorem dX12_takes_81 : decode cX12_takes 81 = .ok (.ireturn, 1) := dk_172 (dk_at dksX12_takes_3 11 rfl rfl)
theorem dX12_takes_82 : decode cX12_takes 82 = .ok (.iload_n 3, 1) := dk_29 (dk_at dksX12_takes_3 12 rfl rfl)
theorem dX12_takes_83 : decode cX12_takes 83 = .ok (.ifCond .ne 10, 3) := dk_154 0 10 (dk_at dksX12_takes_3 13 rfl rfl)
theorem dX12_takes_86 : decode cX12_takes 86 = .ok (.bipush 16, 2) := dk_16 16 (dk_at dksX12_takes_3 16 rfl rfl)
theorem dX12_takes_88 : decode cX12_takes 88 = .ok (.iload_n 2, 1) := dk_28 (dk_at dksX12_takes_3 18 rfl rfl)
theorem dX12_takes_89 : decode cX12_takes 89 = .ok (.iadd, 1) := dk_96 (dk_at dksX12_takes_3 19 rfl rfl)
theorem dX12_takes_90 : decode cX12_takes 90 = .ok (.goto 37, 3) := dk_167 0 37 (dk_at dksX12_takes_3 20 rfl rfl)
theorem dX12_takes_93 : decode cX12_takes 93 = .ok (.iload_n 3, 1) := dk_29 (dk_at dksX12_takes_3 23 rfl rfl)
theorem dX12_takes_94 : decode cX12_takes 94 = .ok (.iconst 1, 1) := dk_4 (dk_at dksX12_takes_4 0 rfl rfl)
theorem dX12_takes_95 : decode cX12_takes 95 = .ok (.if_icmp .ne 10, 3) := dk_160 0 10 (dk_at dksX12_takes_4 1 rfl rfl)
theorem dX12_takes_98 : decode cX12_takes 98 = .ok (.bipush 20, 2) := dk_16 20 (dk_at dksX12_takes_4 4 rfl rfl)
theorem dX12_takes_100 : decode cX12_takes 100 = .ok (.iload_n 2, 1) := dk_28 (dk_at dksX12_takes_4 6 rfl rfl)
theorem dX12_takes_101 : decode cX12_takes 101 = .ok (.iadd, 1) := dk_96 (dk_at dksX12_takes_4 7 rfl rfl)
theorem dX12_takes_102 : decode cX12_takes 102 = .ok (.goto 25, 3) := dk_167 0 25 (dk_at dksX12_takes_4 8 rfl rfl)
theorem dX12_takes_105 : decode cX12_takes 105 = .ok (.iload_n 3, 1) := dk_29 (dk_at dksX12_takes_4 11 rfl rfl)
theorem dX12_takes_106 : decode cX12_takes 106 = .ok (.iconst 2, 1) := dk_5 (dk_at dksX12_takes_4 12 rfl rfl)
theorem dX12_takes_107 : decode cX12_takes 107 = .ok (.if_icmp .ne 8, 3) := dk_160 0 8 (dk_at dksX12_takes_4 13 rfl rfl)
theorem dX12_takes_110 : decode cX12_takes 110 = .ok (.bipush 24, 2) := dk_16 24 (dk_at dksX12_takes_4 16 rfl rfl)
theorem dX12_takes_112 : decode cX12_takes 112 = .ok (.goto 5, 3) := dk_167 0 5 (dk_at dksX12_takes_4 18 rfl rfl)
theorem dX12_takes_115 : decode cX12_takes 115 = .ok (.bipush 104, 2) := dk_16 104 (dk_at dksX12_takes_4 21 rfl rfl)
theorem dX12_takes_117 : decode cX12_takes 117 = .ok (.bipush 20, 2) := dk_16 20 (dk_at dksX12_takes_5 0 rfl rfl)
theorem dX12_takes_119 : decode cX12_takes 119 = .ok (.iload_n 2, 1) := dk_28 (dk_at dksX12_takes_5 2 rfl rfl)
theorem dX12_takes_120 : decode cX12_takes 120 = .ok (.imul, 1) := dk_104 (dk_at dksX12_takes_5 3 rfl rfl)
theorem dX12_takes_121 : decode cX12_takes 121 = .ok (.iadd, 1) := dk_96 (dk_at dksX12_takes_5 4 rfl rfl)
theorem dX12_takes_122 : decode cX12_takes 122 = .ok (.iload 4, 2) := dk_21 4 (dk_at dksX12_takes_5 5 rfl rfl)
theorem dX12_takes_124 : decode cX12_takes 124 = .ok (.iadd, 1) := dk_96 (dk_at dksX12_takes_5 7 rfl rfl)
theorem dX12_takes_125 : decode cX12_takes 125 = .ok (.iconst 1, 1) := dk_4 (dk_at dksX12_takes_5 8 rfl rfl)
theorem dX12_takes_126 : decode cX12_takes 126 = .ok (.isub, 1) := dk_100 (dk_at dksX12_takes_5 9 rfl rfl)
theorem dX12_takes_127 : decode cX12_takes 127 = .ok (.istore 5, 2) := dk_54 5 (dk_at dksX12_takes_5 10 rfl rfl)
theorem dX12_takes_129 : decode cX12_takes 129 = .ok (.aload_n 0, 1) := dk_42 (dk_at dksX12_takes_5 12 rfl rfl)
theorem dX12_takes_130 : decode cX12_takes 130 = .ok (.iconst 0, 1) := dk_3 (dk_at dksX12_takes_5 13 rfl rfl)
theorem dX12_takes_131 : decode cX12_takes 131 = .ok (.iload 5, 2) := dk_21 5 (dk_at dksX12_takes_5 14 rfl rfl)
theorem dX12_takes_133 : decode cX12_takes 133 = .ok (.invokevirtual 97, 3) := dk_182 0 97 (dk_at dksX12_takes_5 16 rfl rfl)
theorem dX12_takes_136 : decode cX12_takes 136 = .ok (.aload_n 0, 1) := dk_42 (dk_at dksX12_takes_5 19 rfl rfl)
theorem dX12_takes_137 : decode cX12_takes 137 = .ok (.iload_n 1, 1) := dk_27 (dk_at dksX12_takes_5 20 rfl rfl)
theorem dX12_takes_138 : decode cX12_takes 138 = .ok (.iconst 0, 1) := dk_3 (dk_at dksX12_takes_5 21 rfl rfl)
theorem dX12_takes_139 : decode cX12_takes 139 = .ok (.invokevirtual 218, 3) := dk_182 0 218 (dk_at dksX12_takes_6 0 rfl rfl)
theorem dX12_takes_142 : decode cX12_takes 142 = .ok (.ireturn, 1) := dk_172 (dk_at dksX12_takes_6 3 rfl rfl)
abbrev cX12_revision : ByteArray := prog_24_method_79_code
def yX12_revision : MethodName := ⟨RX12, "revision", "(II)I"⟩
def dkwX12_revision_2 : List UInt8 := [180, 0, 31, 28, 46, 172]
abbrev dktX12_revision_2 : List UInt8 := dkwX12_revision_2 ++ []
def dkwX12_revision_1 : List UInt8 := [16, 254, 182, 0, 183, 172, 42, 3, 17, 0, 184, 28, 96, 182, 0, 97, 42, 27, 3, 182, 0, 218, 62, 42]
abbrev dktX12_revision_1 : List UInt8 := dkwX12_revision_1 ++ dktX12_revision_2
def dkwX12_revision_0 : List UInt8 := [27, 184, 0, 211, 153, 0, 19, 28, 133, 10, 42, 180, 0, 34, 3, 46, 133, 184, 0, 175, 154, 0, 10, 42]
abbrev dktX12_revision_0 : List UInt8 := dkwX12_revision_0 ++ dktX12_revision_1
theorem dksX12_revision_0 : cX12_revision.data.toList.drop 0 = dktX12_revision_0 := by decide +kernel
theorem dksX12_revision_1 : cX12_revision.data.toList.drop 24 = dktX12_revision_1 := dk_seg dksX12_revision_0 24 rfl rfl
theorem dksX12_revision_2 : cX12_revision.data.toList.drop 48 = dktX12_revision_2 := dk_seg dksX12_revision_1 24 rfl rfl
theorem dX12_revision_0 : decode cX12_revision 0 = .ok (.iload_n 1, 1) := dk_27 (dk_at dksX12_revision_0 0 rfl rfl)
theorem dX12_revision_1 : decode cX12_revision 1 = .ok (.invokestatic 211, 3) := dk_184 0 211 (dk_at dksX12_revision_0 1 rfl rfl)
theorem dX12_revision_4 : decode cX12_revision 4 = .ok (.ifCond .eq 19, 3) := dk_153 0 19 (dk_at dksX12_revision_0 4 rfl rfl)
theorem dX12_revision_7 : decode cX12_revision 7 = .ok (.iload_n 2, 1) := dk_28 (dk_at dksX12_revision_0 7 rfl rfl)
theorem dX12_revision_8 : decode cX12_revision 8 = .ok (.i2l, 1) := dk_133 (dk_at dksX12_revision_0 8 rfl rfl)
theorem dX12_revision_9 : decode cX12_revision 9 = .ok (.lconst 1, 1) := dk_10 (dk_at dksX12_revision_0 9 rfl rfl)
theorem dX12_revision_10 : decode cX12_revision 10 = .ok (.aload_n 0, 1) := dk_42 (dk_at dksX12_revision_0 10 rfl rfl)
theorem dX12_revision_11 : decode cX12_revision 11 = .ok (.getfield 34, 3) := dk_180 0 34 (dk_at dksX12_revision_0 11 rfl rfl)
theorem dX12_revision_14 : decode cX12_revision 14 = .ok (.iconst 0, 1) := dk_3 (dk_at dksX12_revision_0 14 rfl rfl)
theorem dX12_revision_15 : decode cX12_revision 15 = .ok (.iaload, 1) := dk_46 (dk_at dksX12_revision_0 15 rfl rfl)
theorem dX12_revision_16 : decode cX12_revision 16 = .ok (.i2l, 1) := dk_133 (dk_at dksX12_revision_0 16 rfl rfl)
theorem dX12_revision_17 : decode cX12_revision 17 = .ok (.invokestatic 175, 3) := dk_184 0 175 (dk_at dksX12_revision_0 17 rfl rfl)
theorem dX12_revision_20 : decode cX12_revision 20 = .ok (.ifCond .ne 10, 3) := dk_154 0 10 (dk_at dksX12_revision_0 20 rfl rfl)
theorem dX12_revision_23 : decode cX12_revision 23 = .ok (.aload_n 0, 1) := dk_42 (dk_at dksX12_revision_0 23 rfl rfl)
theorem dX12_revision_24 : decode cX12_revision 24 = .ok (.bipush (-2), 2) := dk_16 254 (dk_at dksX12_revision_1 0 rfl rfl)
theorem dX12_revision_26 : decode cX12_revision 26 = .ok (.invokevirtual 183, 3) := dk_182 0 183 (dk_at dksX12_revision_1 2 rfl rfl)
theorem dX12_revision_29 : decode cX12_revision 29 = .ok (.ireturn, 1) := dk_172 (dk_at dksX12_revision_1 5 rfl rfl)
theorem dX12_revision_30 : decode cX12_revision 30 = .ok (.aload_n 0, 1) := dk_42 (dk_at dksX12_revision_1 6 rfl rfl)
theorem dX12_revision_31 : decode cX12_revision 31 = .ok (.iconst 0, 1) := dk_3 (dk_at dksX12_revision_1 7 rfl rfl)
theorem dX12_revision_32 : decode cX12_revision 32 = .ok (.sipush 184, 3) := dk_17 0 184 (dk_at dksX12_revision_1 8 rfl rfl)
theorem dX12_revision_35 : decode cX12_revision 35 = .ok (.iload_n 2, 1) := dk_28 (dk_at dksX12_revision_1 11 rfl rfl)
theorem dX12_revision_36 : decode cX12_revision 36 = .ok (.iadd, 1) := dk_96 (dk_at dksX12_revision_1 12 rfl rfl)
theorem dX12_revision_37 : decode cX12_revision 37 = .ok (.invokevirtual 97, 3) := dk_182 0 97 (dk_at dksX12_revision_1 13 rfl rfl)
theorem dX12_revision_40 : decode cX12_revision 40 = .ok (.aload_n 0, 1) := dk_42 (dk_at dksX12_revision_1 16 rfl rfl)
theorem dX12_revision_41 : decode cX12_revision 41 = .ok (.iload_n 1, 1) := dk_27 (dk_at dksX12_revision_1 17 rfl rfl)
theorem dX12_revision_42 : decode cX12_revision 42 = .ok (.iconst 0, 1) := dk_3 (dk_at dksX12_revision_1 18 rfl rfl)
theorem dX12_revision_43 : decode cX12_revision 43 = .ok (.invokevirtual 218, 3) := dk_182 0 218 (dk_at dksX12_revision_1 19 rfl rfl)
theorem dX12_revision_46 : decode cX12_revision 46 = .ok (.istore_n 3, 1) := dk_62 (dk_at dksX12_revision_1 22 rfl rfl)
theorem dX12_revision_47 : decode cX12_revision 47 = .ok (.aload_n 0, 1) := dk_42 (dk_at dksX12_revision_1 23 rfl rfl)
theorem dX12_revision_48 : decode cX12_revision 48 = .ok (.getfield 31, 3) := dk_180 0 31 (dk_at dksX12_revision_2 0 rfl rfl)
theorem dX12_revision_51 : decode cX12_revision 51 = .ok (.iload_n 2, 1) := dk_28 (dk_at dksX12_revision_2 3 rfl rfl)
theorem dX12_revision_52 : decode cX12_revision 52 = .ok (.iaload, 1) := dk_46 (dk_at dksX12_revision_2 4 rfl rfl)
theorem dX12_revision_53 : decode cX12_revision 53 = .ok (.ireturn, 1) := dk_172 (dk_at dksX12_revision_2 5 rfl rfl)
abbrev cX12_length : ByteArray := prog_24_method_81_code
def yX12_length : MethodName := ⟨RX12, "length", "(I)I"⟩
def dkwX12_length_0 : List UInt8 := [27, 184, 1, 63, 153, 0, 12, 42, 180, 0, 25, 27, 46, 167, 0, 9, 42, 16, 254, 182, 0, 183, 172]
abbrev dktX12_length_0 : List UInt8 := dkwX12_length_0 ++ []
theorem dksX12_length_0 : cX12_length.data.toList.drop 0 = dktX12_length_0 := by decide +kernel
theorem dX12_length_0 : decode cX12_length 0 = .ok (.iload_n 1, 1) := dk_27 (dk_at dksX12_length_0 0 rfl rfl)
theorem dX12_length_1 : decode cX12_length 1 = .ok (.invokestatic 319, 3) := dk_184 1 63 (dk_at dksX12_length_0 1 rfl rfl)
theorem dX12_length_4 : decode cX12_length 4 = .ok (.ifCond .eq 12, 3) := dk_153 0 12 (dk_at dksX12_length_0 4 rfl rfl)
theorem dX12_length_7 : decode cX12_length 7 = .ok (.aload_n 0, 1) := dk_42 (dk_at dksX12_length_0 7 rfl rfl)
theorem dX12_length_8 : decode cX12_length 8 = .ok (.getfield 25, 3) := dk_180 0 25 (dk_at dksX12_length_0 8 rfl rfl)
theorem dX12_length_11 : decode cX12_length 11 = .ok (.iload_n 1, 1) := dk_27 (dk_at dksX12_length_0 11 rfl rfl)
theorem dX12_length_12 : decode cX12_length 12 = .ok (.iaload, 1) := dk_46 (dk_at dksX12_length_0 12 rfl rfl)
theorem dX12_length_13 : decode cX12_length 13 = .ok (.goto 9, 3) := dk_167 0 9 (dk_at dksX12_length_0 13 rfl rfl)
theorem dX12_length_16 : decode cX12_length 16 = .ok (.aload_n 0, 1) := dk_42 (dk_at dksX12_length_0 16 rfl rfl)
theorem dX12_length_17 : decode cX12_length 17 = .ok (.bipush (-2), 2) := dk_16 254 (dk_at dksX12_length_0 17 rfl rfl)
theorem dX12_length_19 : decode cX12_length 19 = .ok (.invokevirtual 183, 3) := dk_182 0 183 (dk_at dksX12_length_0 19 rfl rfl)
theorem dX12_length_22 : decode cX12_length 22 = .ok (.ireturn, 1) := dk_172 (dk_at dksX12_length_0 22 rfl rfl)
abbrev cX12_isText : ByteArray := prog_24_method_80_code
def yX12_isText : MethodName := ⟨RX12, "isText", "(I)Z"⟩
def dkwX12_isText_0 : List UInt8 := [26, 133, 9, 20, 1, 61, 184, 0, 175, 172]
abbrev dktX12_isText_0 : List UInt8 := dkwX12_isText_0 ++ []
theorem dksX12_isText_0 : cX12_isText.data.toList.drop 0 = dktX12_isText_0 := by decide +kernel
theorem dX12_isText_0 : decode cX12_isText 0 = .ok (.iload_n 0, 1) := dk_26 (dk_at dksX12_isText_0 0 rfl rfl)
theorem dX12_isText_1 : decode cX12_isText 1 = .ok (.i2l, 1) := dk_133 (dk_at dksX12_isText_0 1 rfl rfl)
theorem dX12_isText_2 : decode cX12_isText 2 = .ok (.lconst 0, 1) := dk_9 (dk_at dksX12_isText_0 2 rfl rfl)
theorem dX12_isText_3 : decode cX12_isText 3 = .ok (.ldc2_w 317, 3) := dk_20 1 61 (dk_at dksX12_isText_0 3 rfl rfl)
theorem dX12_isText_6 : decode cX12_isText 6 = .ok (.invokestatic 175, 3) := dk_184 0 175 (dk_at dksX12_isText_0 6 rfl rfl)
theorem dX12_isText_9 : decode cX12_isText 9 = .ok (.ireturn, 1) := dk_172 (dk_at dksX12_isText_0 9 rfl rfl)
abbrev cX12_text : ByteArray := prog_24_method_82_code
def yX12_text : MethodName := ⟨RX12, "text", "(III)I"⟩
def dkwX12_text_3 : List UInt8 := [16, 15, 126, 172]
abbrev dktX12_text_3 : List UInt8 := dkwX12_text_3 ++ []
def dkwX12_text_2 : List UInt8 := [27, 50, 28, 46, 54, 4, 29, 154, 0, 12, 21, 4, 17, 0, 255, 126, 167, 0, 11, 21, 4, 16, 8, 122]
abbrev dktX12_text_2 : List UInt8 := dkwX12_text_2 ++ dktX12_text_3
def dkwX12_text_1 : List UInt8 := [153, 0, 13, 29, 133, 9, 10, 184, 0, 175, 154, 0, 10, 42, 16, 254, 182, 0, 183, 172, 42, 180, 0, 22]
abbrev dktX12_text_1 : List UInt8 := dkwX12_text_1 ++ dktX12_text_2
def dkwX12_text_0 : List UInt8 := [27, 184, 1, 63, 153, 0, 31, 28, 133, 9, 42, 180, 0, 25, 27, 46, 4, 100, 133, 184, 0, 175]
abbrev dktX12_text_0 : List UInt8 := dkwX12_text_0 ++ dktX12_text_1
theorem dksX12_text_0 : cX12_text.data.toList.drop 0 = dktX12_text_0 := by decide +kernel
theorem dksX12_text_1 : cX12_text.data.toList.drop 22 = dktX12_text_1 := dk_seg dksX12_text_0 22 rfl rfl
theorem dksX12_text_2 : cX12_text.data.toList.drop 46 = dktX12_text_2 := dk_seg dksX12_text_1 24 rfl rfl
theorem dksX12_text_3 : cX12_text.data.toList.drop 70 = dktX12_text_3 := dk_seg dksX12_text_2 24 rfl rfl
theorem dX12_text_0 : decode cX12_text 0 = .ok (.iload_n 1, 1) := dk_27 (dk_at dksX12_text_0 0 rfl rfl)
theorem dX12_text_1 : decode cX12_text 1 = .ok (.invokestatic 319, 3) := dk_184 1 63 (dk_at dksX12_text_0 1 rfl rfl)
theorem dX12_text_4 : decode cX12_text 4 = .ok (.ifCond .eq 31, 3) := dk_153 0 31 (dk_at dksX12_text_0 4 rfl rfl)
theorem dX12_text_7 : decode cX12_text 7 = .ok (.iload_n 2, 1) := dk_28 (dk_at dksX12_text_0 7 rfl rfl)
theorem dX12_text_8 : decode cX12_text 8 = .ok (.i2l, 1) := dk_133 (dk_at dksX12_text_0 8 rfl rfl)
theorem dX12_text_9 : decode cX12_text 9 = .ok (.lconst 0, 1) := dk_9 (dk_at dksX12_text_0 9 rfl rfl)
theorem dX12_text_10 : decode cX12_text 10 = .ok (.aload_n 0, 1) := dk_42 (dk_at dksX12_text_0 10 rfl rfl)
theorem dX12_text_11 : decode cX12_text 11 = .ok (.getfield 25, 3) := dk_180 0 25 (dk_at dksX12_text_0 11 rfl rfl)
theorem dX12_text_14 : decode cX12_text 14 = .ok (.iload_n 1, 1) := dk_27 (dk_at dksX12_text_0 14 rfl rfl)
theorem dX12_text_15 : decode cX12_text 15 = .ok (.iaload, 1) := dk_46 (dk_at dksX12_text_0 15 rfl rfl)
theorem dX12_text_16 : decode cX12_text 16 = .ok (.iconst 1, 1) := dk_4 (dk_at dksX12_text_0 16 rfl rfl)
theorem dX12_text_17 : decode cX12_text 17 = .ok (.isub, 1) := dk_100 (dk_at dksX12_text_0 17 rfl rfl)
theorem dX12_text_18 : decode cX12_text 18 = .ok (.i2l, 1) := dk_133 (dk_at dksX12_text_0 18 rfl rfl)
theorem dX12_text_19 : decode cX12_text 19 = .ok (.invokestatic 175, 3) := dk_184 0 175 (dk_at dksX12_text_0 19 rfl rfl)
theorem dX12_text_22 : decode cX12_text 22 = .ok (.ifCond .eq 13, 3) := dk_153 0 13 (dk_at dksX12_text_1 0 rfl rfl)
theorem dX12_text_25 : decode cX12_text 25 = .ok (.iload_n 3, 1) := dk_29 (dk_at dksX12_text_1 3 rfl rfl)
theorem dX12_text_26 : decode cX12_text 26 = .ok (.i2l, 1) := dk_133 (dk_at dksX12_text_1 4 rfl rfl)
theorem dX12_text_27 : decode cX12_text 27 = .ok (.lconst 0, 1) := dk_9 (dk_at dksX12_text_1 5 rfl rfl)
theorem dX12_text_28 : decode cX12_text 28 = .ok (.lconst 1, 1) := dk_10 (dk_at dksX12_text_1 6 rfl rfl)
theorem dX12_text_29 : decode cX12_text 29 = .ok (.invokestatic 175, 3) := dk_184 0 175 (dk_at dksX12_text_1 7 rfl rfl)
theorem dX12_text_32 : decode cX12_text 32 = .ok (.ifCond .ne 10, 3) := dk_154 0 10 (dk_at dksX12_text_1 10 rfl rfl)
theorem dX12_text_35 : decode cX12_text 35 = .ok (.aload_n 0, 1) := dk_42 (dk_at dksX12_text_1 13 rfl rfl)
theorem dX12_text_36 : decode cX12_text 36 = .ok (.bipush (-2), 2) := dk_16 254 (dk_at dksX12_text_1 14 rfl rfl)
theorem dX12_text_38 : decode cX12_text 38 = .ok (.invokevirtual 183, 3) := dk_182 0 183 (dk_at dksX12_text_1 16 rfl rfl)
theorem dX12_text_41 : decode cX12_text 41 = .ok (.ireturn, 1) := dk_172 (dk_at dksX12_text_1 19 rfl rfl)
theorem dX12_text_42 : decode cX12_text 42 = .ok (.aload_n 0, 1) := dk_42 (dk_at dksX12_text_1 20 rfl rfl)
theorem dX12_text_43 : decode cX12_text 43 = .ok (.getfield 22, 3) := dk_180 0 22 (dk_at dksX12_text_1 21 rfl rfl)
theorem dX12_text_46 : decode cX12_text 46 = .ok (.iload_n 1, 1) := dk_27 (dk_at dksX12_text_2 0 rfl rfl)
theorem dX12_text_47 : decode cX12_text 47 = .ok (.aaload, 1) := dk_50 (dk_at dksX12_text_2 1 rfl rfl)
theorem dX12_text_48 : decode cX12_text 48 = .ok (.iload_n 2, 1) := dk_28 (dk_at dksX12_text_2 2 rfl rfl)
theorem dX12_text_49 : decode cX12_text 49 = .ok (.iaload, 1) := dk_46 (dk_at dksX12_text_2 3 rfl rfl)
theorem dX12_text_50 : decode cX12_text 50 = .ok (.istore 4, 2) := dk_54 4 (dk_at dksX12_text_2 4 rfl rfl)
theorem dX12_text_52 : decode cX12_text 52 = .ok (.iload_n 3, 1) := dk_29 (dk_at dksX12_text_2 6 rfl rfl)
theorem dX12_text_53 : decode cX12_text 53 = .ok (.ifCond .ne 12, 3) := dk_154 0 12 (dk_at dksX12_text_2 7 rfl rfl)
theorem dX12_text_56 : decode cX12_text 56 = .ok (.iload 4, 2) := dk_21 4 (dk_at dksX12_text_2 10 rfl rfl)
theorem dX12_text_58 : decode cX12_text 58 = .ok (.sipush 255, 3) := dk_17 0 255 (dk_at dksX12_text_2 12 rfl rfl)
theorem dX12_text_61 : decode cX12_text 61 = .ok (.iand, 1) := dk_126 (dk_at dksX12_text_2 15 rfl rfl)
theorem dX12_text_62 : decode cX12_text 62 = .ok (.goto 11, 3) := dk_167 0 11 (dk_at dksX12_text_2 16 rfl rfl)
theorem dX12_text_65 : decode cX12_text 65 = .ok (.iload 4, 2) := dk_21 4 (dk_at dksX12_text_2 19 rfl rfl)
theorem dX12_text_67 : decode cX12_text 67 = .ok (.bipush 8, 2) := dk_16 8 (dk_at dksX12_text_2 21 rfl rfl)
theorem dX12_text_69 : decode cX12_text 69 = .ok (.ishr, 1) := dk_122 (dk_at dksX12_text_2 23 rfl rfl)
theorem dX12_text_70 : decode cX12_text 70 = .ok (.bipush 15, 2) := dk_16 15 (dk_at dksX12_text_3 0 rfl rfl)
theorem dX12_text_72 : decode cX12_text 72 = .ok (.iand, 1) := dk_126 (dk_at dksX12_text_3 2 rfl rfl)
theorem dX12_text_73 : decode cX12_text 73 = .ok (.ireturn, 1) := dk_172 (dk_at dksX12_text_3 3 rfl rfl)
abbrev cX12_apart : ByteArray := prog_24_method_84_code
def yX12_apart : MethodName := ⟨RX12, "apart", "(II)I"⟩
def dkwX12_apart_1 : List UInt8 := [16, 254, 182, 0, 183, 172]
abbrev dktX12_apart_1 : List UInt8 := dkwX12_apart_1 ++ []
def dkwX12_apart_0 : List UInt8 := [27, 184, 1, 63, 153, 0, 19, 28, 184, 1, 63, 153, 0, 12, 42, 27, 28, 182, 1, 66, 167, 0, 9, 42]
abbrev dktX12_apart_0 : List UInt8 := dkwX12_apart_0 ++ dktX12_apart_1
theorem dksX12_apart_0 : cX12_apart.data.toList.drop 0 = dktX12_apart_0 := by decide +kernel
theorem dksX12_apart_1 : cX12_apart.data.toList.drop 24 = dktX12_apart_1 := dk_seg dksX12_apart_0 24 rfl rfl
theorem dX12_apart_0 : decode cX12_apart 0 = .ok (.iload_n 1, 1) := dk_27 (dk_at dksX12_apart_0 0 rfl rfl)
theorem dX12_apart_1 : decode cX12_apart 1 = .ok (.invokestatic 319, 3) := dk_184 1 63 (dk_at dksX12_apart_0 1 rfl rfl)
theorem dX12_apart_4 : decode cX12_apart 4 = .ok (.ifCond .eq 19, 3) := dk_153 0 19 (dk_at dksX12_apart_0 4 rfl rfl)
theorem dX12_apart_7 : decode cX12_apart 7 = .ok (.iload_n 2, 1) := dk_28 (dk_at dksX12_apart_0 7 rfl rfl)
theorem dX12_apart_8 : decode cX12_apart 8 = .ok (.invokestatic 319, 3) := dk_184 1 63 (dk_at dksX12_apart_0 8 rfl rfl)
theorem dX12_apart_11 : decode cX12_apart 11 = .ok (.ifCond .eq 12, 3) := dk_153 0 12 (dk_at dksX12_apart_0 11 rfl rfl)
theorem dX12_apart_14 : decode cX12_apart 14 = .ok (.aload_n 0, 1) := dk_42 (dk_at dksX12_apart_0 14 rfl rfl)
theorem dX12_apart_15 : decode cX12_apart 15 = .ok (.iload_n 1, 1) := dk_27 (dk_at dksX12_apart_0 15 rfl rfl)
theorem dX12_apart_16 : decode cX12_apart 16 = .ok (.iload_n 2, 1) := dk_28 (dk_at dksX12_apart_0 16 rfl rfl)
theorem dX12_apart_17 : decode cX12_apart 17 = .ok (.invokevirtual 322, 3) := dk_182 1 66 (dk_at dksX12_apart_0 17 rfl rfl)
theorem dX12_apart_20 : decode cX12_apart 20 = .ok (.goto 9, 3) := dk_167 0 9 (dk_at dksX12_apart_0 20 rfl rfl)
theorem dX12_apart_23 : decode cX12_apart 23 = .ok (.aload_n 0, 1) := dk_42 (dk_at dksX12_apart_0 23 rfl rfl)
theorem dX12_apart_24 : decode cX12_apart 24 = .ok (.bipush (-2), 2) := dk_16 254 (dk_at dksX12_apart_1 0 rfl rfl)
theorem dX12_apart_26 : decode cX12_apart 26 = .ok (.invokevirtual 183, 3) := dk_182 0 183 (dk_at dksX12_apart_1 2 rfl rfl)
theorem dX12_apart_29 : decode cX12_apart 29 = .ok (.ireturn, 1) := dk_172 (dk_at dksX12_apart_1 5 rfl rfl)
abbrev cX12_firstApart : ByteArray := prog_24_method_83_code
def yX12_firstApart : MethodName := ⟨RX12, "firstApart", "(II)I"⟩
def dkwX12_firstApart_2 : List UInt8 := [29, 46, 42, 180, 0, 22, 28, 50, 29, 46, 159, 0, 5, 29, 172, 132, 3, 1, 167, 255, 193, 2, 172]
abbrev dktX12_firstApart_2 : List UInt8 := dkwX12_firstApart_2 ++ []
def dkwX12_firstApart_1 : List UInt8 := [180, 0, 25, 27, 46, 162, 0, 32, 29, 42, 180, 0, 25, 28, 46, 162, 0, 22, 42, 180, 0, 22, 27, 50]
abbrev dktX12_firstApart_1 : List UInt8 := dkwX12_firstApart_1 ++ dktX12_firstApart_2
def dkwX12_firstApart_0 : List UInt8 := [3, 62, 29, 42, 180, 0, 25, 27, 46, 42, 180, 0, 25, 28, 46, 184, 1, 19, 162, 0, 50, 29, 42]
abbrev dktX12_firstApart_0 : List UInt8 := dkwX12_firstApart_0 ++ dktX12_firstApart_1
theorem dksX12_firstApart_0 : cX12_firstApart.data.toList.drop 0 = dktX12_firstApart_0 := by decide +kernel
theorem dksX12_firstApart_1 : cX12_firstApart.data.toList.drop 23 = dktX12_firstApart_1 := dk_seg dksX12_firstApart_0 23 rfl rfl
theorem dksX12_firstApart_2 : cX12_firstApart.data.toList.drop 47 = dktX12_firstApart_2 := dk_seg dksX12_firstApart_1 24 rfl rfl
theorem dX12_firstApart_0 : decode cX12_firstApart 0 = .ok (.iconst 0, 1) := dk_3 (dk_at dksX12_firstApart_0 0 rfl rfl)
theorem dX12_firstApart_1 : decode cX12_firstApart 1 = .ok (.istore_n 3, 1) := dk_62 (dk_at dksX12_firstApart_0 1 rfl rfl)
theorem dX12_firstApart_2 : decode cX12_firstApart 2 = .ok (.iload_n 3, 1) := dk_29 (dk_at dksX12_firstApart_0 2 rfl rfl)
theorem dX12_firstApart_3 : decode cX12_firstApart 3 = .ok (.aload_n 0, 1) := dk_42 (dk_at dksX12_firstApart_0 3 rfl rfl)
theorem dX12_firstApart_4 : decode cX12_firstApart 4 = .ok (.getfield 25, 3) := dk_180 0 25 (dk_at dksX12_firstApart_0 4 rfl rfl)
theorem dX12_firstApart_7 : decode cX12_firstApart 7 = .ok (.iload_n 1, 1) := dk_27 (dk_at dksX12_firstApart_0 7 rfl rfl)
theorem dX12_firstApart_8 : decode cX12_firstApart 8 = .ok (.iaload, 1) := dk_46 (dk_at dksX12_firstApart_0 8 rfl rfl)
theorem dX12_firstApart_9 : decode cX12_firstApart 9 = .ok (.aload_n 0, 1) := dk_42 (dk_at dksX12_firstApart_0 9 rfl rfl)
theorem dX12_firstApart_10 : decode cX12_firstApart 10 = .ok (.getfield 25, 3) := dk_180 0 25 (dk_at dksX12_firstApart_0 10 rfl rfl)
theorem dX12_firstApart_13 : decode cX12_firstApart 13 = .ok (.iload_n 2, 1) := dk_28 (dk_at dksX12_firstApart_0 13 rfl rfl)
theorem dX12_firstApart_14 : decode cX12_firstApart 14 = .ok (.iaload, 1) := dk_46 (dk_at dksX12_firstApart_0 14 rfl rfl)
theorem dX12_firstApart_15 : decode cX12_firstApart 15 = .ok (.invokestatic 275, 3) := dk_184 1 19 (dk_at dksX12_firstApart_0 15 rfl rfl)
theorem dX12_firstApart_18 : decode cX12_firstApart 18 = .ok (.if_icmp .ge 50, 3) := dk_162 0 50 (dk_at dksX12_firstApart_0 18 rfl rfl)
theorem dX12_firstApart_21 : decode cX12_firstApart 21 = .ok (.iload_n 3, 1) := dk_29 (dk_at dksX12_firstApart_0 21 rfl rfl)
theorem dX12_firstApart_22 : decode cX12_firstApart 22 = .ok (.aload_n 0, 1) := dk_42 (dk_at dksX12_firstApart_0 22 rfl rfl)
theorem dX12_firstApart_23 : decode cX12_firstApart 23 = .ok (.getfield 25, 3) := dk_180 0 25 (dk_at dksX12_firstApart_1 0 rfl rfl)
theorem dX12_firstApart_26 : decode cX12_firstApart 26 = .ok (.iload_n 1, 1) := dk_27 (dk_at dksX12_firstApart_1 3 rfl rfl)
theorem dX12_firstApart_27 : decode cX12_firstApart 27 = .ok (.iaload, 1) := dk_46 (dk_at dksX12_firstApart_1 4 rfl rfl)
theorem dX12_firstApart_28 : decode cX12_firstApart 28 = .ok (.if_icmp .ge 32, 3) := dk_162 0 32 (dk_at dksX12_firstApart_1 5 rfl rfl)
theorem dX12_firstApart_31 : decode cX12_firstApart 31 = .ok (.iload_n 3, 1) := dk_29 (dk_at dksX12_firstApart_1 8 rfl rfl)
theorem dX12_firstApart_32 : decode cX12_firstApart 32 = .ok (.aload_n 0, 1) := dk_42 (dk_at dksX12_firstApart_1 9 rfl rfl)
theorem dX12_firstApart_33 : decode cX12_firstApart 33 = .ok (.getfield 25, 3) := dk_180 0 25 (dk_at dksX12_firstApart_1 10 rfl rfl)
theorem dX12_firstApart_36 : decode cX12_firstApart 36 = .ok (.iload_n 2, 1) := dk_28 (dk_at dksX12_firstApart_1 13 rfl rfl)
theorem dX12_firstApart_37 : decode cX12_firstApart 37 = .ok (.iaload, 1) := dk_46 (dk_at dksX12_firstApart_1 14 rfl rfl)
theorem dX12_firstApart_38 : decode cX12_firstApart 38 = .ok (.if_icmp .ge 22, 3) := dk_162 0 22 (dk_at dksX12_firstApart_1 15 rfl rfl)
theorem dX12_firstApart_41 : decode cX12_firstApart 41 = .ok (.aload_n 0, 1) := dk_42 (dk_at dksX12_firstApart_1 18 rfl rfl)
theorem dX12_firstApart_42 : decode cX12_firstApart 42 = .ok (.getfield 22, 3) := dk_180 0 22 (dk_at dksX12_firstApart_1 19 rfl rfl)
theorem dX12_firstApart_45 : decode cX12_firstApart 45 = .ok (.iload_n 1, 1) := dk_27 (dk_at dksX12_firstApart_1 22 rfl rfl)
theorem dX12_firstApart_46 : decode cX12_firstApart 46 = .ok (.aaload, 1) := dk_50 (dk_at dksX12_firstApart_1 23 rfl rfl)
theorem dX12_firstApart_47 : decode cX12_firstApart 47 = .ok (.iload_n 3, 1) := dk_29 (dk_at dksX12_firstApart_2 0 rfl rfl)
theorem dX12_firstApart_48 : decode cX12_firstApart 48 = .ok (.iaload, 1) := dk_46 (dk_at dksX12_firstApart_2 1 rfl rfl)
theorem dX12_firstApart_49 : decode cX12_firstApart 49 = .ok (.aload_n 0, 1) := dk_42 (dk_at dksX12_firstApart_2 2 rfl rfl)
theorem dX12_firstApart_50 : decode cX12_firstApart 50 = .ok (.getfield 22, 3) := dk_180 0 22 (dk_at dksX12_firstApart_2 3 rfl rfl)
theorem dX12_firstApart_53 : decode cX12_firstApart 53 = .ok (.iload_n 2, 1) := dk_28 (dk_at dksX12_firstApart_2 6 rfl rfl)
theorem dX12_firstApart_54 : decode cX12_firstApart 54 = .ok (.aaload, 1) := dk_50 (dk_at dksX12_firstApart_2 7 rfl rfl)
theorem dX12_firstApart_55 : decode cX12_firstApart 55 = .ok (.iload_n 3, 1) := dk_29 (dk_at dksX12_firstApart_2 8 rfl rfl)
theorem dX12_firstApart_56 : decode cX12_firstApart 56 = .ok (.iaload, 1) := dk_46 (dk_at dksX12_firstApart_2 9 rfl rfl)
theorem dX12_firstApart_57 : decode cX12_firstApart 57 = .ok (.if_icmp .eq 5, 3) := dk_159 0 5 (dk_at dksX12_firstApart_2 10 rfl rfl)
theorem dX12_firstApart_60 : decode cX12_firstApart 60 = .ok (.iload_n 3, 1) := dk_29 (dk_at dksX12_firstApart_2 13 rfl rfl)
theorem dX12_firstApart_61 : decode cX12_firstApart 61 = .ok (.ireturn, 1) := dk_172 (dk_at dksX12_firstApart_2 14 rfl rfl)
theorem dX12_firstApart_62 : decode cX12_firstApart 62 = .ok (.iinc 3 1, 3) := dk_132 3 1 (dk_at dksX12_firstApart_2 15 rfl rfl)
theorem dX12_firstApart_65 : decode cX12_firstApart 65 = .ok (.goto (-63), 3) := dk_167 255 193 (dk_at dksX12_firstApart_2 18 rfl rfl)
theorem dX12_firstApart_68 : decode cX12_firstApart 68 = .ok (.iconst (-1), 1) := dk_2 (dk_at dksX12_firstApart_2 21 rfl rfl)
theorem dX12_firstApart_69 : decode cX12_firstApart 69 = .ok (.ireturn, 1) := dk_172 (dk_at dksX12_firstApart_2 22 rfl rfl)
abbrev cX12_marked : ByteArray := prog_24_method_85_code
def yX12_marked : MethodName := ⟨RX12, "marked", "(II)I"⟩
def dkwX12_marked_5 : List UInt8 := [3, 128, 62, 132, 4, 1, 167, 255, 163, 29, 172]
abbrev dktX12_marked_5 : List UInt8 := dkwX12_marked_5 ++ []
def dkwX12_marked_4 : List UInt8 := [29, 21, 6, 153, 0, 21, 4, 42, 180, 0, 22, 27, 50, 21, 4, 46, 17, 0, 255, 126, 120, 167, 0, 4]
abbrev dktX12_marked_4 : List UInt8 := dkwX12_marked_4 ++ dktX12_marked_5
def dkwX12_marked_3 : List UInt8 := [167, 0, 22, 3, 167, 0, 18, 21, 5, 28, 122, 4, 126, 4, 160, 0, 7, 4, 167, 0, 4, 3, 54, 6]
abbrev dktX12_marked_3 : List UInt8 := dkwX12_marked_3 ++ dktX12_marked_4
def dkwX12_marked_2 : List UInt8 := [27, 50, 21, 4, 46, 16, 8, 122, 16, 15, 126, 54, 5, 28, 7, 160, 0, 16, 21, 5, 154, 0, 7, 4]
abbrev dktX12_marked_2 : List UInt8 := dkwX12_marked_2 ++ dktX12_marked_3
def dkwX12_marked_1 : List UInt8 := [182, 0, 183, 172, 3, 62, 3, 54, 4, 21, 4, 42, 180, 0, 25, 27, 46, 162, 0, 88, 42, 180, 0, 22]
abbrev dktX12_marked_1 : List UInt8 := dkwX12_marked_1 ++ dktX12_marked_2
def dkwX12_marked_0 : List UInt8 := [27, 184, 1, 63, 153, 0, 15, 28, 133, 9, 20, 1, 61, 184, 0, 175, 154, 0, 10, 42, 16, 254]
abbrev dktX12_marked_0 : List UInt8 := dkwX12_marked_0 ++ dktX12_marked_1
theorem dksX12_marked_0 : cX12_marked.data.toList.drop 0 = dktX12_marked_0 := by decide +kernel
theorem dksX12_marked_1 : cX12_marked.data.toList.drop 22 = dktX12_marked_1 := dk_seg dksX12_marked_0 22 rfl rfl
theorem dksX12_marked_2 : cX12_marked.data.toList.drop 46 = dktX12_marked_2 := dk_seg dksX12_marked_1 24 rfl rfl
theorem dksX12_marked_3 : cX12_marked.data.toList.drop 70 = dktX12_marked_3 := dk_seg dksX12_marked_2 24 rfl rfl
theorem dksX12_marked_4 : cX12_marked.data.toList.drop 94 = dktX12_marked_4 := dk_seg dksX12_marked_3 24 rfl rfl
theorem dksX12_marked_5 : cX12_marked.data.toList.drop 118 = dktX12_marked_5 := dk_seg dksX12_marked_4 24 rfl rfl
theorem dX12_marked_0 : decode cX12_marked 0 = .ok (.iload_n 1, 1) := dk_27 (dk_at dksX12_marked_0 0 rfl rfl)
theorem dX12_marked_1 : decode cX12_marked 1 = .ok (.invokestatic 319, 3) := dk_184 1 63 (dk_at dksX12_marked_0 1 rfl rfl)
theorem dX12_marked_4 : decode cX12_marked 4 = .ok (.ifCond .eq 15, 3) := dk_153 0 15 (dk_at dksX12_marked_0 4 rfl rfl)
theorem dX12_marked_7 : decode cX12_marked 7 = .ok (.iload_n 2, 1) := dk_28 (dk_at dksX12_marked_0 7 rfl rfl)
theorem dX12_marked_8 : decode cX12_marked 8 = .ok (.i2l, 1) := dk_133 (dk_at dksX12_marked_0 8 rfl rfl)
theorem dX12_marked_9 : decode cX12_marked 9 = .ok (.lconst 0, 1) := dk_9 (dk_at dksX12_marked_0 9 rfl rfl)
theorem dX12_marked_10 : decode cX12_marked 10 = .ok (.ldc2_w 317, 3) := dk_20 1 61 (dk_at dksX12_marked_0 10 rfl rfl)
theorem dX12_marked_13 : decode cX12_marked 13 = .ok (.invokestatic 175, 3) := dk_184 0 175 (dk_at dksX12_marked_0 13 rfl rfl)
theorem dX12_marked_16 : decode cX12_marked 16 = .ok (.ifCond .ne 10, 3) := dk_154 0 10 (dk_at dksX12_marked_0 16 rfl rfl)
theorem dX12_marked_19 : decode cX12_marked 19 = .ok (.aload_n 0, 1) := dk_42 (dk_at dksX12_marked_0 19 rfl rfl)
theorem dX12_marked_20 : decode cX12_marked 20 = .ok (.bipush (-2), 2) := dk_16 254 (dk_at dksX12_marked_0 20 rfl rfl)
theorem dX12_marked_22 : decode cX12_marked 22 = .ok (.invokevirtual 183, 3) := dk_182 0 183 (dk_at dksX12_marked_1 0 rfl rfl)
theorem dX12_marked_25 : decode cX12_marked 25 = .ok (.ireturn, 1) := dk_172 (dk_at dksX12_marked_1 3 rfl rfl)
theorem dX12_marked_26 : decode cX12_marked 26 = .ok (.iconst 0, 1) := dk_3 (dk_at dksX12_marked_1 4 rfl rfl)
theorem dX12_marked_27 : decode cX12_marked 27 = .ok (.istore_n 3, 1) := dk_62 (dk_at dksX12_marked_1 5 rfl rfl)
theorem dX12_marked_28 : decode cX12_marked 28 = .ok (.iconst 0, 1) := dk_3 (dk_at dksX12_marked_1 6 rfl rfl)
theorem dX12_marked_29 : decode cX12_marked 29 = .ok (.istore 4, 2) := dk_54 4 (dk_at dksX12_marked_1 7 rfl rfl)
theorem dX12_marked_31 : decode cX12_marked 31 = .ok (.iload 4, 2) := dk_21 4 (dk_at dksX12_marked_1 9 rfl rfl)
theorem dX12_marked_33 : decode cX12_marked 33 = .ok (.aload_n 0, 1) := dk_42 (dk_at dksX12_marked_1 11 rfl rfl)
theorem dX12_marked_34 : decode cX12_marked 34 = .ok (.getfield 25, 3) := dk_180 0 25 (dk_at dksX12_marked_1 12 rfl rfl)
theorem dX12_marked_37 : decode cX12_marked 37 = .ok (.iload_n 1, 1) := dk_27 (dk_at dksX12_marked_1 15 rfl rfl)
theorem dX12_marked_38 : decode cX12_marked 38 = .ok (.iaload, 1) := dk_46 (dk_at dksX12_marked_1 16 rfl rfl)
theorem dX12_marked_39 : decode cX12_marked 39 = .ok (.if_icmp .ge 88, 3) := dk_162 0 88 (dk_at dksX12_marked_1 17 rfl rfl)
theorem dX12_marked_42 : decode cX12_marked 42 = .ok (.aload_n 0, 1) := dk_42 (dk_at dksX12_marked_1 20 rfl rfl)
theorem dX12_marked_43 : decode cX12_marked 43 = .ok (.getfield 22, 3) := dk_180 0 22 (dk_at dksX12_marked_1 21 rfl rfl)
theorem dX12_marked_46 : decode cX12_marked 46 = .ok (.iload_n 1, 1) := dk_27 (dk_at dksX12_marked_2 0 rfl rfl)
theorem dX12_marked_47 : decode cX12_marked 47 = .ok (.aaload, 1) := dk_50 (dk_at dksX12_marked_2 1 rfl rfl)
theorem dX12_marked_48 : decode cX12_marked 48 = .ok (.iload 4, 2) := dk_21 4 (dk_at dksX12_marked_2 2 rfl rfl)
theorem dX12_marked_50 : decode cX12_marked 50 = .ok (.iaload, 1) := dk_46 (dk_at dksX12_marked_2 4 rfl rfl)
theorem dX12_marked_51 : decode cX12_marked 51 = .ok (.bipush 8, 2) := dk_16 8 (dk_at dksX12_marked_2 5 rfl rfl)
theorem dX12_marked_53 : decode cX12_marked 53 = .ok (.ishr, 1) := dk_122 (dk_at dksX12_marked_2 7 rfl rfl)
theorem dX12_marked_54 : decode cX12_marked 54 = .ok (.bipush 15, 2) := dk_16 15 (dk_at dksX12_marked_2 8 rfl rfl)
theorem dX12_marked_56 : decode cX12_marked 56 = .ok (.iand, 1) := dk_126 (dk_at dksX12_marked_2 10 rfl rfl)
theorem dX12_marked_57 : decode cX12_marked 57 = .ok (.istore 5, 2) := dk_54 5 (dk_at dksX12_marked_2 11 rfl rfl)
theorem dX12_marked_59 : decode cX12_marked 59 = .ok (.iload_n 2, 1) := dk_28 (dk_at dksX12_marked_2 13 rfl rfl)
theorem dX12_marked_60 : decode cX12_marked 60 = .ok (.iconst 4, 1) := dk_7 (dk_at dksX12_marked_2 14 rfl rfl)
theorem dX12_marked_61 : decode cX12_marked 61 = .ok (.if_icmp .ne 16, 3) := dk_160 0 16 (dk_at dksX12_marked_2 15 rfl rfl)
theorem dX12_marked_64 : decode cX12_marked 64 = .ok (.iload 5, 2) := dk_21 5 (dk_at dksX12_marked_2 18 rfl rfl)
theorem dX12_marked_66 : decode cX12_marked 66 = .ok (.ifCond .ne 7, 3) := dk_154 0 7 (dk_at dksX12_marked_2 20 rfl rfl)
theorem dX12_marked_69 : decode cX12_marked 69 = .ok (.iconst 1, 1) := dk_4 (dk_at dksX12_marked_2 23 rfl rfl)
theorem dX12_marked_70 : decode cX12_marked 70 = .ok (.goto 22, 3) := dk_167 0 22 (dk_at dksX12_marked_3 0 rfl rfl)
theorem dX12_marked_73 : decode cX12_marked 73 = .ok (.iconst 0, 1) := dk_3 (dk_at dksX12_marked_3 3 rfl rfl)
theorem dX12_marked_74 : decode cX12_marked 74 = .ok (.goto 18, 3) := dk_167 0 18 (dk_at dksX12_marked_3 4 rfl rfl)
theorem dX12_marked_77 : decode cX12_marked 77 = .ok (.iload 5, 2) := dk_21 5 (dk_at dksX12_marked_3 7 rfl rfl)
theorem dX12_marked_79 : decode cX12_marked 79 = .ok (.iload_n 2, 1) := dk_28 (dk_at dksX12_marked_3 9 rfl rfl)
theorem dX12_marked_80 : decode cX12_marked 80 = .ok (.ishr, 1) := dk_122 (dk_at dksX12_marked_3 10 rfl rfl)
theorem dX12_marked_81 : decode cX12_marked 81 = .ok (.iconst 1, 1) := dk_4 (dk_at dksX12_marked_3 11 rfl rfl)
theorem dX12_marked_82 : decode cX12_marked 82 = .ok (.iand, 1) := dk_126 (dk_at dksX12_marked_3 12 rfl rfl)
theorem dX12_marked_83 : decode cX12_marked 83 = .ok (.iconst 1, 1) := dk_4 (dk_at dksX12_marked_3 13 rfl rfl)
theorem dX12_marked_84 : decode cX12_marked 84 = .ok (.if_icmp .ne 7, 3) := dk_160 0 7 (dk_at dksX12_marked_3 14 rfl rfl)
theorem dX12_marked_87 : decode cX12_marked 87 = .ok (.iconst 1, 1) := dk_4 (dk_at dksX12_marked_3 17 rfl rfl)
theorem dX12_marked_88 : decode cX12_marked 88 = .ok (.goto 4, 3) := dk_167 0 4 (dk_at dksX12_marked_3 18 rfl rfl)
theorem dX12_marked_91 : decode cX12_marked 91 = .ok (.iconst 0, 1) := dk_3 (dk_at dksX12_marked_3 21 rfl rfl)
theorem dX12_marked_92 : decode cX12_marked 92 = .ok (.istore 6, 2) := dk_54 6 (dk_at dksX12_marked_3 22 rfl rfl)
theorem dX12_marked_94 : decode cX12_marked 94 = .ok (.iload_n 3, 1) := dk_29 (dk_at dksX12_marked_4 0 rfl rfl)
theorem dX12_marked_95 : decode cX12_marked 95 = .ok (.iload 6, 2) := dk_21 6 (dk_at dksX12_marked_4 1 rfl rfl)
theorem dX12_marked_97 : decode cX12_marked 97 = .ok (.ifCond .eq 21, 3) := dk_153 0 21 (dk_at dksX12_marked_4 3 rfl rfl)
theorem dX12_marked_100 : decode cX12_marked 100 = .ok (.iconst 1, 1) := dk_4 (dk_at dksX12_marked_4 6 rfl rfl)
theorem dX12_marked_101 : decode cX12_marked 101 = .ok (.aload_n 0, 1) := dk_42 (dk_at dksX12_marked_4 7 rfl rfl)
theorem dX12_marked_102 : decode cX12_marked 102 = .ok (.getfield 22, 3) := dk_180 0 22 (dk_at dksX12_marked_4 8 rfl rfl)
theorem dX12_marked_105 : decode cX12_marked 105 = .ok (.iload_n 1, 1) := dk_27 (dk_at dksX12_marked_4 11 rfl rfl)
theorem dX12_marked_106 : decode cX12_marked 106 = .ok (.aaload, 1) := dk_50 (dk_at dksX12_marked_4 12 rfl rfl)
theorem dX12_marked_107 : decode cX12_marked 107 = .ok (.iload 4, 2) := dk_21 4 (dk_at dksX12_marked_4 13 rfl rfl)
theorem dX12_marked_109 : decode cX12_marked 109 = .ok (.iaload, 1) := dk_46 (dk_at dksX12_marked_4 15 rfl rfl)
theorem dX12_marked_110 : decode cX12_marked 110 = .ok (.sipush 255, 3) := dk_17 0 255 (dk_at dksX12_marked_4 16 rfl rfl)
theorem dX12_marked_113 : decode cX12_marked 113 = .ok (.iand, 1) := dk_126 (dk_at dksX12_marked_4 19 rfl rfl)
theorem dX12_marked_114 : decode cX12_marked 114 = .ok (.ishl, 1) := dk_120 (dk_at dksX12_marked_4 20 rfl rfl)
theorem dX12_marked_115 : decode cX12_marked 115 = .ok (.goto 4, 3) := dk_167 0 4 (dk_at dksX12_marked_4 21 rfl rfl)
theorem dX12_marked_118 : decode cX12_marked 118 = .ok (.iconst 0, 1) := dk_3 (dk_at dksX12_marked_5 0 rfl rfl)
theorem dX12_marked_119 : decode cX12_marked 119 = .ok (.ior, 1) := dk_128 (dk_at dksX12_marked_5 1 rfl rfl)
theorem dX12_marked_120 : decode cX12_marked 120 = .ok (.istore_n 3, 1) := dk_62 (dk_at dksX12_marked_5 2 rfl rfl)
theorem dX12_marked_121 : decode cX12_marked 121 = .ok (.iinc 4 1, 3) := dk_132 4 1 (dk_at dksX12_marked_5 3 rfl rfl)
theorem dX12_marked_124 : decode cX12_marked 124 = .ok (.goto (-93), 3) := dk_167 255 163 (dk_at dksX12_marked_5 6 rfl rfl)
theorem dX12_marked_127 : decode cX12_marked 127 = .ok (.iload_n 3, 1) := dk_29 (dk_at dksX12_marked_5 9 rfl rfl)
theorem dX12_marked_128 : decode cX12_marked 128 = .ok (.ireturn, 1) := dk_172 (dk_at dksX12_marked_5 10 rfl rfl)
abbrev cX12_row : ByteArray := prog_24_method_87_code
def yX12_row : MethodName := ⟨RX12, "row", "(III)I"⟩
def dkwX12_row_3 : List UInt8 := [21, 4, 96, 9, 80, 132, 4, 1, 167, 255, 233, 4, 172]
abbrev dktX12_row_3 : List UInt8 := dkwX12_row_3 ++ []
def dkwX12_row_2 : List UInt8 := [180, 0, 55, 27, 29, 79, 3, 54, 4, 21, 4, 16, 40, 162, 0, 22, 42, 180, 0, 58, 16, 40, 27, 104]
abbrev dktX12_row_2 : List UInt8 := dkwX12_row_2 ++ dktX12_row_3
def dkwX12_row_1 : List UInt8 := [20, 1, 74, 184, 0, 175, 154, 0, 10, 42, 16, 254, 182, 0, 183, 172, 42, 180, 0, 52, 27, 28, 79, 42]
abbrev dktX12_row_1 : List UInt8 := dkwX12_row_1 ++ dktX12_row_2
def dkwX12_row_0 : List UInt8 := [27, 184, 1, 71, 153, 0, 27, 28, 133, 9, 20, 1, 61, 184, 0, 175, 153, 0, 15, 29, 133, 9]
abbrev dktX12_row_0 : List UInt8 := dkwX12_row_0 ++ dktX12_row_1
theorem dksX12_row_0 : cX12_row.data.toList.drop 0 = dktX12_row_0 := by decide +kernel
theorem dksX12_row_1 : cX12_row.data.toList.drop 22 = dktX12_row_1 := dk_seg dksX12_row_0 22 rfl rfl
theorem dksX12_row_2 : cX12_row.data.toList.drop 46 = dktX12_row_2 := dk_seg dksX12_row_1 24 rfl rfl
theorem dksX12_row_3 : cX12_row.data.toList.drop 70 = dktX12_row_3 := dk_seg dksX12_row_2 24 rfl rfl
theorem dX12_row_0 : decode cX12_row 0 = .ok (.iload_n 1, 1) := dk_27 (dk_at dksX12_row_0 0 rfl rfl)
theorem dX12_row_1 : decode cX12_row 1 = .ok (.invokestatic 327, 3) := dk_184 1 71 (dk_at dksX12_row_0 1 rfl rfl)
theorem dX12_row_4 : decode cX12_row 4 = .ok (.ifCond .eq 27, 3) := dk_153 0 27 (dk_at dksX12_row_0 4 rfl rfl)
theorem dX12_row_7 : decode cX12_row 7 = .ok (.iload_n 2, 1) := dk_28 (dk_at dksX12_row_0 7 rfl rfl)
theorem dX12_row_8 : decode cX12_row 8 = .ok (.i2l, 1) := dk_133 (dk_at dksX12_row_0 8 rfl rfl)
theorem dX12_row_9 : decode cX12_row 9 = .ok (.lconst 0, 1) := dk_9 (dk_at dksX12_row_0 9 rfl rfl)
theorem dX12_row_10 : decode cX12_row 10 = .ok (.ldc2_w 317, 3) := dk_20 1 61 (dk_at dksX12_row_0 10 rfl rfl)
theorem dX12_row_13 : decode cX12_row 13 = .ok (.invokestatic 175, 3) := dk_184 0 175 (dk_at dksX12_row_0 13 rfl rfl)
theorem dX12_row_16 : decode cX12_row 16 = .ok (.ifCond .eq 15, 3) := dk_153 0 15 (dk_at dksX12_row_0 16 rfl rfl)
theorem dX12_row_19 : decode cX12_row 19 = .ok (.iload_n 3, 1) := dk_29 (dk_at dksX12_row_0 19 rfl rfl)
theorem dX12_row_20 : decode cX12_row 20 = .ok (.i2l, 1) := dk_133 (dk_at dksX12_row_0 20 rfl rfl)
theorem dX12_row_21 : decode cX12_row 21 = .ok (.lconst 0, 1) := dk_9 (dk_at dksX12_row_0 21 rfl rfl)
theorem dX12_row_22 : decode cX12_row 22 = .ok (.ldc2_w 330, 3) := dk_20 1 74 (dk_at dksX12_row_1 0 rfl rfl)
theorem dX12_row_25 : decode cX12_row 25 = .ok (.invokestatic 175, 3) := dk_184 0 175 (dk_at dksX12_row_1 3 rfl rfl)
theorem dX12_row_28 : decode cX12_row 28 = .ok (.ifCond .ne 10, 3) := dk_154 0 10 (dk_at dksX12_row_1 6 rfl rfl)
theorem dX12_row_31 : decode cX12_row 31 = .ok (.aload_n 0, 1) := dk_42 (dk_at dksX12_row_1 9 rfl rfl)
theorem dX12_row_32 : decode cX12_row 32 = .ok (.bipush (-2), 2) := dk_16 254 (dk_at dksX12_row_1 10 rfl rfl)
theorem dX12_row_34 : decode cX12_row 34 = .ok (.invokevirtual 183, 3) := dk_182 0 183 (dk_at dksX12_row_1 12 rfl rfl)
theorem dX12_row_37 : decode cX12_row 37 = .ok (.ireturn, 1) := dk_172 (dk_at dksX12_row_1 15 rfl rfl)
theorem dX12_row_38 : decode cX12_row 38 = .ok (.aload_n 0, 1) := dk_42 (dk_at dksX12_row_1 16 rfl rfl)
theorem dX12_row_39 : decode cX12_row 39 = .ok (.getfield 52, 3) := dk_180 0 52 (dk_at dksX12_row_1 17 rfl rfl)
theorem dX12_row_42 : decode cX12_row 42 = .ok (.iload_n 1, 1) := dk_27 (dk_at dksX12_row_1 20 rfl rfl)
theorem dX12_row_43 : decode cX12_row 43 = .ok (.iload_n 2, 1) := dk_28 (dk_at dksX12_row_1 21 rfl rfl)
theorem dX12_row_44 : decode cX12_row 44 = .ok (.iastore, 1) := dk_79 (dk_at dksX12_row_1 22 rfl rfl)
theorem dX12_row_45 : decode cX12_row 45 = .ok (.aload_n 0, 1) := dk_42 (dk_at dksX12_row_1 23 rfl rfl)
theorem dX12_row_46 : decode cX12_row 46 = .ok (.getfield 55, 3) := dk_180 0 55 (dk_at dksX12_row_2 0 rfl rfl)
theorem dX12_row_49 : decode cX12_row 49 = .ok (.iload_n 1, 1) := dk_27 (dk_at dksX12_row_2 3 rfl rfl)
theorem dX12_row_50 : decode cX12_row 50 = .ok (.iload_n 3, 1) := dk_29 (dk_at dksX12_row_2 4 rfl rfl)
theorem dX12_row_51 : decode cX12_row 51 = .ok (.iastore, 1) := dk_79 (dk_at dksX12_row_2 5 rfl rfl)
theorem dX12_row_52 : decode cX12_row 52 = .ok (.iconst 0, 1) := dk_3 (dk_at dksX12_row_2 6 rfl rfl)
theorem dX12_row_53 : decode cX12_row 53 = .ok (.istore 4, 2) := dk_54 4 (dk_at dksX12_row_2 7 rfl rfl)
theorem dX12_row_55 : decode cX12_row 55 = .ok (.iload 4, 2) := dk_21 4 (dk_at dksX12_row_2 9 rfl rfl)
theorem dX12_row_57 : decode cX12_row 57 = .ok (.bipush 40, 2) := dk_16 40 (dk_at dksX12_row_2 11 rfl rfl)
theorem dX12_row_59 : decode cX12_row 59 = .ok (.if_icmp .ge 22, 3) := dk_162 0 22 (dk_at dksX12_row_2 13 rfl rfl)
theorem dX12_row_62 : decode cX12_row 62 = .ok (.aload_n 0, 1) := dk_42 (dk_at dksX12_row_2 16 rfl rfl)
theorem dX12_row_63 : decode cX12_row 63 = .ok (.getfield 58, 3) := dk_180 0 58 (dk_at dksX12_row_2 17 rfl rfl)
theorem dX12_row_66 : decode cX12_row 66 = .ok (.bipush 40, 2) := dk_16 40 (dk_at dksX12_row_2 20 rfl rfl)
theorem dX12_row_68 : decode cX12_row 68 = .ok (.iload_n 1, 1) := dk_27 (dk_at dksX12_row_2 22 rfl rfl)
theorem dX12_row_69 : decode cX12_row 69 = .ok (.imul, 1) := dk_104 (dk_at dksX12_row_2 23 rfl rfl)
theorem dX12_row_70 : decode cX12_row 70 = .ok (.iload 4, 2) := dk_21 4 (dk_at dksX12_row_3 0 rfl rfl)
theorem dX12_row_72 : decode cX12_row 72 = .ok (.iadd, 1) := dk_96 (dk_at dksX12_row_3 2 rfl rfl)
theorem dX12_row_73 : decode cX12_row 73 = .ok (.lconst 0, 1) := dk_9 (dk_at dksX12_row_3 3 rfl rfl)
theorem dX12_row_74 : decode cX12_row 74 = .ok (.lastore, 1) := dk_80 (dk_at dksX12_row_3 4 rfl rfl)
theorem dX12_row_75 : decode cX12_row 75 = .ok (.iinc 4 1, 3) := dk_132 4 1 (dk_at dksX12_row_3 5 rfl rfl)
theorem dX12_row_78 : decode cX12_row 78 = .ok (.goto (-23), 3) := dk_167 255 233 (dk_at dksX12_row_3 8 rfl rfl)
theorem dX12_row_81 : decode cX12_row 81 = .ok (.iconst 1, 1) := dk_4 (dk_at dksX12_row_3 11 rfl rfl)
theorem dX12_row_82 : decode cX12_row 82 = .ok (.ireturn, 1) := dk_172 (dk_at dksX12_row_3 12 rfl rfl)
abbrev cX12_isShelf : ByteArray := prog_24_method_86_code
def yX12_isShelf : MethodName := ⟨RX12, "isShelf", "(I)Z"⟩
def dkwX12_isShelf_0 : List UInt8 := [26, 133, 9, 20, 1, 69, 184, 0, 175, 172]
abbrev dktX12_isShelf_0 : List UInt8 := dkwX12_isShelf_0 ++ []
theorem dksX12_isShelf_0 : cX12_isShelf.data.toList.drop 0 = dktX12_isShelf_0 := by decide +kernel
theorem dX12_isShelf_0 : decode cX12_isShelf 0 = .ok (.iload_n 0, 1) := dk_26 (dk_at dksX12_isShelf_0 0 rfl rfl)
theorem dX12_isShelf_1 : decode cX12_isShelf 1 = .ok (.i2l, 1) := dk_133 (dk_at dksX12_isShelf_0 1 rfl rfl)
theorem dX12_isShelf_2 : decode cX12_isShelf 2 = .ok (.lconst 0, 1) := dk_9 (dk_at dksX12_isShelf_0 2 rfl rfl)
theorem dX12_isShelf_3 : decode cX12_isShelf 3 = .ok (.ldc2_w 325, 3) := dk_20 1 69 (dk_at dksX12_isShelf_0 3 rfl rfl)
theorem dX12_isShelf_6 : decode cX12_isShelf 6 = .ok (.invokestatic 175, 3) := dk_184 0 175 (dk_at dksX12_isShelf_0 6 rfl rfl)
theorem dX12_isShelf_9 : decode cX12_isShelf 9 = .ok (.ireturn, 1) := dk_172 (dk_at dksX12_isShelf_0 9 rfl rfl)
abbrev cX12_set : ByteArray := prog_24_method_89_code
def yX12_set : MethodName := ⟨RX12, "set", "(IIJ)I"⟩
def dkwX12_set_3 : List UInt8 := [42, 180, 0, 58, 16, 40, 27, 104, 28, 96, 42, 180, 0, 52, 27, 46, 33, 184, 1, 76, 80, 4, 172]
abbrev dktX12_set_3 : List UInt8 := dkwX12_set_3 ++ []
def dkwX12_set_2 : List UInt8 := [133, 9, 42, 180, 0, 55, 27, 46, 4, 100, 133, 184, 0, 175, 154, 0, 10, 42, 16, 254, 182, 0, 183, 172]
abbrev dktX12_set_2 : List UInt8 := dkwX12_set_2 ++ dktX12_set_3
def dkwX12_set_1 : List UInt8 := [42, 16, 253, 182, 0, 183, 172, 42, 180, 0, 52, 27, 46, 156, 0, 10, 42, 16, 252, 182, 0, 183, 172, 28]
abbrev dktX12_set_1 : List UInt8 := dkwX12_set_1 ++ dktX12_set_2
def dkwX12_set_0 : List UInt8 := [27, 184, 1, 71, 154, 0, 10, 42, 16, 254, 182, 0, 183, 172, 42, 180, 0, 52, 27, 46, 7, 164, 0, 10]
abbrev dktX12_set_0 : List UInt8 := dkwX12_set_0 ++ dktX12_set_1
theorem dksX12_set_0 : cX12_set.data.toList.drop 0 = dktX12_set_0 := by decide +kernel
theorem dksX12_set_1 : cX12_set.data.toList.drop 24 = dktX12_set_1 := dk_seg dksX12_set_0 24 rfl rfl
theorem dksX12_set_2 : cX12_set.data.toList.drop 48 = dktX12_set_2 := dk_seg dksX12_set_1 24 rfl rfl
theorem dksX12_set_3 : cX12_set.data.toList.drop 72 = dktX12_set_3 := dk_seg dksX12_set_2 24 rfl rfl
theorem dX12_set_0 : decode cX12_set 0 = .ok (.iload_n 1, 1) := dk_27 (dk_at dksX12_set_0 0 rfl rfl)
theorem dX12_set_1 : decode cX12_set 1 = .ok (.invokestatic 327, 3) := dk_184 1 71 (dk_at dksX12_set_0 1 rfl rfl)
theorem dX12_set_4 : decode cX12_set 4 = .ok (.ifCond .ne 10, 3) := dk_154 0 10 (dk_at dksX12_set_0 4 rfl rfl)
theorem dX12_set_7 : decode cX12_set 7 = .ok (.aload_n 0, 1) := dk_42 (dk_at dksX12_set_0 7 rfl rfl)
theorem dX12_set_8 : decode cX12_set 8 = .ok (.bipush (-2), 2) := dk_16 254 (dk_at dksX12_set_0 8 rfl rfl)
theorem dX12_set_10 : decode cX12_set 10 = .ok (.invokevirtual 183, 3) := dk_182 0 183 (dk_at dksX12_set_0 10 rfl rfl)
theorem dX12_set_13 : decode cX12_set 13 = .ok (.ireturn, 1) := dk_172 (dk_at dksX12_set_0 13 rfl rfl)
theorem dX12_set_14 : decode cX12_set 14 = .ok (.aload_n 0, 1) := dk_42 (dk_at dksX12_set_0 14 rfl rfl)
theorem dX12_set_15 : decode cX12_set 15 = .ok (.getfield 52, 3) := dk_180 0 52 (dk_at dksX12_set_0 15 rfl rfl)
theorem dX12_set_18 : decode cX12_set 18 = .ok (.iload_n 1, 1) := dk_27 (dk_at dksX12_set_0 18 rfl rfl)
theorem dX12_set_19 : decode cX12_set 19 = .ok (.iaload, 1) := dk_46 (dk_at dksX12_set_0 19 rfl rfl)
theorem dX12_set_20 : decode cX12_set 20 = .ok (.iconst 4, 1) := dk_7 (dk_at dksX12_set_0 20 rfl rfl)
theorem dX12_set_21 : decode cX12_set 21 = .ok (.if_icmp .le 10, 3) := dk_164 0 10 (dk_at dksX12_set_0 21 rfl rfl)
theorem dX12_set_24 : decode cX12_set 24 = .ok (.aload_n 0, 1) := dk_42 (dk_at dksX12_set_1 0 rfl rfl)
theorem dX12_set_25 : decode cX12_set 25 = .ok (.bipush (-3), 2) := dk_16 253 (dk_at dksX12_set_1 1 rfl rfl)
theorem dX12_set_27 : decode cX12_set 27 = .ok (.invokevirtual 183, 3) := dk_182 0 183 (dk_at dksX12_set_1 3 rfl rfl)
theorem dX12_set_30 : decode cX12_set 30 = .ok (.ireturn, 1) := dk_172 (dk_at dksX12_set_1 6 rfl rfl)
theorem dX12_set_31 : decode cX12_set 31 = .ok (.aload_n 0, 1) := dk_42 (dk_at dksX12_set_1 7 rfl rfl)
theorem dX12_set_32 : decode cX12_set 32 = .ok (.getfield 52, 3) := dk_180 0 52 (dk_at dksX12_set_1 8 rfl rfl)
theorem dX12_set_35 : decode cX12_set 35 = .ok (.iload_n 1, 1) := dk_27 (dk_at dksX12_set_1 11 rfl rfl)
theorem dX12_set_36 : decode cX12_set 36 = .ok (.iaload, 1) := dk_46 (dk_at dksX12_set_1 12 rfl rfl)
theorem dX12_set_37 : decode cX12_set 37 = .ok (.ifCond .ge 10, 3) := dk_156 0 10 (dk_at dksX12_set_1 13 rfl rfl)
theorem dX12_set_40 : decode cX12_set 40 = .ok (.aload_n 0, 1) := dk_42 (dk_at dksX12_set_1 16 rfl rfl)
theorem dX12_set_41 : decode cX12_set 41 = .ok (.bipush (-4), 2) := dk_16 252 (dk_at dksX12_set_1 17 rfl rfl)
theorem dX12_set_43 : decode cX12_set 43 = .ok (.invokevirtual 183, 3) := dk_182 0 183 (dk_at dksX12_set_1 19 rfl rfl)
theorem dX12_set_46 : decode cX12_set 46 = .ok (.ireturn, 1) := dk_172 (dk_at dksX12_set_1 22 rfl rfl)
theorem dX12_set_47 : decode cX12_set 47 = .ok (.iload_n 2, 1) := dk_28 (dk_at dksX12_set_1 23 rfl rfl)
theorem dX12_set_48 : decode cX12_set 48 = .ok (.i2l, 1) := dk_133 (dk_at dksX12_set_2 0 rfl rfl)
theorem dX12_set_49 : decode cX12_set 49 = .ok (.lconst 0, 1) := dk_9 (dk_at dksX12_set_2 1 rfl rfl)
theorem dX12_set_50 : decode cX12_set 50 = .ok (.aload_n 0, 1) := dk_42 (dk_at dksX12_set_2 2 rfl rfl)
theorem dX12_set_51 : decode cX12_set 51 = .ok (.getfield 55, 3) := dk_180 0 55 (dk_at dksX12_set_2 3 rfl rfl)
theorem dX12_set_54 : decode cX12_set 54 = .ok (.iload_n 1, 1) := dk_27 (dk_at dksX12_set_2 6 rfl rfl)
theorem dX12_set_55 : decode cX12_set 55 = .ok (.iaload, 1) := dk_46 (dk_at dksX12_set_2 7 rfl rfl)
theorem dX12_set_56 : decode cX12_set 56 = .ok (.iconst 1, 1) := dk_4 (dk_at dksX12_set_2 8 rfl rfl)
theorem dX12_set_57 : decode cX12_set 57 = .ok (.isub, 1) := dk_100 (dk_at dksX12_set_2 9 rfl rfl)
theorem dX12_set_58 : decode cX12_set 58 = .ok (.i2l, 1) := dk_133 (dk_at dksX12_set_2 10 rfl rfl)
theorem dX12_set_59 : decode cX12_set 59 = .ok (.invokestatic 175, 3) := dk_184 0 175 (dk_at dksX12_set_2 11 rfl rfl)
theorem dX12_set_62 : decode cX12_set 62 = .ok (.ifCond .ne 10, 3) := dk_154 0 10 (dk_at dksX12_set_2 14 rfl rfl)
theorem dX12_set_65 : decode cX12_set 65 = .ok (.aload_n 0, 1) := dk_42 (dk_at dksX12_set_2 17 rfl rfl)
theorem dX12_set_66 : decode cX12_set 66 = .ok (.bipush (-2), 2) := dk_16 254 (dk_at dksX12_set_2 18 rfl rfl)
theorem dX12_set_68 : decode cX12_set 68 = .ok (.invokevirtual 183, 3) := dk_182 0 183 (dk_at dksX12_set_2 20 rfl rfl)
theorem dX12_set_71 : decode cX12_set 71 = .ok (.ireturn, 1) := dk_172 (dk_at dksX12_set_2 23 rfl rfl)
theorem dX12_set_72 : decode cX12_set 72 = .ok (.aload_n 0, 1) := dk_42 (dk_at dksX12_set_3 0 rfl rfl)
theorem dX12_set_73 : decode cX12_set 73 = .ok (.getfield 58, 3) := dk_180 0 58 (dk_at dksX12_set_3 1 rfl rfl)
theorem dX12_set_76 : decode cX12_set 76 = .ok (.bipush 40, 2) := dk_16 40 (dk_at dksX12_set_3 4 rfl rfl)
theorem dX12_set_78 : decode cX12_set 78 = .ok (.iload_n 1, 1) := dk_27 (dk_at dksX12_set_3 6 rfl rfl)
theorem dX12_set_79 : decode cX12_set 79 = .ok (.imul, 1) := dk_104 (dk_at dksX12_set_3 7 rfl rfl)
theorem dX12_set_80 : decode cX12_set 80 = .ok (.iload_n 2, 1) := dk_28 (dk_at dksX12_set_3 8 rfl rfl)
theorem dX12_set_81 : decode cX12_set 81 = .ok (.iadd, 1) := dk_96 (dk_at dksX12_set_3 9 rfl rfl)
theorem dX12_set_82 : decode cX12_set 82 = .ok (.aload_n 0, 1) := dk_42 (dk_at dksX12_set_3 10 rfl rfl)
theorem dX12_set_83 : decode cX12_set 83 = .ok (.getfield 52, 3) := dk_180 0 52 (dk_at dksX12_set_3 11 rfl rfl)
theorem dX12_set_86 : decode cX12_set 86 = .ok (.iload_n 1, 1) := dk_27 (dk_at dksX12_set_3 14 rfl rfl)
theorem dX12_set_87 : decode cX12_set 87 = .ok (.iaload, 1) := dk_46 (dk_at dksX12_set_3 15 rfl rfl)
theorem dX12_set_88 : decode cX12_set 88 = .ok (.lload_n 3, 1) := dk_33 (dk_at dksX12_set_3 16 rfl rfl)
theorem dX12_set_89 : decode cX12_set 89 = .ok (.invokestatic 332, 3) := dk_184 1 76 (dk_at dksX12_set_3 17 rfl rfl)
theorem dX12_set_92 : decode cX12_set 92 = .ok (.lastore, 1) := dk_80 (dk_at dksX12_set_3 20 rfl rfl)
theorem dX12_set_93 : decode cX12_set 93 = .ok (.iconst 1, 1) := dk_4 (dk_at dksX12_set_3 21 rfl rfl)
theorem dX12_set_94 : decode cX12_set 94 = .ok (.ireturn, 1) := dk_172 (dk_at dksX12_set_3 22 rfl rfl)
abbrev cX12_lowest : ByteArray := prog_24_method_88_code
def yX12_lowest : MethodName := ⟨RX12, "lowest", "(IJ)J"⟩
def dkwX12_lowest_3 : List UInt8 := [167, 0, 4, 10, 173]
abbrev dktX12_lowest_3 : List UInt8 := dkwX12_lowest_3 ++ []
def dkwX12_lowest_2 : List UInt8 := [31, 136, 145, 133, 173, 31, 136, 147, 133, 173, 31, 136, 133, 173, 31, 173, 31, 9, 148, 154, 0, 7, 9]
abbrev dktX12_lowest_2 : List UInt8 := dkwX12_lowest_2 ++ dktX12_lowest_3
def dkwX12_lowest_1 : List UInt8 := [170, 0, 0, 0, 0, 0, 47, 0, 0, 0, 0, 0, 0, 0, 3, 0, 0, 0, 31, 0, 0, 0, 36, 0, 0, 0, 41, 0, 0, 0, 45]
abbrev dktX12_lowest_1 : List UInt8 := dkwX12_lowest_1 ++ dktX12_lowest_2
def dkwX12_lowest_0 : List UInt8 := [26]
abbrev dktX12_lowest_0 : List UInt8 := dkwX12_lowest_0 ++ dktX12_lowest_1
theorem dksX12_lowest_0 : cX12_lowest.data.toList.drop 0 = dktX12_lowest_0 := by decide +kernel
theorem dksX12_lowest_1 : cX12_lowest.data.toList.drop 1 = dktX12_lowest_1 := dk_seg dksX12_lowest_0 1 rfl rfl
theorem dksX12_lowest_2 : cX12_lowest.data.toList.drop 32 = dktX12_lowest_2 := dk_seg dksX12_lowest_1 31 rfl rfl
theorem dksX12_lowest_3 : cX12_lowest.data.toList.drop 55 = dktX12_lowest_3 := dk_seg dksX12_lowest_2 23 rfl rfl
theorem dX12_lowest_0 : decode cX12_lowest 0 = .ok (.iload_n 0, 1) := dk_26 (dk_at dksX12_lowest_0 0 rfl rfl)
theorem dX12_lowest_1 : decode cX12_lowest 1 = .ok (.tableswitch 47 0 3 #[31, 36, 41, 45], 31) := by decide +kernel
theorem dX12_lowest_32 : decode cX12_lowest 32 = .ok (.lload_n 1, 1) := dk_31 (dk_at dksX12_lowest_2 0 rfl rfl)
theorem dX12_lowest_33 : decode cX12_lowest 33 = .ok (.l2i, 1) := dk_136 (dk_at dksX12_lowest_2 1 rfl rfl)
theorem dX12_lowest_34 : decode cX12_lowest 34 = .ok (.i2b, 1) := dk_145 (dk_at dksX12_lowest_2 2 rfl rfl)
theorem dX12_lowest_35 : decode cX12_lowest 35 = .ok (.i2l, 1) := dk_133 (dk_at dksX12_lowest_2 3 rfl rfl)
theorem dX12_lowest_36 : decode cX12_lowest 36 = .ok (.lreturn, 1) := dk_173 (dk_at dksX12_lowest_2 4 rfl rfl)
theorem dX12_lowest_37 : decode cX12_lowest 37 = .ok (.lload_n 1, 1) := dk_31 (dk_at dksX12_lowest_2 5 rfl rfl)
theorem dX12_lowest_38 : decode cX12_lowest 38 = .ok (.l2i, 1) := dk_136 (dk_at dksX12_lowest_2 6 rfl rfl)
theorem dX12_lowest_39 : decode cX12_lowest 39 = .ok (.i2s, 1) := dk_147 (dk_at dksX12_lowest_2 7 rfl rfl)
theorem dX12_lowest_40 : decode cX12_lowest 40 = .ok (.i2l, 1) := dk_133 (dk_at dksX12_lowest_2 8 rfl rfl)
theorem dX12_lowest_41 : decode cX12_lowest 41 = .ok (.lreturn, 1) := dk_173 (dk_at dksX12_lowest_2 9 rfl rfl)
theorem dX12_lowest_42 : decode cX12_lowest 42 = .ok (.lload_n 1, 1) := dk_31 (dk_at dksX12_lowest_2 10 rfl rfl)
theorem dX12_lowest_43 : decode cX12_lowest 43 = .ok (.l2i, 1) := dk_136 (dk_at dksX12_lowest_2 11 rfl rfl)
theorem dX12_lowest_44 : decode cX12_lowest 44 = .ok (.i2l, 1) := dk_133 (dk_at dksX12_lowest_2 12 rfl rfl)
theorem dX12_lowest_45 : decode cX12_lowest 45 = .ok (.lreturn, 1) := dk_173 (dk_at dksX12_lowest_2 13 rfl rfl)
theorem dX12_lowest_46 : decode cX12_lowest 46 = .ok (.lload_n 1, 1) := dk_31 (dk_at dksX12_lowest_2 14 rfl rfl)
theorem dX12_lowest_47 : decode cX12_lowest 47 = .ok (.lreturn, 1) := dk_173 (dk_at dksX12_lowest_2 15 rfl rfl)
theorem dX12_lowest_48 : decode cX12_lowest 48 = .ok (.lload_n 1, 1) := dk_31 (dk_at dksX12_lowest_2 16 rfl rfl)
theorem dX12_lowest_49 : decode cX12_lowest 49 = .ok (.lconst 0, 1) := dk_9 (dk_at dksX12_lowest_2 17 rfl rfl)
theorem dX12_lowest_50 : decode cX12_lowest 50 = .ok (.lcmp, 1) := dk_148 (dk_at dksX12_lowest_2 18 rfl rfl)
theorem dX12_lowest_51 : decode cX12_lowest 51 = .ok (.ifCond .ne 7, 3) := dk_154 0 7 (dk_at dksX12_lowest_2 19 rfl rfl)
theorem dX12_lowest_54 : decode cX12_lowest 54 = .ok (.lconst 0, 1) := dk_9 (dk_at dksX12_lowest_2 22 rfl rfl)
theorem dX12_lowest_55 : decode cX12_lowest 55 = .ok (.goto 4, 3) := dk_167 0 4 (dk_at dksX12_lowest_3 0 rfl rfl)
theorem dX12_lowest_58 : decode cX12_lowest 58 = .ok (.lconst 1, 1) := dk_10 (dk_at dksX12_lowest_3 3 rfl rfl)
theorem dX12_lowest_59 : decode cX12_lowest 59 = .ok (.lreturn, 1) := dk_173 (dk_at dksX12_lowest_3 4 rfl rfl)
abbrev cX12_copy : ByteArray := prog_24_method_90_code
def yX12_copy : MethodName := ⟨RX12, "copy", "(IIIII)I"⟩
def dkwX12_copy_10 : List UInt8 := [132, 6, 1, 167, 255, 197, 21, 5, 172]
abbrev dktX12_copy_10 : List UInt8 := dkwX12_copy_10 ++ []
def dkwX12_copy_9 : List UInt8 := [104, 21, 4, 96, 21, 7, 96, 42, 180, 0, 58, 16, 40, 27, 104, 29, 96, 21, 7, 96, 47, 80]
abbrev dktX12_copy_9 : List UInt8 := dkwX12_copy_9 ++ dktX12_copy_10
def dkwX12_copy_8 : List UInt8 := [162, 0, 13, 21, 5, 4, 100, 21, 6, 100, 167, 0, 5, 21, 6, 54, 7, 42, 180, 0, 58, 16, 40, 28]
abbrev dktX12_copy_8 : List UInt8 := dkwX12_copy_8 ++ dktX12_copy_9
def dkwX12_copy_7 : List UInt8 := [164, 0, 10, 42, 16, 254, 182, 0, 183, 172, 3, 54, 6, 21, 6, 21, 5, 162, 0, 58, 29, 21, 4]
abbrev dktX12_copy_7 : List UInt8 := dkwX12_copy_7 ++ dktX12_copy_8
def dkwX12_copy_6 : List UInt8 := [21, 5, 42, 180, 0, 55, 27, 46, 29, 100, 163, 0, 17, 21, 5, 42, 180, 0, 55, 28, 46, 21, 4, 100]
abbrev dktX12_copy_6 : List UInt8 := dkwX12_copy_6 ++ dktX12_copy_7
def dkwX12_copy_5 : List UInt8 := [155, 0, 51, 29, 42, 180, 0, 55, 27, 46, 163, 0, 41, 21, 4, 42, 180, 0, 55, 28, 46, 163, 0, 30]
abbrev dktX12_copy_5 : List UInt8 := dkwX12_copy_5 ++ dktX12_copy_6
def dkwX12_copy_4 : List UInt8 := [28, 46, 156, 0, 10, 42, 16, 252, 182, 0, 183, 172, 29, 155, 0, 61, 21, 4, 155, 0, 56, 21, 5]
abbrev dktX12_copy_4 : List UInt8 := dkwX12_copy_4 ++ dktX12_copy_5
def dkwX12_copy_3 : List UInt8 := [46, 159, 0, 10, 42, 16, 253, 182, 0, 183, 172, 42, 180, 0, 52, 27, 46, 155, 0, 12, 42, 180, 0, 52]
abbrev dktX12_copy_3 : List UInt8 := dkwX12_copy_3 ++ dktX12_copy_4
def dkwX12_copy_2 : List UInt8 := [46, 155, 0, 34, 42, 180, 0, 52, 28, 46, 155, 0, 25, 42, 180, 0, 52, 27, 46, 42, 180, 0, 52, 28]
abbrev dktX12_copy_2 : List UInt8 := dkwX12_copy_2 ++ dktX12_copy_3
def dkwX12_copy_1 : List UInt8 := [180, 0, 52, 27, 46, 7, 163, 0, 46, 42, 180, 0, 52, 28, 46, 7, 163, 0, 36, 42, 180, 0, 52, 27]
abbrev dktX12_copy_1 : List UInt8 := dkwX12_copy_1 ++ dktX12_copy_2
def dkwX12_copy_0 : List UInt8 := [27, 184, 1, 71, 153, 0, 10, 28, 184, 1, 71, 154, 0, 10, 42, 16, 254, 182, 0, 183, 172, 42]
abbrev dktX12_copy_0 : List UInt8 := dkwX12_copy_0 ++ dktX12_copy_1
theorem dksX12_copy_0 : cX12_copy.data.toList.drop 0 = dktX12_copy_0 := by decide +kernel
theorem dksX12_copy_1 : cX12_copy.data.toList.drop 22 = dktX12_copy_1 := dk_seg dksX12_copy_0 22 rfl rfl
theorem dksX12_copy_2 : cX12_copy.data.toList.drop 46 = dktX12_copy_2 := dk_seg dksX12_copy_1 24 rfl rfl
theorem dksX12_copy_3 : cX12_copy.data.toList.drop 70 = dktX12_copy_3 := dk_seg dksX12_copy_2 24 rfl rfl
theorem dksX12_copy_4 : cX12_copy.data.toList.drop 94 = dktX12_copy_4 := dk_seg dksX12_copy_3 24 rfl rfl
theorem dksX12_copy_5 : cX12_copy.data.toList.drop 117 = dktX12_copy_5 := dk_seg dksX12_copy_4 23 rfl rfl
theorem dksX12_copy_6 : cX12_copy.data.toList.drop 141 = dktX12_copy_6 := dk_seg dksX12_copy_5 24 rfl rfl
theorem dksX12_copy_7 : cX12_copy.data.toList.drop 165 = dktX12_copy_7 := dk_seg dksX12_copy_6 24 rfl rfl
theorem dksX12_copy_8 : cX12_copy.data.toList.drop 188 = dktX12_copy_8 := dk_seg dksX12_copy_7 23 rfl rfl
theorem dksX12_copy_9 : cX12_copy.data.toList.drop 212 = dktX12_copy_9 := dk_seg dksX12_copy_8 24 rfl rfl
theorem dksX12_copy_10 : cX12_copy.data.toList.drop 234 = dktX12_copy_10 := dk_seg dksX12_copy_9 22 rfl rfl
theorem dX12_copy_0 : decode cX12_copy 0 = .ok (.iload_n 1, 1) := dk_27 (dk_at dksX12_copy_0 0 rfl rfl)
theorem dX12_copy_1 : decode cX12_copy 1 = .ok (.invokestatic 327, 3) := dk_184 1 71 (dk_at dksX12_copy_0 1 rfl rfl)
theorem dX12_copy_4 : decode cX12_copy 4 = .ok (.ifCond .eq 10, 3) := dk_153 0 10 (dk_at dksX12_copy_0 4 rfl rfl)
theorem dX12_copy_7 : decode cX12_copy 7 = .ok (.iload_n 2, 1) := dk_28 (dk_at dksX12_copy_0 7 rfl rfl)
theorem dX12_copy_8 : decode cX12_copy 8 = .ok (.invokestatic 327, 3) := dk_184 1 71 (dk_at dksX12_copy_0 8 rfl rfl)
theorem dX12_copy_11 : decode cX12_copy 11 = .ok (.ifCond .ne 10, 3) := dk_154 0 10 (dk_at dksX12_copy_0 11 rfl rfl)
theorem dX12_copy_14 : decode cX12_copy 14 = .ok (.aload_n 0, 1) := dk_42 (dk_at dksX12_copy_0 14 rfl rfl)
theorem dX12_copy_15 : decode cX12_copy 15 = .ok (.bipush (-2), 2) := dk_16 254 (dk_at dksX12_copy_0 15 rfl rfl)
theorem dX12_copy_17 : decode cX12_copy 17 = .ok (.invokevirtual 183, 3) := dk_182 0 183 (dk_at dksX12_copy_0 17 rfl rfl)
theorem dX12_copy_20 : decode cX12_copy 20 = .ok (.ireturn, 1) := dk_172 (dk_at dksX12_copy_0 20 rfl rfl)
theorem dX12_copy_21 : decode cX12_copy 21 = .ok (.aload_n 0, 1) := dk_42 (dk_at dksX12_copy_0 21 rfl rfl)
theorem dX12_copy_22 : decode cX12_copy 22 = .ok (.getfield 52, 3) := dk_180 0 52 (dk_at dksX12_copy_1 0 rfl rfl)
theorem dX12_copy_25 : decode cX12_copy 25 = .ok (.iload_n 1, 1) := dk_27 (dk_at dksX12_copy_1 3 rfl rfl)
theorem dX12_copy_26 : decode cX12_copy 26 = .ok (.iaload, 1) := dk_46 (dk_at dksX12_copy_1 4 rfl rfl)
theorem dX12_copy_27 : decode cX12_copy 27 = .ok (.iconst 4, 1) := dk_7 (dk_at dksX12_copy_1 5 rfl rfl)
theorem dX12_copy_28 : decode cX12_copy 28 = .ok (.if_icmp .gt 46, 3) := dk_163 0 46 (dk_at dksX12_copy_1 6 rfl rfl)
theorem dX12_copy_31 : decode cX12_copy 31 = .ok (.aload_n 0, 1) := dk_42 (dk_at dksX12_copy_1 9 rfl rfl)
theorem dX12_copy_32 : decode cX12_copy 32 = .ok (.getfield 52, 3) := dk_180 0 52 (dk_at dksX12_copy_1 10 rfl rfl)
theorem dX12_copy_35 : decode cX12_copy 35 = .ok (.iload_n 2, 1) := dk_28 (dk_at dksX12_copy_1 13 rfl rfl)
theorem dX12_copy_36 : decode cX12_copy 36 = .ok (.iaload, 1) := dk_46 (dk_at dksX12_copy_1 14 rfl rfl)
theorem dX12_copy_37 : decode cX12_copy 37 = .ok (.iconst 4, 1) := dk_7 (dk_at dksX12_copy_1 15 rfl rfl)
theorem dX12_copy_38 : decode cX12_copy 38 = .ok (.if_icmp .gt 36, 3) := dk_163 0 36 (dk_at dksX12_copy_1 16 rfl rfl)
theorem dX12_copy_41 : decode cX12_copy 41 = .ok (.aload_n 0, 1) := dk_42 (dk_at dksX12_copy_1 19 rfl rfl)
theorem dX12_copy_42 : decode cX12_copy 42 = .ok (.getfield 52, 3) := dk_180 0 52 (dk_at dksX12_copy_1 20 rfl rfl)
theorem dX12_copy_45 : decode cX12_copy 45 = .ok (.iload_n 1, 1) := dk_27 (dk_at dksX12_copy_1 23 rfl rfl)
theorem dX12_copy_46 : decode cX12_copy 46 = .ok (.iaload, 1) := dk_46 (dk_at dksX12_copy_2 0 rfl rfl)
theorem dX12_copy_47 : decode cX12_copy 47 = .ok (.ifCond .lt 34, 3) := dk_155 0 34 (dk_at dksX12_copy_2 1 rfl rfl)
theorem dX12_copy_50 : decode cX12_copy 50 = .ok (.aload_n 0, 1) := dk_42 (dk_at dksX12_copy_2 4 rfl rfl)
theorem dX12_copy_51 : decode cX12_copy 51 = .ok (.getfield 52, 3) := dk_180 0 52 (dk_at dksX12_copy_2 5 rfl rfl)
theorem dX12_copy_54 : decode cX12_copy 54 = .ok (.iload_n 2, 1) := dk_28 (dk_at dksX12_copy_2 8 rfl rfl)
theorem dX12_copy_55 : decode cX12_copy 55 = .ok (.iaload, 1) := dk_46 (dk_at dksX12_copy_2 9 rfl rfl)
theorem dX12_copy_56 : decode cX12_copy 56 = .ok (.ifCond .lt 25, 3) := dk_155 0 25 (dk_at dksX12_copy_2 10 rfl rfl)
theorem dX12_copy_59 : decode cX12_copy 59 = .ok (.aload_n 0, 1) := dk_42 (dk_at dksX12_copy_2 13 rfl rfl)
theorem dX12_copy_60 : decode cX12_copy 60 = .ok (.getfield 52, 3) := dk_180 0 52 (dk_at dksX12_copy_2 14 rfl rfl)
theorem dX12_copy_63 : decode cX12_copy 63 = .ok (.iload_n 1, 1) := dk_27 (dk_at dksX12_copy_2 17 rfl rfl)
theorem dX12_copy_64 : decode cX12_copy 64 = .ok (.iaload, 1) := dk_46 (dk_at dksX12_copy_2 18 rfl rfl)
theorem dX12_copy_65 : decode cX12_copy 65 = .ok (.aload_n 0, 1) := dk_42 (dk_at dksX12_copy_2 19 rfl rfl)
theorem dX12_copy_66 : decode cX12_copy 66 = .ok (.getfield 52, 3) := dk_180 0 52 (dk_at dksX12_copy_2 20 rfl rfl)
theorem dX12_copy_69 : decode cX12_copy 69 = .ok (.iload_n 2, 1) := dk_28 (dk_at dksX12_copy_2 23 rfl rfl)
theorem dX12_copy_70 : decode cX12_copy 70 = .ok (.iaload, 1) := dk_46 (dk_at dksX12_copy_3 0 rfl rfl)
theorem dX12_copy_71 : decode cX12_copy 71 = .ok (.if_icmp .eq 10, 3) := dk_159 0 10 (dk_at dksX12_copy_3 1 rfl rfl)
theorem dX12_copy_74 : decode cX12_copy 74 = .ok (.aload_n 0, 1) := dk_42 (dk_at dksX12_copy_3 4 rfl rfl)
theorem dX12_copy_75 : decode cX12_copy 75 = .ok (.bipush (-3), 2) := dk_16 253 (dk_at dksX12_copy_3 5 rfl rfl)
theorem dX12_copy_77 : decode cX12_copy 77 = .ok (.invokevirtual 183, 3) := dk_182 0 183 (dk_at dksX12_copy_3 7 rfl rfl)
theorem dX12_copy_80 : decode cX12_copy 80 = .ok (.ireturn, 1) := dk_172 (dk_at dksX12_copy_3 10 rfl rfl)
theorem dX12_copy_81 : decode cX12_copy 81 = .ok (.aload_n 0, 1) := dk_42 (dk_at dksX12_copy_3 11 rfl rfl)
theorem dX12_copy_82 : decode cX12_copy 82 = .ok (.getfield 52, 3) := dk_180 0 52 (dk_at dksX12_copy_3 12 rfl rfl)
theorem dX12_copy_85 : decode cX12_copy 85 = .ok (.iload_n 1, 1) := dk_27 (dk_at dksX12_copy_3 15 rfl rfl)
theorem dX12_copy_86 : decode cX12_copy 86 = .ok (.iaload, 1) := dk_46 (dk_at dksX12_copy_3 16 rfl rfl)
theorem dX12_copy_87 : decode cX12_copy 87 = .ok (.ifCond .lt 12, 3) := dk_155 0 12 (dk_at dksX12_copy_3 17 rfl rfl)
theorem dX12_copy_90 : decode cX12_copy 90 = .ok (.aload_n 0, 1) := dk_42 (dk_at dksX12_copy_3 20 rfl rfl)
theorem dX12_copy_91 : decode cX12_copy 91 = .ok (.getfield 52, 3) := dk_180 0 52 (dk_at dksX12_copy_3 21 rfl rfl)
theorem dX12_copy_94 : decode cX12_copy 94 = .ok (.iload_n 2, 1) := dk_28 (dk_at dksX12_copy_4 0 rfl rfl)
theorem dX12_copy_95 : decode cX12_copy 95 = .ok (.iaload, 1) := dk_46 (dk_at dksX12_copy_4 1 rfl rfl)
theorem dX12_copy_96 : decode cX12_copy 96 = .ok (.ifCond .ge 10, 3) := dk_156 0 10 (dk_at dksX12_copy_4 2 rfl rfl)
theorem dX12_copy_99 : decode cX12_copy 99 = .ok (.aload_n 0, 1) := dk_42 (dk_at dksX12_copy_4 5 rfl rfl)
theorem dX12_copy_100 : decode cX12_copy 100 = .ok (.bipush (-4), 2) := dk_16 252 (dk_at dksX12_copy_4 6 rfl rfl)
theorem dX12_copy_102 : decode cX12_copy 102 = .ok (.invokevirtual 183, 3) := dk_182 0 183 (dk_at dksX12_copy_4 8 rfl rfl)
theorem dX12_copy_105 : decode cX12_copy 105 = .ok (.ireturn, 1) := dk_172 (dk_at dksX12_copy_4 11 rfl rfl)
theorem dX12_copy_106 : decode cX12_copy 106 = .ok (.iload_n 3, 1) := dk_29 (dk_at dksX12_copy_4 12 rfl rfl)
theorem dX12_copy_107 : decode cX12_copy 107 = .ok (.ifCond .lt 61, 3) := dk_155 0 61 (dk_at dksX12_copy_4 13 rfl rfl)
theorem dX12_copy_110 : decode cX12_copy 110 = .ok (.iload 4, 2) := dk_21 4 (dk_at dksX12_copy_4 16 rfl rfl)
theorem dX12_copy_112 : decode cX12_copy 112 = .ok (.ifCond .lt 56, 3) := dk_155 0 56 (dk_at dksX12_copy_4 18 rfl rfl)
theorem dX12_copy_115 : decode cX12_copy 115 = .ok (.iload 5, 2) := dk_21 5 (dk_at dksX12_copy_4 21 rfl rfl)
theorem dX12_copy_117 : decode cX12_copy 117 = .ok (.ifCond .lt 51, 3) := dk_155 0 51 (dk_at dksX12_copy_5 0 rfl rfl)
theorem dX12_copy_120 : decode cX12_copy 120 = .ok (.iload_n 3, 1) := dk_29 (dk_at dksX12_copy_5 3 rfl rfl)
theorem dX12_copy_121 : decode cX12_copy 121 = .ok (.aload_n 0, 1) := dk_42 (dk_at dksX12_copy_5 4 rfl rfl)
theorem dX12_copy_122 : decode cX12_copy 122 = .ok (.getfield 55, 3) := dk_180 0 55 (dk_at dksX12_copy_5 5 rfl rfl)
theorem dX12_copy_125 : decode cX12_copy 125 = .ok (.iload_n 1, 1) := dk_27 (dk_at dksX12_copy_5 8 rfl rfl)
theorem dX12_copy_126 : decode cX12_copy 126 = .ok (.iaload, 1) := dk_46 (dk_at dksX12_copy_5 9 rfl rfl)
theorem dX12_copy_127 : decode cX12_copy 127 = .ok (.if_icmp .gt 41, 3) := dk_163 0 41 (dk_at dksX12_copy_5 10 rfl rfl)
theorem dX12_copy_130 : decode cX12_copy 130 = .ok (.iload 4, 2) := dk_21 4 (dk_at dksX12_copy_5 13 rfl rfl)
theorem dX12_copy_132 : decode cX12_copy 132 = .ok (.aload_n 0, 1) := dk_42 (dk_at dksX12_copy_5 15 rfl rfl)
theorem dX12_copy_133 : decode cX12_copy 133 = .ok (.getfield 55, 3) := dk_180 0 55 (dk_at dksX12_copy_5 16 rfl rfl)
theorem dX12_copy_136 : decode cX12_copy 136 = .ok (.iload_n 2, 1) := dk_28 (dk_at dksX12_copy_5 19 rfl rfl)
theorem dX12_copy_137 : decode cX12_copy 137 = .ok (.iaload, 1) := dk_46 (dk_at dksX12_copy_5 20 rfl rfl)
theorem dX12_copy_138 : decode cX12_copy 138 = .ok (.if_icmp .gt 30, 3) := dk_163 0 30 (dk_at dksX12_copy_5 21 rfl rfl)
theorem dX12_copy_141 : decode cX12_copy 141 = .ok (.iload 5, 2) := dk_21 5 (dk_at dksX12_copy_6 0 rfl rfl)
theorem dX12_copy_143 : decode cX12_copy 143 = .ok (.aload_n 0, 1) := dk_42 (dk_at dksX12_copy_6 2 rfl rfl)
theorem dX12_copy_144 : decode cX12_copy 144 = .ok (.getfield 55, 3) := dk_180 0 55 (dk_at dksX12_copy_6 3 rfl rfl)
theorem dX12_copy_147 : decode cX12_copy 147 = .ok (.iload_n 1, 1) := dk_27 (dk_at dksX12_copy_6 6 rfl rfl)
theorem dX12_copy_148 : decode cX12_copy 148 = .ok (.iaload, 1) := dk_46 (dk_at dksX12_copy_6 7 rfl rfl)
theorem dX12_copy_149 : decode cX12_copy 149 = .ok (.iload_n 3, 1) := dk_29 (dk_at dksX12_copy_6 8 rfl rfl)
theorem dX12_copy_150 : decode cX12_copy 150 = .ok (.isub, 1) := dk_100 (dk_at dksX12_copy_6 9 rfl rfl)
theorem dX12_copy_151 : decode cX12_copy 151 = .ok (.if_icmp .gt 17, 3) := dk_163 0 17 (dk_at dksX12_copy_6 10 rfl rfl)
theorem dX12_copy_154 : decode cX12_copy 154 = .ok (.iload 5, 2) := dk_21 5 (dk_at dksX12_copy_6 13 rfl rfl)
theorem dX12_copy_156 : decode cX12_copy 156 = .ok (.aload_n 0, 1) := dk_42 (dk_at dksX12_copy_6 15 rfl rfl)
theorem dX12_copy_157 : decode cX12_copy 157 = .ok (.getfield 55, 3) := dk_180 0 55 (dk_at dksX12_copy_6 16 rfl rfl)
theorem dX12_copy_160 : decode cX12_copy 160 = .ok (.iload_n 2, 1) := dk_28 (dk_at dksX12_copy_6 19 rfl rfl)
theorem dX12_copy_161 : decode cX12_copy 161 = .ok (.iaload, 1) := dk_46 (dk_at dksX12_copy_6 20 rfl rfl)
theorem dX12_copy_162 : decode cX12_copy 162 = .ok (.iload 4, 2) := dk_21 4 (dk_at dksX12_copy_6 21 rfl rfl)
theorem dX12_copy_164 : decode cX12_copy 164 = .ok (.isub, 1) := dk_100 (dk_at dksX12_copy_6 23 rfl rfl)
theorem dX12_copy_165 : decode cX12_copy 165 = .ok (.if_icmp .le 10, 3) := dk_164 0 10 (dk_at dksX12_copy_7 0 rfl rfl)
theorem dX12_copy_168 : decode cX12_copy 168 = .ok (.aload_n 0, 1) := dk_42 (dk_at dksX12_copy_7 3 rfl rfl)
theorem dX12_copy_169 : decode cX12_copy 169 = .ok (.bipush (-2), 2) := dk_16 254 (dk_at dksX12_copy_7 4 rfl rfl)
theorem dX12_copy_171 : decode cX12_copy 171 = .ok (.invokevirtual 183, 3) := dk_182 0 183 (dk_at dksX12_copy_7 6 rfl rfl)
theorem dX12_copy_174 : decode cX12_copy 174 = .ok (.ireturn, 1) := dk_172 (dk_at dksX12_copy_7 9 rfl rfl)
theorem dX12_copy_175 : decode cX12_copy 175 = .ok (.iconst 0, 1) := dk_3 (dk_at dksX12_copy_7 10 rfl rfl)
theorem dX12_copy_176 : decode cX12_copy 176 = .ok (.istore 6, 2) := dk_54 6 (dk_at dksX12_copy_7 11 rfl rfl)
theorem dX12_copy_178 : decode cX12_copy 178 = .ok (.iload 6, 2) := dk_21 6 (dk_at dksX12_copy_7 13 rfl rfl)
theorem dX12_copy_180 : decode cX12_copy 180 = .ok (.iload 5, 2) := dk_21 5 (dk_at dksX12_copy_7 15 rfl rfl)
theorem dX12_copy_182 : decode cX12_copy 182 = .ok (.if_icmp .ge 58, 3) := dk_162 0 58 (dk_at dksX12_copy_7 17 rfl rfl)
theorem dX12_copy_185 : decode cX12_copy 185 = .ok (.iload_n 3, 1) := dk_29 (dk_at dksX12_copy_7 20 rfl rfl)
theorem dX12_copy_186 : decode cX12_copy 186 = .ok (.iload 4, 2) := dk_21 4 (dk_at dksX12_copy_7 21 rfl rfl)
theorem dX12_copy_188 : decode cX12_copy 188 = .ok (.if_icmp .ge 13, 3) := dk_162 0 13 (dk_at dksX12_copy_8 0 rfl rfl)
theorem dX12_copy_191 : decode cX12_copy 191 = .ok (.iload 5, 2) := dk_21 5 (dk_at dksX12_copy_8 3 rfl rfl)
theorem dX12_copy_193 : decode cX12_copy 193 = .ok (.iconst 1, 1) := dk_4 (dk_at dksX12_copy_8 5 rfl rfl)
theorem dX12_copy_194 : decode cX12_copy 194 = .ok (.isub, 1) := dk_100 (dk_at dksX12_copy_8 6 rfl rfl)
theorem dX12_copy_195 : decode cX12_copy 195 = .ok (.iload 6, 2) := dk_21 6 (dk_at dksX12_copy_8 7 rfl rfl)
theorem dX12_copy_197 : decode cX12_copy 197 = .ok (.isub, 1) := dk_100 (dk_at dksX12_copy_8 9 rfl rfl)
theorem dX12_copy_198 : decode cX12_copy 198 = .ok (.goto 5, 3) := dk_167 0 5 (dk_at dksX12_copy_8 10 rfl rfl)
theorem dX12_copy_201 : decode cX12_copy 201 = .ok (.iload 6, 2) := dk_21 6 (dk_at dksX12_copy_8 13 rfl rfl)
theorem dX12_copy_203 : decode cX12_copy 203 = .ok (.istore 7, 2) := dk_54 7 (dk_at dksX12_copy_8 15 rfl rfl)
theorem dX12_copy_205 : decode cX12_copy 205 = .ok (.aload_n 0, 1) := dk_42 (dk_at dksX12_copy_8 17 rfl rfl)
theorem dX12_copy_206 : decode cX12_copy 206 = .ok (.getfield 58, 3) := dk_180 0 58 (dk_at dksX12_copy_8 18 rfl rfl)
theorem dX12_copy_209 : decode cX12_copy 209 = .ok (.bipush 40, 2) := dk_16 40 (dk_at dksX12_copy_8 21 rfl rfl)
theorem dX12_copy_211 : decode cX12_copy 211 = .ok (.iload_n 2, 1) := dk_28 (dk_at dksX12_copy_8 23 rfl rfl)
theorem dX12_copy_212 : decode cX12_copy 212 = .ok (.imul, 1) := dk_104 (dk_at dksX12_copy_9 0 rfl rfl)
theorem dX12_copy_213 : decode cX12_copy 213 = .ok (.iload 4, 2) := dk_21 4 (dk_at dksX12_copy_9 1 rfl rfl)
theorem dX12_copy_215 : decode cX12_copy 215 = .ok (.iadd, 1) := dk_96 (dk_at dksX12_copy_9 3 rfl rfl)
theorem dX12_copy_216 : decode cX12_copy 216 = .ok (.iload 7, 2) := dk_21 7 (dk_at dksX12_copy_9 4 rfl rfl)
theorem dX12_copy_218 : decode cX12_copy 218 = .ok (.iadd, 1) := dk_96 (dk_at dksX12_copy_9 6 rfl rfl)
theorem dX12_copy_219 : decode cX12_copy 219 = .ok (.aload_n 0, 1) := dk_42 (dk_at dksX12_copy_9 7 rfl rfl)
theorem dX12_copy_220 : decode cX12_copy 220 = .ok (.getfield 58, 3) := dk_180 0 58 (dk_at dksX12_copy_9 8 rfl rfl)
theorem dX12_copy_223 : decode cX12_copy 223 = .ok (.bipush 40, 2) := dk_16 40 (dk_at dksX12_copy_9 11 rfl rfl)
theorem dX12_copy_225 : decode cX12_copy 225 = .ok (.iload_n 1, 1) := dk_27 (dk_at dksX12_copy_9 13 rfl rfl)
theorem dX12_copy_226 : decode cX12_copy 226 = .ok (.imul, 1) := dk_104 (dk_at dksX12_copy_9 14 rfl rfl)
theorem dX12_copy_227 : decode cX12_copy 227 = .ok (.iload_n 3, 1) := dk_29 (dk_at dksX12_copy_9 15 rfl rfl)
theorem dX12_copy_228 : decode cX12_copy 228 = .ok (.iadd, 1) := dk_96 (dk_at dksX12_copy_9 16 rfl rfl)
theorem dX12_copy_229 : decode cX12_copy 229 = .ok (.iload 7, 2) := dk_21 7 (dk_at dksX12_copy_9 17 rfl rfl)
theorem dX12_copy_231 : decode cX12_copy 231 = .ok (.iadd, 1) := dk_96 (dk_at dksX12_copy_9 19 rfl rfl)
theorem dX12_copy_232 : decode cX12_copy 232 = .ok (.laload, 1) := dk_47 (dk_at dksX12_copy_9 20 rfl rfl)
theorem dX12_copy_233 : decode cX12_copy 233 = .ok (.lastore, 1) := dk_80 (dk_at dksX12_copy_9 21 rfl rfl)
theorem dX12_copy_234 : decode cX12_copy 234 = .ok (.iinc 6 1, 3) := dk_132 6 1 (dk_at dksX12_copy_10 0 rfl rfl)
theorem dX12_copy_237 : decode cX12_copy 237 = .ok (.goto (-59), 3) := dk_167 255 197 (dk_at dksX12_copy_10 3 rfl rfl)
theorem dX12_copy_240 : decode cX12_copy 240 = .ok (.iload 5, 2) := dk_21 5 (dk_at dksX12_copy_10 6 rfl rfl)
theorem dX12_copy_242 : decode cX12_copy 242 = .ok (.ireturn, 1) := dk_172 (dk_at dksX12_copy_10 8 rfl rfl)
abbrev cX12_element : ByteArray := prog_24_method_91_code
def yX12_element : MethodName := ⟨RX12, "element", "(II)J"⟩
def dkwX12_element_2 : List UInt8 := [27, 104, 28, 96, 47, 167, 0, 4, 9, 173]
abbrev dktX12_element_2 : List UInt8 := dkwX12_element_2 ++ []
def dkwX12_element_1 : List UInt8 := [28, 133, 9, 42, 180, 0, 55, 27, 46, 4, 100, 133, 184, 0, 175, 153, 0, 17, 42, 180, 0, 58, 16, 40]
abbrev dktX12_element_1 : List UInt8 := dkwX12_element_1 ++ dktX12_element_2
def dkwX12_element_0 : List UInt8 := [27, 184, 1, 71, 153, 0, 52, 42, 180, 0, 52, 27, 46, 133, 9, 20, 1, 61, 184, 0, 175, 153, 0, 35]
abbrev dktX12_element_0 : List UInt8 := dkwX12_element_0 ++ dktX12_element_1
theorem dksX12_element_0 : cX12_element.data.toList.drop 0 = dktX12_element_0 := by decide +kernel
theorem dksX12_element_1 : cX12_element.data.toList.drop 24 = dktX12_element_1 := dk_seg dksX12_element_0 24 rfl rfl
theorem dksX12_element_2 : cX12_element.data.toList.drop 48 = dktX12_element_2 := dk_seg dksX12_element_1 24 rfl rfl
theorem dX12_element_0 : decode cX12_element 0 = .ok (.iload_n 1, 1) := dk_27 (dk_at dksX12_element_0 0 rfl rfl)
theorem dX12_element_1 : decode cX12_element 1 = .ok (.invokestatic 327, 3) := dk_184 1 71 (dk_at dksX12_element_0 1 rfl rfl)
theorem dX12_element_4 : decode cX12_element 4 = .ok (.ifCond .eq 52, 3) := dk_153 0 52 (dk_at dksX12_element_0 4 rfl rfl)
theorem dX12_element_7 : decode cX12_element 7 = .ok (.aload_n 0, 1) := dk_42 (dk_at dksX12_element_0 7 rfl rfl)
theorem dX12_element_8 : decode cX12_element 8 = .ok (.getfield 52, 3) := dk_180 0 52 (dk_at dksX12_element_0 8 rfl rfl)
theorem dX12_element_11 : decode cX12_element 11 = .ok (.iload_n 1, 1) := dk_27 (dk_at dksX12_element_0 11 rfl rfl)
theorem dX12_element_12 : decode cX12_element 12 = .ok (.iaload, 1) := dk_46 (dk_at dksX12_element_0 12 rfl rfl)
theorem dX12_element_13 : decode cX12_element 13 = .ok (.i2l, 1) := dk_133 (dk_at dksX12_element_0 13 rfl rfl)
theorem dX12_element_14 : decode cX12_element 14 = .ok (.lconst 0, 1) := dk_9 (dk_at dksX12_element_0 14 rfl rfl)
theorem dX12_element_15 : decode cX12_element 15 = .ok (.ldc2_w 317, 3) := dk_20 1 61 (dk_at dksX12_element_0 15 rfl rfl)
theorem dX12_element_18 : decode cX12_element 18 = .ok (.invokestatic 175, 3) := dk_184 0 175 (dk_at dksX12_element_0 18 rfl rfl)
theorem dX12_element_21 : decode cX12_element 21 = .ok (.ifCond .eq 35, 3) := dk_153 0 35 (dk_at dksX12_element_0 21 rfl rfl)
theorem dX12_element_24 : decode cX12_element 24 = .ok (.iload_n 2, 1) := dk_28 (dk_at dksX12_element_1 0 rfl rfl)
theorem dX12_element_25 : decode cX12_element 25 = .ok (.i2l, 1) := dk_133 (dk_at dksX12_element_1 1 rfl rfl)
theorem dX12_element_26 : decode cX12_element 26 = .ok (.lconst 0, 1) := dk_9 (dk_at dksX12_element_1 2 rfl rfl)
theorem dX12_element_27 : decode cX12_element 27 = .ok (.aload_n 0, 1) := dk_42 (dk_at dksX12_element_1 3 rfl rfl)
theorem dX12_element_28 : decode cX12_element 28 = .ok (.getfield 55, 3) := dk_180 0 55 (dk_at dksX12_element_1 4 rfl rfl)
theorem dX12_element_31 : decode cX12_element 31 = .ok (.iload_n 1, 1) := dk_27 (dk_at dksX12_element_1 7 rfl rfl)
theorem dX12_element_32 : decode cX12_element 32 = .ok (.iaload, 1) := dk_46 (dk_at dksX12_element_1 8 rfl rfl)
theorem dX12_element_33 : decode cX12_element 33 = .ok (.iconst 1, 1) := dk_4 (dk_at dksX12_element_1 9 rfl rfl)
theorem dX12_element_34 : decode cX12_element 34 = .ok (.isub, 1) := dk_100 (dk_at dksX12_element_1 10 rfl rfl)
theorem dX12_element_35 : decode cX12_element 35 = .ok (.i2l, 1) := dk_133 (dk_at dksX12_element_1 11 rfl rfl)
theorem dX12_element_36 : decode cX12_element 36 = .ok (.invokestatic 175, 3) := dk_184 0 175 (dk_at dksX12_element_1 12 rfl rfl)
theorem dX12_element_39 : decode cX12_element 39 = .ok (.ifCond .eq 17, 3) := dk_153 0 17 (dk_at dksX12_element_1 15 rfl rfl)
theorem dX12_element_42 : decode cX12_element 42 = .ok (.aload_n 0, 1) := dk_42 (dk_at dksX12_element_1 18 rfl rfl)
theorem dX12_element_43 : decode cX12_element 43 = .ok (.getfield 58, 3) := dk_180 0 58 (dk_at dksX12_element_1 19 rfl rfl)
theorem dX12_element_46 : decode cX12_element 46 = .ok (.bipush 40, 2) := dk_16 40 (dk_at dksX12_element_1 22 rfl rfl)
theorem dX12_element_48 : decode cX12_element 48 = .ok (.iload_n 1, 1) := dk_27 (dk_at dksX12_element_2 0 rfl rfl)
theorem dX12_element_49 : decode cX12_element 49 = .ok (.imul, 1) := dk_104 (dk_at dksX12_element_2 1 rfl rfl)
theorem dX12_element_50 : decode cX12_element 50 = .ok (.iload_n 2, 1) := dk_28 (dk_at dksX12_element_2 2 rfl rfl)
theorem dX12_element_51 : decode cX12_element 51 = .ok (.iadd, 1) := dk_96 (dk_at dksX12_element_2 3 rfl rfl)
theorem dX12_element_52 : decode cX12_element 52 = .ok (.laload, 1) := dk_47 (dk_at dksX12_element_2 4 rfl rfl)
theorem dX12_element_53 : decode cX12_element 53 = .ok (.goto 4, 3) := dk_167 0 4 (dk_at dksX12_element_2 5 rfl rfl)
theorem dX12_element_56 : decode cX12_element 56 = .ok (.lconst 0, 1) := dk_9 (dk_at dksX12_element_2 8 rfl rfl)
theorem dX12_element_57 : decode cX12_element 57 = .ok (.lreturn, 1) := dk_173 (dk_at dksX12_element_2 9 rfl rfl)
abbrev cX12_holds : ByteArray := prog_24_method_92_code
def yX12_holds : MethodName := ⟨RX12, "holds", "(I)I"⟩
def dkwX12_holds_0 : List UInt8 := [27, 184, 1, 71, 153, 0, 12, 42, 180, 0, 52, 27, 46, 167, 0, 4, 2, 172]
abbrev dktX12_holds_0 : List UInt8 := dkwX12_holds_0 ++ []
theorem dksX12_holds_0 : cX12_holds.data.toList.drop 0 = dktX12_holds_0 := by decide +kernel
theorem dX12_holds_0 : decode cX12_holds 0 = .ok (.iload_n 1, 1) := dk_27 (dk_at dksX12_holds_0 0 rfl rfl)
theorem dX12_holds_1 : decode cX12_holds 1 = .ok (.invokestatic 327, 3) := dk_184 1 71 (dk_at dksX12_holds_0 1 rfl rfl)
theorem dX12_holds_4 : decode cX12_holds 4 = .ok (.ifCond .eq 12, 3) := dk_153 0 12 (dk_at dksX12_holds_0 4 rfl rfl)
theorem dX12_holds_7 : decode cX12_holds 7 = .ok (.aload_n 0, 1) := dk_42 (dk_at dksX12_holds_0 7 rfl rfl)
theorem dX12_holds_8 : decode cX12_holds 8 = .ok (.getfield 52, 3) := dk_180 0 52 (dk_at dksX12_holds_0 8 rfl rfl)
theorem dX12_holds_11 : decode cX12_holds 11 = .ok (.iload_n 1, 1) := dk_27 (dk_at dksX12_holds_0 11 rfl rfl)
theorem dX12_holds_12 : decode cX12_holds 12 = .ok (.iaload, 1) := dk_46 (dk_at dksX12_holds_0 12 rfl rfl)
theorem dX12_holds_13 : decode cX12_holds 13 = .ok (.goto 4, 3) := dk_167 0 4 (dk_at dksX12_holds_0 13 rfl rfl)
theorem dX12_holds_16 : decode cX12_holds 16 = .ok (.iconst (-1), 1) := dk_2 (dk_at dksX12_holds_0 16 rfl rfl)
theorem dX12_holds_17 : decode cX12_holds 17 = .ok (.ireturn, 1) := dk_172 (dk_at dksX12_holds_0 17 rfl rfl)
abbrev cX12_show : ByteArray := prog_24_method_93_code
def yX12_show : MethodName := ⟨RX12, "show", "(III)I"⟩
def dkwX12_show_6 : List UInt8 := [27, 16, 10, 42, 180, 0, 62, 27, 46, 96, 79, 4, 172]
abbrev dktX12_show_6 : List UInt8 := dkwX12_show_6 ++ []
def dkwX12_show_5 : List UInt8 := [100, 79, 42, 180, 0, 62, 27, 42, 180, 0, 11, 28, 50, 21, 4, 46, 184, 0, 245, 79, 42, 180, 0, 52]
abbrev dktX12_show_5 : List UInt8 := dkwX12_show_5 ++ dktX12_show_6
def dkwX12_show_4 : List UInt8 := [180, 0, 11, 28, 50, 21, 4, 46, 79, 42, 180, 0, 65, 27, 42, 28, 29, 4, 96, 182, 0, 242, 21, 4]
abbrev dktX12_show_4 : List UInt8 := dkwX12_show_4 ++ dktX12_show_5
def dkwX12_show_3 : List UInt8 := [154, 0, 10, 42, 16, 254, 182, 0, 183, 172, 42, 28, 29, 182, 0, 242, 54, 4, 42, 180, 0, 68, 27, 42]
abbrev dktX12_show_3 : List UInt8 := dkwX12_show_3 ++ dktX12_show_4
def dkwX12_show_2 : List UInt8 := [154, 0, 10, 42, 16, 252, 182, 0, 183, 172, 29, 133, 9, 42, 28, 182, 0, 221, 4, 100, 133, 184, 0, 175]
abbrev dktX12_show_2 : List UInt8 := dkwX12_show_2 ++ dktX12_show_3
def dkwX12_show_1 : List UInt8 := [182, 0, 183, 172, 28, 2, 160, 0, 12, 42, 180, 0, 52, 27, 2, 79, 4, 172, 42, 28, 182, 0, 230]
abbrev dktX12_show_1 : List UInt8 := dkwX12_show_1 ++ dktX12_show_2
def dkwX12_show_0 : List UInt8 := [27, 184, 1, 71, 153, 0, 15, 28, 2, 159, 0, 17, 28, 184, 0, 211, 154, 0, 10, 42, 16, 254]
abbrev dktX12_show_0 : List UInt8 := dkwX12_show_0 ++ dktX12_show_1
theorem dksX12_show_0 : cX12_show.data.toList.drop 0 = dktX12_show_0 := by decide +kernel
theorem dksX12_show_1 : cX12_show.data.toList.drop 22 = dktX12_show_1 := dk_seg dksX12_show_0 22 rfl rfl
theorem dksX12_show_2 : cX12_show.data.toList.drop 45 = dktX12_show_2 := dk_seg dksX12_show_1 23 rfl rfl
theorem dksX12_show_3 : cX12_show.data.toList.drop 69 = dktX12_show_3 := dk_seg dksX12_show_2 24 rfl rfl
theorem dksX12_show_4 : cX12_show.data.toList.drop 93 = dktX12_show_4 := dk_seg dksX12_show_3 24 rfl rfl
theorem dksX12_show_5 : cX12_show.data.toList.drop 117 = dktX12_show_5 := dk_seg dksX12_show_4 24 rfl rfl
theorem dksX12_show_6 : cX12_show.data.toList.drop 141 = dktX12_show_6 := dk_seg dksX12_show_5 24 rfl rfl
theorem dX12_show_0 : decode cX12_show 0 = .ok (.iload_n 1, 1) := dk_27 (dk_at dksX12_show_0 0 rfl rfl)
theorem dX12_show_1 : decode cX12_show 1 = .ok (.invokestatic 327, 3) := dk_184 1 71 (dk_at dksX12_show_0 1 rfl rfl)
theorem dX12_show_4 : decode cX12_show 4 = .ok (.ifCond .eq 15, 3) := dk_153 0 15 (dk_at dksX12_show_0 4 rfl rfl)
theorem dX12_show_7 : decode cX12_show 7 = .ok (.iload_n 2, 1) := dk_28 (dk_at dksX12_show_0 7 rfl rfl)
theorem dX12_show_8 : decode cX12_show 8 = .ok (.iconst (-1), 1) := dk_2 (dk_at dksX12_show_0 8 rfl rfl)
theorem dX12_show_9 : decode cX12_show 9 = .ok (.if_icmp .eq 17, 3) := dk_159 0 17 (dk_at dksX12_show_0 9 rfl rfl)
theorem dX12_show_12 : decode cX12_show 12 = .ok (.iload_n 2, 1) := dk_28 (dk_at dksX12_show_0 12 rfl rfl)
theorem dX12_show_13 : decode cX12_show 13 = .ok (.invokestatic 211, 3) := dk_184 0 211 (dk_at dksX12_show_0 13 rfl rfl)
theorem dX12_show_16 : decode cX12_show 16 = .ok (.ifCond .ne 10, 3) := dk_154 0 10 (dk_at dksX12_show_0 16 rfl rfl)
theorem dX12_show_19 : decode cX12_show 19 = .ok (.aload_n 0, 1) := dk_42 (dk_at dksX12_show_0 19 rfl rfl)
theorem dX12_show_20 : decode cX12_show 20 = .ok (.bipush (-2), 2) := dk_16 254 (dk_at dksX12_show_0 20 rfl rfl)
theorem dX12_show_22 : decode cX12_show 22 = .ok (.invokevirtual 183, 3) := dk_182 0 183 (dk_at dksX12_show_1 0 rfl rfl)
theorem dX12_show_25 : decode cX12_show 25 = .ok (.ireturn, 1) := dk_172 (dk_at dksX12_show_1 3 rfl rfl)
theorem dX12_show_26 : decode cX12_show 26 = .ok (.iload_n 2, 1) := dk_28 (dk_at dksX12_show_1 4 rfl rfl)
theorem dX12_show_27 : decode cX12_show 27 = .ok (.iconst (-1), 1) := dk_2 (dk_at dksX12_show_1 5 rfl rfl)
theorem dX12_show_28 : decode cX12_show 28 = .ok (.if_icmp .ne 12, 3) := dk_160 0 12 (dk_at dksX12_show_1 6 rfl rfl)
theorem dX12_show_31 : decode cX12_show 31 = .ok (.aload_n 0, 1) := dk_42 (dk_at dksX12_show_1 9 rfl rfl)
theorem dX12_show_32 : decode cX12_show 32 = .ok (.getfield 52, 3) := dk_180 0 52 (dk_at dksX12_show_1 10 rfl rfl)
theorem dX12_show_35 : decode cX12_show 35 = .ok (.iload_n 1, 1) := dk_27 (dk_at dksX12_show_1 13 rfl rfl)
theorem dX12_show_36 : decode cX12_show 36 = .ok (.iconst (-1), 1) := dk_2 (dk_at dksX12_show_1 14 rfl rfl)
theorem dX12_show_37 : decode cX12_show 37 = .ok (.iastore, 1) := dk_79 (dk_at dksX12_show_1 15 rfl rfl)
theorem dX12_show_38 : decode cX12_show 38 = .ok (.iconst 1, 1) := dk_4 (dk_at dksX12_show_1 16 rfl rfl)
theorem dX12_show_39 : decode cX12_show 39 = .ok (.ireturn, 1) := dk_172 (dk_at dksX12_show_1 17 rfl rfl)
theorem dX12_show_40 : decode cX12_show 40 = .ok (.aload_n 0, 1) := dk_42 (dk_at dksX12_show_1 18 rfl rfl)
theorem dX12_show_41 : decode cX12_show 41 = .ok (.iload_n 2, 1) := dk_28 (dk_at dksX12_show_1 19 rfl rfl)
theorem dX12_show_42 : decode cX12_show 42 = .ok (.invokevirtual 230, 3) := dk_182 0 230 (dk_at dksX12_show_1 20 rfl rfl)
theorem dX12_show_45 : decode cX12_show 45 = .ok (.ifCond .ne 10, 3) := dk_154 0 10 (dk_at dksX12_show_2 0 rfl rfl)
theorem dX12_show_48 : decode cX12_show 48 = .ok (.aload_n 0, 1) := dk_42 (dk_at dksX12_show_2 3 rfl rfl)
theorem dX12_show_49 : decode cX12_show 49 = .ok (.bipush (-4), 2) := dk_16 252 (dk_at dksX12_show_2 4 rfl rfl)
theorem dX12_show_51 : decode cX12_show 51 = .ok (.invokevirtual 183, 3) := dk_182 0 183 (dk_at dksX12_show_2 6 rfl rfl)
theorem dX12_show_54 : decode cX12_show 54 = .ok (.ireturn, 1) := dk_172 (dk_at dksX12_show_2 9 rfl rfl)
theorem dX12_show_55 : decode cX12_show 55 = .ok (.iload_n 3, 1) := dk_29 (dk_at dksX12_show_2 10 rfl rfl)
theorem dX12_show_56 : decode cX12_show 56 = .ok (.i2l, 1) := dk_133 (dk_at dksX12_show_2 11 rfl rfl)
theorem dX12_show_57 : decode cX12_show 57 = .ok (.lconst 0, 1) := dk_9 (dk_at dksX12_show_2 12 rfl rfl)
theorem dX12_show_58 : decode cX12_show 58 = .ok (.aload_n 0, 1) := dk_42 (dk_at dksX12_show_2 13 rfl rfl)
theorem dX12_show_59 : decode cX12_show 59 = .ok (.iload_n 2, 1) := dk_28 (dk_at dksX12_show_2 14 rfl rfl)
theorem dX12_show_60 : decode cX12_show 60 = .ok (.invokevirtual 221, 3) := dk_182 0 221 (dk_at dksX12_show_2 15 rfl rfl)
theorem dX12_show_63 : decode cX12_show 63 = .ok (.iconst 1, 1) := dk_4 (dk_at dksX12_show_2 18 rfl rfl)
theorem dX12_show_64 : decode cX12_show 64 = .ok (.isub, 1) := dk_100 (dk_at dksX12_show_2 19 rfl rfl)
theorem dX12_show_65 : decode cX12_show 65 = .ok (.i2l, 1) := dk_133 (dk_at dksX12_show_2 20 rfl rfl)
theorem dX12_show_66 : decode cX12_show 66 = .ok (.invokestatic 175, 3) := dk_184 0 175 (dk_at dksX12_show_2 21 rfl rfl)
theorem dX12_show_69 : decode cX12_show 69 = .ok (.ifCond .ne 10, 3) := dk_154 0 10 (dk_at dksX12_show_3 0 rfl rfl)
theorem dX12_show_72 : decode cX12_show 72 = .ok (.aload_n 0, 1) := dk_42 (dk_at dksX12_show_3 3 rfl rfl)
theorem dX12_show_73 : decode cX12_show 73 = .ok (.bipush (-2), 2) := dk_16 254 (dk_at dksX12_show_3 4 rfl rfl)
theorem dX12_show_75 : decode cX12_show 75 = .ok (.invokevirtual 183, 3) := dk_182 0 183 (dk_at dksX12_show_3 6 rfl rfl)
theorem dX12_show_78 : decode cX12_show 78 = .ok (.ireturn, 1) := dk_172 (dk_at dksX12_show_3 9 rfl rfl)
theorem dX12_show_79 : decode cX12_show 79 = .ok (.aload_n 0, 1) := dk_42 (dk_at dksX12_show_3 10 rfl rfl)
theorem dX12_show_80 : decode cX12_show 80 = .ok (.iload_n 2, 1) := dk_28 (dk_at dksX12_show_3 11 rfl rfl)
theorem dX12_show_81 : decode cX12_show 81 = .ok (.iload_n 3, 1) := dk_29 (dk_at dksX12_show_3 12 rfl rfl)
theorem dX12_show_82 : decode cX12_show 82 = .ok (.invokevirtual 242, 3) := dk_182 0 242 (dk_at dksX12_show_3 13 rfl rfl)
theorem dX12_show_85 : decode cX12_show 85 = .ok (.istore 4, 2) := dk_54 4 (dk_at dksX12_show_3 16 rfl rfl)
theorem dX12_show_87 : decode cX12_show 87 = .ok (.aload_n 0, 1) := dk_42 (dk_at dksX12_show_3 18 rfl rfl)
theorem dX12_show_88 : decode cX12_show 88 = .ok (.getfield 68, 3) := dk_180 0 68 (dk_at dksX12_show_3 19 rfl rfl)
theorem dX12_show_91 : decode cX12_show 91 = .ok (.iload_n 1, 1) := dk_27 (dk_at dksX12_show_3 22 rfl rfl)
theorem dX12_show_92 : decode cX12_show 92 = .ok (.aload_n 0, 1) := dk_42 (dk_at dksX12_show_3 23 rfl rfl)
theorem dX12_show_93 : decode cX12_show 93 = .ok (.getfield 11, 3) := dk_180 0 11 (dk_at dksX12_show_4 0 rfl rfl)
theorem dX12_show_96 : decode cX12_show 96 = .ok (.iload_n 2, 1) := dk_28 (dk_at dksX12_show_4 3 rfl rfl)
theorem dX12_show_97 : decode cX12_show 97 = .ok (.aaload, 1) := dk_50 (dk_at dksX12_show_4 4 rfl rfl)
theorem dX12_show_98 : decode cX12_show 98 = .ok (.iload 4, 2) := dk_21 4 (dk_at dksX12_show_4 5 rfl rfl)
theorem dX12_show_100 : decode cX12_show 100 = .ok (.iaload, 1) := dk_46 (dk_at dksX12_show_4 7 rfl rfl)
theorem dX12_show_101 : decode cX12_show 101 = .ok (.iastore, 1) := dk_79 (dk_at dksX12_show_4 8 rfl rfl)
theorem dX12_show_102 : decode cX12_show 102 = .ok (.aload_n 0, 1) := dk_42 (dk_at dksX12_show_4 9 rfl rfl)
theorem dX12_show_103 : decode cX12_show 103 = .ok (.getfield 65, 3) := dk_180 0 65 (dk_at dksX12_show_4 10 rfl rfl)
theorem dX12_show_106 : decode cX12_show 106 = .ok (.iload_n 1, 1) := dk_27 (dk_at dksX12_show_4 13 rfl rfl)
theorem dX12_show_107 : decode cX12_show 107 = .ok (.aload_n 0, 1) := dk_42 (dk_at dksX12_show_4 14 rfl rfl)
theorem dX12_show_108 : decode cX12_show 108 = .ok (.iload_n 2, 1) := dk_28 (dk_at dksX12_show_4 15 rfl rfl)
theorem dX12_show_109 : decode cX12_show 109 = .ok (.iload_n 3, 1) := dk_29 (dk_at dksX12_show_4 16 rfl rfl)
theorem dX12_show_110 : decode cX12_show 110 = .ok (.iconst 1, 1) := dk_4 (dk_at dksX12_show_4 17 rfl rfl)
theorem dX12_show_111 : decode cX12_show 111 = .ok (.iadd, 1) := dk_96 (dk_at dksX12_show_4 18 rfl rfl)
theorem dX12_show_112 : decode cX12_show 112 = .ok (.invokevirtual 242, 3) := dk_182 0 242 (dk_at dksX12_show_4 19 rfl rfl)
theorem dX12_show_115 : decode cX12_show 115 = .ok (.iload 4, 2) := dk_21 4 (dk_at dksX12_show_4 22 rfl rfl)
theorem dX12_show_117 : decode cX12_show 117 = .ok (.isub, 1) := dk_100 (dk_at dksX12_show_5 0 rfl rfl)
theorem dX12_show_118 : decode cX12_show 118 = .ok (.iastore, 1) := dk_79 (dk_at dksX12_show_5 1 rfl rfl)
theorem dX12_show_119 : decode cX12_show 119 = .ok (.aload_n 0, 1) := dk_42 (dk_at dksX12_show_5 2 rfl rfl)
theorem dX12_show_120 : decode cX12_show 120 = .ok (.getfield 62, 3) := dk_180 0 62 (dk_at dksX12_show_5 3 rfl rfl)
theorem dX12_show_123 : decode cX12_show 123 = .ok (.iload_n 1, 1) := dk_27 (dk_at dksX12_show_5 6 rfl rfl)
theorem dX12_show_124 : decode cX12_show 124 = .ok (.aload_n 0, 1) := dk_42 (dk_at dksX12_show_5 7 rfl rfl)
theorem dX12_show_125 : decode cX12_show 125 = .ok (.getfield 11, 3) := dk_180 0 11 (dk_at dksX12_show_5 8 rfl rfl)
theorem dX12_show_128 : decode cX12_show 128 = .ok (.iload_n 2, 1) := dk_28 (dk_at dksX12_show_5 11 rfl rfl)
theorem dX12_show_129 : decode cX12_show 129 = .ok (.aaload, 1) := dk_50 (dk_at dksX12_show_5 12 rfl rfl)
theorem dX12_show_130 : decode cX12_show 130 = .ok (.iload 4, 2) := dk_21 4 (dk_at dksX12_show_5 13 rfl rfl)
theorem dX12_show_132 : decode cX12_show 132 = .ok (.iaload, 1) := dk_46 (dk_at dksX12_show_5 15 rfl rfl)
theorem dX12_show_133 : decode cX12_show 133 = .ok (.invokestatic 245, 3) := dk_184 0 245 (dk_at dksX12_show_5 16 rfl rfl)
theorem dX12_show_136 : decode cX12_show 136 = .ok (.iastore, 1) := dk_79 (dk_at dksX12_show_5 19 rfl rfl)
theorem dX12_show_137 : decode cX12_show 137 = .ok (.aload_n 0, 1) := dk_42 (dk_at dksX12_show_5 20 rfl rfl)
theorem dX12_show_138 : decode cX12_show 138 = .ok (.getfield 52, 3) := dk_180 0 52 (dk_at dksX12_show_5 21 rfl rfl)
theorem dX12_show_141 : decode cX12_show 141 = .ok (.iload_n 1, 1) := dk_27 (dk_at dksX12_show_6 0 rfl rfl)
theorem dX12_show_142 : decode cX12_show 142 = .ok (.bipush 10, 2) := dk_16 10 (dk_at dksX12_show_6 1 rfl rfl)
theorem dX12_show_144 : decode cX12_show 144 = .ok (.aload_n 0, 1) := dk_42 (dk_at dksX12_show_6 3 rfl rfl)
theorem dX12_show_145 : decode cX12_show 145 = .ok (.getfield 62, 3) := dk_180 0 62 (dk_at dksX12_show_6 4 rfl rfl)
theorem dX12_show_148 : decode cX12_show 148 = .ok (.iload_n 1, 1) := dk_27 (dk_at dksX12_show_6 7 rfl rfl)
theorem dX12_show_149 : decode cX12_show 149 = .ok (.iaload, 1) := dk_46 (dk_at dksX12_show_6 8 rfl rfl)
theorem dX12_show_150 : decode cX12_show 150 = .ok (.iadd, 1) := dk_96 (dk_at dksX12_show_6 9 rfl rfl)
theorem dX12_show_151 : decode cX12_show 151 = .ok (.iastore, 1) := dk_79 (dk_at dksX12_show_6 10 rfl rfl)
theorem dX12_show_152 : decode cX12_show 152 = .ok (.iconst 1, 1) := dk_4 (dk_at dksX12_show_6 11 rfl rfl)
theorem dX12_show_153 : decode cX12_show 153 = .ok (.ireturn, 1) := dk_172 (dk_at dksX12_show_6 12 rfl rfl)
abbrev cX12_says : ByteArray := prog_24_method_95_code
def yX12_says : MethodName := ⟨RX12, "says", "(II)I"⟩
def dkwX12_says_7 : List UInt8 := [180, 0, 65, 27, 46, 172]
abbrev dktX12_says_7 : List UInt8 := dkwX12_says_7 ++ []
def dkwX12_says_6 : List UInt8 := [167, 0, 4, 3, 172, 42, 180, 0, 65, 27, 46, 16, 100, 96, 172, 29, 17, 0, 255, 126, 172, 42]
abbrev dktX12_says_6 : List UInt8 := dkwX12_says_6 ++ dktX12_says_7
def dkwX12_says_5 : List UInt8 := [29, 17, 0, 255, 126, 172, 42, 180, 0, 62, 27, 46, 8, 160, 0, 14, 29, 17, 0, 255, 126, 184, 1, 83]
abbrev dktX12_says_5 : List UInt8 := dkwX12_says_5 ++ dktX12_says_6
def dkwX12_says_4 : List UInt8 := [170, 0, 0, 0, 0, 79, 0, 0, 0, 1, 0, 0, 0, 5, 0, 0, 0, 34, 0, 0, 0, 79, 0, 0, 0, 40, 0, 0, 0, 63, 0, 0, 0, 73]
abbrev dktX12_says_4 : List UInt8 := dkwX12_says_4 ++ dktX12_says_5
def dkwX12_says_3 : List UInt8 := [27, 46, 28, 184, 1, 80, 154, 0, 10, 42, 16, 253, 182, 0, 183, 172, 42, 180, 0, 68, 27, 46, 62, 28]
abbrev dktX12_says_3 : List UInt8 := dkwX12_says_3 ++ dktX12_says_4
def dkwX12_says_2 : List UInt8 := [182, 0, 183, 172, 42, 180, 0, 52, 27, 46, 156, 0, 10, 42, 16, 252, 182, 0, 183, 172, 42, 180, 0, 62]
abbrev dktX12_says_2 : List UInt8 := dkwX12_says_2 ++ dktX12_says_3
def dkwX12_says_1 : List UInt8 := [182, 0, 183, 172, 42, 180, 0, 52, 27, 46, 133, 9, 20, 1, 61, 184, 0, 175, 153, 0, 10, 42, 16, 253]
abbrev dktX12_says_1 : List UInt8 := dkwX12_says_1 ++ dktX12_says_2
def dkwX12_says_0 : List UInt8 := [27, 184, 1, 71, 153, 0, 15, 28, 133, 9, 20, 0, 228, 184, 0, 175, 154, 0, 10, 42, 16, 254]
abbrev dktX12_says_0 : List UInt8 := dkwX12_says_0 ++ dktX12_says_1
theorem dksX12_says_0 : cX12_says.data.toList.drop 0 = dktX12_says_0 := by decide +kernel
theorem dksX12_says_1 : cX12_says.data.toList.drop 22 = dktX12_says_1 := dk_seg dksX12_says_0 22 rfl rfl
theorem dksX12_says_2 : cX12_says.data.toList.drop 46 = dktX12_says_2 := dk_seg dksX12_says_1 24 rfl rfl
theorem dksX12_says_3 : cX12_says.data.toList.drop 70 = dktX12_says_3 := dk_seg dksX12_says_2 24 rfl rfl
theorem dksX12_says_4 : cX12_says.data.toList.drop 94 = dktX12_says_4 := dk_seg dksX12_says_3 24 rfl rfl
theorem dksX12_says_5 : cX12_says.data.toList.drop 128 = dktX12_says_5 := dk_seg dksX12_says_4 34 rfl rfl
theorem dksX12_says_6 : cX12_says.data.toList.drop 152 = dktX12_says_6 := dk_seg dksX12_says_5 24 rfl rfl
theorem dksX12_says_7 : cX12_says.data.toList.drop 174 = dktX12_says_7 := dk_seg dksX12_says_6 22 rfl rfl
theorem dX12_says_0 : decode cX12_says 0 = .ok (.iload_n 1, 1) := dk_27 (dk_at dksX12_says_0 0 rfl rfl)
theorem dX12_says_1 : decode cX12_says 1 = .ok (.invokestatic 327, 3) := dk_184 1 71 (dk_at dksX12_says_0 1 rfl rfl)
theorem dX12_says_4 : decode cX12_says 4 = .ok (.ifCond .eq 15, 3) := dk_153 0 15 (dk_at dksX12_says_0 4 rfl rfl)
theorem dX12_says_7 : decode cX12_says 7 = .ok (.iload_n 2, 1) := dk_28 (dk_at dksX12_says_0 7 rfl rfl)
theorem dX12_says_8 : decode cX12_says 8 = .ok (.i2l, 1) := dk_133 (dk_at dksX12_says_0 8 rfl rfl)
theorem dX12_says_9 : decode cX12_says 9 = .ok (.lconst 0, 1) := dk_9 (dk_at dksX12_says_0 9 rfl rfl)
theorem dX12_says_10 : decode cX12_says 10 = .ok (.ldc2_w 228, 3) := dk_20 0 228 (dk_at dksX12_says_0 10 rfl rfl)
theorem dX12_says_13 : decode cX12_says 13 = .ok (.invokestatic 175, 3) := dk_184 0 175 (dk_at dksX12_says_0 13 rfl rfl)
theorem dX12_says_16 : decode cX12_says 16 = .ok (.ifCond .ne 10, 3) := dk_154 0 10 (dk_at dksX12_says_0 16 rfl rfl)
theorem dX12_says_19 : decode cX12_says 19 = .ok (.aload_n 0, 1) := dk_42 (dk_at dksX12_says_0 19 rfl rfl)
theorem dX12_says_20 : decode cX12_says 20 = .ok (.bipush (-2), 2) := dk_16 254 (dk_at dksX12_says_0 20 rfl rfl)
theorem dX12_says_22 : decode cX12_says 22 = .ok (.invokevirtual 183, 3) := dk_182 0 183 (dk_at dksX12_says_1 0 rfl rfl)
theorem dX12_says_25 : decode cX12_says 25 = .ok (.ireturn, 1) := dk_172 (dk_at dksX12_says_1 3 rfl rfl)
theorem dX12_says_26 : decode cX12_says 26 = .ok (.aload_n 0, 1) := dk_42 (dk_at dksX12_says_1 4 rfl rfl)
theorem dX12_says_27 : decode cX12_says 27 = .ok (.getfield 52, 3) := dk_180 0 52 (dk_at dksX12_says_1 5 rfl rfl)
theorem dX12_says_30 : decode cX12_says 30 = .ok (.iload_n 1, 1) := dk_27 (dk_at dksX12_says_1 8 rfl rfl)
theorem dX12_says_31 : decode cX12_says 31 = .ok (.iaload, 1) := dk_46 (dk_at dksX12_says_1 9 rfl rfl)
theorem dX12_says_32 : decode cX12_says 32 = .ok (.i2l, 1) := dk_133 (dk_at dksX12_says_1 10 rfl rfl)
theorem dX12_says_33 : decode cX12_says 33 = .ok (.lconst 0, 1) := dk_9 (dk_at dksX12_says_1 11 rfl rfl)
theorem dX12_says_34 : decode cX12_says 34 = .ok (.ldc2_w 317, 3) := dk_20 1 61 (dk_at dksX12_says_1 12 rfl rfl)
theorem dX12_says_37 : decode cX12_says 37 = .ok (.invokestatic 175, 3) := dk_184 0 175 (dk_at dksX12_says_1 15 rfl rfl)
theorem dX12_says_40 : decode cX12_says 40 = .ok (.ifCond .eq 10, 3) := dk_153 0 10 (dk_at dksX12_says_1 18 rfl rfl)
theorem dX12_says_43 : decode cX12_says 43 = .ok (.aload_n 0, 1) := dk_42 (dk_at dksX12_says_1 21 rfl rfl)
theorem dX12_says_44 : decode cX12_says 44 = .ok (.bipush (-3), 2) := dk_16 253 (dk_at dksX12_says_1 22 rfl rfl)
theorem dX12_says_46 : decode cX12_says 46 = .ok (.invokevirtual 183, 3) := dk_182 0 183 (dk_at dksX12_says_2 0 rfl rfl)
theorem dX12_says_49 : decode cX12_says 49 = .ok (.ireturn, 1) := dk_172 (dk_at dksX12_says_2 3 rfl rfl)
theorem dX12_says_50 : decode cX12_says 50 = .ok (.aload_n 0, 1) := dk_42 (dk_at dksX12_says_2 4 rfl rfl)
theorem dX12_says_51 : decode cX12_says 51 = .ok (.getfield 52, 3) := dk_180 0 52 (dk_at dksX12_says_2 5 rfl rfl)
theorem dX12_says_54 : decode cX12_says 54 = .ok (.iload_n 1, 1) := dk_27 (dk_at dksX12_says_2 8 rfl rfl)
theorem dX12_says_55 : decode cX12_says 55 = .ok (.iaload, 1) := dk_46 (dk_at dksX12_says_2 9 rfl rfl)
theorem dX12_says_56 : decode cX12_says 56 = .ok (.ifCond .ge 10, 3) := dk_156 0 10 (dk_at dksX12_says_2 10 rfl rfl)
theorem dX12_says_59 : decode cX12_says 59 = .ok (.aload_n 0, 1) := dk_42 (dk_at dksX12_says_2 13 rfl rfl)
theorem dX12_says_60 : decode cX12_says 60 = .ok (.bipush (-4), 2) := dk_16 252 (dk_at dksX12_says_2 14 rfl rfl)
theorem dX12_says_62 : decode cX12_says 62 = .ok (.invokevirtual 183, 3) := dk_182 0 183 (dk_at dksX12_says_2 16 rfl rfl)
theorem dX12_says_65 : decode cX12_says 65 = .ok (.ireturn, 1) := dk_172 (dk_at dksX12_says_2 19 rfl rfl)
theorem dX12_says_66 : decode cX12_says 66 = .ok (.aload_n 0, 1) := dk_42 (dk_at dksX12_says_2 20 rfl rfl)
theorem dX12_says_67 : decode cX12_says 67 = .ok (.getfield 62, 3) := dk_180 0 62 (dk_at dksX12_says_2 21 rfl rfl)
theorem dX12_says_70 : decode cX12_says 70 = .ok (.iload_n 1, 1) := dk_27 (dk_at dksX12_says_3 0 rfl rfl)
theorem dX12_says_71 : decode cX12_says 71 = .ok (.iaload, 1) := dk_46 (dk_at dksX12_says_3 1 rfl rfl)
theorem dX12_says_72 : decode cX12_says 72 = .ok (.iload_n 2, 1) := dk_28 (dk_at dksX12_says_3 2 rfl rfl)
theorem dX12_says_73 : decode cX12_says 73 = .ok (.invokestatic 336, 3) := dk_184 1 80 (dk_at dksX12_says_3 3 rfl rfl)
theorem dX12_says_76 : decode cX12_says 76 = .ok (.ifCond .ne 10, 3) := dk_154 0 10 (dk_at dksX12_says_3 6 rfl rfl)
theorem dX12_says_79 : decode cX12_says 79 = .ok (.aload_n 0, 1) := dk_42 (dk_at dksX12_says_3 9 rfl rfl)
theorem dX12_says_80 : decode cX12_says 80 = .ok (.bipush (-3), 2) := dk_16 253 (dk_at dksX12_says_3 10 rfl rfl)
theorem dX12_says_82 : decode cX12_says 82 = .ok (.invokevirtual 183, 3) := dk_182 0 183 (dk_at dksX12_says_3 12 rfl rfl)
theorem dX12_says_85 : decode cX12_says 85 = .ok (.ireturn, 1) := dk_172 (dk_at dksX12_says_3 15 rfl rfl)
theorem dX12_says_86 : decode cX12_says 86 = .ok (.aload_n 0, 1) := dk_42 (dk_at dksX12_says_3 16 rfl rfl)
theorem dX12_says_87 : decode cX12_says 87 = .ok (.getfield 68, 3) := dk_180 0 68 (dk_at dksX12_says_3 17 rfl rfl)
theorem dX12_says_90 : decode cX12_says 90 = .ok (.iload_n 1, 1) := dk_27 (dk_at dksX12_says_3 20 rfl rfl)
theorem dX12_says_91 : decode cX12_says 91 = .ok (.iaload, 1) := dk_46 (dk_at dksX12_says_3 21 rfl rfl)
theorem dX12_says_92 : decode cX12_says 92 = .ok (.istore_n 3, 1) := dk_62 (dk_at dksX12_says_3 22 rfl rfl)
theorem dX12_says_93 : decode cX12_says 93 = .ok (.iload_n 2, 1) := dk_28 (dk_at dksX12_says_3 23 rfl rfl)
theorem dX12_says_94 : decode cX12_says 94 = .ok (.tableswitch 79 1 5 #[34, 79, 40, 63, 73], 34) := by decide +kernel
theorem dX12_says_128 : decode cX12_says 128 = .ok (.iload_n 3, 1) := dk_29 (dk_at dksX12_says_5 0 rfl rfl)
theorem dX12_says_129 : decode cX12_says 129 = .ok (.sipush 255, 3) := dk_17 0 255 (dk_at dksX12_says_5 1 rfl rfl)
theorem dX12_says_132 : decode cX12_says 132 = .ok (.iand, 1) := dk_126 (dk_at dksX12_says_5 4 rfl rfl)
theorem dX12_says_133 : decode cX12_says 133 = .ok (.ireturn, 1) := dk_172 (dk_at dksX12_says_5 5 rfl rfl)
theorem dX12_says_134 : decode cX12_says 134 = .ok (.aload_n 0, 1) := dk_42 (dk_at dksX12_says_5 6 rfl rfl)
theorem dX12_says_135 : decode cX12_says 135 = .ok (.getfield 62, 3) := dk_180 0 62 (dk_at dksX12_says_5 7 rfl rfl)
theorem dX12_says_138 : decode cX12_says 138 = .ok (.iload_n 1, 1) := dk_27 (dk_at dksX12_says_5 10 rfl rfl)
theorem dX12_says_139 : decode cX12_says 139 = .ok (.iaload, 1) := dk_46 (dk_at dksX12_says_5 11 rfl rfl)
theorem dX12_says_140 : decode cX12_says 140 = .ok (.iconst 5, 1) := dk_8 (dk_at dksX12_says_5 12 rfl rfl)
theorem dX12_says_141 : decode cX12_says 141 = .ok (.if_icmp .ne 14, 3) := dk_160 0 14 (dk_at dksX12_says_5 13 rfl rfl)
theorem dX12_says_144 : decode cX12_says 144 = .ok (.iload_n 3, 1) := dk_29 (dk_at dksX12_says_5 16 rfl rfl)
theorem dX12_says_145 : decode cX12_says 145 = .ok (.sipush 255, 3) := dk_17 0 255 (dk_at dksX12_says_5 17 rfl rfl)
theorem dX12_says_148 : decode cX12_says 148 = .ok (.iand, 1) := dk_126 (dk_at dksX12_says_5 20 rfl rfl)
theorem dX12_says_149 : decode cX12_says 149 = .ok (.invokestatic 339, 3) := dk_184 1 83 (dk_at dksX12_says_5 21 rfl rfl)
theorem dX12_says_152 : decode cX12_says 152 = .ok (.goto 4, 3) := dk_167 0 4 (dk_at dksX12_says_6 0 rfl rfl)
theorem dX12_says_155 : decode cX12_says 155 = .ok (.iconst 0, 1) := dk_3 (dk_at dksX12_says_6 3 rfl rfl)
theorem dX12_says_156 : decode cX12_says 156 = .ok (.ireturn, 1) := dk_172 (dk_at dksX12_says_6 4 rfl rfl)
theorem dX12_says_157 : decode cX12_says 157 = .ok (.aload_n 0, 1) := dk_42 (dk_at dksX12_says_6 5 rfl rfl)
theorem dX12_says_158 : decode cX12_says 158 = .ok (.getfield 65, 3) := dk_180 0 65 (dk_at dksX12_says_6 6 rfl rfl)
theorem dX12_says_161 : decode cX12_says 161 = .ok (.iload_n 1, 1) := dk_27 (dk_at dksX12_says_6 9 rfl rfl)
theorem dX12_says_162 : decode cX12_says 162 = .ok (.iaload, 1) := dk_46 (dk_at dksX12_says_6 10 rfl rfl)
theorem dX12_says_163 : decode cX12_says 163 = .ok (.bipush 100, 2) := dk_16 100 (dk_at dksX12_says_6 11 rfl rfl)
theorem dX12_says_165 : decode cX12_says 165 = .ok (.iadd, 1) := dk_96 (dk_at dksX12_says_6 13 rfl rfl)
theorem dX12_says_166 : decode cX12_says 166 = .ok (.ireturn, 1) := dk_172 (dk_at dksX12_says_6 14 rfl rfl)
theorem dX12_says_167 : decode cX12_says 167 = .ok (.iload_n 3, 1) := dk_29 (dk_at dksX12_says_6 15 rfl rfl)
theorem dX12_says_168 : decode cX12_says 168 = .ok (.sipush 255, 3) := dk_17 0 255 (dk_at dksX12_says_6 16 rfl rfl)
theorem dX12_says_171 : decode cX12_says 171 = .ok (.iand, 1) := dk_126 (dk_at dksX12_says_6 19 rfl rfl)
theorem dX12_says_172 : decode cX12_says 172 = .ok (.ireturn, 1) := dk_172 (dk_at dksX12_says_6 20 rfl rfl)
theorem dX12_says_173 : decode cX12_says 173 = .ok (.aload_n 0, 1) := dk_42 (dk_at dksX12_says_6 21 rfl rfl)
theorem dX12_says_174 : decode cX12_says 174 = .ok (.getfield 65, 3) := dk_180 0 65 (dk_at dksX12_says_7 0 rfl rfl)
theorem dX12_says_177 : decode cX12_says 177 = .ok (.iload_n 1, 1) := dk_27 (dk_at dksX12_says_7 3 rfl rfl)
theorem dX12_says_178 : decode cX12_says 178 = .ok (.iaload, 1) := dk_46 (dk_at dksX12_says_7 4 rfl rfl)
theorem dX12_says_179 : decode cX12_says 179 = .ok (.ireturn, 1) := dk_172 (dk_at dksX12_says_7 5 rfl rfl)
abbrev cX12_isUnder : ByteArray := prog_24_method_94_code
def yX12_isUnder : MethodName := ⟨RX12, "isUnder", "(II)Z"⟩
def dkwX12_isUnder_1 : List UInt8 := [26, 8, 160, 0, 7, 4, 167, 0, 4, 3, 172]
abbrev dktX12_isUnder_1 : List UInt8 := dkwX12_isUnder_1 ++ []
def dkwX12_isUnder_0 : List UInt8 := [27, 153, 0, 28, 26, 27, 159, 0, 23, 27, 5, 160, 0, 8, 26, 6, 162, 0, 13, 27, 6, 160, 0, 12]
abbrev dktX12_isUnder_0 : List UInt8 := dkwX12_isUnder_0 ++ dktX12_isUnder_1
theorem dksX12_isUnder_0 : cX12_isUnder.data.toList.drop 0 = dktX12_isUnder_0 := by decide +kernel
theorem dksX12_isUnder_1 : cX12_isUnder.data.toList.drop 24 = dktX12_isUnder_1 := dk_seg dksX12_isUnder_0 24 rfl rfl
theorem dX12_isUnder_0 : decode cX12_isUnder 0 = .ok (.iload_n 1, 1) := dk_27 (dk_at dksX12_isUnder_0 0 rfl rfl)
theorem dX12_isUnder_1 : decode cX12_isUnder 1 = .ok (.ifCond .eq 28, 3) := dk_153 0 28 (dk_at dksX12_isUnder_0 1 rfl rfl)
theorem dX12_isUnder_4 : decode cX12_isUnder 4 = .ok (.iload_n 0, 1) := dk_26 (dk_at dksX12_isUnder_0 4 rfl rfl)
theorem dX12_isUnder_5 : decode cX12_isUnder 5 = .ok (.iload_n 1, 1) := dk_27 (dk_at dksX12_isUnder_0 5 rfl rfl)
theorem dX12_isUnder_6 : decode cX12_isUnder 6 = .ok (.if_icmp .eq 23, 3) := dk_159 0 23 (dk_at dksX12_isUnder_0 6 rfl rfl)
theorem dX12_isUnder_9 : decode cX12_isUnder 9 = .ok (.iload_n 1, 1) := dk_27 (dk_at dksX12_isUnder_0 9 rfl rfl)
theorem dX12_isUnder_10 : decode cX12_isUnder 10 = .ok (.iconst 2, 1) := dk_5 (dk_at dksX12_isUnder_0 10 rfl rfl)
theorem dX12_isUnder_11 : decode cX12_isUnder 11 = .ok (.if_icmp .ne 8, 3) := dk_160 0 8 (dk_at dksX12_isUnder_0 11 rfl rfl)
theorem dX12_isUnder_14 : decode cX12_isUnder 14 = .ok (.iload_n 0, 1) := dk_26 (dk_at dksX12_isUnder_0 14 rfl rfl)
theorem dX12_isUnder_15 : decode cX12_isUnder 15 = .ok (.iconst 3, 1) := dk_6 (dk_at dksX12_isUnder_0 15 rfl rfl)
theorem dX12_isUnder_16 : decode cX12_isUnder 16 = .ok (.if_icmp .ge 13, 3) := dk_162 0 13 (dk_at dksX12_isUnder_0 16 rfl rfl)
theorem dX12_isUnder_19 : decode cX12_isUnder 19 = .ok (.iload_n 1, 1) := dk_27 (dk_at dksX12_isUnder_0 19 rfl rfl)
theorem dX12_isUnder_20 : decode cX12_isUnder 20 = .ok (.iconst 3, 1) := dk_6 (dk_at dksX12_isUnder_0 20 rfl rfl)
theorem dX12_isUnder_21 : decode cX12_isUnder 21 = .ok (.if_icmp .ne 12, 3) := dk_160 0 12 (dk_at dksX12_isUnder_0 21 rfl rfl)
theorem dX12_isUnder_24 : decode cX12_isUnder 24 = .ok (.iload_n 0, 1) := dk_26 (dk_at dksX12_isUnder_1 0 rfl rfl)
theorem dX12_isUnder_25 : decode cX12_isUnder 25 = .ok (.iconst 5, 1) := dk_8 (dk_at dksX12_isUnder_1 1 rfl rfl)
theorem dX12_isUnder_26 : decode cX12_isUnder 26 = .ok (.if_icmp .ne 7, 3) := dk_160 0 7 (dk_at dksX12_isUnder_1 2 rfl rfl)
theorem dX12_isUnder_29 : decode cX12_isUnder 29 = .ok (.iconst 1, 1) := dk_4 (dk_at dksX12_isUnder_1 5 rfl rfl)
theorem dX12_isUnder_30 : decode cX12_isUnder 30 = .ok (.goto 4, 3) := dk_167 0 4 (dk_at dksX12_isUnder_1 6 rfl rfl)
theorem dX12_isUnder_33 : decode cX12_isUnder 33 = .ok (.iconst 0, 1) := dk_3 (dk_at dksX12_isUnder_1 9 rfl rfl)
theorem dX12_isUnder_34 : decode cX12_isUnder 34 = .ok (.ireturn, 1) := dk_172 (dk_at dksX12_isUnder_1 10 rfl rfl)
abbrev cX12_judge : ByteArray := prog_24_method_96_code
def yX12_judge : MethodName := ⟨RX12, "judge", "(III)I"⟩
def dkwX12_judge_8 : List UInt8 := [132, 4, 1, 167, 255, 153, 42, 180, 0, 25, 27, 46, 29, 164, 0, 7, 29, 167, 0, 4, 2, 172]
abbrev dktX12_judge_8 : List UInt8 := dkwX12_judge_8 ++ []
def dkwX12_judge_7 : List UInt8 := [16, 15, 126, 133, 148, 154, 0, 7, 4, 167, 0, 4, 3, 54, 5, 21, 5, 154, 0, 6, 21, 4, 172]
abbrev dktX12_judge_7 : List UInt8 := dkwX12_judge_7 ++ dktX12_judge_8
def dkwX12_judge_6 : List UInt8 := [16, 40, 28, 104, 5, 21, 4, 104, 96, 4, 96, 47, 42, 180, 0, 22, 27, 50, 21, 4, 46, 16, 8, 122]
abbrev dktX12_judge_6 : List UInt8 := dkwX12_judge_6 ++ dktX12_judge_7
def dkwX12_judge_5 : List UInt8 := [47, 42, 180, 0, 22, 27, 50, 21, 4, 46, 17, 0, 255, 126, 133, 148, 154, 0, 43, 42, 180, 0, 58]
abbrev dktX12_judge_5 : List UInt8 := dkwX12_judge_5 ++ dktX12_judge_6
def dkwX12_judge_4 : List UInt8 := [21, 4, 42, 180, 0, 25, 27, 46, 162, 0, 75, 42, 180, 0, 58, 16, 40, 28, 104, 5, 21, 4, 104, 96]
abbrev dktX12_judge_4 : List UInt8 := dkwX12_judge_4 ++ dktX12_judge_5
def dkwX12_judge_3 : List UInt8 := [180, 0, 55, 28, 46, 164, 0, 10, 42, 16, 254, 182, 0, 183, 172, 3, 54, 4, 21, 4, 29, 162, 0, 103]
abbrev dktX12_judge_3 : List UInt8 := dkwX12_judge_3 ++ dktX12_judge_4
def dkwX12_judge_2 : List UInt8 := [182, 0, 183, 172, 42, 180, 0, 52, 28, 46, 156, 0, 10, 42, 16, 252, 182, 0, 183, 172, 5, 29, 104, 42]
abbrev dktX12_judge_2 : List UInt8 := dkwX12_judge_2 ++ dktX12_judge_3
def dkwX12_judge_1 : List UInt8 := [154, 0, 10, 42, 16, 254, 182, 0, 183, 172, 42, 180, 0, 52, 28, 46, 7, 164, 0, 10, 42, 16, 253]
abbrev dktX12_judge_1 : List UInt8 := dkwX12_judge_1 ++ dktX12_judge_2
def dkwX12_judge_0 : List UInt8 := [27, 184, 1, 63, 153, 0, 22, 28, 184, 1, 71, 153, 0, 15, 29, 133, 9, 20, 1, 88, 184, 0, 175]
abbrev dktX12_judge_0 : List UInt8 := dkwX12_judge_0 ++ dktX12_judge_1
theorem dksX12_judge_0 : cX12_judge.data.toList.drop 0 = dktX12_judge_0 := by decide +kernel
theorem dksX12_judge_1 : cX12_judge.data.toList.drop 23 = dktX12_judge_1 := dk_seg dksX12_judge_0 23 rfl rfl
theorem dksX12_judge_2 : cX12_judge.data.toList.drop 46 = dktX12_judge_2 := dk_seg dksX12_judge_1 23 rfl rfl
theorem dksX12_judge_3 : cX12_judge.data.toList.drop 70 = dktX12_judge_3 := dk_seg dksX12_judge_2 24 rfl rfl
theorem dksX12_judge_4 : cX12_judge.data.toList.drop 94 = dktX12_judge_4 := dk_seg dksX12_judge_3 24 rfl rfl
theorem dksX12_judge_5 : cX12_judge.data.toList.drop 118 = dktX12_judge_5 := dk_seg dksX12_judge_4 24 rfl rfl
theorem dksX12_judge_6 : cX12_judge.data.toList.drop 141 = dktX12_judge_6 := dk_seg dksX12_judge_5 23 rfl rfl
theorem dksX12_judge_7 : cX12_judge.data.toList.drop 165 = dktX12_judge_7 := dk_seg dksX12_judge_6 24 rfl rfl
theorem dksX12_judge_8 : cX12_judge.data.toList.drop 188 = dktX12_judge_8 := dk_seg dksX12_judge_7 23 rfl rfl
theorem dX12_judge_0 : decode cX12_judge 0 = .ok (.iload_n 1, 1) := dk_27 (dk_at dksX12_judge_0 0 rfl rfl)
theorem dX12_judge_1 : decode cX12_judge 1 = .ok (.invokestatic 319, 3) := dk_184 1 63 (dk_at dksX12_judge_0 1 rfl rfl)
theorem dX12_judge_4 : decode cX12_judge 4 = .ok (.ifCond .eq 22, 3) := dk_153 0 22 (dk_at dksX12_judge_0 4 rfl rfl)
theorem dX12_judge_7 : decode cX12_judge 7 = .ok (.iload_n 2, 1) := dk_28 (dk_at dksX12_judge_0 7 rfl rfl)
theorem dX12_judge_8 : decode cX12_judge 8 = .ok (.invokestatic 327, 3) := dk_184 1 71 (dk_at dksX12_judge_0 8 rfl rfl)
theorem dX12_judge_11 : decode cX12_judge 11 = .ok (.ifCond .eq 15, 3) := dk_153 0 15 (dk_at dksX12_judge_0 11 rfl rfl)
theorem dX12_judge_14 : decode cX12_judge 14 = .ok (.iload_n 3, 1) := dk_29 (dk_at dksX12_judge_0 14 rfl rfl)
theorem dX12_judge_15 : decode cX12_judge 15 = .ok (.i2l, 1) := dk_133 (dk_at dksX12_judge_0 15 rfl rfl)
theorem dX12_judge_16 : decode cX12_judge 16 = .ok (.lconst 0, 1) := dk_9 (dk_at dksX12_judge_0 16 rfl rfl)
theorem dX12_judge_17 : decode cX12_judge 17 = .ok (.ldc2_w 344, 3) := dk_20 1 88 (dk_at dksX12_judge_0 17 rfl rfl)
theorem dX12_judge_20 : decode cX12_judge 20 = .ok (.invokestatic 175, 3) := dk_184 0 175 (dk_at dksX12_judge_0 20 rfl rfl)
theorem dX12_judge_23 : decode cX12_judge 23 = .ok (.ifCond .ne 10, 3) := dk_154 0 10 (dk_at dksX12_judge_1 0 rfl rfl)
theorem dX12_judge_26 : decode cX12_judge 26 = .ok (.aload_n 0, 1) := dk_42 (dk_at dksX12_judge_1 3 rfl rfl)
theorem dX12_judge_27 : decode cX12_judge 27 = .ok (.bipush (-2), 2) := dk_16 254 (dk_at dksX12_judge_1 4 rfl rfl)
theorem dX12_judge_29 : decode cX12_judge 29 = .ok (.invokevirtual 183, 3) := dk_182 0 183 (dk_at dksX12_judge_1 6 rfl rfl)
theorem dX12_judge_32 : decode cX12_judge 32 = .ok (.ireturn, 1) := dk_172 (dk_at dksX12_judge_1 9 rfl rfl)
theorem dX12_judge_33 : decode cX12_judge 33 = .ok (.aload_n 0, 1) := dk_42 (dk_at dksX12_judge_1 10 rfl rfl)
theorem dX12_judge_34 : decode cX12_judge 34 = .ok (.getfield 52, 3) := dk_180 0 52 (dk_at dksX12_judge_1 11 rfl rfl)
theorem dX12_judge_37 : decode cX12_judge 37 = .ok (.iload_n 2, 1) := dk_28 (dk_at dksX12_judge_1 14 rfl rfl)
theorem dX12_judge_38 : decode cX12_judge 38 = .ok (.iaload, 1) := dk_46 (dk_at dksX12_judge_1 15 rfl rfl)
theorem dX12_judge_39 : decode cX12_judge 39 = .ok (.iconst 4, 1) := dk_7 (dk_at dksX12_judge_1 16 rfl rfl)
theorem dX12_judge_40 : decode cX12_judge 40 = .ok (.if_icmp .le 10, 3) := dk_164 0 10 (dk_at dksX12_judge_1 17 rfl rfl)
theorem dX12_judge_43 : decode cX12_judge 43 = .ok (.aload_n 0, 1) := dk_42 (dk_at dksX12_judge_1 20 rfl rfl)
theorem dX12_judge_44 : decode cX12_judge 44 = .ok (.bipush (-3), 2) := dk_16 253 (dk_at dksX12_judge_1 21 rfl rfl)
theorem dX12_judge_46 : decode cX12_judge 46 = .ok (.invokevirtual 183, 3) := dk_182 0 183 (dk_at dksX12_judge_2 0 rfl rfl)
theorem dX12_judge_49 : decode cX12_judge 49 = .ok (.ireturn, 1) := dk_172 (dk_at dksX12_judge_2 3 rfl rfl)
theorem dX12_judge_50 : decode cX12_judge 50 = .ok (.aload_n 0, 1) := dk_42 (dk_at dksX12_judge_2 4 rfl rfl)
theorem dX12_judge_51 : decode cX12_judge 51 = .ok (.getfield 52, 3) := dk_180 0 52 (dk_at dksX12_judge_2 5 rfl rfl)
theorem dX12_judge_54 : decode cX12_judge 54 = .ok (.iload_n 2, 1) := dk_28 (dk_at dksX12_judge_2 8 rfl rfl)
theorem dX12_judge_55 : decode cX12_judge 55 = .ok (.iaload, 1) := dk_46 (dk_at dksX12_judge_2 9 rfl rfl)
theorem dX12_judge_56 : decode cX12_judge 56 = .ok (.ifCond .ge 10, 3) := dk_156 0 10 (dk_at dksX12_judge_2 10 rfl rfl)
theorem dX12_judge_59 : decode cX12_judge 59 = .ok (.aload_n 0, 1) := dk_42 (dk_at dksX12_judge_2 13 rfl rfl)
theorem dX12_judge_60 : decode cX12_judge 60 = .ok (.bipush (-4), 2) := dk_16 252 (dk_at dksX12_judge_2 14 rfl rfl)
theorem dX12_judge_62 : decode cX12_judge 62 = .ok (.invokevirtual 183, 3) := dk_182 0 183 (dk_at dksX12_judge_2 16 rfl rfl)
theorem dX12_judge_65 : decode cX12_judge 65 = .ok (.ireturn, 1) := dk_172 (dk_at dksX12_judge_2 19 rfl rfl)
theorem dX12_judge_66 : decode cX12_judge 66 = .ok (.iconst 2, 1) := dk_5 (dk_at dksX12_judge_2 20 rfl rfl)
theorem dX12_judge_67 : decode cX12_judge 67 = .ok (.iload_n 3, 1) := dk_29 (dk_at dksX12_judge_2 21 rfl rfl)
theorem dX12_judge_68 : decode cX12_judge 68 = .ok (.imul, 1) := dk_104 (dk_at dksX12_judge_2 22 rfl rfl)
theorem dX12_judge_69 : decode cX12_judge 69 = .ok (.aload_n 0, 1) := dk_42 (dk_at dksX12_judge_2 23 rfl rfl)
theorem dX12_judge_70 : decode cX12_judge 70 = .ok (.getfield 55, 3) := dk_180 0 55 (dk_at dksX12_judge_3 0 rfl rfl)
theorem dX12_judge_73 : decode cX12_judge 73 = .ok (.iload_n 2, 1) := dk_28 (dk_at dksX12_judge_3 3 rfl rfl)
theorem dX12_judge_74 : decode cX12_judge 74 = .ok (.iaload, 1) := dk_46 (dk_at dksX12_judge_3 4 rfl rfl)
theorem dX12_judge_75 : decode cX12_judge 75 = .ok (.if_icmp .le 10, 3) := dk_164 0 10 (dk_at dksX12_judge_3 5 rfl rfl)
theorem dX12_judge_78 : decode cX12_judge 78 = .ok (.aload_n 0, 1) := dk_42 (dk_at dksX12_judge_3 8 rfl rfl)
theorem dX12_judge_79 : decode cX12_judge 79 = .ok (.bipush (-2), 2) := dk_16 254 (dk_at dksX12_judge_3 9 rfl rfl)
theorem dX12_judge_81 : decode cX12_judge 81 = .ok (.invokevirtual 183, 3) := dk_182 0 183 (dk_at dksX12_judge_3 11 rfl rfl)
theorem dX12_judge_84 : decode cX12_judge 84 = .ok (.ireturn, 1) := dk_172 (dk_at dksX12_judge_3 14 rfl rfl)
theorem dX12_judge_85 : decode cX12_judge 85 = .ok (.iconst 0, 1) := dk_3 (dk_at dksX12_judge_3 15 rfl rfl)
theorem dX12_judge_86 : decode cX12_judge 86 = .ok (.istore 4, 2) := dk_54 4 (dk_at dksX12_judge_3 16 rfl rfl)
theorem dX12_judge_88 : decode cX12_judge 88 = .ok (.iload 4, 2) := dk_21 4 (dk_at dksX12_judge_3 18 rfl rfl)
theorem dX12_judge_90 : decode cX12_judge 90 = .ok (.iload_n 3, 1) := dk_29 (dk_at dksX12_judge_3 20 rfl rfl)
theorem dX12_judge_91 : decode cX12_judge 91 = .ok (.if_icmp .ge 103, 3) := dk_162 0 103 (dk_at dksX12_judge_3 21 rfl rfl)
theorem dX12_judge_94 : decode cX12_judge 94 = .ok (.iload 4, 2) := dk_21 4 (dk_at dksX12_judge_4 0 rfl rfl)
theorem dX12_judge_96 : decode cX12_judge 96 = .ok (.aload_n 0, 1) := dk_42 (dk_at dksX12_judge_4 2 rfl rfl)
theorem dX12_judge_97 : decode cX12_judge 97 = .ok (.getfield 25, 3) := dk_180 0 25 (dk_at dksX12_judge_4 3 rfl rfl)
theorem dX12_judge_100 : decode cX12_judge 100 = .ok (.iload_n 1, 1) := dk_27 (dk_at dksX12_judge_4 6 rfl rfl)
theorem dX12_judge_101 : decode cX12_judge 101 = .ok (.iaload, 1) := dk_46 (dk_at dksX12_judge_4 7 rfl rfl)
theorem dX12_judge_102 : decode cX12_judge 102 = .ok (.if_icmp .ge 75, 3) := dk_162 0 75 (dk_at dksX12_judge_4 8 rfl rfl)
theorem dX12_judge_105 : decode cX12_judge 105 = .ok (.aload_n 0, 1) := dk_42 (dk_at dksX12_judge_4 11 rfl rfl)
theorem dX12_judge_106 : decode cX12_judge 106 = .ok (.getfield 58, 3) := dk_180 0 58 (dk_at dksX12_judge_4 12 rfl rfl)
theorem dX12_judge_109 : decode cX12_judge 109 = .ok (.bipush 40, 2) := dk_16 40 (dk_at dksX12_judge_4 15 rfl rfl)
theorem dX12_judge_111 : decode cX12_judge 111 = .ok (.iload_n 2, 1) := dk_28 (dk_at dksX12_judge_4 17 rfl rfl)
theorem dX12_judge_112 : decode cX12_judge 112 = .ok (.imul, 1) := dk_104 (dk_at dksX12_judge_4 18 rfl rfl)
theorem dX12_judge_113 : decode cX12_judge 113 = .ok (.iconst 2, 1) := dk_5 (dk_at dksX12_judge_4 19 rfl rfl)
theorem dX12_judge_114 : decode cX12_judge 114 = .ok (.iload 4, 2) := dk_21 4 (dk_at dksX12_judge_4 20 rfl rfl)
theorem dX12_judge_116 : decode cX12_judge 116 = .ok (.imul, 1) := dk_104 (dk_at dksX12_judge_4 22 rfl rfl)
theorem dX12_judge_117 : decode cX12_judge 117 = .ok (.iadd, 1) := dk_96 (dk_at dksX12_judge_4 23 rfl rfl)
theorem dX12_judge_118 : decode cX12_judge 118 = .ok (.laload, 1) := dk_47 (dk_at dksX12_judge_5 0 rfl rfl)
theorem dX12_judge_119 : decode cX12_judge 119 = .ok (.aload_n 0, 1) := dk_42 (dk_at dksX12_judge_5 1 rfl rfl)
theorem dX12_judge_120 : decode cX12_judge 120 = .ok (.getfield 22, 3) := dk_180 0 22 (dk_at dksX12_judge_5 2 rfl rfl)
theorem dX12_judge_123 : decode cX12_judge 123 = .ok (.iload_n 1, 1) := dk_27 (dk_at dksX12_judge_5 5 rfl rfl)
theorem dX12_judge_124 : decode cX12_judge 124 = .ok (.aaload, 1) := dk_50 (dk_at dksX12_judge_5 6 rfl rfl)
theorem dX12_judge_125 : decode cX12_judge 125 = .ok (.iload 4, 2) := dk_21 4 (dk_at dksX12_judge_5 7 rfl rfl)
theorem dX12_judge_127 : decode cX12_judge 127 = .ok (.iaload, 1) := dk_46 (dk_at dksX12_judge_5 9 rfl rfl)
theorem dX12_judge_128 : decode cX12_judge 128 = .ok (.sipush 255, 3) := dk_17 0 255 (dk_at dksX12_judge_5 10 rfl rfl)
theorem dX12_judge_131 : decode cX12_judge 131 = .ok (.iand, 1) := dk_126 (dk_at dksX12_judge_5 13 rfl rfl)
theorem dX12_judge_132 : decode cX12_judge 132 = .ok (.i2l, 1) := dk_133 (dk_at dksX12_judge_5 14 rfl rfl)
theorem dX12_judge_133 : decode cX12_judge 133 = .ok (.lcmp, 1) := dk_148 (dk_at dksX12_judge_5 15 rfl rfl)
theorem dX12_judge_134 : decode cX12_judge 134 = .ok (.ifCond .ne 43, 3) := dk_154 0 43 (dk_at dksX12_judge_5 16 rfl rfl)
theorem dX12_judge_137 : decode cX12_judge 137 = .ok (.aload_n 0, 1) := dk_42 (dk_at dksX12_judge_5 19 rfl rfl)
theorem dX12_judge_138 : decode cX12_judge 138 = .ok (.getfield 58, 3) := dk_180 0 58 (dk_at dksX12_judge_5 20 rfl rfl)
theorem dX12_judge_141 : decode cX12_judge 141 = .ok (.bipush 40, 2) := dk_16 40 (dk_at dksX12_judge_6 0 rfl rfl)
theorem dX12_judge_143 : decode cX12_judge 143 = .ok (.iload_n 2, 1) := dk_28 (dk_at dksX12_judge_6 2 rfl rfl)
theorem dX12_judge_144 : decode cX12_judge 144 = .ok (.imul, 1) := dk_104 (dk_at dksX12_judge_6 3 rfl rfl)
theorem dX12_judge_145 : decode cX12_judge 145 = .ok (.iconst 2, 1) := dk_5 (dk_at dksX12_judge_6 4 rfl rfl)
theorem dX12_judge_146 : decode cX12_judge 146 = .ok (.iload 4, 2) := dk_21 4 (dk_at dksX12_judge_6 5 rfl rfl)
theorem dX12_judge_148 : decode cX12_judge 148 = .ok (.imul, 1) := dk_104 (dk_at dksX12_judge_6 7 rfl rfl)
theorem dX12_judge_149 : decode cX12_judge 149 = .ok (.iadd, 1) := dk_96 (dk_at dksX12_judge_6 8 rfl rfl)
theorem dX12_judge_150 : decode cX12_judge 150 = .ok (.iconst 1, 1) := dk_4 (dk_at dksX12_judge_6 9 rfl rfl)
theorem dX12_judge_151 : decode cX12_judge 151 = .ok (.iadd, 1) := dk_96 (dk_at dksX12_judge_6 10 rfl rfl)
theorem dX12_judge_152 : decode cX12_judge 152 = .ok (.laload, 1) := dk_47 (dk_at dksX12_judge_6 11 rfl rfl)
theorem dX12_judge_153 : decode cX12_judge 153 = .ok (.aload_n 0, 1) := dk_42 (dk_at dksX12_judge_6 12 rfl rfl)
theorem dX12_judge_154 : decode cX12_judge 154 = .ok (.getfield 22, 3) := dk_180 0 22 (dk_at dksX12_judge_6 13 rfl rfl)
theorem dX12_judge_157 : decode cX12_judge 157 = .ok (.iload_n 1, 1) := dk_27 (dk_at dksX12_judge_6 16 rfl rfl)
theorem dX12_judge_158 : decode cX12_judge 158 = .ok (.aaload, 1) := dk_50 (dk_at dksX12_judge_6 17 rfl rfl)
theorem dX12_judge_159 : decode cX12_judge 159 = .ok (.iload 4, 2) := dk_21 4 (dk_at dksX12_judge_6 18 rfl rfl)
theorem dX12_judge_161 : decode cX12_judge 161 = .ok (.iaload, 1) := dk_46 (dk_at dksX12_judge_6 20 rfl rfl)
theorem dX12_judge_162 : decode cX12_judge 162 = .ok (.bipush 8, 2) := dk_16 8 (dk_at dksX12_judge_6 21 rfl rfl)
theorem dX12_judge_164 : decode cX12_judge 164 = .ok (.ishr, 1) := dk_122 (dk_at dksX12_judge_6 23 rfl rfl)
theorem dX12_judge_165 : decode cX12_judge 165 = .ok (.bipush 15, 2) := dk_16 15 (dk_at dksX12_judge_7 0 rfl rfl)
theorem dX12_judge_167 : decode cX12_judge 167 = .ok (.iand, 1) := dk_126 (dk_at dksX12_judge_7 2 rfl rfl)
theorem dX12_judge_168 : decode cX12_judge 168 = .ok (.i2l, 1) := dk_133 (dk_at dksX12_judge_7 3 rfl rfl)
theorem dX12_judge_169 : decode cX12_judge 169 = .ok (.lcmp, 1) := dk_148 (dk_at dksX12_judge_7 4 rfl rfl)
theorem dX12_judge_170 : decode cX12_judge 170 = .ok (.ifCond .ne 7, 3) := dk_154 0 7 (dk_at dksX12_judge_7 5 rfl rfl)
theorem dX12_judge_173 : decode cX12_judge 173 = .ok (.iconst 1, 1) := dk_4 (dk_at dksX12_judge_7 8 rfl rfl)
theorem dX12_judge_174 : decode cX12_judge 174 = .ok (.goto 4, 3) := dk_167 0 4 (dk_at dksX12_judge_7 9 rfl rfl)
theorem dX12_judge_177 : decode cX12_judge 177 = .ok (.iconst 0, 1) := dk_3 (dk_at dksX12_judge_7 12 rfl rfl)
theorem dX12_judge_178 : decode cX12_judge 178 = .ok (.istore 5, 2) := dk_54 5 (dk_at dksX12_judge_7 13 rfl rfl)
theorem dX12_judge_180 : decode cX12_judge 180 = .ok (.iload 5, 2) := dk_21 5 (dk_at dksX12_judge_7 15 rfl rfl)
theorem dX12_judge_182 : decode cX12_judge 182 = .ok (.ifCond .ne 6, 3) := dk_154 0 6 (dk_at dksX12_judge_7 17 rfl rfl)
theorem dX12_judge_185 : decode cX12_judge 185 = .ok (.iload 4, 2) := dk_21 4 (dk_at dksX12_judge_7 20 rfl rfl)
theorem dX12_judge_187 : decode cX12_judge 187 = .ok (.ireturn, 1) := dk_172 (dk_at dksX12_judge_7 22 rfl rfl)
theorem dX12_judge_188 : decode cX12_judge 188 = .ok (.iinc 4 1, 3) := dk_132 4 1 (dk_at dksX12_judge_8 0 rfl rfl)
theorem dX12_judge_191 : decode cX12_judge 191 = .ok (.goto (-103), 3) := dk_167 255 153 (dk_at dksX12_judge_8 3 rfl rfl)
theorem dX12_judge_194 : decode cX12_judge 194 = .ok (.aload_n 0, 1) := dk_42 (dk_at dksX12_judge_8 6 rfl rfl)
theorem dX12_judge_195 : decode cX12_judge 195 = .ok (.getfield 25, 3) := dk_180 0 25 (dk_at dksX12_judge_8 7 rfl rfl)
theorem dX12_judge_198 : decode cX12_judge 198 = .ok (.iload_n 1, 1) := dk_27 (dk_at dksX12_judge_8 10 rfl rfl)
theorem dX12_judge_199 : decode cX12_judge 199 = .ok (.iaload, 1) := dk_46 (dk_at dksX12_judge_8 11 rfl rfl)
theorem dX12_judge_200 : decode cX12_judge 200 = .ok (.iload_n 3, 1) := dk_29 (dk_at dksX12_judge_8 12 rfl rfl)
theorem dX12_judge_201 : decode cX12_judge 201 = .ok (.if_icmp .le 7, 3) := dk_164 0 7 (dk_at dksX12_judge_8 13 rfl rfl)
theorem dX12_judge_204 : decode cX12_judge 204 = .ok (.iload_n 3, 1) := dk_29 (dk_at dksX12_judge_8 16 rfl rfl)
theorem dX12_judge_205 : decode cX12_judge 205 = .ok (.goto 4, 3) := dk_167 0 4 (dk_at dksX12_judge_8 17 rfl rfl)
theorem dX12_judge_208 : decode cX12_judge 208 = .ok (.iconst (-1), 1) := dk_2 (dk_at dksX12_judge_8 20 rfl rfl)
theorem dX12_judge_209 : decode cX12_judge 209 = .ok (.ireturn, 1) := dk_172 (dk_at dksX12_judge_8 21 rfl rfl)
abbrev cX12_days : ByteArray := prog_24_method_99_code
def yX12_days : MethodName := ⟨RX12, "days", "(I)I"⟩
def dkwX12_days_2 : List UInt8 := [153, 0, 7, 4, 167, 0, 4, 3, 96, 61, 132, 3, 1, 167, 255, 218, 28, 172]
abbrev dktX12_days_2 : List UInt8 := dkwX12_days_2 ++ []
def dkwX12_days_1 : List UInt8 := [27, 162, 0, 39, 42, 7, 182, 1, 91, 54, 4, 28, 42, 21, 4, 42, 16, 8, 182, 1, 91, 182, 1, 96]
abbrev dktX12_days_1 : List UInt8 := dkwX12_days_1 ++ dktX12_days_2
def dkwX12_days_0 : List UInt8 := [27, 133, 10, 20, 1, 94, 184, 0, 175, 154, 0, 10, 42, 16, 254, 182, 0, 183, 172, 3, 61, 3, 62, 29]
abbrev dktX12_days_0 : List UInt8 := dkwX12_days_0 ++ dktX12_days_1
theorem dksX12_days_0 : cX12_days.data.toList.drop 0 = dktX12_days_0 := by decide +kernel
theorem dksX12_days_1 : cX12_days.data.toList.drop 24 = dktX12_days_1 := dk_seg dksX12_days_0 24 rfl rfl
theorem dksX12_days_2 : cX12_days.data.toList.drop 48 = dktX12_days_2 := dk_seg dksX12_days_1 24 rfl rfl
theorem dX12_days_0 : decode cX12_days 0 = .ok (.iload_n 1, 1) := dk_27 (dk_at dksX12_days_0 0 rfl rfl)
theorem dX12_days_1 : decode cX12_days 1 = .ok (.i2l, 1) := dk_133 (dk_at dksX12_days_0 1 rfl rfl)
theorem dX12_days_2 : decode cX12_days 2 = .ok (.lconst 1, 1) := dk_10 (dk_at dksX12_days_0 2 rfl rfl)
theorem dX12_days_3 : decode cX12_days 3 = .ok (.ldc2_w 350, 3) := dk_20 1 94 (dk_at dksX12_days_0 3 rfl rfl)
theorem dX12_days_6 : decode cX12_days 6 = .ok (.invokestatic 175, 3) := dk_184 0 175 (dk_at dksX12_days_0 6 rfl rfl)
theorem dX12_days_9 : decode cX12_days 9 = .ok (.ifCond .ne 10, 3) := dk_154 0 10 (dk_at dksX12_days_0 9 rfl rfl)
theorem dX12_days_12 : decode cX12_days 12 = .ok (.aload_n 0, 1) := dk_42 (dk_at dksX12_days_0 12 rfl rfl)
theorem dX12_days_13 : decode cX12_days 13 = .ok (.bipush (-2), 2) := dk_16 254 (dk_at dksX12_days_0 13 rfl rfl)
theorem dX12_days_15 : decode cX12_days 15 = .ok (.invokevirtual 183, 3) := dk_182 0 183 (dk_at dksX12_days_0 15 rfl rfl)
theorem dX12_days_18 : decode cX12_days 18 = .ok (.ireturn, 1) := dk_172 (dk_at dksX12_days_0 18 rfl rfl)
theorem dX12_days_19 : decode cX12_days 19 = .ok (.iconst 0, 1) := dk_3 (dk_at dksX12_days_0 19 rfl rfl)
theorem dX12_days_20 : decode cX12_days 20 = .ok (.istore_n 2, 1) := dk_61 (dk_at dksX12_days_0 20 rfl rfl)
theorem dX12_days_21 : decode cX12_days 21 = .ok (.iconst 0, 1) := dk_3 (dk_at dksX12_days_0 21 rfl rfl)
theorem dX12_days_22 : decode cX12_days 22 = .ok (.istore_n 3, 1) := dk_62 (dk_at dksX12_days_0 22 rfl rfl)
theorem dX12_days_23 : decode cX12_days 23 = .ok (.iload_n 3, 1) := dk_29 (dk_at dksX12_days_0 23 rfl rfl)
theorem dX12_days_24 : decode cX12_days 24 = .ok (.iload_n 1, 1) := dk_27 (dk_at dksX12_days_1 0 rfl rfl)
theorem dX12_days_25 : decode cX12_days 25 = .ok (.if_icmp .ge 39, 3) := dk_162 0 39 (dk_at dksX12_days_1 1 rfl rfl)
theorem dX12_days_28 : decode cX12_days 28 = .ok (.aload_n 0, 1) := dk_42 (dk_at dksX12_days_1 4 rfl rfl)
theorem dX12_days_29 : decode cX12_days 29 = .ok (.iconst 4, 1) := dk_7 (dk_at dksX12_days_1 5 rfl rfl)
theorem dX12_days_30 : decode cX12_days 30 = .ok (.invokevirtual 347, 3) := dk_182 1 91 (dk_at dksX12_days_1 6 rfl rfl)
theorem dX12_days_33 : decode cX12_days 33 = .ok (.istore 4, 2) := dk_54 4 (dk_at dksX12_days_1 9 rfl rfl)
theorem dX12_days_35 : decode cX12_days 35 = .ok (.iload_n 2, 1) := dk_28 (dk_at dksX12_days_1 11 rfl rfl)
theorem dX12_days_36 : decode cX12_days 36 = .ok (.aload_n 0, 1) := dk_42 (dk_at dksX12_days_1 12 rfl rfl)
theorem dX12_days_37 : decode cX12_days 37 = .ok (.iload 4, 2) := dk_21 4 (dk_at dksX12_days_1 13 rfl rfl)
theorem dX12_days_39 : decode cX12_days 39 = .ok (.aload_n 0, 1) := dk_42 (dk_at dksX12_days_1 15 rfl rfl)
theorem dX12_days_40 : decode cX12_days 40 = .ok (.bipush 8, 2) := dk_16 8 (dk_at dksX12_days_1 16 rfl rfl)
theorem dX12_days_42 : decode cX12_days 42 = .ok (.invokevirtual 347, 3) := dk_182 1 91 (dk_at dksX12_days_1 18 rfl rfl)
theorem dX12_days_45 : decode cX12_days 45 = .ok (.invokevirtual 352, 3) := dk_182 1 96 (dk_at dksX12_days_1 21 rfl rfl)
theorem dX12_days_48 : decode cX12_days 48 = .ok (.ifCond .eq 7, 3) := dk_153 0 7 (dk_at dksX12_days_2 0 rfl rfl)
theorem dX12_days_51 : decode cX12_days 51 = .ok (.iconst 1, 1) := dk_4 (dk_at dksX12_days_2 3 rfl rfl)
theorem dX12_days_52 : decode cX12_days 52 = .ok (.goto 4, 3) := dk_167 0 4 (dk_at dksX12_days_2 4 rfl rfl)
theorem dX12_days_55 : decode cX12_days 55 = .ok (.iconst 0, 1) := dk_3 (dk_at dksX12_days_2 7 rfl rfl)
theorem dX12_days_56 : decode cX12_days 56 = .ok (.iadd, 1) := dk_96 (dk_at dksX12_days_2 8 rfl rfl)
theorem dX12_days_57 : decode cX12_days 57 = .ok (.istore_n 2, 1) := dk_61 (dk_at dksX12_days_2 9 rfl rfl)
theorem dX12_days_58 : decode cX12_days 58 = .ok (.iinc 3 1, 3) := dk_132 3 1 (dk_at dksX12_days_2 10 rfl rfl)
theorem dX12_days_61 : decode cX12_days 61 = .ok (.goto (-38), 3) := dk_167 255 218 (dk_at dksX12_days_2 13 rfl rfl)
theorem dX12_days_64 : decode cX12_days 64 = .ok (.iload_n 2, 1) := dk_28 (dk_at dksX12_days_2 16 rfl rfl)
theorem dX12_days_65 : decode cX12_days 65 = .ok (.ireturn, 1) := dk_172 (dk_at dksX12_days_2 17 rfl rfl)
abbrev cX12_draw : ByteArray := prog_24_method_97_code
def yX12_draw : MethodName := ⟨RX12, "draw", "(I)I"⟩
def dkwX12_draw_1 : List UInt8 := [4, 46, 16, 16, 124, 27, 112, 172]
abbrev dktX12_draw_1 : List UInt8 := dkwX12_draw_1 ++ []
def dkwX12_draw_0 : List UInt8 := [42, 180, 0, 34, 4, 42, 180, 0, 34, 4, 46, 19, 1, 90, 104, 17, 48, 57, 96, 79, 42, 180, 0, 34]
abbrev dktX12_draw_0 : List UInt8 := dkwX12_draw_0 ++ dktX12_draw_1
theorem dksX12_draw_0 : cX12_draw.data.toList.drop 0 = dktX12_draw_0 := by decide +kernel
theorem dksX12_draw_1 : cX12_draw.data.toList.drop 24 = dktX12_draw_1 := dk_seg dksX12_draw_0 24 rfl rfl
theorem dX12_draw_0 : decode cX12_draw 0 = .ok (.aload_n 0, 1) := dk_42 (dk_at dksX12_draw_0 0 rfl rfl)
theorem dX12_draw_1 : decode cX12_draw 1 = .ok (.getfield 34, 3) := dk_180 0 34 (dk_at dksX12_draw_0 1 rfl rfl)
theorem dX12_draw_4 : decode cX12_draw 4 = .ok (.iconst 1, 1) := dk_4 (dk_at dksX12_draw_0 4 rfl rfl)
theorem dX12_draw_5 : decode cX12_draw 5 = .ok (.aload_n 0, 1) := dk_42 (dk_at dksX12_draw_0 5 rfl rfl)
theorem dX12_draw_6 : decode cX12_draw 6 = .ok (.getfield 34, 3) := dk_180 0 34 (dk_at dksX12_draw_0 6 rfl rfl)
theorem dX12_draw_9 : decode cX12_draw 9 = .ok (.iconst 1, 1) := dk_4 (dk_at dksX12_draw_0 9 rfl rfl)
theorem dX12_draw_10 : decode cX12_draw 10 = .ok (.iaload, 1) := dk_46 (dk_at dksX12_draw_0 10 rfl rfl)
theorem dX12_draw_11 : decode cX12_draw 11 = .ok (.ldc_w 346, 3) := dk_19 1 90 (dk_at dksX12_draw_0 11 rfl rfl)
theorem dX12_draw_14 : decode cX12_draw 14 = .ok (.imul, 1) := dk_104 (dk_at dksX12_draw_0 14 rfl rfl)
theorem dX12_draw_15 : decode cX12_draw 15 = .ok (.sipush 12345, 3) := dk_17 48 57 (dk_at dksX12_draw_0 15 rfl rfl)
theorem dX12_draw_18 : decode cX12_draw 18 = .ok (.iadd, 1) := dk_96 (dk_at dksX12_draw_0 18 rfl rfl)
theorem dX12_draw_19 : decode cX12_draw 19 = .ok (.iastore, 1) := dk_79 (dk_at dksX12_draw_0 19 rfl rfl)
theorem dX12_draw_20 : decode cX12_draw 20 = .ok (.aload_n 0, 1) := dk_42 (dk_at dksX12_draw_0 20 rfl rfl)
theorem dX12_draw_21 : decode cX12_draw 21 = .ok (.getfield 34, 3) := dk_180 0 34 (dk_at dksX12_draw_0 21 rfl rfl)
theorem dX12_draw_24 : decode cX12_draw 24 = .ok (.iconst 1, 1) := dk_4 (dk_at dksX12_draw_1 0 rfl rfl)
theorem dX12_draw_25 : decode cX12_draw 25 = .ok (.iaload, 1) := dk_46 (dk_at dksX12_draw_1 1 rfl rfl)
theorem dX12_draw_26 : decode cX12_draw 26 = .ok (.bipush 16, 2) := dk_16 16 (dk_at dksX12_draw_1 2 rfl rfl)
theorem dX12_draw_28 : decode cX12_draw 28 = .ok (.iushr, 1) := dk_124 (dk_at dksX12_draw_1 4 rfl rfl)
theorem dX12_draw_29 : decode cX12_draw 29 = .ok (.iload_n 1, 1) := dk_27 (dk_at dksX12_draw_1 5 rfl rfl)
theorem dX12_draw_30 : decode cX12_draw 30 = .ok (.irem, 1) := dk_112 (dk_at dksX12_draw_1 6 rfl rfl)
theorem dX12_draw_31 : decode cX12_draw 31 = .ok (.ireturn, 1) := dk_172 (dk_at dksX12_draw_1 7 rfl rfl)
abbrev cX12_isDay : ByteArray := prog_24_method_98_code
def yX12_isDay : MethodName := ⟨RX12, "isDay", "(II)Z"⟩
def dkwX12_isDay_8 : List UInt8 := [160, 0, 5, 3, 172, 42, 27, 182, 1, 47, 4, 172]
abbrev dktX12_isDay_8 : List UInt8 := dkwX12_isDay_8 ++ []
def dkwX12_isDay_7 : List UInt8 := [182, 1, 44, 167, 0, 4, 3, 54, 5, 21, 4, 172, 42, 27, 3, 182, 0, 135, 42, 180, 0, 34, 3, 46]
abbrev dktX12_isDay_7 : List UInt8 := dkwX12_isDay_7 ++ dktX12_isDay_8
def dkwX12_isDay_6 : List UInt8 := [180, 0, 34, 3, 46, 16, 90, 162, 0, 7, 4, 167, 0, 4, 3, 54, 4, 21, 4, 153, 0, 11, 42, 27]
abbrev dktX12_isDay_6 : List UInt8 := dkwX12_isDay_6 ++ dktX12_isDay_7
def dkwX12_isDay_5 : List UInt8 := [167, 0, 4, 3, 172, 28, 16, 6, 160, 0, 50, 42, 27, 4, 182, 0, 135, 4, 160, 0, 18, 42]
abbrev dktX12_isDay_5 : List UInt8 := dkwX12_isDay_5 ++ dktX12_isDay_6
def dkwX12_isDay_4 : List UInt8 := [27, 7, 4, 182, 1, 27, 4, 172, 28, 8, 160, 0, 18, 42, 27, 7, 182, 1, 56, 154, 0, 7, 4]
abbrev dktX12_isDay_4 : List UInt8 := dkwX12_isDay_4 ++ dktX12_isDay_5
def dkwX12_isDay_3 : List UInt8 := [6, 160, 0, 8, 18, 109, 167, 0, 14, 18, 126, 16, 16, 42, 7, 182, 1, 91, 120, 128, 182, 1, 41, 42]
abbrev dktX12_isDay_3 : List UInt8 := dkwX12_isDay_3 ++ dktX12_isDay_4
def dkwX12_isDay_2 : List UInt8 := [28, 8, 162, 0, 54, 29, 154, 0, 5, 3, 172, 42, 29, 182, 1, 91, 54, 4, 42, 27, 21, 4, 4, 28]
abbrev dktX12_isDay_2 : List UInt8 := dkwX12_isDay_2 ++ dktX12_isDay_3
def dkwX12_isDay_1 : List UInt8 := [182, 1, 91, 54, 4, 42, 27, 42, 29, 4, 96, 182, 1, 91, 18, 110, 21, 4, 128, 182, 1, 34, 4, 172]
abbrev dktX12_isDay_1 : List UInt8 := dkwX12_isDay_1 ++ dktX12_isDay_2
def dkwX12_isDay_0 : List UInt8 := [42, 180, 0, 25, 27, 46, 62, 28, 6, 162, 0, 38, 29, 16, 60, 161, 0, 5, 3, 172, 42, 16, 26]
abbrev dktX12_isDay_0 : List UInt8 := dkwX12_isDay_0 ++ dktX12_isDay_1
theorem dksX12_isDay_0 : cX12_isDay.data.toList.drop 0 = dktX12_isDay_0 := by decide +kernel
theorem dksX12_isDay_1 : cX12_isDay.data.toList.drop 23 = dktX12_isDay_1 := dk_seg dksX12_isDay_0 23 rfl rfl
theorem dksX12_isDay_2 : cX12_isDay.data.toList.drop 47 = dktX12_isDay_2 := dk_seg dksX12_isDay_1 24 rfl rfl
theorem dksX12_isDay_3 : cX12_isDay.data.toList.drop 71 = dktX12_isDay_3 := dk_seg dksX12_isDay_2 24 rfl rfl
theorem dksX12_isDay_4 : cX12_isDay.data.toList.drop 95 = dktX12_isDay_4 := dk_seg dksX12_isDay_3 24 rfl rfl
theorem dksX12_isDay_5 : cX12_isDay.data.toList.drop 118 = dktX12_isDay_5 := dk_seg dksX12_isDay_4 23 rfl rfl
theorem dksX12_isDay_6 : cX12_isDay.data.toList.drop 140 = dktX12_isDay_6 := dk_seg dksX12_isDay_5 22 rfl rfl
theorem dksX12_isDay_7 : cX12_isDay.data.toList.drop 164 = dktX12_isDay_7 := dk_seg dksX12_isDay_6 24 rfl rfl
theorem dksX12_isDay_8 : cX12_isDay.data.toList.drop 188 = dktX12_isDay_8 := dk_seg dksX12_isDay_7 24 rfl rfl
theorem dX12_isDay_0 : decode cX12_isDay 0 = .ok (.aload_n 0, 1) := dk_42 (dk_at dksX12_isDay_0 0 rfl rfl)
theorem dX12_isDay_1 : decode cX12_isDay 1 = .ok (.getfield 25, 3) := dk_180 0 25 (dk_at dksX12_isDay_0 1 rfl rfl)
theorem dX12_isDay_4 : decode cX12_isDay 4 = .ok (.iload_n 1, 1) := dk_27 (dk_at dksX12_isDay_0 4 rfl rfl)
theorem dX12_isDay_5 : decode cX12_isDay 5 = .ok (.iaload, 1) := dk_46 (dk_at dksX12_isDay_0 5 rfl rfl)
theorem dX12_isDay_6 : decode cX12_isDay 6 = .ok (.istore_n 3, 1) := dk_62 (dk_at dksX12_isDay_0 6 rfl rfl)
theorem dX12_isDay_7 : decode cX12_isDay 7 = .ok (.iload_n 2, 1) := dk_28 (dk_at dksX12_isDay_0 7 rfl rfl)
theorem dX12_isDay_8 : decode cX12_isDay 8 = .ok (.iconst 3, 1) := dk_6 (dk_at dksX12_isDay_0 8 rfl rfl)
theorem dX12_isDay_9 : decode cX12_isDay 9 = .ok (.if_icmp .ge 38, 3) := dk_162 0 38 (dk_at dksX12_isDay_0 9 rfl rfl)
theorem dX12_isDay_12 : decode cX12_isDay 12 = .ok (.iload_n 3, 1) := dk_29 (dk_at dksX12_isDay_0 12 rfl rfl)
theorem dX12_isDay_13 : decode cX12_isDay 13 = .ok (.bipush 60, 2) := dk_16 60 (dk_at dksX12_isDay_0 13 rfl rfl)
theorem dX12_isDay_15 : decode cX12_isDay 15 = .ok (.if_icmp .lt 5, 3) := dk_161 0 5 (dk_at dksX12_isDay_0 15 rfl rfl)
theorem dX12_isDay_18 : decode cX12_isDay 18 = .ok (.iconst 0, 1) := dk_3 (dk_at dksX12_isDay_0 18 rfl rfl)
theorem dX12_isDay_19 : decode cX12_isDay 19 = .ok (.ireturn, 1) := dk_172 (dk_at dksX12_isDay_0 19 rfl rfl)
theorem dX12_isDay_20 : decode cX12_isDay 20 = .ok (.aload_n 0, 1) := dk_42 (dk_at dksX12_isDay_0 20 rfl rfl)
theorem dX12_isDay_21 : decode cX12_isDay 21 = .ok (.bipush 26, 2) := dk_16 26 (dk_at dksX12_isDay_0 21 rfl rfl)
theorem dX12_isDay_23 : decode cX12_isDay 23 = .ok (.invokevirtual 347, 3) := dk_182 1 91 (dk_at dksX12_isDay_1 0 rfl rfl)
theorem dX12_isDay_26 : decode cX12_isDay 26 = .ok (.istore 4, 2) := dk_54 4 (dk_at dksX12_isDay_1 3 rfl rfl)
theorem dX12_isDay_28 : decode cX12_isDay 28 = .ok (.aload_n 0, 1) := dk_42 (dk_at dksX12_isDay_1 5 rfl rfl)
theorem dX12_isDay_29 : decode cX12_isDay 29 = .ok (.iload_n 1, 1) := dk_27 (dk_at dksX12_isDay_1 6 rfl rfl)
theorem dX12_isDay_30 : decode cX12_isDay 30 = .ok (.aload_n 0, 1) := dk_42 (dk_at dksX12_isDay_1 7 rfl rfl)
theorem dX12_isDay_31 : decode cX12_isDay 31 = .ok (.iload_n 3, 1) := dk_29 (dk_at dksX12_isDay_1 8 rfl rfl)
theorem dX12_isDay_32 : decode cX12_isDay 32 = .ok (.iconst 1, 1) := dk_4 (dk_at dksX12_isDay_1 9 rfl rfl)
theorem dX12_isDay_33 : decode cX12_isDay 33 = .ok (.iadd, 1) := dk_96 (dk_at dksX12_isDay_1 10 rfl rfl)
theorem dX12_isDay_34 : decode cX12_isDay 34 = .ok (.invokevirtual 347, 3) := dk_182 1 91 (dk_at dksX12_isDay_1 11 rfl rfl)
theorem dX12_isDay_37 : decode cX12_isDay 37 = .ok (.ldc 110, 2) := dk_18 110 (dk_at dksX12_isDay_1 14 rfl rfl)
theorem dX12_isDay_39 : decode cX12_isDay 39 = .ok (.iload 4, 2) := dk_21 4 (dk_at dksX12_isDay_1 16 rfl rfl)
theorem dX12_isDay_41 : decode cX12_isDay 41 = .ok (.ior, 1) := dk_128 (dk_at dksX12_isDay_1 18 rfl rfl)
theorem dX12_isDay_42 : decode cX12_isDay 42 = .ok (.invokevirtual 290, 3) := dk_182 1 34 (dk_at dksX12_isDay_1 19 rfl rfl)
theorem dX12_isDay_45 : decode cX12_isDay 45 = .ok (.iconst 1, 1) := dk_4 (dk_at dksX12_isDay_1 22 rfl rfl)
theorem dX12_isDay_46 : decode cX12_isDay 46 = .ok (.ireturn, 1) := dk_172 (dk_at dksX12_isDay_1 23 rfl rfl)
theorem dX12_isDay_47 : decode cX12_isDay 47 = .ok (.iload_n 2, 1) := dk_28 (dk_at dksX12_isDay_2 0 rfl rfl)
theorem dX12_isDay_48 : decode cX12_isDay 48 = .ok (.iconst 5, 1) := dk_8 (dk_at dksX12_isDay_2 1 rfl rfl)
theorem dX12_isDay_49 : decode cX12_isDay 49 = .ok (.if_icmp .ge 54, 3) := dk_162 0 54 (dk_at dksX12_isDay_2 2 rfl rfl)
theorem dX12_isDay_52 : decode cX12_isDay 52 = .ok (.iload_n 3, 1) := dk_29 (dk_at dksX12_isDay_2 5 rfl rfl)
theorem dX12_isDay_53 : decode cX12_isDay 53 = .ok (.ifCond .ne 5, 3) := dk_154 0 5 (dk_at dksX12_isDay_2 6 rfl rfl)
theorem dX12_isDay_56 : decode cX12_isDay 56 = .ok (.iconst 0, 1) := dk_3 (dk_at dksX12_isDay_2 9 rfl rfl)
theorem dX12_isDay_57 : decode cX12_isDay 57 = .ok (.ireturn, 1) := dk_172 (dk_at dksX12_isDay_2 10 rfl rfl)
theorem dX12_isDay_58 : decode cX12_isDay 58 = .ok (.aload_n 0, 1) := dk_42 (dk_at dksX12_isDay_2 11 rfl rfl)
theorem dX12_isDay_59 : decode cX12_isDay 59 = .ok (.iload_n 3, 1) := dk_29 (dk_at dksX12_isDay_2 12 rfl rfl)
theorem dX12_isDay_60 : decode cX12_isDay 60 = .ok (.invokevirtual 347, 3) := dk_182 1 91 (dk_at dksX12_isDay_2 13 rfl rfl)
theorem dX12_isDay_63 : decode cX12_isDay 63 = .ok (.istore 4, 2) := dk_54 4 (dk_at dksX12_isDay_2 16 rfl rfl)
theorem dX12_isDay_65 : decode cX12_isDay 65 = .ok (.aload_n 0, 1) := dk_42 (dk_at dksX12_isDay_2 18 rfl rfl)
theorem dX12_isDay_66 : decode cX12_isDay 66 = .ok (.iload_n 1, 1) := dk_27 (dk_at dksX12_isDay_2 19 rfl rfl)
theorem dX12_isDay_67 : decode cX12_isDay 67 = .ok (.iload 4, 2) := dk_21 4 (dk_at dksX12_isDay_2 20 rfl rfl)
theorem dX12_isDay_69 : decode cX12_isDay 69 = .ok (.iconst 1, 1) := dk_4 (dk_at dksX12_isDay_2 22 rfl rfl)
theorem dX12_isDay_70 : decode cX12_isDay 70 = .ok (.iload_n 2, 1) := dk_28 (dk_at dksX12_isDay_2 23 rfl rfl)
theorem dX12_isDay_71 : decode cX12_isDay 71 = .ok (.iconst 3, 1) := dk_6 (dk_at dksX12_isDay_3 0 rfl rfl)
theorem dX12_isDay_72 : decode cX12_isDay 72 = .ok (.if_icmp .ne 8, 3) := dk_160 0 8 (dk_at dksX12_isDay_3 1 rfl rfl)
theorem dX12_isDay_75 : decode cX12_isDay 75 = .ok (.ldc 109, 2) := dk_18 109 (dk_at dksX12_isDay_3 4 rfl rfl)
theorem dX12_isDay_77 : decode cX12_isDay 77 = .ok (.goto 14, 3) := dk_167 0 14 (dk_at dksX12_isDay_3 6 rfl rfl)
theorem dX12_isDay_80 : decode cX12_isDay 80 = .ok (.ldc 126, 2) := dk_18 126 (dk_at dksX12_isDay_3 9 rfl rfl)
theorem dX12_isDay_82 : decode cX12_isDay 82 = .ok (.bipush 16, 2) := dk_16 16 (dk_at dksX12_isDay_3 11 rfl rfl)
theorem dX12_isDay_84 : decode cX12_isDay 84 = .ok (.aload_n 0, 1) := dk_42 (dk_at dksX12_isDay_3 13 rfl rfl)
theorem dX12_isDay_85 : decode cX12_isDay 85 = .ok (.iconst 4, 1) := dk_7 (dk_at dksX12_isDay_3 14 rfl rfl)
theorem dX12_isDay_86 : decode cX12_isDay 86 = .ok (.invokevirtual 347, 3) := dk_182 1 91 (dk_at dksX12_isDay_3 15 rfl rfl)
theorem dX12_isDay_89 : decode cX12_isDay 89 = .ok (.ishl, 1) := dk_120 (dk_at dksX12_isDay_3 18 rfl rfl)
theorem dX12_isDay_90 : decode cX12_isDay 90 = .ok (.ior, 1) := dk_128 (dk_at dksX12_isDay_3 19 rfl rfl)
theorem dX12_isDay_91 : decode cX12_isDay 91 = .ok (.invokevirtual 297, 3) := dk_182 1 41 (dk_at dksX12_isDay_3 20 rfl rfl)
theorem dX12_isDay_94 : decode cX12_isDay 94 = .ok (.aload_n 0, 1) := dk_42 (dk_at dksX12_isDay_3 23 rfl rfl)
theorem dX12_isDay_95 : decode cX12_isDay 95 = .ok (.iload_n 1, 1) := dk_27 (dk_at dksX12_isDay_4 0 rfl rfl)
theorem dX12_isDay_96 : decode cX12_isDay 96 = .ok (.iconst 4, 1) := dk_7 (dk_at dksX12_isDay_4 1 rfl rfl)
theorem dX12_isDay_97 : decode cX12_isDay 97 = .ok (.iconst 1, 1) := dk_4 (dk_at dksX12_isDay_4 2 rfl rfl)
theorem dX12_isDay_98 : decode cX12_isDay 98 = .ok (.invokevirtual 283, 3) := dk_182 1 27 (dk_at dksX12_isDay_4 3 rfl rfl)
theorem dX12_isDay_101 : decode cX12_isDay 101 = .ok (.iconst 1, 1) := dk_4 (dk_at dksX12_isDay_4 6 rfl rfl)
theorem dX12_isDay_102 : decode cX12_isDay 102 = .ok (.ireturn, 1) := dk_172 (dk_at dksX12_isDay_4 7 rfl rfl)
theorem dX12_isDay_103 : decode cX12_isDay 103 = .ok (.iload_n 2, 1) := dk_28 (dk_at dksX12_isDay_4 8 rfl rfl)
theorem dX12_isDay_104 : decode cX12_isDay 104 = .ok (.iconst 5, 1) := dk_8 (dk_at dksX12_isDay_4 9 rfl rfl)
theorem dX12_isDay_105 : decode cX12_isDay 105 = .ok (.if_icmp .ne 18, 3) := dk_160 0 18 (dk_at dksX12_isDay_4 10 rfl rfl)
theorem dX12_isDay_108 : decode cX12_isDay 108 = .ok (.aload_n 0, 1) := dk_42 (dk_at dksX12_isDay_4 13 rfl rfl)
theorem dX12_isDay_109 : decode cX12_isDay 109 = .ok (.iload_n 1, 1) := dk_27 (dk_at dksX12_isDay_4 14 rfl rfl)
theorem dX12_isDay_110 : decode cX12_isDay 110 = .ok (.iconst 4, 1) := dk_7 (dk_at dksX12_isDay_4 15 rfl rfl)
theorem dX12_isDay_111 : decode cX12_isDay 111 = .ok (.invokevirtual 312, 3) := dk_182 1 56 (dk_at dksX12_isDay_4 16 rfl rfl)
theorem dX12_isDay_114 : decode cX12_isDay 114 = .ok (.ifCond .ne 7, 3) := dk_154 0 7 (dk_at dksX12_isDay_4 19 rfl rfl)
theorem dX12_isDay_117 : decode cX12_isDay 117 = .ok (.iconst 1, 1) := dk_4 (dk_at dksX12_isDay_4 22 rfl rfl)
theorem dX12_isDay_118 : decode cX12_isDay 118 = .ok (.goto 4, 3) := dk_167 0 4 (dk_at dksX12_isDay_5 0 rfl rfl)
theorem dX12_isDay_121 : decode cX12_isDay 121 = .ok (.iconst 0, 1) := dk_3 (dk_at dksX12_isDay_5 3 rfl rfl)
theorem dX12_isDay_122 : decode cX12_isDay 122 = .ok (.ireturn, 1) := dk_172 (dk_at dksX12_isDay_5 4 rfl rfl)
theorem dX12_isDay_123 : decode cX12_isDay 123 = .ok (.iload_n 2, 1) := dk_28 (dk_at dksX12_isDay_5 5 rfl rfl)
theorem dX12_isDay_124 : decode cX12_isDay 124 = .ok (.bipush 6, 2) := dk_16 6 (dk_at dksX12_isDay_5 6 rfl rfl)
theorem dX12_isDay_126 : decode cX12_isDay 126 = .ok (.if_icmp .ne 50, 3) := dk_160 0 50 (dk_at dksX12_isDay_5 8 rfl rfl)
theorem dX12_isDay_129 : decode cX12_isDay 129 = .ok (.aload_n 0, 1) := dk_42 (dk_at dksX12_isDay_5 11 rfl rfl)
theorem dX12_isDay_130 : decode cX12_isDay 130 = .ok (.iload_n 1, 1) := dk_27 (dk_at dksX12_isDay_5 12 rfl rfl)
theorem dX12_isDay_131 : decode cX12_isDay 131 = .ok (.iconst 1, 1) := dk_4 (dk_at dksX12_isDay_5 13 rfl rfl)
theorem dX12_isDay_132 : decode cX12_isDay 132 = .ok (.invokevirtual 135, 3) := dk_182 0 135 (dk_at dksX12_isDay_5 14 rfl rfl)
theorem dX12_isDay_135 : decode cX12_isDay 135 = .ok (.iconst 1, 1) := dk_4 (dk_at dksX12_isDay_5 17 rfl rfl)
theorem dX12_isDay_136 : decode cX12_isDay 136 = .ok (.if_icmp .ne 18, 3) := dk_160 0 18 (dk_at dksX12_isDay_5 18 rfl rfl)
theorem dX12_isDay_139 : decode cX12_isDay 139 = .ok (.aload_n 0, 1) := dk_42 (dk_at dksX12_isDay_5 21 rfl rfl)
theorem dX12_isDay_140 : decode cX12_isDay 140 = .ok (.getfield 34, 3) := dk_180 0 34 (dk_at dksX12_isDay_6 0 rfl rfl)
theorem dX12_isDay_143 : decode cX12_isDay 143 = .ok (.iconst 0, 1) := dk_3 (dk_at dksX12_isDay_6 3 rfl rfl)
theorem dX12_isDay_144 : decode cX12_isDay 144 = .ok (.iaload, 1) := dk_46 (dk_at dksX12_isDay_6 4 rfl rfl)
theorem dX12_isDay_145 : decode cX12_isDay 145 = .ok (.bipush 90, 2) := dk_16 90 (dk_at dksX12_isDay_6 5 rfl rfl)
theorem dX12_isDay_147 : decode cX12_isDay 147 = .ok (.if_icmp .ge 7, 3) := dk_162 0 7 (dk_at dksX12_isDay_6 7 rfl rfl)
theorem dX12_isDay_150 : decode cX12_isDay 150 = .ok (.iconst 1, 1) := dk_4 (dk_at dksX12_isDay_6 10 rfl rfl)
theorem dX12_isDay_151 : decode cX12_isDay 151 = .ok (.goto 4, 3) := dk_167 0 4 (dk_at dksX12_isDay_6 11 rfl rfl)
theorem dX12_isDay_154 : decode cX12_isDay 154 = .ok (.iconst 0, 1) := dk_3 (dk_at dksX12_isDay_6 14 rfl rfl)
theorem dX12_isDay_155 : decode cX12_isDay 155 = .ok (.istore 4, 2) := dk_54 4 (dk_at dksX12_isDay_6 15 rfl rfl)
theorem dX12_isDay_157 : decode cX12_isDay 157 = .ok (.iload 4, 2) := dk_21 4 (dk_at dksX12_isDay_6 17 rfl rfl)
theorem dX12_isDay_159 : decode cX12_isDay 159 = .ok (.ifCond .eq 11, 3) := dk_153 0 11 (dk_at dksX12_isDay_6 19 rfl rfl)
theorem dX12_isDay_162 : decode cX12_isDay 162 = .ok (.aload_n 0, 1) := dk_42 (dk_at dksX12_isDay_6 22 rfl rfl)
theorem dX12_isDay_163 : decode cX12_isDay 163 = .ok (.iload_n 1, 1) := dk_27 (dk_at dksX12_isDay_6 23 rfl rfl)
theorem dX12_isDay_164 : decode cX12_isDay 164 = .ok (.invokevirtual 300, 3) := dk_182 1 44 (dk_at dksX12_isDay_7 0 rfl rfl)
theorem dX12_isDay_167 : decode cX12_isDay 167 = .ok (.goto 4, 3) := dk_167 0 4 (dk_at dksX12_isDay_7 3 rfl rfl)
theorem dX12_isDay_170 : decode cX12_isDay 170 = .ok (.iconst 0, 1) := dk_3 (dk_at dksX12_isDay_7 6 rfl rfl)
theorem dX12_isDay_171 : decode cX12_isDay 171 = .ok (.istore 5, 2) := dk_54 5 (dk_at dksX12_isDay_7 7 rfl rfl)
theorem dX12_isDay_173 : decode cX12_isDay 173 = .ok (.iload 4, 2) := dk_21 4 (dk_at dksX12_isDay_7 9 rfl rfl)
theorem dX12_isDay_175 : decode cX12_isDay 175 = .ok (.ireturn, 1) := dk_172 (dk_at dksX12_isDay_7 11 rfl rfl)
theorem dX12_isDay_176 : decode cX12_isDay 176 = .ok (.aload_n 0, 1) := dk_42 (dk_at dksX12_isDay_7 12 rfl rfl)
theorem dX12_isDay_177 : decode cX12_isDay 177 = .ok (.iload_n 1, 1) := dk_27 (dk_at dksX12_isDay_7 13 rfl rfl)
theorem dX12_isDay_178 : decode cX12_isDay 178 = .ok (.iconst 0, 1) := dk_3 (dk_at dksX12_isDay_7 14 rfl rfl)
theorem dX12_isDay_179 : decode cX12_isDay 179 = .ok (.invokevirtual 135, 3) := dk_182 0 135 (dk_at dksX12_isDay_7 15 rfl rfl)
theorem dX12_isDay_182 : decode cX12_isDay 182 = .ok (.aload_n 0, 1) := dk_42 (dk_at dksX12_isDay_7 18 rfl rfl)
theorem dX12_isDay_183 : decode cX12_isDay 183 = .ok (.getfield 34, 3) := dk_180 0 34 (dk_at dksX12_isDay_7 19 rfl rfl)
theorem dX12_isDay_186 : decode cX12_isDay 186 = .ok (.iconst 0, 1) := dk_3 (dk_at dksX12_isDay_7 22 rfl rfl)
theorem dX12_isDay_187 : decode cX12_isDay 187 = .ok (.iaload, 1) := dk_46 (dk_at dksX12_isDay_7 23 rfl rfl)
theorem dX12_isDay_188 : decode cX12_isDay 188 = .ok (.if_icmp .ne 5, 3) := dk_160 0 5 (dk_at dksX12_isDay_8 0 rfl rfl)
theorem dX12_isDay_191 : decode cX12_isDay 191 = .ok (.iconst 0, 1) := dk_3 (dk_at dksX12_isDay_8 3 rfl rfl)
theorem dX12_isDay_192 : decode cX12_isDay 192 = .ok (.ireturn, 1) := dk_172 (dk_at dksX12_isDay_8 4 rfl rfl)
theorem dX12_isDay_193 : decode cX12_isDay 193 = .ok (.aload_n 0, 1) := dk_42 (dk_at dksX12_isDay_8 5 rfl rfl)
theorem dX12_isDay_194 : decode cX12_isDay 194 = .ok (.iload_n 1, 1) := dk_27 (dk_at dksX12_isDay_8 6 rfl rfl)
theorem dX12_isDay_195 : decode cX12_isDay 195 = .ok (.invokevirtual 303, 3) := dk_182 1 47 (dk_at dksX12_isDay_8 7 rfl rfl)
theorem dX12_isDay_198 : decode cX12_isDay 198 = .ok (.iconst 1, 1) := dk_4 (dk_at dksX12_isDay_8 10 rfl rfl)
theorem dX12_isDay_199 : decode cX12_isDay 199 = .ok (.ireturn, 1) := dk_172 (dk_at dksX12_isDay_8 11 rfl rfl)
abbrev cX12_seed : ByteArray := prog_24_method_100_code
def yX12_seed : MethodName := ⟨RX12, "seed", "(I)I"⟩
def dkwX12_seed_0 : List UInt8 := [42, 180, 0, 34, 4, 46, 61, 42, 180, 0, 34, 4, 27, 79, 28, 172]
abbrev dktX12_seed_0 : List UInt8 := dkwX12_seed_0 ++ []
theorem dksX12_seed_0 : cX12_seed.data.toList.drop 0 = dktX12_seed_0 := by decide +kernel
theorem dX12_seed_0 : decode cX12_seed 0 = .ok (.aload_n 0, 1) := dk_42 (dk_at dksX12_seed_0 0 rfl rfl)
theorem dX12_seed_1 : decode cX12_seed 1 = .ok (.getfield 34, 3) := dk_180 0 34 (dk_at dksX12_seed_0 1 rfl rfl)
theorem dX12_seed_4 : decode cX12_seed 4 = .ok (.iconst 1, 1) := dk_4 (dk_at dksX12_seed_0 4 rfl rfl)
theorem dX12_seed_5 : decode cX12_seed 5 = .ok (.iaload, 1) := dk_46 (dk_at dksX12_seed_0 5 rfl rfl)
theorem dX12_seed_6 : decode cX12_seed 6 = .ok (.istore_n 2, 1) := dk_61 (dk_at dksX12_seed_0 6 rfl rfl)
theorem dX12_seed_7 : decode cX12_seed 7 = .ok (.aload_n 0, 1) := dk_42 (dk_at dksX12_seed_0 7 rfl rfl)
theorem dX12_seed_8 : decode cX12_seed 8 = .ok (.getfield 34, 3) := dk_180 0 34 (dk_at dksX12_seed_0 8 rfl rfl)
theorem dX12_seed_11 : decode cX12_seed 11 = .ok (.iconst 1, 1) := dk_4 (dk_at dksX12_seed_0 11 rfl rfl)
theorem dX12_seed_12 : decode cX12_seed 12 = .ok (.iload_n 1, 1) := dk_27 (dk_at dksX12_seed_0 12 rfl rfl)
theorem dX12_seed_13 : decode cX12_seed 13 = .ok (.iastore, 1) := dk_79 (dk_at dksX12_seed_0 13 rfl rfl)
theorem dX12_seed_14 : decode cX12_seed 14 = .ok (.iload_n 2, 1) := dk_28 (dk_at dksX12_seed_0 14 rfl rfl)
theorem dX12_seed_15 : decode cX12_seed 15 = .ok (.ireturn, 1) := dk_172 (dk_at dksX12_seed_0 15 rfl rfl)
abbrev cX12_image : ByteArray := prog_24_method_103_code
def yX12_image : MethodName := ⟨RX12, "image", "()I"⟩
def dkwX12_image_3 : List UInt8 := [180, 0, 34, 42, 180, 0, 89, 5, 184, 1, 99, 42, 4, 181, 1, 107, 4, 172]
abbrev dktX12_image_3 : List UInt8 := dkwX12_image_3 ++ []
def dkwX12_image_2 : List UInt8 := [180, 0, 83, 16, 32, 184, 1, 99, 42, 180, 0, 31, 42, 180, 0, 86, 16, 91, 184, 1, 99, 42]
abbrev dktX12_image_2 : List UInt8 := dkwX12_image_2 ++ dktX12_image_3
def dkwX12_image_1 : List UInt8 := [180, 0, 22, 42, 180, 0, 25, 3, 42, 180, 0, 77, 42, 180, 0, 80, 184, 1, 103, 42, 180, 0, 28, 42]
abbrev dktX12_image_1 : List UInt8 := dkwX12_image_1 ++ dktX12_image_2
def dkwX12_image_0 : List UInt8 := [42, 180, 0, 11, 42, 180, 0, 14, 16, 12, 42, 180, 0, 71, 42, 180, 0, 74, 184, 1, 103, 42]
abbrev dktX12_image_0 : List UInt8 := dkwX12_image_0 ++ dktX12_image_1
theorem dksX12_image_0 : cX12_image.data.toList.drop 0 = dktX12_image_0 := by decide +kernel
theorem dksX12_image_1 : cX12_image.data.toList.drop 22 = dktX12_image_1 := dk_seg dksX12_image_0 22 rfl rfl
theorem dksX12_image_2 : cX12_image.data.toList.drop 46 = dktX12_image_2 := dk_seg dksX12_image_1 24 rfl rfl
theorem dksX12_image_3 : cX12_image.data.toList.drop 68 = dktX12_image_3 := dk_seg dksX12_image_2 22 rfl rfl
theorem dX12_image_0 : decode cX12_image 0 = .ok (.aload_n 0, 1) := dk_42 (dk_at dksX12_image_0 0 rfl rfl)
theorem dX12_image_1 : decode cX12_image 1 = .ok (.getfield 11, 3) := dk_180 0 11 (dk_at dksX12_image_0 1 rfl rfl)
theorem dX12_image_4 : decode cX12_image 4 = .ok (.aload_n 0, 1) := dk_42 (dk_at dksX12_image_0 4 rfl rfl)
theorem dX12_image_5 : decode cX12_image 5 = .ok (.getfield 14, 3) := dk_180 0 14 (dk_at dksX12_image_0 5 rfl rfl)
theorem dX12_image_8 : decode cX12_image 8 = .ok (.bipush 12, 2) := dk_16 12 (dk_at dksX12_image_0 8 rfl rfl)
theorem dX12_image_10 : decode cX12_image 10 = .ok (.aload_n 0, 1) := dk_42 (dk_at dksX12_image_0 10 rfl rfl)
theorem dX12_image_11 : decode cX12_image 11 = .ok (.getfield 71, 3) := dk_180 0 71 (dk_at dksX12_image_0 11 rfl rfl)
theorem dX12_image_14 : decode cX12_image 14 = .ok (.aload_n 0, 1) := dk_42 (dk_at dksX12_image_0 14 rfl rfl)
theorem dX12_image_15 : decode cX12_image 15 = .ok (.getfield 74, 3) := dk_180 0 74 (dk_at dksX12_image_0 15 rfl rfl)
theorem dX12_image_18 : decode cX12_image 18 = .ok (.invokestatic 359, 3) := dk_184 1 103 (dk_at dksX12_image_0 18 rfl rfl)
theorem dX12_image_21 : decode cX12_image 21 = .ok (.aload_n 0, 1) := dk_42 (dk_at dksX12_image_0 21 rfl rfl)
theorem dX12_image_22 : decode cX12_image 22 = .ok (.getfield 22, 3) := dk_180 0 22 (dk_at dksX12_image_1 0 rfl rfl)
theorem dX12_image_25 : decode cX12_image 25 = .ok (.aload_n 0, 1) := dk_42 (dk_at dksX12_image_1 3 rfl rfl)
theorem dX12_image_26 : decode cX12_image 26 = .ok (.getfield 25, 3) := dk_180 0 25 (dk_at dksX12_image_1 4 rfl rfl)
theorem dX12_image_29 : decode cX12_image 29 = .ok (.iconst 0, 1) := dk_3 (dk_at dksX12_image_1 7 rfl rfl)
theorem dX12_image_30 : decode cX12_image 30 = .ok (.aload_n 0, 1) := dk_42 (dk_at dksX12_image_1 8 rfl rfl)
theorem dX12_image_31 : decode cX12_image 31 = .ok (.getfield 77, 3) := dk_180 0 77 (dk_at dksX12_image_1 9 rfl rfl)
theorem dX12_image_34 : decode cX12_image 34 = .ok (.aload_n 0, 1) := dk_42 (dk_at dksX12_image_1 12 rfl rfl)
theorem dX12_image_35 : decode cX12_image 35 = .ok (.getfield 80, 3) := dk_180 0 80 (dk_at dksX12_image_1 13 rfl rfl)
theorem dX12_image_38 : decode cX12_image 38 = .ok (.invokestatic 359, 3) := dk_184 1 103 (dk_at dksX12_image_1 16 rfl rfl)
theorem dX12_image_41 : decode cX12_image 41 = .ok (.aload_n 0, 1) := dk_42 (dk_at dksX12_image_1 19 rfl rfl)
theorem dX12_image_42 : decode cX12_image 42 = .ok (.getfield 28, 3) := dk_180 0 28 (dk_at dksX12_image_1 20 rfl rfl)
theorem dX12_image_45 : decode cX12_image 45 = .ok (.aload_n 0, 1) := dk_42 (dk_at dksX12_image_1 23 rfl rfl)
theorem dX12_image_46 : decode cX12_image 46 = .ok (.getfield 83, 3) := dk_180 0 83 (dk_at dksX12_image_2 0 rfl rfl)
theorem dX12_image_49 : decode cX12_image 49 = .ok (.bipush 32, 2) := dk_16 32 (dk_at dksX12_image_2 3 rfl rfl)
theorem dX12_image_51 : decode cX12_image 51 = .ok (.invokestatic 355, 3) := dk_184 1 99 (dk_at dksX12_image_2 5 rfl rfl)
theorem dX12_image_54 : decode cX12_image 54 = .ok (.aload_n 0, 1) := dk_42 (dk_at dksX12_image_2 8 rfl rfl)
theorem dX12_image_55 : decode cX12_image 55 = .ok (.getfield 31, 3) := dk_180 0 31 (dk_at dksX12_image_2 9 rfl rfl)
theorem dX12_image_58 : decode cX12_image 58 = .ok (.aload_n 0, 1) := dk_42 (dk_at dksX12_image_2 12 rfl rfl)
theorem dX12_image_59 : decode cX12_image 59 = .ok (.getfield 86, 3) := dk_180 0 86 (dk_at dksX12_image_2 13 rfl rfl)
theorem dX12_image_62 : decode cX12_image 62 = .ok (.bipush 91, 2) := dk_16 91 (dk_at dksX12_image_2 16 rfl rfl)
theorem dX12_image_64 : decode cX12_image 64 = .ok (.invokestatic 355, 3) := dk_184 1 99 (dk_at dksX12_image_2 18 rfl rfl)
theorem dX12_image_67 : decode cX12_image 67 = .ok (.aload_n 0, 1) := dk_42 (dk_at dksX12_image_2 21 rfl rfl)
theorem dX12_image_68 : decode cX12_image 68 = .ok (.getfield 34, 3) := dk_180 0 34 (dk_at dksX12_image_3 0 rfl rfl)
theorem dX12_image_71 : decode cX12_image 71 = .ok (.aload_n 0, 1) := dk_42 (dk_at dksX12_image_3 3 rfl rfl)
theorem dX12_image_72 : decode cX12_image 72 = .ok (.getfield 89, 3) := dk_180 0 89 (dk_at dksX12_image_3 4 rfl rfl)
theorem dX12_image_75 : decode cX12_image 75 = .ok (.iconst 2, 1) := dk_5 (dk_at dksX12_image_3 7 rfl rfl)
theorem dX12_image_76 : decode cX12_image 76 = .ok (.invokestatic 355, 3) := dk_184 1 99 (dk_at dksX12_image_3 8 rfl rfl)
theorem dX12_image_79 : decode cX12_image 79 = .ok (.aload_n 0, 1) := dk_42 (dk_at dksX12_image_3 11 rfl rfl)
theorem dX12_image_80 : decode cX12_image 80 = .ok (.iconst 1, 1) := dk_4 (dk_at dksX12_image_3 12 rfl rfl)
theorem dX12_image_81 : decode cX12_image 81 = .ok (.putfield 363, 3) := dk_181 1 107 (dk_at dksX12_image_3 13 rfl rfl)
theorem dX12_image_84 : decode cX12_image 84 = .ok (.iconst 1, 1) := dk_4 (dk_at dksX12_image_3 16 rfl rfl)
theorem dX12_image_85 : decode cX12_image 85 = .ok (.ireturn, 1) := dk_172 (dk_at dksX12_image_3 17 rfl rfl)
abbrev cX12_copiesRows : ByteArray := prog_24_method_102_code
def yX12_copiesRows : MethodName := ⟨RX12, "copiesRows", "([[I[II[[I[I)V"⟩
def dkwX12_copiesRows_2 : List UInt8 := [79, 132, 5, 1, 167, 255, 207, 177]
abbrev dktX12_copiesRows_2 : List UInt8 := dkwX12_copiesRows_2 ++ []
def dkwX12_copiesRows_1 : List UInt8 := [83, 42, 21, 5, 50, 45, 21, 5, 50, 43, 21, 5, 46, 184, 1, 99, 25, 4, 21, 5, 43, 21, 5, 46]
abbrev dktX12_copiesRows_1 : List UInt8 := dkwX12_copiesRows_1 ++ dktX12_copiesRows_2
def dkwX12_copiesRows_0 : List UInt8 := [28, 54, 5, 21, 5, 43, 190, 162, 0, 48, 45, 21, 5, 45, 21, 5, 50, 43, 21, 5, 46, 184, 0, 93]
abbrev dktX12_copiesRows_0 : List UInt8 := dkwX12_copiesRows_0 ++ dktX12_copiesRows_1
theorem dksX12_copiesRows_0 : cX12_copiesRows.data.toList.drop 0 = dktX12_copiesRows_0 := by decide +kernel
theorem dksX12_copiesRows_1 : cX12_copiesRows.data.toList.drop 24 = dktX12_copiesRows_1 := dk_seg dksX12_copiesRows_0 24 rfl rfl
theorem dksX12_copiesRows_2 : cX12_copiesRows.data.toList.drop 48 = dktX12_copiesRows_2 := dk_seg dksX12_copiesRows_1 24 rfl rfl
theorem dX12_copiesRows_0 : decode cX12_copiesRows 0 = .ok (.iload_n 2, 1) := dk_28 (dk_at dksX12_copiesRows_0 0 rfl rfl)
theorem dX12_copiesRows_1 : decode cX12_copiesRows 1 = .ok (.istore 5, 2) := dk_54 5 (dk_at dksX12_copiesRows_0 1 rfl rfl)
theorem dX12_copiesRows_3 : decode cX12_copiesRows 3 = .ok (.iload 5, 2) := dk_21 5 (dk_at dksX12_copiesRows_0 3 rfl rfl)
theorem dX12_copiesRows_5 : decode cX12_copiesRows 5 = .ok (.aload_n 1, 1) := dk_43 (dk_at dksX12_copiesRows_0 5 rfl rfl)
theorem dX12_copiesRows_6 : decode cX12_copiesRows 6 = .ok (.arraylength, 1) := dk_190 (dk_at dksX12_copiesRows_0 6 rfl rfl)
theorem dX12_copiesRows_7 : decode cX12_copiesRows 7 = .ok (.if_icmp .ge 48, 3) := dk_162 0 48 (dk_at dksX12_copiesRows_0 7 rfl rfl)
theorem dX12_copiesRows_10 : decode cX12_copiesRows 10 = .ok (.aload_n 3, 1) := dk_45 (dk_at dksX12_copiesRows_0 10 rfl rfl)
theorem dX12_copiesRows_11 : decode cX12_copiesRows 11 = .ok (.iload 5, 2) := dk_21 5 (dk_at dksX12_copiesRows_0 11 rfl rfl)
theorem dX12_copiesRows_13 : decode cX12_copiesRows 13 = .ok (.aload_n 3, 1) := dk_45 (dk_at dksX12_copiesRows_0 13 rfl rfl)
theorem dX12_copiesRows_14 : decode cX12_copiesRows 14 = .ok (.iload 5, 2) := dk_21 5 (dk_at dksX12_copiesRows_0 14 rfl rfl)
theorem dX12_copiesRows_16 : decode cX12_copiesRows 16 = .ok (.aaload, 1) := dk_50 (dk_at dksX12_copiesRows_0 16 rfl rfl)
theorem dX12_copiesRows_17 : decode cX12_copiesRows 17 = .ok (.aload_n 1, 1) := dk_43 (dk_at dksX12_copiesRows_0 17 rfl rfl)
theorem dX12_copiesRows_18 : decode cX12_copiesRows 18 = .ok (.iload 5, 2) := dk_21 5 (dk_at dksX12_copiesRows_0 18 rfl rfl)
theorem dX12_copiesRows_20 : decode cX12_copiesRows 20 = .ok (.iaload, 1) := dk_46 (dk_at dksX12_copiesRows_0 20 rfl rfl)
theorem dX12_copiesRows_21 : decode cX12_copiesRows 21 = .ok (.invokestatic 93, 3) := dk_184 0 93 (dk_at dksX12_copiesRows_0 21 rfl rfl)
theorem dX12_copiesRows_24 : decode cX12_copiesRows 24 = .ok (.aastore, 1) := dk_83 (dk_at dksX12_copiesRows_1 0 rfl rfl)
theorem dX12_copiesRows_25 : decode cX12_copiesRows 25 = .ok (.aload_n 0, 1) := dk_42 (dk_at dksX12_copiesRows_1 1 rfl rfl)
theorem dX12_copiesRows_26 : decode cX12_copiesRows 26 = .ok (.iload 5, 2) := dk_21 5 (dk_at dksX12_copiesRows_1 2 rfl rfl)
theorem dX12_copiesRows_28 : decode cX12_copiesRows 28 = .ok (.aaload, 1) := dk_50 (dk_at dksX12_copiesRows_1 4 rfl rfl)
theorem dX12_copiesRows_29 : decode cX12_copiesRows 29 = .ok (.aload_n 3, 1) := dk_45 (dk_at dksX12_copiesRows_1 5 rfl rfl)
theorem dX12_copiesRows_30 : decode cX12_copiesRows 30 = .ok (.iload 5, 2) := dk_21 5 (dk_at dksX12_copiesRows_1 6 rfl rfl)
theorem dX12_copiesRows_32 : decode cX12_copiesRows 32 = .ok (.aaload, 1) := dk_50 (dk_at dksX12_copiesRows_1 8 rfl rfl)
theorem dX12_copiesRows_33 : decode cX12_copiesRows 33 = .ok (.aload_n 1, 1) := dk_43 (dk_at dksX12_copiesRows_1 9 rfl rfl)
theorem dX12_copiesRows_34 : decode cX12_copiesRows 34 = .ok (.iload 5, 2) := dk_21 5 (dk_at dksX12_copiesRows_1 10 rfl rfl)
theorem dX12_copiesRows_36 : decode cX12_copiesRows 36 = .ok (.iaload, 1) := dk_46 (dk_at dksX12_copiesRows_1 12 rfl rfl)
theorem dX12_copiesRows_37 : decode cX12_copiesRows 37 = .ok (.invokestatic 355, 3) := dk_184 1 99 (dk_at dksX12_copiesRows_1 13 rfl rfl)
theorem dX12_copiesRows_40 : decode cX12_copiesRows 40 = .ok (.aload 4, 2) := dk_25 4 (dk_at dksX12_copiesRows_1 16 rfl rfl)
theorem dX12_copiesRows_42 : decode cX12_copiesRows 42 = .ok (.iload 5, 2) := dk_21 5 (dk_at dksX12_copiesRows_1 18 rfl rfl)
theorem dX12_copiesRows_44 : decode cX12_copiesRows 44 = .ok (.aload_n 1, 1) := dk_43 (dk_at dksX12_copiesRows_1 20 rfl rfl)
theorem dX12_copiesRows_45 : decode cX12_copiesRows 45 = .ok (.iload 5, 2) := dk_21 5 (dk_at dksX12_copiesRows_1 21 rfl rfl)
theorem dX12_copiesRows_47 : decode cX12_copiesRows 47 = .ok (.iaload, 1) := dk_46 (dk_at dksX12_copiesRows_1 23 rfl rfl)
theorem dX12_copiesRows_48 : decode cX12_copiesRows 48 = .ok (.iastore, 1) := dk_79 (dk_at dksX12_copiesRows_2 0 rfl rfl)
theorem dX12_copiesRows_49 : decode cX12_copiesRows 49 = .ok (.iinc 5 1, 3) := dk_132 5 1 (dk_at dksX12_copiesRows_2 1 rfl rfl)
theorem dX12_copiesRows_52 : decode cX12_copiesRows 52 = .ok (.goto (-49), 3) := dk_167 255 207 (dk_at dksX12_copiesRows_2 4 rfl rfl)
theorem dX12_copiesRows_55 : decode cX12_copiesRows 55 = .ok (.return_, 1) := dk_177 (dk_at dksX12_copiesRows_2 7 rfl rfl)
abbrev cX12_copies : ByteArray := prog_24_method_101_code
def yX12_copies : MethodName := ⟨RX12, "copies", "([I[II)V"⟩
def dkwX12_copies_0 : List UInt8 := [3, 62, 29, 28, 162, 0, 15, 43, 29, 42, 29, 46, 79, 132, 3, 1, 167, 255, 242, 177]
abbrev dktX12_copies_0 : List UInt8 := dkwX12_copies_0 ++ []
theorem dksX12_copies_0 : cX12_copies.data.toList.drop 0 = dktX12_copies_0 := by decide +kernel
theorem dX12_copies_0 : decode cX12_copies 0 = .ok (.iconst 0, 1) := dk_3 (dk_at dksX12_copies_0 0 rfl rfl)
theorem dX12_copies_1 : decode cX12_copies 1 = .ok (.istore_n 3, 1) := dk_62 (dk_at dksX12_copies_0 1 rfl rfl)
theorem dX12_copies_2 : decode cX12_copies 2 = .ok (.iload_n 3, 1) := dk_29 (dk_at dksX12_copies_0 2 rfl rfl)
theorem dX12_copies_3 : decode cX12_copies 3 = .ok (.iload_n 2, 1) := dk_28 (dk_at dksX12_copies_0 3 rfl rfl)
theorem dX12_copies_4 : decode cX12_copies 4 = .ok (.if_icmp .ge 15, 3) := dk_162 0 15 (dk_at dksX12_copies_0 4 rfl rfl)
theorem dX12_copies_7 : decode cX12_copies 7 = .ok (.aload_n 1, 1) := dk_43 (dk_at dksX12_copies_0 7 rfl rfl)
theorem dX12_copies_8 : decode cX12_copies 8 = .ok (.iload_n 3, 1) := dk_29 (dk_at dksX12_copies_0 8 rfl rfl)
theorem dX12_copies_9 : decode cX12_copies 9 = .ok (.aload_n 0, 1) := dk_42 (dk_at dksX12_copies_0 9 rfl rfl)
theorem dX12_copies_10 : decode cX12_copies 10 = .ok (.iload_n 3, 1) := dk_29 (dk_at dksX12_copies_0 10 rfl rfl)
theorem dX12_copies_11 : decode cX12_copies 11 = .ok (.iaload, 1) := dk_46 (dk_at dksX12_copies_0 11 rfl rfl)
theorem dX12_copies_12 : decode cX12_copies 12 = .ok (.iastore, 1) := dk_79 (dk_at dksX12_copies_0 12 rfl rfl)
theorem dX12_copies_13 : decode cX12_copies 13 = .ok (.iinc 3 1, 3) := dk_132 3 1 (dk_at dksX12_copies_0 13 rfl rfl)
theorem dX12_copies_16 : decode cX12_copies 16 = .ok (.goto (-14), 3) := dk_167 255 242 (dk_at dksX12_copies_0 16 rfl rfl)
theorem dX12_copies_19 : decode cX12_copies 19 = .ok (.return_, 1) := dk_177 (dk_at dksX12_copies_0 19 rfl rfl)
abbrev cX12_back : ByteArray := prog_24_method_104_code
def yX12_back : MethodName := ⟨RX12, "back", "()I"⟩
def dkwX12_back_3 : List UInt8 := [42, 180, 0, 31, 16, 91, 184, 1, 99, 42, 180, 0, 89, 42, 180, 0, 34, 5, 184, 1, 99, 4, 172]
abbrev dktX12_back_3 : List UInt8 := dkwX12_back_3 ++ []
def dkwX12_back_2 : List UInt8 := [42, 180, 0, 25, 184, 1, 103, 42, 180, 0, 83, 42, 180, 0, 28, 16, 32, 184, 1, 99, 42, 180, 0, 86]
abbrev dktX12_back_2 : List UInt8 := dkwX12_back_2 ++ dktX12_back_3
def dkwX12_back_1 : List UInt8 := [42, 180, 0, 11, 42, 180, 0, 14, 184, 1, 103, 42, 180, 0, 77, 42, 180, 0, 80, 3, 42, 180, 0, 22]
abbrev dktX12_back_1 : List UInt8 := dkwX12_back_1 ++ dktX12_back_2
def dkwX12_back_0 : List UInt8 := [42, 180, 1, 107, 154, 0, 10, 42, 16, 251, 182, 0, 183, 172, 42, 180, 0, 71, 42, 180, 0, 74, 16, 12]
abbrev dktX12_back_0 : List UInt8 := dkwX12_back_0 ++ dktX12_back_1
theorem dksX12_back_0 : cX12_back.data.toList.drop 0 = dktX12_back_0 := by decide +kernel
theorem dksX12_back_1 : cX12_back.data.toList.drop 24 = dktX12_back_1 := dk_seg dksX12_back_0 24 rfl rfl
theorem dksX12_back_2 : cX12_back.data.toList.drop 48 = dktX12_back_2 := dk_seg dksX12_back_1 24 rfl rfl
theorem dksX12_back_3 : cX12_back.data.toList.drop 72 = dktX12_back_3 := dk_seg dksX12_back_2 24 rfl rfl
theorem dX12_back_0 : decode cX12_back 0 = .ok (.aload_n 0, 1) := dk_42 (dk_at dksX12_back_0 0 rfl rfl)
theorem dX12_back_1 : decode cX12_back 1 = .ok (.getfield 363, 3) := dk_180 1 107 (dk_at dksX12_back_0 1 rfl rfl)
theorem dX12_back_4 : decode cX12_back 4 = .ok (.ifCond .ne 10, 3) := dk_154 0 10 (dk_at dksX12_back_0 4 rfl rfl)
theorem dX12_back_7 : decode cX12_back 7 = .ok (.aload_n 0, 1) := dk_42 (dk_at dksX12_back_0 7 rfl rfl)
theorem dX12_back_8 : decode cX12_back 8 = .ok (.bipush (-5), 2) := dk_16 251 (dk_at dksX12_back_0 8 rfl rfl)
theorem dX12_back_10 : decode cX12_back 10 = .ok (.invokevirtual 183, 3) := dk_182 0 183 (dk_at dksX12_back_0 10 rfl rfl)
theorem dX12_back_13 : decode cX12_back 13 = .ok (.ireturn, 1) := dk_172 (dk_at dksX12_back_0 13 rfl rfl)
theorem dX12_back_14 : decode cX12_back 14 = .ok (.aload_n 0, 1) := dk_42 (dk_at dksX12_back_0 14 rfl rfl)
theorem dX12_back_15 : decode cX12_back 15 = .ok (.getfield 71, 3) := dk_180 0 71 (dk_at dksX12_back_0 15 rfl rfl)
theorem dX12_back_18 : decode cX12_back 18 = .ok (.aload_n 0, 1) := dk_42 (dk_at dksX12_back_0 18 rfl rfl)
theorem dX12_back_19 : decode cX12_back 19 = .ok (.getfield 74, 3) := dk_180 0 74 (dk_at dksX12_back_0 19 rfl rfl)
theorem dX12_back_22 : decode cX12_back 22 = .ok (.bipush 12, 2) := dk_16 12 (dk_at dksX12_back_0 22 rfl rfl)
theorem dX12_back_24 : decode cX12_back 24 = .ok (.aload_n 0, 1) := dk_42 (dk_at dksX12_back_1 0 rfl rfl)
theorem dX12_back_25 : decode cX12_back 25 = .ok (.getfield 11, 3) := dk_180 0 11 (dk_at dksX12_back_1 1 rfl rfl)
theorem dX12_back_28 : decode cX12_back 28 = .ok (.aload_n 0, 1) := dk_42 (dk_at dksX12_back_1 4 rfl rfl)
theorem dX12_back_29 : decode cX12_back 29 = .ok (.getfield 14, 3) := dk_180 0 14 (dk_at dksX12_back_1 5 rfl rfl)
theorem dX12_back_32 : decode cX12_back 32 = .ok (.invokestatic 359, 3) := dk_184 1 103 (dk_at dksX12_back_1 8 rfl rfl)
theorem dX12_back_35 : decode cX12_back 35 = .ok (.aload_n 0, 1) := dk_42 (dk_at dksX12_back_1 11 rfl rfl)
theorem dX12_back_36 : decode cX12_back 36 = .ok (.getfield 77, 3) := dk_180 0 77 (dk_at dksX12_back_1 12 rfl rfl)
theorem dX12_back_39 : decode cX12_back 39 = .ok (.aload_n 0, 1) := dk_42 (dk_at dksX12_back_1 15 rfl rfl)
theorem dX12_back_40 : decode cX12_back 40 = .ok (.getfield 80, 3) := dk_180 0 80 (dk_at dksX12_back_1 16 rfl rfl)
theorem dX12_back_43 : decode cX12_back 43 = .ok (.iconst 0, 1) := dk_3 (dk_at dksX12_back_1 19 rfl rfl)
theorem dX12_back_44 : decode cX12_back 44 = .ok (.aload_n 0, 1) := dk_42 (dk_at dksX12_back_1 20 rfl rfl)
theorem dX12_back_45 : decode cX12_back 45 = .ok (.getfield 22, 3) := dk_180 0 22 (dk_at dksX12_back_1 21 rfl rfl)
theorem dX12_back_48 : decode cX12_back 48 = .ok (.aload_n 0, 1) := dk_42 (dk_at dksX12_back_2 0 rfl rfl)
theorem dX12_back_49 : decode cX12_back 49 = .ok (.getfield 25, 3) := dk_180 0 25 (dk_at dksX12_back_2 1 rfl rfl)
theorem dX12_back_52 : decode cX12_back 52 = .ok (.invokestatic 359, 3) := dk_184 1 103 (dk_at dksX12_back_2 4 rfl rfl)
theorem dX12_back_55 : decode cX12_back 55 = .ok (.aload_n 0, 1) := dk_42 (dk_at dksX12_back_2 7 rfl rfl)
theorem dX12_back_56 : decode cX12_back 56 = .ok (.getfield 83, 3) := dk_180 0 83 (dk_at dksX12_back_2 8 rfl rfl)
theorem dX12_back_59 : decode cX12_back 59 = .ok (.aload_n 0, 1) := dk_42 (dk_at dksX12_back_2 11 rfl rfl)
theorem dX12_back_60 : decode cX12_back 60 = .ok (.getfield 28, 3) := dk_180 0 28 (dk_at dksX12_back_2 12 rfl rfl)
theorem dX12_back_63 : decode cX12_back 63 = .ok (.bipush 32, 2) := dk_16 32 (dk_at dksX12_back_2 15 rfl rfl)
theorem dX12_back_65 : decode cX12_back 65 = .ok (.invokestatic 355, 3) := dk_184 1 99 (dk_at dksX12_back_2 17 rfl rfl)
theorem dX12_back_68 : decode cX12_back 68 = .ok (.aload_n 0, 1) := dk_42 (dk_at dksX12_back_2 20 rfl rfl)
theorem dX12_back_69 : decode cX12_back 69 = .ok (.getfield 86, 3) := dk_180 0 86 (dk_at dksX12_back_2 21 rfl rfl)
theorem dX12_back_72 : decode cX12_back 72 = .ok (.aload_n 0, 1) := dk_42 (dk_at dksX12_back_3 0 rfl rfl)
theorem dX12_back_73 : decode cX12_back 73 = .ok (.getfield 31, 3) := dk_180 0 31 (dk_at dksX12_back_3 1 rfl rfl)
theorem dX12_back_76 : decode cX12_back 76 = .ok (.bipush 91, 2) := dk_16 91 (dk_at dksX12_back_3 4 rfl rfl)
theorem dX12_back_78 : decode cX12_back 78 = .ok (.invokestatic 355, 3) := dk_184 1 99 (dk_at dksX12_back_3 6 rfl rfl)
theorem dX12_back_81 : decode cX12_back 81 = .ok (.aload_n 0, 1) := dk_42 (dk_at dksX12_back_3 9 rfl rfl)
theorem dX12_back_82 : decode cX12_back 82 = .ok (.getfield 89, 3) := dk_180 0 89 (dk_at dksX12_back_3 10 rfl rfl)
theorem dX12_back_85 : decode cX12_back 85 = .ok (.aload_n 0, 1) := dk_42 (dk_at dksX12_back_3 13 rfl rfl)
theorem dX12_back_86 : decode cX12_back 86 = .ok (.getfield 34, 3) := dk_180 0 34 (dk_at dksX12_back_3 14 rfl rfl)
theorem dX12_back_89 : decode cX12_back 89 = .ok (.iconst 2, 1) := dk_5 (dk_at dksX12_back_3 17 rfl rfl)
theorem dX12_back_90 : decode cX12_back 90 = .ok (.invokestatic 355, 3) := dk_184 1 99 (dk_at dksX12_back_3 18 rfl rfl)
theorem dX12_back_93 : decode cX12_back 93 = .ok (.iconst 1, 1) := dk_4 (dk_at dksX12_back_3 21 rfl rfl)
theorem dX12_back_94 : decode cX12_back 94 = .ok (.ireturn, 1) := dk_172 (dk_at dksX12_back_3 22 rfl rfl)
abbrev cX12_status : ByteArray := prog_24_method_105_code
def yX12_status : MethodName := ⟨RX12, "status", "(I)I"⟩
def dkwX12_status_10 : List UInt8 := [180, 0, 37, 27, 16, 10, 100, 46, 167, 0, 4, 2, 172]
abbrev dktX12_status_10 : List UInt8 := dkwX12_status_10 ++ []
def dkwX12_status_9 : List UInt8 := [132, 3, 1, 167, 255, 230, 28, 172, 27, 133, 20, 1, 111, 20, 1, 113, 184, 0, 175, 153, 0, 15, 42]
abbrev dktX12_status_9 : List UInt8 := dkwX12_status_9 ++ dktX12_status_10
def dkwX12_status_8 : List UInt8 := [16, 8, 162, 0, 26, 28, 42, 180, 0, 52, 29, 46, 155, 0, 7, 4, 167, 0, 4, 3, 96, 61]
abbrev dktX12_status_8 : List UInt8 := dkwX12_status_8 ++ dktX12_status_9
def dkwX12_status_7 : List UInt8 := [132, 3, 1, 167, 255, 231, 28, 172, 42, 180, 0, 186, 172, 42, 180, 0, 34, 4, 46, 172, 3, 62, 29]
abbrev dktX12_status_7 : List UInt8 := dkwX12_status_7 ++ dktX12_status_8
def dkwX12_status_6 : List UInt8 := [3, 62, 29, 7, 162, 0, 26, 28, 42, 29, 4, 182, 0, 135, 158, 0, 7, 4, 167, 0, 4, 3, 96, 61]
abbrev dktX12_status_6 : List UInt8 := dkwX12_status_6 ++ dktX12_status_7
def dkwX12_status_5 : List UInt8 := [3, 62, 29, 8, 162, 0, 18, 28, 42, 180, 0, 25, 29, 46, 96, 61, 132, 3, 1, 167, 255, 239, 28, 172]
abbrev dktX12_status_5 : List UInt8 := dkwX12_status_5 ++ dktX12_status_6
def dkwX12_status_4 : List UInt8 := [42, 180, 0, 18, 29, 51, 153, 0, 7, 4, 167, 0, 4, 3, 96, 61, 132, 3, 1, 167, 255, 230, 28, 172]
abbrev dktX12_status_4 : List UInt8 := dkwX12_status_4 ++ dktX12_status_5
def dkwX12_status_3 : List UInt8 := [4, 167, 0, 4, 3, 96, 61, 132, 3, 1, 167, 255, 231, 28, 172, 3, 62, 29, 16, 12, 162, 0, 26, 28]
abbrev dktX12_status_3 : List UInt8 := dkwX12_status_3 ++ dktX12_status_4
def dkwX12_status_2 : List UInt8 := [42, 180, 0, 34, 3, 46, 172, 3, 62, 29, 7, 162, 0, 26, 28, 42, 29, 7, 182, 1, 66, 156, 0, 7]
abbrev dktX12_status_2 : List UInt8 := dkwX12_status_2 ++ dktX12_status_3
def dkwX12_status_1 : List UInt8 := [170, 0, 0, 0, 218, 0, 0, 0, 0, 0, 0, 0, 7, 0, 0, 0, 45, 0, 0, 0, 52, 0, 0, 0, 84, 0, 0, 0, 117, 0, 0, 0, 141, 0, 0, 0, 173, 0, 0, 0, 178, 0, 0, 0, 185]
abbrev dktX12_status_1 : List UInt8 := dkwX12_status_1 ++ dktX12_status_2
def dkwX12_status_0 : List UInt8 := [3, 61, 27]
abbrev dktX12_status_0 : List UInt8 := dkwX12_status_0 ++ dktX12_status_1
theorem dksX12_status_0 : cX12_status.data.toList.drop 0 = dktX12_status_0 := by decide +kernel
theorem dksX12_status_1 : cX12_status.data.toList.drop 3 = dktX12_status_1 := dk_seg dksX12_status_0 3 rfl rfl
theorem dksX12_status_2 : cX12_status.data.toList.drop 48 = dktX12_status_2 := dk_seg dksX12_status_1 45 rfl rfl
theorem dksX12_status_3 : cX12_status.data.toList.drop 72 = dktX12_status_3 := dk_seg dksX12_status_2 24 rfl rfl
theorem dksX12_status_4 : cX12_status.data.toList.drop 96 = dktX12_status_4 := dk_seg dksX12_status_3 24 rfl rfl
theorem dksX12_status_5 : cX12_status.data.toList.drop 120 = dktX12_status_5 := dk_seg dksX12_status_4 24 rfl rfl
theorem dksX12_status_6 : cX12_status.data.toList.drop 144 = dktX12_status_6 := dk_seg dksX12_status_5 24 rfl rfl
theorem dksX12_status_7 : cX12_status.data.toList.drop 168 = dktX12_status_7 := dk_seg dksX12_status_6 24 rfl rfl
theorem dksX12_status_8 : cX12_status.data.toList.drop 191 = dktX12_status_8 := dk_seg dksX12_status_7 23 rfl rfl
theorem dksX12_status_9 : cX12_status.data.toList.drop 213 = dktX12_status_9 := dk_seg dksX12_status_8 22 rfl rfl
theorem dksX12_status_10 : cX12_status.data.toList.drop 236 = dktX12_status_10 := dk_seg dksX12_status_9 23 rfl rfl
theorem dX12_status_0 : decode cX12_status 0 = .ok (.iconst 0, 1) := dk_3 (dk_at dksX12_status_0 0 rfl rfl)
theorem dX12_status_1 : decode cX12_status 1 = .ok (.istore_n 2, 1) := dk_61 (dk_at dksX12_status_0 1 rfl rfl)
theorem dX12_status_2 : decode cX12_status 2 = .ok (.iload_n 1, 1) := dk_27 (dk_at dksX12_status_0 2 rfl rfl)
theorem dX12_status_3 : decode cX12_status 3 = .ok (.tableswitch 218 0 7 #[45, 52, 84, 117, 141, 173, 178, 185], 45) := by decide +kernel
theorem dX12_status_48 : decode cX12_status 48 = .ok (.aload_n 0, 1) := dk_42 (dk_at dksX12_status_2 0 rfl rfl)
theorem dX12_status_49 : decode cX12_status 49 = .ok (.getfield 34, 3) := dk_180 0 34 (dk_at dksX12_status_2 1 rfl rfl)
theorem dX12_status_52 : decode cX12_status 52 = .ok (.iconst 0, 1) := dk_3 (dk_at dksX12_status_2 4 rfl rfl)
theorem dX12_status_53 : decode cX12_status 53 = .ok (.iaload, 1) := dk_46 (dk_at dksX12_status_2 5 rfl rfl)
theorem dX12_status_54 : decode cX12_status 54 = .ok (.ireturn, 1) := dk_172 (dk_at dksX12_status_2 6 rfl rfl)
theorem dX12_status_55 : decode cX12_status 55 = .ok (.iconst 0, 1) := dk_3 (dk_at dksX12_status_2 7 rfl rfl)
theorem dX12_status_56 : decode cX12_status 56 = .ok (.istore_n 3, 1) := dk_62 (dk_at dksX12_status_2 8 rfl rfl)
theorem dX12_status_57 : decode cX12_status 57 = .ok (.iload_n 3, 1) := dk_29 (dk_at dksX12_status_2 9 rfl rfl)
theorem dX12_status_58 : decode cX12_status 58 = .ok (.iconst 4, 1) := dk_7 (dk_at dksX12_status_2 10 rfl rfl)
theorem dX12_status_59 : decode cX12_status 59 = .ok (.if_icmp .ge 26, 3) := dk_162 0 26 (dk_at dksX12_status_2 11 rfl rfl)
theorem dX12_status_62 : decode cX12_status 62 = .ok (.iload_n 2, 1) := dk_28 (dk_at dksX12_status_2 14 rfl rfl)
theorem dX12_status_63 : decode cX12_status 63 = .ok (.aload_n 0, 1) := dk_42 (dk_at dksX12_status_2 15 rfl rfl)
theorem dX12_status_64 : decode cX12_status 64 = .ok (.iload_n 3, 1) := dk_29 (dk_at dksX12_status_2 16 rfl rfl)
theorem dX12_status_65 : decode cX12_status 65 = .ok (.iconst 4, 1) := dk_7 (dk_at dksX12_status_2 17 rfl rfl)
theorem dX12_status_66 : decode cX12_status 66 = .ok (.invokevirtual 322, 3) := dk_182 1 66 (dk_at dksX12_status_2 18 rfl rfl)
theorem dX12_status_69 : decode cX12_status 69 = .ok (.ifCond .ge 7, 3) := dk_156 0 7 (dk_at dksX12_status_2 21 rfl rfl)
theorem dX12_status_72 : decode cX12_status 72 = .ok (.iconst 1, 1) := dk_4 (dk_at dksX12_status_3 0 rfl rfl)
theorem dX12_status_73 : decode cX12_status 73 = .ok (.goto 4, 3) := dk_167 0 4 (dk_at dksX12_status_3 1 rfl rfl)
theorem dX12_status_76 : decode cX12_status 76 = .ok (.iconst 0, 1) := dk_3 (dk_at dksX12_status_3 4 rfl rfl)
theorem dX12_status_77 : decode cX12_status 77 = .ok (.iadd, 1) := dk_96 (dk_at dksX12_status_3 5 rfl rfl)
theorem dX12_status_78 : decode cX12_status 78 = .ok (.istore_n 2, 1) := dk_61 (dk_at dksX12_status_3 6 rfl rfl)
theorem dX12_status_79 : decode cX12_status 79 = .ok (.iinc 3 1, 3) := dk_132 3 1 (dk_at dksX12_status_3 7 rfl rfl)
theorem dX12_status_82 : decode cX12_status 82 = .ok (.goto (-25), 3) := dk_167 255 231 (dk_at dksX12_status_3 10 rfl rfl)
theorem dX12_status_85 : decode cX12_status 85 = .ok (.iload_n 2, 1) := dk_28 (dk_at dksX12_status_3 13 rfl rfl)
theorem dX12_status_86 : decode cX12_status 86 = .ok (.ireturn, 1) := dk_172 (dk_at dksX12_status_3 14 rfl rfl)
theorem dX12_status_87 : decode cX12_status 87 = .ok (.iconst 0, 1) := dk_3 (dk_at dksX12_status_3 15 rfl rfl)
theorem dX12_status_88 : decode cX12_status 88 = .ok (.istore_n 3, 1) := dk_62 (dk_at dksX12_status_3 16 rfl rfl)
theorem dX12_status_89 : decode cX12_status 89 = .ok (.iload_n 3, 1) := dk_29 (dk_at dksX12_status_3 17 rfl rfl)
theorem dX12_status_90 : decode cX12_status 90 = .ok (.bipush 12, 2) := dk_16 12 (dk_at dksX12_status_3 18 rfl rfl)
theorem dX12_status_92 : decode cX12_status 92 = .ok (.if_icmp .ge 26, 3) := dk_162 0 26 (dk_at dksX12_status_3 20 rfl rfl)
theorem dX12_status_95 : decode cX12_status 95 = .ok (.iload_n 2, 1) := dk_28 (dk_at dksX12_status_3 23 rfl rfl)
theorem dX12_status_96 : decode cX12_status 96 = .ok (.aload_n 0, 1) := dk_42 (dk_at dksX12_status_4 0 rfl rfl)
theorem dX12_status_97 : decode cX12_status 97 = .ok (.getfield 18, 3) := dk_180 0 18 (dk_at dksX12_status_4 1 rfl rfl)
theorem dX12_status_100 : decode cX12_status 100 = .ok (.iload_n 3, 1) := dk_29 (dk_at dksX12_status_4 4 rfl rfl)
theorem dX12_status_101 : decode cX12_status 101 = .ok (.baload, 1) := dk_51 (dk_at dksX12_status_4 5 rfl rfl)
theorem dX12_status_102 : decode cX12_status 102 = .ok (.ifCond .eq 7, 3) := dk_153 0 7 (dk_at dksX12_status_4 6 rfl rfl)
theorem dX12_status_105 : decode cX12_status 105 = .ok (.iconst 1, 1) := dk_4 (dk_at dksX12_status_4 9 rfl rfl)
theorem dX12_status_106 : decode cX12_status 106 = .ok (.goto 4, 3) := dk_167 0 4 (dk_at dksX12_status_4 10 rfl rfl)
theorem dX12_status_109 : decode cX12_status 109 = .ok (.iconst 0, 1) := dk_3 (dk_at dksX12_status_4 13 rfl rfl)
theorem dX12_status_110 : decode cX12_status 110 = .ok (.iadd, 1) := dk_96 (dk_at dksX12_status_4 14 rfl rfl)
theorem dX12_status_111 : decode cX12_status 111 = .ok (.istore_n 2, 1) := dk_61 (dk_at dksX12_status_4 15 rfl rfl)
theorem dX12_status_112 : decode cX12_status 112 = .ok (.iinc 3 1, 3) := dk_132 3 1 (dk_at dksX12_status_4 16 rfl rfl)
theorem dX12_status_115 : decode cX12_status 115 = .ok (.goto (-26), 3) := dk_167 255 230 (dk_at dksX12_status_4 19 rfl rfl)
theorem dX12_status_118 : decode cX12_status 118 = .ok (.iload_n 2, 1) := dk_28 (dk_at dksX12_status_4 22 rfl rfl)
theorem dX12_status_119 : decode cX12_status 119 = .ok (.ireturn, 1) := dk_172 (dk_at dksX12_status_4 23 rfl rfl)
theorem dX12_status_120 : decode cX12_status 120 = .ok (.iconst 0, 1) := dk_3 (dk_at dksX12_status_5 0 rfl rfl)
theorem dX12_status_121 : decode cX12_status 121 = .ok (.istore_n 3, 1) := dk_62 (dk_at dksX12_status_5 1 rfl rfl)
theorem dX12_status_122 : decode cX12_status 122 = .ok (.iload_n 3, 1) := dk_29 (dk_at dksX12_status_5 2 rfl rfl)
theorem dX12_status_123 : decode cX12_status 123 = .ok (.iconst 5, 1) := dk_8 (dk_at dksX12_status_5 3 rfl rfl)
theorem dX12_status_124 : decode cX12_status 124 = .ok (.if_icmp .ge 18, 3) := dk_162 0 18 (dk_at dksX12_status_5 4 rfl rfl)
theorem dX12_status_127 : decode cX12_status 127 = .ok (.iload_n 2, 1) := dk_28 (dk_at dksX12_status_5 7 rfl rfl)
theorem dX12_status_128 : decode cX12_status 128 = .ok (.aload_n 0, 1) := dk_42 (dk_at dksX12_status_5 8 rfl rfl)
theorem dX12_status_129 : decode cX12_status 129 = .ok (.getfield 25, 3) := dk_180 0 25 (dk_at dksX12_status_5 9 rfl rfl)
theorem dX12_status_132 : decode cX12_status 132 = .ok (.iload_n 3, 1) := dk_29 (dk_at dksX12_status_5 12 rfl rfl)
theorem dX12_status_133 : decode cX12_status 133 = .ok (.iaload, 1) := dk_46 (dk_at dksX12_status_5 13 rfl rfl)
theorem dX12_status_134 : decode cX12_status 134 = .ok (.iadd, 1) := dk_96 (dk_at dksX12_status_5 14 rfl rfl)
theorem dX12_status_135 : decode cX12_status 135 = .ok (.istore_n 2, 1) := dk_61 (dk_at dksX12_status_5 15 rfl rfl)
theorem dX12_status_136 : decode cX12_status 136 = .ok (.iinc 3 1, 3) := dk_132 3 1 (dk_at dksX12_status_5 16 rfl rfl)
theorem dX12_status_139 : decode cX12_status 139 = .ok (.goto (-17), 3) := dk_167 255 239 (dk_at dksX12_status_5 19 rfl rfl)
theorem dX12_status_142 : decode cX12_status 142 = .ok (.iload_n 2, 1) := dk_28 (dk_at dksX12_status_5 22 rfl rfl)
theorem dX12_status_143 : decode cX12_status 143 = .ok (.ireturn, 1) := dk_172 (dk_at dksX12_status_5 23 rfl rfl)
theorem dX12_status_144 : decode cX12_status 144 = .ok (.iconst 0, 1) := dk_3 (dk_at dksX12_status_6 0 rfl rfl)
theorem dX12_status_145 : decode cX12_status 145 = .ok (.istore_n 3, 1) := dk_62 (dk_at dksX12_status_6 1 rfl rfl)
theorem dX12_status_146 : decode cX12_status 146 = .ok (.iload_n 3, 1) := dk_29 (dk_at dksX12_status_6 2 rfl rfl)
theorem dX12_status_147 : decode cX12_status 147 = .ok (.iconst 4, 1) := dk_7 (dk_at dksX12_status_6 3 rfl rfl)
theorem dX12_status_148 : decode cX12_status 148 = .ok (.if_icmp .ge 26, 3) := dk_162 0 26 (dk_at dksX12_status_6 4 rfl rfl)
theorem dX12_status_151 : decode cX12_status 151 = .ok (.iload_n 2, 1) := dk_28 (dk_at dksX12_status_6 7 rfl rfl)
theorem dX12_status_152 : decode cX12_status 152 = .ok (.aload_n 0, 1) := dk_42 (dk_at dksX12_status_6 8 rfl rfl)
theorem dX12_status_153 : decode cX12_status 153 = .ok (.iload_n 3, 1) := dk_29 (dk_at dksX12_status_6 9 rfl rfl)
theorem dX12_status_154 : decode cX12_status 154 = .ok (.iconst 1, 1) := dk_4 (dk_at dksX12_status_6 10 rfl rfl)
theorem dX12_status_155 : decode cX12_status 155 = .ok (.invokevirtual 135, 3) := dk_182 0 135 (dk_at dksX12_status_6 11 rfl rfl)
theorem dX12_status_158 : decode cX12_status 158 = .ok (.ifCond .le 7, 3) := dk_158 0 7 (dk_at dksX12_status_6 14 rfl rfl)
theorem dX12_status_161 : decode cX12_status 161 = .ok (.iconst 1, 1) := dk_4 (dk_at dksX12_status_6 17 rfl rfl)
theorem dX12_status_162 : decode cX12_status 162 = .ok (.goto 4, 3) := dk_167 0 4 (dk_at dksX12_status_6 18 rfl rfl)
theorem dX12_status_165 : decode cX12_status 165 = .ok (.iconst 0, 1) := dk_3 (dk_at dksX12_status_6 21 rfl rfl)
theorem dX12_status_166 : decode cX12_status 166 = .ok (.iadd, 1) := dk_96 (dk_at dksX12_status_6 22 rfl rfl)
theorem dX12_status_167 : decode cX12_status 167 = .ok (.istore_n 2, 1) := dk_61 (dk_at dksX12_status_6 23 rfl rfl)
theorem dX12_status_168 : decode cX12_status 168 = .ok (.iinc 3 1, 3) := dk_132 3 1 (dk_at dksX12_status_7 0 rfl rfl)
theorem dX12_status_171 : decode cX12_status 171 = .ok (.goto (-25), 3) := dk_167 255 231 (dk_at dksX12_status_7 3 rfl rfl)
theorem dX12_status_174 : decode cX12_status 174 = .ok (.iload_n 2, 1) := dk_28 (dk_at dksX12_status_7 6 rfl rfl)
theorem dX12_status_175 : decode cX12_status 175 = .ok (.ireturn, 1) := dk_172 (dk_at dksX12_status_7 7 rfl rfl)
theorem dX12_status_176 : decode cX12_status 176 = .ok (.aload_n 0, 1) := dk_42 (dk_at dksX12_status_7 8 rfl rfl)
theorem dX12_status_177 : decode cX12_status 177 = .ok (.getfield 186, 3) := dk_180 0 186 (dk_at dksX12_status_7 9 rfl rfl)
theorem dX12_status_180 : decode cX12_status 180 = .ok (.ireturn, 1) := dk_172 (dk_at dksX12_status_7 12 rfl rfl)
theorem dX12_status_181 : decode cX12_status 181 = .ok (.aload_n 0, 1) := dk_42 (dk_at dksX12_status_7 13 rfl rfl)
theorem dX12_status_182 : decode cX12_status 182 = .ok (.getfield 34, 3) := dk_180 0 34 (dk_at dksX12_status_7 14 rfl rfl)
theorem dX12_status_185 : decode cX12_status 185 = .ok (.iconst 1, 1) := dk_4 (dk_at dksX12_status_7 17 rfl rfl)
theorem dX12_status_186 : decode cX12_status 186 = .ok (.iaload, 1) := dk_46 (dk_at dksX12_status_7 18 rfl rfl)
theorem dX12_status_187 : decode cX12_status 187 = .ok (.ireturn, 1) := dk_172 (dk_at dksX12_status_7 19 rfl rfl)
theorem dX12_status_188 : decode cX12_status 188 = .ok (.iconst 0, 1) := dk_3 (dk_at dksX12_status_7 20 rfl rfl)
theorem dX12_status_189 : decode cX12_status 189 = .ok (.istore_n 3, 1) := dk_62 (dk_at dksX12_status_7 21 rfl rfl)
theorem dX12_status_190 : decode cX12_status 190 = .ok (.iload_n 3, 1) := dk_29 (dk_at dksX12_status_7 22 rfl rfl)
theorem dX12_status_191 : decode cX12_status 191 = .ok (.bipush 8, 2) := dk_16 8 (dk_at dksX12_status_8 0 rfl rfl)
theorem dX12_status_193 : decode cX12_status 193 = .ok (.if_icmp .ge 26, 3) := dk_162 0 26 (dk_at dksX12_status_8 2 rfl rfl)
theorem dX12_status_196 : decode cX12_status 196 = .ok (.iload_n 2, 1) := dk_28 (dk_at dksX12_status_8 5 rfl rfl)
theorem dX12_status_197 : decode cX12_status 197 = .ok (.aload_n 0, 1) := dk_42 (dk_at dksX12_status_8 6 rfl rfl)
theorem dX12_status_198 : decode cX12_status 198 = .ok (.getfield 52, 3) := dk_180 0 52 (dk_at dksX12_status_8 7 rfl rfl)
theorem dX12_status_201 : decode cX12_status 201 = .ok (.iload_n 3, 1) := dk_29 (dk_at dksX12_status_8 10 rfl rfl)
theorem dX12_status_202 : decode cX12_status 202 = .ok (.iaload, 1) := dk_46 (dk_at dksX12_status_8 11 rfl rfl)
theorem dX12_status_203 : decode cX12_status 203 = .ok (.ifCond .lt 7, 3) := dk_155 0 7 (dk_at dksX12_status_8 12 rfl rfl)
theorem dX12_status_206 : decode cX12_status 206 = .ok (.iconst 1, 1) := dk_4 (dk_at dksX12_status_8 15 rfl rfl)
theorem dX12_status_207 : decode cX12_status 207 = .ok (.goto 4, 3) := dk_167 0 4 (dk_at dksX12_status_8 16 rfl rfl)
theorem dX12_status_210 : decode cX12_status 210 = .ok (.iconst 0, 1) := dk_3 (dk_at dksX12_status_8 19 rfl rfl)
theorem dX12_status_211 : decode cX12_status 211 = .ok (.iadd, 1) := dk_96 (dk_at dksX12_status_8 20 rfl rfl)
theorem dX12_status_212 : decode cX12_status 212 = .ok (.istore_n 2, 1) := dk_61 (dk_at dksX12_status_8 21 rfl rfl)
theorem dX12_status_213 : decode cX12_status 213 = .ok (.iinc 3 1, 3) := dk_132 3 1 (dk_at dksX12_status_9 0 rfl rfl)
theorem dX12_status_216 : decode cX12_status 216 = .ok (.goto (-26), 3) := dk_167 255 230 (dk_at dksX12_status_9 3 rfl rfl)
theorem dX12_status_219 : decode cX12_status 219 = .ok (.iload_n 2, 1) := dk_28 (dk_at dksX12_status_9 6 rfl rfl)
theorem dX12_status_220 : decode cX12_status 220 = .ok (.ireturn, 1) := dk_172 (dk_at dksX12_status_9 7 rfl rfl)
theorem dX12_status_221 : decode cX12_status 221 = .ok (.iload_n 1, 1) := dk_27 (dk_at dksX12_status_9 8 rfl rfl)
theorem dX12_status_222 : decode cX12_status 222 = .ok (.i2l, 1) := dk_133 (dk_at dksX12_status_9 9 rfl rfl)
theorem dX12_status_223 : decode cX12_status 223 = .ok (.ldc2_w 367, 3) := dk_20 1 111 (dk_at dksX12_status_9 10 rfl rfl)
theorem dX12_status_226 : decode cX12_status 226 = .ok (.ldc2_w 369, 3) := dk_20 1 113 (dk_at dksX12_status_9 13 rfl rfl)
theorem dX12_status_229 : decode cX12_status 229 = .ok (.invokestatic 175, 3) := dk_184 0 175 (dk_at dksX12_status_9 16 rfl rfl)
theorem dX12_status_232 : decode cX12_status 232 = .ok (.ifCond .eq 15, 3) := dk_153 0 15 (dk_at dksX12_status_9 19 rfl rfl)
theorem dX12_status_235 : decode cX12_status 235 = .ok (.aload_n 0, 1) := dk_42 (dk_at dksX12_status_9 22 rfl rfl)
theorem dX12_status_236 : decode cX12_status 236 = .ok (.getfield 37, 3) := dk_180 0 37 (dk_at dksX12_status_10 0 rfl rfl)
theorem dX12_status_239 : decode cX12_status 239 = .ok (.iload_n 1, 1) := dk_27 (dk_at dksX12_status_10 3 rfl rfl)
theorem dX12_status_240 : decode cX12_status 240 = .ok (.bipush 10, 2) := dk_16 10 (dk_at dksX12_status_10 4 rfl rfl)
theorem dX12_status_242 : decode cX12_status 242 = .ok (.isub, 1) := dk_100 (dk_at dksX12_status_10 6 rfl rfl)
theorem dX12_status_243 : decode cX12_status 243 = .ok (.iaload, 1) := dk_46 (dk_at dksX12_status_10 7 rfl rfl)
theorem dX12_status_244 : decode cX12_status 244 = .ok (.goto 4, 3) := dk_167 0 4 (dk_at dksX12_status_10 8 rfl rfl)
theorem dX12_status_247 : decode cX12_status 247 = .ok (.iconst (-1), 1) := dk_2 (dk_at dksX12_status_10 11 rfl rfl)
theorem dX12_status_248 : decode cX12_status 248 = .ok (.ireturn, 1) := dk_172 (dk_at dksX12_status_10 12 rfl rfl)
theorem q146 : (Jvm.Cond.initialized "EditsMeetModel") ∈ lw_all := lw_g (lw_at lw_m1 26 rfl) rfl
theorem q1459 : (Jvm.Cond.selects "EditsMeetModel" ({ cls := "java/lang/Object", name := "getClass", desc := "()Ljava/lang/Class;" } : Jvm.MethodName) ({ cls := "java/lang/Object", name := "getClass", desc := "()Ljava/lang/Class;" } : Jvm.MethodName)) ∈ lw_all := lw_g (lw_at lw_m6 139 rfl) rfl
theorem q3044 : (Jvm.Cond.instantiable "EditsMeetModel" (33 : Nat)) ∈ lw_all := lw_g (lw_at lw_m13 44 rfl) rfl
theorem q3046 : (Jvm.Cond.instanceMethod ({ cls := "EditsMeetModel", name := "<init>", desc := "()V" } : Jvm.MethodName)) ∈ lw_all := lw_g (lw_at lw_m13 46 rfl) rfl
theorem q3047 : (Jvm.Cond.code ({ cls := "EditsMeetModel", name := "<init>", desc := "()V" } : Jvm.MethodName) prog_24_method_1_code (1 : Nat) (Option.none : Option Jvm.ClassFile.FieldType)) ∈ lw_all := lw_g (lw_at lw_m13 47 rfl) rfl
theorem q3048 : (Jvm.Cond.methodLink "EditsMeetModel" (1 : Nat) ({ cls := "java/lang/Object", name := "<init>", desc := "()V" } : Jvm.MethodName)) ∈ lw_all := lw_g (lw_at lw_m13 48 rfl) rfl
theorem q3049 : (Jvm.Cond.classLink "EditsMeetModel" (9 : Nat) "[[I") ∈ lw_all := lw_g (lw_at lw_m13 49 rfl) rfl
theorem q3051 : (Jvm.Cond.fieldLink "EditsMeetModel" (11 : Nat) "EditsMeetModel" "rows" "[[I") ∈ lw_all := lw_g (lw_at lw_m13 51 rfl) rfl
theorem q3052 : (Jvm.Cond.fieldLink "EditsMeetModel" (14 : Nat) "EditsMeetModel" "size" "[I") ∈ lw_all := lw_g (lw_at lw_m13 52 rfl) rfl
theorem q3053 : (Jvm.Cond.fieldLink "EditsMeetModel" (18 : Nat) "EditsMeetModel" "isThere" "[Z") ∈ lw_all := lw_g (lw_at lw_m13 53 rfl) rfl
theorem q3054 : (Jvm.Cond.fieldLink "EditsMeetModel" (22 : Nat) "EditsMeetModel" "texts" "[[I") ∈ lw_all := lw_g (lw_at lw_m13 54 rfl) rfl
theorem q3055 : (Jvm.Cond.fieldLink "EditsMeetModel" (25 : Nat) "EditsMeetModel" "lengths" "[I") ∈ lw_all := lw_g (lw_at lw_m13 55 rfl) rfl
theorem q3056 : (Jvm.Cond.fieldLink "EditsMeetModel" (28 : Nat) "EditsMeetModel" "state" "[I") ∈ lw_all := lw_g (lw_at lw_m13 56 rfl) rfl
theorem q3057 : (Jvm.Cond.fieldLink "EditsMeetModel" (31 : Nat) "EditsMeetModel" "by" "[I") ∈ lw_all := lw_g (lw_at lw_m13 57 rfl) rfl
theorem q3058 : (Jvm.Cond.fieldLink "EditsMeetModel" (34 : Nat) "EditsMeetModel" "single" "[I") ∈ lw_all := lw_g (lw_at lw_m13 58 rfl) rfl
theorem q3059 : (Jvm.Cond.fieldLink "EditsMeetModel" (37 : Nat) "EditsMeetModel" "refusals" "[I") ∈ lw_all := lw_g (lw_at lw_m13 59 rfl) rfl
theorem q3060 : (Jvm.Cond.fieldLink "EditsMeetModel" (40 : Nat) "EditsMeetModel" "work" "[[I") ∈ lw_all := lw_g (lw_at lw_m13 60 rfl) rfl
theorem q3061 : (Jvm.Cond.fieldLink "EditsMeetModel" (43 : Nat) "EditsMeetModel" "worked" "[I") ∈ lw_all := lw_g (lw_at lw_m13 61 rfl) rfl
theorem q3062 : (Jvm.Cond.fieldLink "EditsMeetModel" (46 : Nat) "EditsMeetModel" "aside" "[I") ∈ lw_all := lw_g (lw_at lw_m13 62 rfl) rfl
theorem q3063 : (Jvm.Cond.fieldLink "EditsMeetModel" (49 : Nat) "EditsMeetModel" "tape" "[I") ∈ lw_all := lw_g (lw_at lw_m13 63 rfl) rfl
theorem q3064 : (Jvm.Cond.fieldLink "EditsMeetModel" (186 : Nat) "EditsMeetModel" "taped" "I") ∈ lw_all := lw_g (lw_at lw_m13 64 rfl) rfl
theorem q3065 : (Jvm.Cond.fieldLink "EditsMeetModel" (190 : Nat) "EditsMeetModel" "place" "I") ∈ lw_all := lw_g (lw_at lw_m13 65 rfl) rfl
theorem q3066 : (Jvm.Cond.fieldLink "EditsMeetModel" (200 : Nat) "EditsMeetModel" "number" "I") ∈ lw_all := lw_g (lw_at lw_m13 66 rfl) rfl
theorem q3067 : (Jvm.Cond.fieldLink "EditsMeetModel" (248 : Nat) "EditsMeetModel" "texted" "I") ∈ lw_all := lw_g (lw_at lw_m13 67 rfl) rfl
theorem q3068 : (Jvm.Cond.fieldLink "EditsMeetModel" (251 : Nat) "EditsMeetModel" "asked" "I") ∈ lw_all := lw_g (lw_at lw_m13 68 rfl) rfl
theorem q3069 : (Jvm.Cond.fieldLink "EditsMeetModel" (254 : Nat) "EditsMeetModel" "found" "I") ∈ lw_all := lw_g (lw_at lw_m13 69 rfl) rfl
theorem q3070 : (Jvm.Cond.fieldLink "EditsMeetModel" (52 : Nat) "EditsMeetModel" "sorts" "[I") ∈ lw_all := lw_g (lw_at lw_m13 70 rfl) rfl
theorem q3071 : (Jvm.Cond.fieldLink "EditsMeetModel" (55 : Nat) "EditsMeetModel" "sizes" "[I") ∈ lw_all := lw_g (lw_at lw_m13 71 rfl) rfl
theorem q3072 : (Jvm.Cond.fieldLink "EditsMeetModel" (58 : Nat) "EditsMeetModel" "elements" "[J") ∈ lw_all := lw_g (lw_at lw_m13 72 rfl) rfl
theorem q3073 : (Jvm.Cond.fieldLink "EditsMeetModel" (62 : Nat) "EditsMeetModel" "partKind" "[I") ∈ lw_all := lw_g (lw_at lw_m13 73 rfl) rfl
theorem q3074 : (Jvm.Cond.fieldLink "EditsMeetModel" (65 : Nat) "EditsMeetModel" "partMany" "[I") ∈ lw_all := lw_g (lw_at lw_m13 74 rfl) rfl
theorem q3075 : (Jvm.Cond.fieldLink "EditsMeetModel" (68 : Nat) "EditsMeetModel" "partAbout" "[I") ∈ lw_all := lw_g (lw_at lw_m13 75 rfl) rfl
theorem q3076 : (Jvm.Cond.fieldLink "EditsMeetModel" (71 : Nat) "EditsMeetModel" "keptRows" "[[I") ∈ lw_all := lw_g (lw_at lw_m13 76 rfl) rfl
theorem q3077 : (Jvm.Cond.fieldLink "EditsMeetModel" (74 : Nat) "EditsMeetModel" "keptSize" "[I") ∈ lw_all := lw_g (lw_at lw_m13 77 rfl) rfl
theorem q3078 : (Jvm.Cond.fieldLink "EditsMeetModel" (77 : Nat) "EditsMeetModel" "keptTexts" "[[I") ∈ lw_all := lw_g (lw_at lw_m13 78 rfl) rfl
theorem q3079 : (Jvm.Cond.fieldLink "EditsMeetModel" (80 : Nat) "EditsMeetModel" "keptLengths" "[I") ∈ lw_all := lw_g (lw_at lw_m13 79 rfl) rfl
theorem q3080 : (Jvm.Cond.fieldLink "EditsMeetModel" (83 : Nat) "EditsMeetModel" "keptState" "[I") ∈ lw_all := lw_g (lw_at lw_m13 80 rfl) rfl
theorem q3081 : (Jvm.Cond.fieldLink "EditsMeetModel" (86 : Nat) "EditsMeetModel" "keptBy" "[I") ∈ lw_all := lw_g (lw_at lw_m13 81 rfl) rfl
theorem q3082 : (Jvm.Cond.fieldLink "EditsMeetModel" (89 : Nat) "EditsMeetModel" "keptSingle" "[I") ∈ lw_all := lw_g (lw_at lw_m13 82 rfl) rfl
theorem q3083 : (Jvm.Cond.fieldLink "EditsMeetModel" (363 : Nat) "EditsMeetModel" "hasImage" "Z") ∈ lw_all := lw_g (lw_at lw_m13 83 rfl) rfl
theorem q3084 : (Jvm.Cond.laysFinal "EditsMeetModel" "EditsMeetModel" "rows" "[[I") ∈ lw_all := lw_g (lw_at lw_m13 84 rfl) rfl
theorem q3085 : (Jvm.Cond.soleField "EditsMeetModel" "rows") ∈ lw_all := lw_g (lw_at lw_m13 85 rfl) rfl
theorem q3086 : (Jvm.Cond.laysFinal "EditsMeetModel" "EditsMeetModel" "size" "[I") ∈ lw_all := lw_g (lw_at lw_m13 86 rfl) rfl
theorem q3087 : (Jvm.Cond.soleField "EditsMeetModel" "size") ∈ lw_all := lw_g (lw_at lw_m13 87 rfl) rfl
theorem q3088 : (Jvm.Cond.laysFinal "EditsMeetModel" "EditsMeetModel" "isThere" "[Z") ∈ lw_all := lw_g (lw_at lw_m13 88 rfl) rfl
theorem q3089 : (Jvm.Cond.soleField "EditsMeetModel" "isThere") ∈ lw_all := lw_g (lw_at lw_m13 89 rfl) rfl
theorem q3090 : (Jvm.Cond.laysFinal "EditsMeetModel" "EditsMeetModel" "texts" "[[I") ∈ lw_all := lw_g (lw_at lw_m13 90 rfl) rfl
theorem q3091 : (Jvm.Cond.soleField "EditsMeetModel" "texts") ∈ lw_all := lw_g (lw_at lw_m13 91 rfl) rfl
theorem q3092 : (Jvm.Cond.laysFinal "EditsMeetModel" "EditsMeetModel" "lengths" "[I") ∈ lw_all := lw_g (lw_at lw_m13 92 rfl) rfl
theorem q3093 : (Jvm.Cond.soleField "EditsMeetModel" "lengths") ∈ lw_all := lw_g (lw_at lw_m13 93 rfl) rfl
theorem q3094 : (Jvm.Cond.laysFinal "EditsMeetModel" "EditsMeetModel" "state" "[I") ∈ lw_all := lw_g (lw_at lw_m13 94 rfl) rfl
theorem q3095 : (Jvm.Cond.soleField "EditsMeetModel" "state") ∈ lw_all := lw_g (lw_at lw_m13 95 rfl) rfl
theorem q3096 : (Jvm.Cond.laysFinal "EditsMeetModel" "EditsMeetModel" "by" "[I") ∈ lw_all := lw_g (lw_at lw_m13 96 rfl) rfl
theorem q3097 : (Jvm.Cond.soleField "EditsMeetModel" "by") ∈ lw_all := lw_g (lw_at lw_m13 97 rfl) rfl
theorem q3098 : (Jvm.Cond.laysFinal "EditsMeetModel" "EditsMeetModel" "single" "[I") ∈ lw_all := lw_g (lw_at lw_m13 98 rfl) rfl
theorem q3099 : (Jvm.Cond.soleField "EditsMeetModel" "single") ∈ lw_all := lw_g (lw_at lw_m13 99 rfl) rfl
theorem q3100 : (Jvm.Cond.laysFinal "EditsMeetModel" "EditsMeetModel" "refusals" "[I") ∈ lw_all := lw_g (lw_at lw_m13 100 rfl) rfl
theorem q3101 : (Jvm.Cond.soleField "EditsMeetModel" "refusals") ∈ lw_all := lw_g (lw_at lw_m13 101 rfl) rfl
theorem q3102 : (Jvm.Cond.laysFinal "EditsMeetModel" "EditsMeetModel" "work" "[[I") ∈ lw_all := lw_g (lw_at lw_m13 102 rfl) rfl
theorem q3103 : (Jvm.Cond.soleField "EditsMeetModel" "work") ∈ lw_all := lw_g (lw_at lw_m13 103 rfl) rfl
theorem q3104 : (Jvm.Cond.laysFinal "EditsMeetModel" "EditsMeetModel" "worked" "[I") ∈ lw_all := lw_g (lw_at lw_m13 104 rfl) rfl
theorem q3105 : (Jvm.Cond.soleField "EditsMeetModel" "worked") ∈ lw_all := lw_g (lw_at lw_m13 105 rfl) rfl
theorem q3106 : (Jvm.Cond.laysFinal "EditsMeetModel" "EditsMeetModel" "aside" "[I") ∈ lw_all := lw_g (lw_at lw_m13 106 rfl) rfl
theorem q3107 : (Jvm.Cond.soleField "EditsMeetModel" "aside") ∈ lw_all := lw_g (lw_at lw_m13 107 rfl) rfl
theorem q3108 : (Jvm.Cond.laysFinal "EditsMeetModel" "EditsMeetModel" "tape" "[I") ∈ lw_all := lw_g (lw_at lw_m13 108 rfl) rfl
theorem q3109 : (Jvm.Cond.soleField "EditsMeetModel" "tape") ∈ lw_all := lw_g (lw_at lw_m13 109 rfl) rfl
theorem q3110 : (Jvm.Cond.lays "EditsMeetModel" "EditsMeetModel" "taped" "I") ∈ lw_all := lw_g (lw_at lw_m13 110 rfl) rfl
theorem q3111 : (Jvm.Cond.soleField "EditsMeetModel" "taped") ∈ lw_all := lw_g (lw_at lw_m13 111 rfl) rfl
theorem q3112 : (Jvm.Cond.lays "EditsMeetModel" "EditsMeetModel" "place" "I") ∈ lw_all := lw_g (lw_at lw_m13 112 rfl) rfl
theorem q3113 : (Jvm.Cond.soleField "EditsMeetModel" "place") ∈ lw_all := lw_g (lw_at lw_m13 113 rfl) rfl
theorem q3114 : (Jvm.Cond.lays "EditsMeetModel" "EditsMeetModel" "number" "I") ∈ lw_all := lw_g (lw_at lw_m13 114 rfl) rfl
theorem q3115 : (Jvm.Cond.soleField "EditsMeetModel" "number") ∈ lw_all := lw_g (lw_at lw_m13 115 rfl) rfl
theorem q3116 : (Jvm.Cond.lays "EditsMeetModel" "EditsMeetModel" "texted" "I") ∈ lw_all := lw_g (lw_at lw_m13 116 rfl) rfl
theorem q3117 : (Jvm.Cond.soleField "EditsMeetModel" "texted") ∈ lw_all := lw_g (lw_at lw_m13 117 rfl) rfl
theorem q3118 : (Jvm.Cond.lays "EditsMeetModel" "EditsMeetModel" "asked" "I") ∈ lw_all := lw_g (lw_at lw_m13 118 rfl) rfl
theorem q3119 : (Jvm.Cond.soleField "EditsMeetModel" "asked") ∈ lw_all := lw_g (lw_at lw_m13 119 rfl) rfl
theorem q3120 : (Jvm.Cond.lays "EditsMeetModel" "EditsMeetModel" "found" "I") ∈ lw_all := lw_g (lw_at lw_m13 120 rfl) rfl
theorem q3121 : (Jvm.Cond.soleField "EditsMeetModel" "found") ∈ lw_all := lw_g (lw_at lw_m13 121 rfl) rfl
theorem q3122 : (Jvm.Cond.laysFinal "EditsMeetModel" "EditsMeetModel" "sorts" "[I") ∈ lw_all := lw_g (lw_at lw_m13 122 rfl) rfl
theorem q3123 : (Jvm.Cond.soleField "EditsMeetModel" "sorts") ∈ lw_all := lw_g (lw_at lw_m13 123 rfl) rfl
theorem q3124 : (Jvm.Cond.laysFinal "EditsMeetModel" "EditsMeetModel" "sizes" "[I") ∈ lw_all := lw_g (lw_at lw_m13 124 rfl) rfl
theorem q3125 : (Jvm.Cond.soleField "EditsMeetModel" "sizes") ∈ lw_all := lw_g (lw_at lw_m13 125 rfl) rfl
theorem q3126 : (Jvm.Cond.laysFinal "EditsMeetModel" "EditsMeetModel" "elements" "[J") ∈ lw_all := lw_g (lw_at lw_m13 126 rfl) rfl
theorem q3127 : (Jvm.Cond.soleField "EditsMeetModel" "elements") ∈ lw_all := lw_g (lw_at lw_m13 127 rfl) rfl
theorem q3128 : (Jvm.Cond.laysFinal "EditsMeetModel" "EditsMeetModel" "partKind" "[I") ∈ lw_all := lw_g (lw_at lw_m13 128 rfl) rfl
theorem q3129 : (Jvm.Cond.soleField "EditsMeetModel" "partKind") ∈ lw_all := lw_g (lw_at lw_m13 129 rfl) rfl
theorem q3130 : (Jvm.Cond.laysFinal "EditsMeetModel" "EditsMeetModel" "partMany" "[I") ∈ lw_all := lw_g (lw_at lw_m13 130 rfl) rfl
theorem q3131 : (Jvm.Cond.soleField "EditsMeetModel" "partMany") ∈ lw_all := lw_g (lw_at lw_m13 131 rfl) rfl
theorem q3132 : (Jvm.Cond.laysFinal "EditsMeetModel" "EditsMeetModel" "partAbout" "[I") ∈ lw_all := lw_g (lw_at lw_m13 132 rfl) rfl
theorem q3133 : (Jvm.Cond.soleField "EditsMeetModel" "partAbout") ∈ lw_all := lw_g (lw_at lw_m13 133 rfl) rfl
theorem q3134 : (Jvm.Cond.laysFinal "EditsMeetModel" "EditsMeetModel" "keptRows" "[[I") ∈ lw_all := lw_g (lw_at lw_m13 134 rfl) rfl
theorem q3135 : (Jvm.Cond.soleField "EditsMeetModel" "keptRows") ∈ lw_all := lw_g (lw_at lw_m13 135 rfl) rfl
theorem q3136 : (Jvm.Cond.laysFinal "EditsMeetModel" "EditsMeetModel" "keptSize" "[I") ∈ lw_all := lw_g (lw_at lw_m13 136 rfl) rfl
theorem q3137 : (Jvm.Cond.soleField "EditsMeetModel" "keptSize") ∈ lw_all := lw_g (lw_at lw_m13 137 rfl) rfl
theorem q3138 : (Jvm.Cond.laysFinal "EditsMeetModel" "EditsMeetModel" "keptTexts" "[[I") ∈ lw_all := lw_g (lw_at lw_m13 138 rfl) rfl
theorem q3139 : (Jvm.Cond.soleField "EditsMeetModel" "keptTexts") ∈ lw_all := lw_g (lw_at lw_m13 139 rfl) rfl
theorem q3140 : (Jvm.Cond.laysFinal "EditsMeetModel" "EditsMeetModel" "keptLengths" "[I") ∈ lw_all := lw_g (lw_at lw_m13 140 rfl) rfl
theorem q3141 : (Jvm.Cond.soleField "EditsMeetModel" "keptLengths") ∈ lw_all := lw_g (lw_at lw_m13 141 rfl) rfl
theorem q3142 : (Jvm.Cond.laysFinal "EditsMeetModel" "EditsMeetModel" "keptState" "[I") ∈ lw_all := lw_g (lw_at lw_m13 142 rfl) rfl
theorem q3143 : (Jvm.Cond.soleField "EditsMeetModel" "keptState") ∈ lw_all := lw_g (lw_at lw_m13 143 rfl) rfl
theorem q3144 : (Jvm.Cond.laysFinal "EditsMeetModel" "EditsMeetModel" "keptBy" "[I") ∈ lw_all := lw_g (lw_at lw_m13 144 rfl) rfl
theorem q3145 : (Jvm.Cond.soleField "EditsMeetModel" "keptBy") ∈ lw_all := lw_g (lw_at lw_m13 145 rfl) rfl
theorem q3146 : (Jvm.Cond.laysFinal "EditsMeetModel" "EditsMeetModel" "keptSingle" "[I") ∈ lw_all := lw_g (lw_at lw_m13 146 rfl) rfl
theorem q3147 : (Jvm.Cond.soleField "EditsMeetModel" "keptSingle") ∈ lw_all := lw_g (lw_at lw_m13 147 rfl) rfl
theorem q3148 : (Jvm.Cond.lays "EditsMeetModel" "EditsMeetModel" "hasImage" "Z") ∈ lw_all := lw_g (lw_at lw_m13 148 rfl) rfl
theorem q3149 : (Jvm.Cond.soleField "EditsMeetModel" "hasImage") ∈ lw_all := lw_g (lw_at lw_m13 149 rfl) rfl
theorem q3150 : (Jvm.Cond.superclass "EditsMeetModel" "java/lang/Object") ∈ lw_all := lw_g (lw_at lw_m13 150 rfl) rfl
theorem q3152 : (Jvm.Cond.instanceMethod ({ cls := "EditsMeetModel", name := "feed", desc := "(I)I" } : Jvm.MethodName)) ∈ lw_all := lw_g (lw_at lw_m13 152 rfl) rfl
theorem q3153 : (Jvm.Cond.selects "EditsMeetModel" ({ cls := "EditsMeetModel", name := "feed", desc := "(I)I" } : Jvm.MethodName) ({ cls := "EditsMeetModel", name := "feed", desc := "(I)I" } : Jvm.MethodName)) ∈ lw_all := lw_g (lw_at lw_m13 153 rfl) rfl
theorem q3154 : (Jvm.Cond.code ({ cls := "EditsMeetModel", name := "feed", desc := "(I)I" } : Jvm.MethodName) prog_24_method_35_code (2 : Nat) (Option.some Jvm.ClassFile.FieldType.int)) ∈ lw_all := lw_g (lw_at lw_m13 154 rfl) rfl
theorem q3155 : (Jvm.Cond.constantLong "EditsMeetModel" (181 : Nat) (255 : Int64)) ∈ lw_all := lw_g (lw_at lw_m13 155 rfl) rfl
theorem q3156 : (Jvm.Cond.methodLink "EditsMeetModel" (175 : Nat) ({ cls := "EditsMeetModel", name := "in", desc := "(JJJ)Z" } : Jvm.MethodName)) ∈ lw_all := lw_g (lw_at lw_m13 156 rfl) rfl
theorem q3157 : (Jvm.Cond.static ({ cls := "EditsMeetModel", name := "in", desc := "(JJJ)Z" } : Jvm.MethodName)) ∈ lw_all := lw_g (lw_at lw_m13 157 rfl) rfl
theorem q3158 : (Jvm.Cond.code ({ cls := "EditsMeetModel", name := "in", desc := "(JJJ)Z" } : Jvm.MethodName) prog_24_method_2_code (6 : Nat) (Option.some Jvm.ClassFile.FieldType.boolean)) ∈ lw_all := lw_g (lw_at lw_m13 158 rfl) rfl
theorem q3159 : (Jvm.Cond.methodLink "EditsMeetModel" (183 : Nat) ({ cls := "EditsMeetModel", name := "refused", desc := "(I)I" } : Jvm.MethodName)) ∈ lw_all := lw_g (lw_at lw_m13 159 rfl) rfl
theorem q3160 : (Jvm.Cond.privateMethod ({ cls := "EditsMeetModel", name := "refused", desc := "(I)I" } : Jvm.MethodName)) ∈ lw_tbl := lw_at lw_m13 160 rfl
theorem q3161 : (Jvm.Cond.instanceMethod ({ cls := "EditsMeetModel", name := "refused", desc := "(I)I" } : Jvm.MethodName)) ∈ lw_all := lw_g (lw_at lw_m13 161 rfl) rfl
theorem q3162 : (Jvm.Cond.code ({ cls := "EditsMeetModel", name := "refused", desc := "(I)I" } : Jvm.MethodName) prog_24_method_3_code (2 : Nat) (Option.some Jvm.ClassFile.FieldType.int)) ∈ lw_all := lw_g (lw_at lw_m13 162 rfl) rfl
theorem q3164 : (Jvm.Cond.instanceMethod ({ cls := "EditsMeetModel", name := "wipe", desc := "()I" } : Jvm.MethodName)) ∈ lw_all := lw_g (lw_at lw_m13 164 rfl) rfl
theorem q3165 : (Jvm.Cond.selects "EditsMeetModel" ({ cls := "EditsMeetModel", name := "wipe", desc := "()I" } : Jvm.MethodName) ({ cls := "EditsMeetModel", name := "wipe", desc := "()I" } : Jvm.MethodName)) ∈ lw_all := lw_g (lw_at lw_m13 165 rfl) rfl
theorem q3166 : (Jvm.Cond.code ({ cls := "EditsMeetModel", name := "wipe", desc := "()I" } : Jvm.MethodName) prog_24_method_36_code (2 : Nat) (Option.some Jvm.ClassFile.FieldType.int)) ∈ lw_all := lw_g (lw_at lw_m13 166 rfl) rfl
theorem q3168 : (Jvm.Cond.instanceMethod ({ cls := "EditsMeetModel", name := "edit", desc := "(I)I" } : Jvm.MethodName)) ∈ lw_all := lw_g (lw_at lw_m13 168 rfl) rfl
theorem q3169 : (Jvm.Cond.selects "EditsMeetModel" ({ cls := "EditsMeetModel", name := "edit", desc := "(I)I" } : Jvm.MethodName) ({ cls := "EditsMeetModel", name := "edit", desc := "(I)I" } : Jvm.MethodName)) ∈ lw_all := lw_g (lw_at lw_m13 169 rfl) rfl
theorem q3170 : (Jvm.Cond.code ({ cls := "EditsMeetModel", name := "edit", desc := "(I)I" } : Jvm.MethodName) prog_24_method_40_code (3 : Nat) (Option.some Jvm.ClassFile.FieldType.int)) ∈ lw_all := lw_g (lw_at lw_m13 170 rfl) rfl
theorem q3171 : (Jvm.Cond.methodLink "EditsMeetModel" (211 : Nat) ({ cls := "EditsMeetModel", name := "isEdit", desc := "(I)Z" } : Jvm.MethodName)) ∈ lw_all := lw_g (lw_at lw_m13 171 rfl) rfl
theorem q3172 : (Jvm.Cond.static ({ cls := "EditsMeetModel", name := "isEdit", desc := "(I)Z" } : Jvm.MethodName)) ∈ lw_all := lw_g (lw_at lw_m13 172 rfl) rfl
theorem q3173 : (Jvm.Cond.code ({ cls := "EditsMeetModel", name := "isEdit", desc := "(I)Z" } : Jvm.MethodName) prog_24_method_34_code (1 : Nat) (Option.some Jvm.ClassFile.FieldType.boolean)) ∈ lw_all := lw_g (lw_at lw_m13 173 rfl) rfl
theorem q3174 : (Jvm.Cond.constantLong "EditsMeetModel" (179 : Nat) (11 : Int64)) ∈ lw_all := lw_g (lw_at lw_m13 174 rfl) rfl
theorem q3175 : (Jvm.Cond.methodLink "EditsMeetModel" (214 : Nat) ({ cls := "EditsMeetModel", name := "isPart", desc := "()Z" } : Jvm.MethodName)) ∈ lw_all := lw_g (lw_at lw_m13 175 rfl) rfl
theorem q3176 : (Jvm.Cond.privateMethod ({ cls := "EditsMeetModel", name := "isPart", desc := "()Z" } : Jvm.MethodName)) ∈ lw_tbl := lw_at lw_m13 176 rfl
theorem q3177 : (Jvm.Cond.instanceMethod ({ cls := "EditsMeetModel", name := "isPart", desc := "()Z" } : Jvm.MethodName)) ∈ lw_all := lw_g (lw_at lw_m13 177 rfl) rfl
theorem q3178 : (Jvm.Cond.code ({ cls := "EditsMeetModel", name := "isPart", desc := "()Z" } : Jvm.MethodName) prog_24_method_39_code (5 : Nat) (Option.some Jvm.ClassFile.FieldType.boolean)) ∈ lw_all := lw_g (lw_at lw_m13 178 rfl) rfl
theorem q3179 : (Jvm.Cond.methodLink "EditsMeetModel" (193 : Nat) ({ cls := "EditsMeetModel", name := "byteAt", desc := "(I)I" } : Jvm.MethodName)) ∈ lw_all := lw_g (lw_at lw_m13 179 rfl) rfl
theorem q3180 : (Jvm.Cond.privateMethod ({ cls := "EditsMeetModel", name := "byteAt", desc := "(I)I" } : Jvm.MethodName)) ∈ lw_tbl := lw_at lw_m13 180 rfl
theorem q3181 : (Jvm.Cond.instanceMethod ({ cls := "EditsMeetModel", name := "byteAt", desc := "(I)I" } : Jvm.MethodName)) ∈ lw_all := lw_g (lw_at lw_m13 181 rfl) rfl
theorem q3182 : (Jvm.Cond.code ({ cls := "EditsMeetModel", name := "byteAt", desc := "(I)I" } : Jvm.MethodName) prog_24_method_37_code (2 : Nat) (Option.some Jvm.ClassFile.FieldType.int)) ∈ lw_all := lw_g (lw_at lw_m13 182 rfl) rfl
theorem q3183 : (Jvm.Cond.constantLong "EditsMeetModel" (203 : Nat) (97 : Int64)) ∈ lw_all := lw_g (lw_at lw_m13 183 rfl) rfl
theorem q3184 : (Jvm.Cond.constantLong "EditsMeetModel" (205 : Nat) (122 : Int64)) ∈ lw_all := lw_g (lw_at lw_m13 184 rfl) rfl
theorem q3185 : (Jvm.Cond.constant "EditsMeetModel" (110 : Nat) (1048576 : Int32)) ∈ lw_all := lw_g (lw_at lw_m13 185 rfl) rfl
theorem q3186 : (Jvm.Cond.methodLink "EditsMeetModel" (115 : Nat) ({ cls := "EditsMeetModel", name := "adds", desc := "(II)V" } : Jvm.MethodName)) ∈ lw_all := lw_g (lw_at lw_m13 186 rfl) rfl
theorem q3187 : (Jvm.Cond.privateMethod ({ cls := "EditsMeetModel", name := "adds", desc := "(II)V" } : Jvm.MethodName)) ∈ lw_tbl := lw_at lw_m13 187 rfl
theorem q3188 : (Jvm.Cond.instanceMethod ({ cls := "EditsMeetModel", name := "adds", desc := "(II)V" } : Jvm.MethodName)) ∈ lw_all := lw_g (lw_at lw_m13 188 rfl) rfl
theorem q3189 : (Jvm.Cond.code ({ cls := "EditsMeetModel", name := "adds", desc := "(II)V" } : Jvm.MethodName) prog_24_method_6_code (3 : Nat) (Option.none : Option Jvm.ClassFile.FieldType)) ∈ lw_all := lw_g (lw_at lw_m13 189 rfl) rfl
theorem q3190 : (Jvm.Cond.methodLink "EditsMeetModel" (207 : Nat) ({ cls := "EditsMeetModel", name := "isNumber", desc := "(I)Z" } : Jvm.MethodName)) ∈ lw_all := lw_g (lw_at lw_m13 190 rfl) rfl
theorem q3191 : (Jvm.Cond.privateMethod ({ cls := "EditsMeetModel", name := "isNumber", desc := "(I)Z" } : Jvm.MethodName)) ∈ lw_tbl := lw_at lw_m13 191 rfl
theorem q3192 : (Jvm.Cond.instanceMethod ({ cls := "EditsMeetModel", name := "isNumber", desc := "(I)Z" } : Jvm.MethodName)) ∈ lw_all := lw_g (lw_at lw_m13 192 rfl) rfl
theorem q3193 : (Jvm.Cond.code ({ cls := "EditsMeetModel", name := "isNumber", desc := "(I)Z" } : Jvm.MethodName) prog_24_method_38_code (4 : Nat) (Option.some Jvm.ClassFile.FieldType.boolean)) ∈ lw_all := lw_g (lw_at lw_m13 193 rfl) rfl
theorem q3194 : (Jvm.Cond.constantLong "EditsMeetModel" (196 : Nat) (48 : Int64)) ∈ lw_all := lw_g (lw_at lw_m13 194 rfl) rfl
theorem q3195 : (Jvm.Cond.constantLong "EditsMeetModel" (198 : Nat) (57 : Int64)) ∈ lw_all := lw_g (lw_at lw_m13 195 rfl) rfl
theorem q3196 : (Jvm.Cond.constant "EditsMeetModel" (108 : Nat) (2097152 : Int32)) ∈ lw_all := lw_g (lw_at lw_m13 196 rfl) rfl
theorem q3197 : (Jvm.Cond.constant "EditsMeetModel" (109 : Nat) (3145728 : Int32)) ∈ lw_all := lw_g (lw_at lw_m13 197 rfl) rfl
theorem q3198 : (Jvm.Cond.constant "EditsMeetModel" (126 : Nat) (4194304 : Int32)) ∈ lw_all := lw_g (lw_at lw_m13 198 rfl) rfl
theorem q3199 : (Jvm.Cond.methodLink "EditsMeetModel" (122 : Nat) ({ cls := "EditsMeetModel", name := "plain", desc := "(I)V" } : Jvm.MethodName)) ∈ lw_all := lw_g (lw_at lw_m13 199 rfl) rfl
theorem q3200 : (Jvm.Cond.privateMethod ({ cls := "EditsMeetModel", name := "plain", desc := "(I)V" } : Jvm.MethodName)) ∈ lw_tbl := lw_at lw_m13 200 rfl
theorem q3201 : (Jvm.Cond.instanceMethod ({ cls := "EditsMeetModel", name := "plain", desc := "(I)V" } : Jvm.MethodName)) ∈ lw_all := lw_g (lw_at lw_m13 201 rfl) rfl
theorem q3202 : (Jvm.Cond.code ({ cls := "EditsMeetModel", name := "plain", desc := "(I)V" } : Jvm.MethodName) prog_24_method_10_code (6 : Nat) (Option.none : Option Jvm.ClassFile.FieldType)) ∈ lw_all := lw_g (lw_at lw_m13 202 rfl) rfl
theorem q3203 : (Jvm.Cond.methodLink "EditsMeetModel" (104 : Nat) ({ cls := "EditsMeetModel", name := "kind", desc := "(I)I" } : Jvm.MethodName)) ∈ lw_all := lw_g (lw_at lw_m13 203 rfl) rfl
theorem q3204 : (Jvm.Cond.static ({ cls := "EditsMeetModel", name := "kind", desc := "(I)I" } : Jvm.MethodName)) ∈ lw_all := lw_g (lw_at lw_m13 204 rfl) rfl
theorem q3205 : (Jvm.Cond.code ({ cls := "EditsMeetModel", name := "kind", desc := "(I)I" } : Jvm.MethodName) prog_24_method_4_code (1 : Nat) (Option.some Jvm.ClassFile.FieldType.int)) ∈ lw_all := lw_g (lw_at lw_m13 205 rfl) rfl
theorem q3206 : (Jvm.Cond.constant "EditsMeetModel" (92 : Nat) (7340032 : Int32)) ∈ lw_all := lw_g (lw_at lw_m13 206 rfl) rfl
theorem q3207 : (Jvm.Cond.methodLink "EditsMeetModel" (218 : Nat) ({ cls := "EditsMeetModel", name := "comes", desc := "(II)I" } : Jvm.MethodName)) ∈ lw_all := lw_g (lw_at lw_m13 207 rfl) rfl
theorem q3208 : (Jvm.Cond.privateMethod ({ cls := "EditsMeetModel", name := "comes", desc := "(II)I" } : Jvm.MethodName)) ∈ lw_tbl := lw_at lw_m13 208 rfl
theorem q3209 : (Jvm.Cond.instanceMethod ({ cls := "EditsMeetModel", name := "comes", desc := "(II)I" } : Jvm.MethodName)) ∈ lw_all := lw_g (lw_at lw_m13 209 rfl) rfl
theorem q3210 : (Jvm.Cond.code ({ cls := "EditsMeetModel", name := "comes", desc := "(II)I" } : Jvm.MethodName) prog_24_method_41_code (3 : Nat) (Option.some Jvm.ClassFile.FieldType.int)) ∈ lw_all := lw_g (lw_at lw_m13 210 rfl) rfl
theorem q3211 : (Jvm.Cond.methodLink "EditsMeetModel" (101 : Nat) ({ cls := "EditsMeetModel", name := "keepsRow", desc := "(II)V" } : Jvm.MethodName)) ∈ lw_all := lw_g (lw_at lw_m13 211 rfl) rfl
theorem q3212 : (Jvm.Cond.privateMethod ({ cls := "EditsMeetModel", name := "keepsRow", desc := "(II)V" } : Jvm.MethodName)) ∈ lw_tbl := lw_at lw_m13 212 rfl
theorem q3213 : (Jvm.Cond.instanceMethod ({ cls := "EditsMeetModel", name := "keepsRow", desc := "(II)V" } : Jvm.MethodName)) ∈ lw_all := lw_g (lw_at lw_m13 213 rfl) rfl
theorem q3214 : (Jvm.Cond.code ({ cls := "EditsMeetModel", name := "keepsRow", desc := "(II)V" } : Jvm.MethodName) prog_24_method_8_code (4 : Nat) (Option.none : Option Jvm.ClassFile.FieldType)) ∈ lw_all := lw_g (lw_at lw_m13 214 rfl) rfl
theorem q3215 : (Jvm.Cond.methodLink "EditsMeetModel" (93 : Nat) ({ cls := "EditsMeetModel", name := "grown", desc := "([II)[I" } : Jvm.MethodName)) ∈ lw_all := lw_g (lw_at lw_m13 215 rfl) rfl
theorem q3216 : (Jvm.Cond.static ({ cls := "EditsMeetModel", name := "grown", desc := "([II)[I" } : Jvm.MethodName)) ∈ lw_all := lw_g (lw_at lw_m13 216 rfl) rfl
theorem q3217 : (Jvm.Cond.code ({ cls := "EditsMeetModel", name := "grown", desc := "([II)[I" } : Jvm.MethodName) prog_24_method_5_code (4 : Nat) (Option.some (Jvm.ClassFile.FieldType.array Jvm.ClassFile.FieldType.int))) ∈ lw_all := lw_g (lw_at lw_m13 217 rfl) rfl
theorem q3218 : (Jvm.Cond.methodLink "EditsMeetModel" (221 : Nat) ({ cls := "EditsMeetModel", name := "parts", desc := "(I)I" } : Jvm.MethodName)) ∈ lw_all := lw_g (lw_at lw_m13 218 rfl) rfl
theorem q3219 : (Jvm.Cond.privateMethod ({ cls := "EditsMeetModel", name := "parts", desc := "(I)I" } : Jvm.MethodName)) ∈ lw_tbl := lw_at lw_m13 219 rfl
theorem q3220 : (Jvm.Cond.instanceMethod ({ cls := "EditsMeetModel", name := "parts", desc := "(I)I" } : Jvm.MethodName)) ∈ lw_all := lw_g (lw_at lw_m13 220 rfl) rfl
theorem q3221 : (Jvm.Cond.code ({ cls := "EditsMeetModel", name := "parts", desc := "(I)I" } : Jvm.MethodName) prog_24_method_43_code (4 : Nat) (Option.some Jvm.ClassFile.FieldType.int)) ∈ lw_all := lw_g (lw_at lw_m13 221 rfl) rfl
theorem q3222 : (Jvm.Cond.methodLink "EditsMeetModel" (224 : Nat) ({ cls := "EditsMeetModel", name := "isOne", desc := "(II)Z" } : Jvm.MethodName)) ∈ lw_all := lw_g (lw_at lw_m13 222 rfl) rfl
theorem q3223 : (Jvm.Cond.static ({ cls := "EditsMeetModel", name := "isOne", desc := "(II)Z" } : Jvm.MethodName)) ∈ lw_all := lw_g (lw_at lw_m13 223 rfl) rfl
theorem q3224 : (Jvm.Cond.code ({ cls := "EditsMeetModel", name := "isOne", desc := "(II)Z" } : Jvm.MethodName) prog_24_method_42_code (2 : Nat) (Option.some Jvm.ClassFile.FieldType.boolean)) ∈ lw_all := lw_g (lw_at lw_m13 224 rfl) rfl
theorem q3226 : (Jvm.Cond.instanceMethod ({ cls := "EditsMeetModel", name := "of", desc := "(II)I" } : Jvm.MethodName)) ∈ lw_all := lw_g (lw_at lw_m13 226 rfl) rfl
theorem q3227 : (Jvm.Cond.selects "EditsMeetModel" ({ cls := "EditsMeetModel", name := "of", desc := "(II)I" } : Jvm.MethodName) ({ cls := "EditsMeetModel", name := "of", desc := "(II)I" } : Jvm.MethodName)) ∈ lw_all := lw_g (lw_at lw_m13 227 rfl) rfl
theorem q3228 : (Jvm.Cond.code ({ cls := "EditsMeetModel", name := "of", desc := "(II)I" } : Jvm.MethodName) prog_24_method_48_code (3 : Nat) (Option.some Jvm.ClassFile.FieldType.int)) ∈ lw_all := lw_g (lw_at lw_m13 228 rfl) rfl
theorem q3229 : (Jvm.Cond.constantLong "EditsMeetModel" (228 : Nat) (5 : Int64)) ∈ lw_all := lw_g (lw_at lw_m13 229 rfl) rfl
theorem q3230 : (Jvm.Cond.methodLink "EditsMeetModel" (230 : Nat) ({ cls := "EditsMeetModel", name := "isKept", desc := "(I)Z" } : Jvm.MethodName)) ∈ lw_all := lw_g (lw_at lw_m13 230 rfl) rfl
theorem q3231 : (Jvm.Cond.privateMethod ({ cls := "EditsMeetModel", name := "isKept", desc := "(I)Z" } : Jvm.MethodName)) ∈ lw_tbl := lw_at lw_m13 231 rfl
theorem q3232 : (Jvm.Cond.instanceMethod ({ cls := "EditsMeetModel", name := "isKept", desc := "(I)Z" } : Jvm.MethodName)) ∈ lw_all := lw_g (lw_at lw_m13 232 rfl) rfl
theorem q3233 : (Jvm.Cond.code ({ cls := "EditsMeetModel", name := "isKept", desc := "(I)Z" } : Jvm.MethodName) prog_24_method_46_code (2 : Nat) (Option.some Jvm.ClassFile.FieldType.boolean)) ∈ lw_all := lw_g (lw_at lw_m13 233 rfl) rfl
theorem q3234 : (Jvm.Cond.methodLink "EditsMeetModel" (233 : Nat) ({ cls := "EditsMeetModel", name := "from", desc := "(I)I" } : Jvm.MethodName)) ∈ lw_all := lw_g (lw_at lw_m13 234 rfl) rfl
theorem q3235 : (Jvm.Cond.privateMethod ({ cls := "EditsMeetModel", name := "from", desc := "(I)I" } : Jvm.MethodName)) ∈ lw_tbl := lw_at lw_m13 235 rfl
theorem q3236 : (Jvm.Cond.instanceMethod ({ cls := "EditsMeetModel", name := "from", desc := "(I)I" } : Jvm.MethodName)) ∈ lw_all := lw_g (lw_at lw_m13 236 rfl) rfl
theorem q3237 : (Jvm.Cond.code ({ cls := "EditsMeetModel", name := "from", desc := "(I)I" } : Jvm.MethodName) prog_24_method_12_code (2 : Nat) (Option.some Jvm.ClassFile.FieldType.int)) ∈ lw_all := lw_g (lw_at lw_m13 237 rfl) rfl
theorem q3238 : (Jvm.Cond.methodLink "EditsMeetModel" (111 : Nat) ({ cls := "EditsMeetModel", name := "count", desc := "([III)I" } : Jvm.MethodName)) ∈ lw_all := lw_g (lw_at lw_m13 238 rfl) rfl
theorem q3239 : (Jvm.Cond.static ({ cls := "EditsMeetModel", name := "count", desc := "([III)I" } : Jvm.MethodName)) ∈ lw_all := lw_g (lw_at lw_m13 239 rfl) rfl
theorem q3240 : (Jvm.Cond.code ({ cls := "EditsMeetModel", name := "count", desc := "([III)I" } : Jvm.MethodName) prog_24_method_11_code (5 : Nat) (Option.some Jvm.ClassFile.FieldType.int)) ∈ lw_all := lw_g (lw_at lw_m14 0 rfl) rfl
theorem q3241 : (Jvm.Cond.methodLink "EditsMeetModel" (236 : Nat) ({ cls := "EditsMeetModel", name := "to", desc := "(I)I" } : Jvm.MethodName)) ∈ lw_all := lw_g (lw_at lw_m14 1 rfl) rfl
theorem q3242 : (Jvm.Cond.privateMethod ({ cls := "EditsMeetModel", name := "to", desc := "(I)I" } : Jvm.MethodName)) ∈ lw_tbl := lw_at lw_m14 2 rfl
theorem q3243 : (Jvm.Cond.instanceMethod ({ cls := "EditsMeetModel", name := "to", desc := "(I)I" } : Jvm.MethodName)) ∈ lw_all := lw_g (lw_at lw_m14 3 rfl) rfl
theorem q3244 : (Jvm.Cond.code ({ cls := "EditsMeetModel", name := "to", desc := "(I)I" } : Jvm.MethodName) prog_24_method_13_code (2 : Nat) (Option.some Jvm.ClassFile.FieldType.int)) ∈ lw_all := lw_g (lw_at lw_m14 4 rfl) rfl
theorem q3245 : (Jvm.Cond.methodLink "EditsMeetModel" (239 : Nat) ({ cls := "EditsMeetModel", name := "letters", desc := "(II)I" } : Jvm.MethodName)) ∈ lw_all := lw_g (lw_at lw_m14 5 rfl) rfl
theorem q3246 : (Jvm.Cond.privateMethod ({ cls := "EditsMeetModel", name := "letters", desc := "(II)I" } : Jvm.MethodName)) ∈ lw_tbl := lw_at lw_m14 6 rfl
theorem q3247 : (Jvm.Cond.instanceMethod ({ cls := "EditsMeetModel", name := "letters", desc := "(II)I" } : Jvm.MethodName)) ∈ lw_all := lw_g (lw_at lw_m14 7 rfl) rfl
theorem q3248 : (Jvm.Cond.code ({ cls := "EditsMeetModel", name := "letters", desc := "(II)I" } : Jvm.MethodName) prog_24_method_47_code (3 : Nat) (Option.some Jvm.ClassFile.FieldType.int)) ∈ lw_all := lw_g (lw_at lw_m14 8 rfl) rfl
theorem q3250 : (Jvm.Cond.instanceMethod ({ cls := "EditsMeetModel", name := "part", desc := "(III)I" } : Jvm.MethodName)) ∈ lw_all := lw_g (lw_at lw_m14 10 rfl) rfl
theorem q3251 : (Jvm.Cond.selects "EditsMeetModel" ({ cls := "EditsMeetModel", name := "part", desc := "(III)I" } : Jvm.MethodName) ({ cls := "EditsMeetModel", name := "part", desc := "(III)I" } : Jvm.MethodName)) ∈ lw_all := lw_g (lw_at lw_m14 11 rfl) rfl
theorem q3252 : (Jvm.Cond.code ({ cls := "EditsMeetModel", name := "part", desc := "(III)I" } : Jvm.MethodName) prog_24_method_49_code (6 : Nat) (Option.some Jvm.ClassFile.FieldType.int)) ∈ lw_all := lw_g (lw_at lw_m14 12 rfl) rfl
theorem q3253 : (Jvm.Cond.constantLong "EditsMeetModel" (173 : Nat) (3 : Int64)) ∈ lw_all := lw_g (lw_at lw_m14 13 rfl) rfl
theorem q3254 : (Jvm.Cond.methodLink "EditsMeetModel" (242 : Nat) ({ cls := "EditsMeetModel", name := "beginOf", desc := "(II)I" } : Jvm.MethodName)) ∈ lw_all := lw_g (lw_at lw_m14 14 rfl) rfl
theorem q3255 : (Jvm.Cond.privateMethod ({ cls := "EditsMeetModel", name := "beginOf", desc := "(II)I" } : Jvm.MethodName)) ∈ lw_tbl := lw_at lw_m14 15 rfl
theorem q3256 : (Jvm.Cond.instanceMethod ({ cls := "EditsMeetModel", name := "beginOf", desc := "(II)I" } : Jvm.MethodName)) ∈ lw_all := lw_g (lw_at lw_m14 16 rfl) rfl
theorem q3257 : (Jvm.Cond.code ({ cls := "EditsMeetModel", name := "beginOf", desc := "(II)I" } : Jvm.MethodName) prog_24_method_44_code (5 : Nat) (Option.some Jvm.ClassFile.FieldType.int)) ∈ lw_all := lw_g (lw_at lw_m14 17 rfl) rfl
theorem q3258 : (Jvm.Cond.methodLink "EditsMeetModel" (245 : Nat) ({ cls := "EditsMeetModel", name := "kindTold", desc := "(I)I" } : Jvm.MethodName)) ∈ lw_all := lw_g (lw_at lw_m14 18 rfl) rfl
theorem q3259 : (Jvm.Cond.static ({ cls := "EditsMeetModel", name := "kindTold", desc := "(I)I" } : Jvm.MethodName)) ∈ lw_all := lw_g (lw_at lw_m14 19 rfl) rfl
theorem q3260 : (Jvm.Cond.code ({ cls := "EditsMeetModel", name := "kindTold", desc := "(I)I" } : Jvm.MethodName) prog_24_method_45_code (1 : Nat) (Option.some Jvm.ClassFile.FieldType.int)) ∈ lw_all := lw_g (lw_at lw_m14 20 rfl) rfl
theorem q3262 : (Jvm.Cond.instanceMethod ({ cls := "EditsMeetModel", name := "letter", desc := "(III)I" } : Jvm.MethodName)) ∈ lw_all := lw_g (lw_at lw_m14 22 rfl) rfl
theorem q3263 : (Jvm.Cond.selects "EditsMeetModel" ({ cls := "EditsMeetModel", name := "letter", desc := "(III)I" } : Jvm.MethodName) ({ cls := "EditsMeetModel", name := "letter", desc := "(III)I" } : Jvm.MethodName)) ∈ lw_all := lw_g (lw_at lw_m14 23 rfl) rfl
theorem q3264 : (Jvm.Cond.code ({ cls := "EditsMeetModel", name := "letter", desc := "(III)I" } : Jvm.MethodName) prog_24_method_50_code (6 : Nat) (Option.some Jvm.ClassFile.FieldType.int)) ∈ lw_all := lw_g (lw_at lw_m14 24 rfl) rfl
theorem q3266 : (Jvm.Cond.instanceMethod ({ cls := "EditsMeetModel", name := "spelled", desc := "(II)I" } : Jvm.MethodName)) ∈ lw_all := lw_g (lw_at lw_m14 26 rfl) rfl
theorem q3267 : (Jvm.Cond.selects "EditsMeetModel" ({ cls := "EditsMeetModel", name := "spelled", desc := "(II)I" } : Jvm.MethodName) ({ cls := "EditsMeetModel", name := "spelled", desc := "(II)I" } : Jvm.MethodName)) ∈ lw_all := lw_g (lw_at lw_m14 27 rfl) rfl
theorem q3268 : (Jvm.Cond.code ({ cls := "EditsMeetModel", name := "spelled", desc := "(II)I" } : Jvm.MethodName) prog_24_method_54_code (7 : Nat) (Option.some Jvm.ClassFile.FieldType.int)) ∈ lw_all := lw_g (lw_at lw_m14 28 rfl) rfl
theorem q3269 : (Jvm.Cond.methodLink "EditsMeetModel" (260 : Nat) ({ cls := "EditsMeetModel", name := "tells", desc := "(I)V" } : Jvm.MethodName)) ∈ lw_all := lw_g (lw_at lw_m14 29 rfl) rfl
theorem q3270 : (Jvm.Cond.privateMethod ({ cls := "EditsMeetModel", name := "tells", desc := "(I)V" } : Jvm.MethodName)) ∈ lw_tbl := lw_at lw_m14 30 rfl
theorem q3271 : (Jvm.Cond.instanceMethod ({ cls := "EditsMeetModel", name := "tells", desc := "(I)V" } : Jvm.MethodName)) ∈ lw_all := lw_g (lw_at lw_m14 31 rfl) rfl
theorem q3272 : (Jvm.Cond.code ({ cls := "EditsMeetModel", name := "tells", desc := "(I)V" } : Jvm.MethodName) prog_24_method_51_code (2 : Nat) (Option.none : Option Jvm.ClassFile.FieldType)) ∈ lw_all := lw_g (lw_at lw_m14 32 rfl) rfl
theorem q3273 : (Jvm.Cond.methodLink "EditsMeetModel" (263 : Nat) ({ cls := "EditsMeetModel", name := "tellsPart", desc := "(II)V" } : Jvm.MethodName)) ∈ lw_all := lw_g (lw_at lw_m14 33 rfl) rfl
theorem q3274 : (Jvm.Cond.privateMethod ({ cls := "EditsMeetModel", name := "tellsPart", desc := "(II)V" } : Jvm.MethodName)) ∈ lw_tbl := lw_at lw_m14 34 rfl
theorem q3275 : (Jvm.Cond.instanceMethod ({ cls := "EditsMeetModel", name := "tellsPart", desc := "(II)V" } : Jvm.MethodName)) ∈ lw_all := lw_g (lw_at lw_m14 35 rfl) rfl
theorem q3276 : (Jvm.Cond.code ({ cls := "EditsMeetModel", name := "tellsPart", desc := "(II)V" } : Jvm.MethodName) prog_24_method_53_code (5 : Nat) (Option.none : Option Jvm.ClassFile.FieldType)) ∈ lw_all := lw_g (lw_at lw_m14 36 rfl) rfl
theorem q3277 : (Jvm.Cond.methodLink "EditsMeetModel" (257 : Nat) ({ cls := "EditsMeetModel", name := "tellsNumber", desc := "(I)V" } : Jvm.MethodName)) ∈ lw_all := lw_g (lw_at lw_m14 37 rfl) rfl
theorem q3278 : (Jvm.Cond.privateMethod ({ cls := "EditsMeetModel", name := "tellsNumber", desc := "(I)V" } : Jvm.MethodName)) ∈ lw_tbl := lw_at lw_m14 38 rfl
theorem q3279 : (Jvm.Cond.instanceMethod ({ cls := "EditsMeetModel", name := "tellsNumber", desc := "(I)V" } : Jvm.MethodName)) ∈ lw_all := lw_g (lw_at lw_m14 39 rfl) rfl
theorem q3280 : (Jvm.Cond.code ({ cls := "EditsMeetModel", name := "tellsNumber", desc := "(I)V" } : Jvm.MethodName) prog_24_method_52_code (2 : Nat) (Option.none : Option Jvm.ClassFile.FieldType)) ∈ lw_all := lw_g (lw_at lw_m14 40 rfl) rfl
theorem q3282 : (Jvm.Cond.instanceMethod ({ cls := "EditsMeetModel", name := "behind", desc := "(III)I" } : Jvm.MethodName)) ∈ lw_all := lw_g (lw_at lw_m14 42 rfl) rfl
theorem q3283 : (Jvm.Cond.selects "EditsMeetModel" ({ cls := "EditsMeetModel", name := "behind", desc := "(III)I" } : Jvm.MethodName) ({ cls := "EditsMeetModel", name := "behind", desc := "(III)I" } : Jvm.MethodName)) ∈ lw_all := lw_g (lw_at lw_m14 43 rfl) rfl
theorem q3284 : (Jvm.Cond.code ({ cls := "EditsMeetModel", name := "behind", desc := "(III)I" } : Jvm.MethodName) prog_24_method_56_code (4 : Nat) (Option.some Jvm.ClassFile.FieldType.int)) ∈ lw_all := lw_g (lw_at lw_m14 44 rfl) rfl
theorem q3285 : (Jvm.Cond.methodLink "EditsMeetModel" (97 : Nat) ({ cls := "EditsMeetModel", name := "takesRow", desc := "(II)V" } : Jvm.MethodName)) ∈ lw_all := lw_g (lw_at lw_m14 45 rfl) rfl
theorem q3286 : (Jvm.Cond.privateMethod ({ cls := "EditsMeetModel", name := "takesRow", desc := "(II)V" } : Jvm.MethodName)) ∈ lw_tbl := lw_at lw_m14 46 rfl
theorem q3287 : (Jvm.Cond.instanceMethod ({ cls := "EditsMeetModel", name := "takesRow", desc := "(II)V" } : Jvm.MethodName)) ∈ lw_all := lw_g (lw_at lw_m14 47 rfl) rfl
theorem q3288 : (Jvm.Cond.code ({ cls := "EditsMeetModel", name := "takesRow", desc := "(II)V" } : Jvm.MethodName) prog_24_method_7_code (4 : Nat) (Option.none : Option Jvm.ClassFile.FieldType)) ∈ lw_all := lw_g (lw_at lw_m14 48 rfl) rfl
theorem q3289 : (Jvm.Cond.methodLink "EditsMeetModel" (158 : Nat) ({ cls := "EditsMeetModel", name := "behindRow", desc := "(III)V" } : Jvm.MethodName)) ∈ lw_all := lw_g (lw_at lw_m14 49 rfl) rfl
theorem q3290 : (Jvm.Cond.privateMethod ({ cls := "EditsMeetModel", name := "behindRow", desc := "(III)V" } : Jvm.MethodName)) ∈ lw_tbl := lw_at lw_m14 50 rfl
theorem q3291 : (Jvm.Cond.instanceMethod ({ cls := "EditsMeetModel", name := "behindRow", desc := "(III)V" } : Jvm.MethodName)) ∈ lw_all := lw_g (lw_at lw_m14 51 rfl) rfl
theorem q3292 : (Jvm.Cond.code ({ cls := "EditsMeetModel", name := "behindRow", desc := "(III)V" } : Jvm.MethodName) prog_24_method_16_code (8 : Nat) (Option.none : Option Jvm.ClassFile.FieldType)) ∈ lw_all := lw_g (lw_at lw_m14 52 rfl) rfl
theorem q3293 : (Jvm.Cond.methodLink "EditsMeetModel" (118 : Nat) ({ cls := "EditsMeetModel", name := "together", desc := "(III)V" } : Jvm.MethodName)) ∈ lw_all := lw_g (lw_at lw_m14 53 rfl) rfl
theorem q3294 : (Jvm.Cond.privateMethod ({ cls := "EditsMeetModel", name := "together", desc := "(III)V" } : Jvm.MethodName)) ∈ lw_tbl := lw_at lw_m14 54 rfl
theorem q3295 : (Jvm.Cond.instanceMethod ({ cls := "EditsMeetModel", name := "together", desc := "(III)V" } : Jvm.MethodName)) ∈ lw_all := lw_g (lw_at lw_m14 55 rfl) rfl
theorem q3296 : (Jvm.Cond.code ({ cls := "EditsMeetModel", name := "together", desc := "(III)V" } : Jvm.MethodName) prog_24_method_17_code (6 : Nat) (Option.none : Option Jvm.ClassFile.FieldType)) ∈ lw_all := lw_g (lw_at lw_m14 56 rfl) rfl
theorem q3297 : (Jvm.Cond.methodLink "EditsMeetModel" (127 : Nat) ({ cls := "EditsMeetModel", name := "marksOf", desc := "(II)I" } : Jvm.MethodName)) ∈ lw_all := lw_g (lw_at lw_m14 57 rfl) rfl
theorem q3298 : (Jvm.Cond.static ({ cls := "EditsMeetModel", name := "marksOf", desc := "(II)I" } : Jvm.MethodName)) ∈ lw_all := lw_g (lw_at lw_m14 58 rfl) rfl
theorem q3299 : (Jvm.Cond.code ({ cls := "EditsMeetModel", name := "marksOf", desc := "(II)I" } : Jvm.MethodName) prog_24_method_15_code (2 : Nat) (Option.some Jvm.ClassFile.FieldType.int)) ∈ lw_all := lw_g (lw_at lw_m14 59 rfl) rfl
theorem q3300 : (Jvm.Cond.methodLink "EditsMeetModel" (269 : Nat) ({ cls := "EditsMeetModel", name := "made", desc := "(II)I" } : Jvm.MethodName)) ∈ lw_all := lw_g (lw_at lw_m14 60 rfl) rfl
theorem q3301 : (Jvm.Cond.privateMethod ({ cls := "EditsMeetModel", name := "made", desc := "(II)I" } : Jvm.MethodName)) ∈ lw_tbl := lw_at lw_m14 61 rfl
theorem q3302 : (Jvm.Cond.instanceMethod ({ cls := "EditsMeetModel", name := "made", desc := "(II)I" } : Jvm.MethodName)) ∈ lw_all := lw_g (lw_at lw_m14 62 rfl) rfl
theorem q3303 : (Jvm.Cond.code ({ cls := "EditsMeetModel", name := "made", desc := "(II)I" } : Jvm.MethodName) prog_24_method_55_code (3 : Nat) (Option.some Jvm.ClassFile.FieldType.int)) ∈ lw_all := lw_g (lw_at lw_m14 63 rfl) rfl
theorem q3304 : (Jvm.Cond.methodLink "EditsMeetModel" (266 : Nat) ({ cls := "EditsMeetModel", name := "isTooLarge", desc := "(I)Z" } : Jvm.MethodName)) ∈ lw_all := lw_g (lw_at lw_m14 64 rfl) rfl
theorem q3305 : (Jvm.Cond.privateMethod ({ cls := "EditsMeetModel", name := "isTooLarge", desc := "(I)Z" } : Jvm.MethodName)) ∈ lw_tbl := lw_at lw_m14 65 rfl
theorem q3306 : (Jvm.Cond.instanceMethod ({ cls := "EditsMeetModel", name := "isTooLarge", desc := "(I)Z" } : Jvm.MethodName)) ∈ lw_all := lw_g (lw_at lw_m14 66 rfl) rfl
theorem q3307 : (Jvm.Cond.code ({ cls := "EditsMeetModel", name := "isTooLarge", desc := "(I)Z" } : Jvm.MethodName) prog_24_method_14_code (3 : Nat) (Option.some Jvm.ClassFile.FieldType.boolean)) ∈ lw_all := lw_g (lw_at lw_m14 67 rfl) rfl
theorem q3309 : (Jvm.Cond.instanceMethod ({ cls := "EditsMeetModel", name := "over", desc := "(IIII)I" } : Jvm.MethodName)) ∈ lw_all := lw_g (lw_at lw_m14 69 rfl) rfl
theorem q3310 : (Jvm.Cond.selects "EditsMeetModel" ({ cls := "EditsMeetModel", name := "over", desc := "(IIII)I" } : Jvm.MethodName) ({ cls := "EditsMeetModel", name := "over", desc := "(IIII)I" } : Jvm.MethodName)) ∈ lw_all := lw_g (lw_at lw_m14 70 rfl) rfl
theorem q3311 : (Jvm.Cond.code ({ cls := "EditsMeetModel", name := "over", desc := "(IIII)I" } : Jvm.MethodName) prog_24_method_57_code (5 : Nat) (Option.some Jvm.ClassFile.FieldType.int)) ∈ lw_all := lw_g (lw_at lw_m14 71 rfl) rfl
theorem q3312 : (Jvm.Cond.methodLink "EditsMeetModel" (164 : Nat) ({ cls := "EditsMeetModel", name := "overRow", desc := "(IIII)V" } : Jvm.MethodName)) ∈ lw_all := lw_g (lw_at lw_m14 72 rfl) rfl
theorem q3313 : (Jvm.Cond.privateMethod ({ cls := "EditsMeetModel", name := "overRow", desc := "(IIII)V" } : Jvm.MethodName)) ∈ lw_tbl := lw_at lw_m14 73 rfl
theorem q3314 : (Jvm.Cond.instanceMethod ({ cls := "EditsMeetModel", name := "overRow", desc := "(IIII)V" } : Jvm.MethodName)) ∈ lw_all := lw_g (lw_at lw_m14 74 rfl) rfl
theorem q3315 : (Jvm.Cond.code ({ cls := "EditsMeetModel", name := "overRow", desc := "(IIII)V" } : Jvm.MethodName) prog_24_method_18_code (9 : Nat) (Option.none : Option Jvm.ClassFile.FieldType)) ∈ lw_all := lw_g (lw_at lw_m14 75 rfl) rfl
theorem q3316 : (Jvm.Cond.methodLink "EditsMeetModel" (131 : Nat) ({ cls := "EditsMeetModel", name := "overOne", desc := "(IIII)V" } : Jvm.MethodName)) ∈ lw_all := lw_g (lw_at lw_m14 76 rfl) rfl
theorem q3317 : (Jvm.Cond.privateMethod ({ cls := "EditsMeetModel", name := "overOne", desc := "(IIII)V" } : Jvm.MethodName)) ∈ lw_tbl := lw_at lw_m14 77 rfl
theorem q3318 : (Jvm.Cond.instanceMethod ({ cls := "EditsMeetModel", name := "overOne", desc := "(IIII)V" } : Jvm.MethodName)) ∈ lw_all := lw_g (lw_at lw_m14 78 rfl) rfl
theorem q3319 : (Jvm.Cond.code ({ cls := "EditsMeetModel", name := "overOne", desc := "(IIII)V" } : Jvm.MethodName) prog_24_method_19_code (7 : Nat) (Option.none : Option Jvm.ClassFile.FieldType)) ∈ lw_all := lw_g (lw_at lw_m14 79 rfl) rfl
theorem q3321 : (Jvm.Cond.instanceMethod ({ cls := "EditsMeetModel", name := "turned", desc := "(III)I" } : Jvm.MethodName)) ∈ lw_all := lw_g (lw_at lw_m14 81 rfl) rfl
theorem q3322 : (Jvm.Cond.selects "EditsMeetModel" ({ cls := "EditsMeetModel", name := "turned", desc := "(III)I" } : Jvm.MethodName) ({ cls := "EditsMeetModel", name := "turned", desc := "(III)I" } : Jvm.MethodName)) ∈ lw_all := lw_g (lw_at lw_m14 82 rfl) rfl
theorem q3323 : (Jvm.Cond.code ({ cls := "EditsMeetModel", name := "turned", desc := "(III)I" } : Jvm.MethodName) prog_24_method_58_code (4 : Nat) (Option.some Jvm.ClassFile.FieldType.int)) ∈ lw_all := lw_g (lw_at lw_m14 83 rfl) rfl
theorem q3324 : (Jvm.Cond.methodLink "EditsMeetModel" (272 : Nat) ({ cls := "EditsMeetModel", name := "isClient", desc := "(I)Z" } : Jvm.MethodName)) ∈ lw_all := lw_g (lw_at lw_m14 84 rfl) rfl
theorem q3325 : (Jvm.Cond.static ({ cls := "EditsMeetModel", name := "isClient", desc := "(I)Z" } : Jvm.MethodName)) ∈ lw_all := lw_g (lw_at lw_m14 85 rfl) rfl
theorem q3326 : (Jvm.Cond.code ({ cls := "EditsMeetModel", name := "isClient", desc := "(I)Z" } : Jvm.MethodName) prog_24_method_33_code (1 : Nat) (Option.some Jvm.ClassFile.FieldType.boolean)) ∈ lw_all := lw_g (lw_at lw_m14 86 rfl) rfl
theorem q3327 : (Jvm.Cond.methodLink "EditsMeetModel" (145 : Nat) ({ cls := "EditsMeetModel", name := "turnedRow", desc := "(III)V" } : Jvm.MethodName)) ∈ lw_all := lw_g (lw_at lw_m14 87 rfl) rfl
theorem q3328 : (Jvm.Cond.privateMethod ({ cls := "EditsMeetModel", name := "turnedRow", desc := "(III)V" } : Jvm.MethodName)) ∈ lw_tbl := lw_at lw_m14 88 rfl
theorem q3329 : (Jvm.Cond.instanceMethod ({ cls := "EditsMeetModel", name := "turnedRow", desc := "(III)V" } : Jvm.MethodName)) ∈ lw_all := lw_g (lw_at lw_m14 89 rfl) rfl
theorem q3330 : (Jvm.Cond.code ({ cls := "EditsMeetModel", name := "turnedRow", desc := "(III)V" } : Jvm.MethodName) prog_24_method_20_code (10 : Nat) (Option.none : Option Jvm.ClassFile.FieldType)) ∈ lw_all := lw_g (lw_at lw_m14 90 rfl) rfl
theorem q3332 : (Jvm.Cond.instanceMethod ({ cls := "EditsMeetModel", name := "differ", desc := "(II)I" } : Jvm.MethodName)) ∈ lw_all := lw_g (lw_at lw_m14 92 rfl) rfl
theorem q3333 : (Jvm.Cond.selects "EditsMeetModel" ({ cls := "EditsMeetModel", name := "differ", desc := "(II)I" } : Jvm.MethodName) ({ cls := "EditsMeetModel", name := "differ", desc := "(II)I" } : Jvm.MethodName)) ∈ lw_all := lw_g (lw_at lw_m14 93 rfl) rfl
theorem q3334 : (Jvm.Cond.code ({ cls := "EditsMeetModel", name := "differ", desc := "(II)I" } : Jvm.MethodName) prog_24_method_59_code (10 : Nat) (Option.some Jvm.ClassFile.FieldType.int)) ∈ lw_all := lw_g (lw_at lw_m14 94 rfl) rfl
theorem q3335 : (Jvm.Cond.methodLink "EditsMeetModel" (275 : Nat) ({ cls := "java/lang/Math", name := "max", desc := "(II)I" } : Jvm.MethodName)) ∈ lw_all := lw_g (lw_at lw_m14 95 rfl) rfl
theorem q3337 : (Jvm.Cond.instanceMethod ({ cls := "EditsMeetModel", name := "does", desc := "(II)I" } : Jvm.MethodName)) ∈ lw_all := lw_g (lw_at lw_m14 97 rfl) rfl
theorem q3338 : (Jvm.Cond.selects "EditsMeetModel" ({ cls := "EditsMeetModel", name := "does", desc := "(II)I" } : Jvm.MethodName) ({ cls := "EditsMeetModel", name := "does", desc := "(II)I" } : Jvm.MethodName)) ∈ lw_all := lw_g (lw_at lw_m14 98 rfl) rfl
theorem q3339 : (Jvm.Cond.code ({ cls := "EditsMeetModel", name := "does", desc := "(II)I" } : Jvm.MethodName) prog_24_method_60_code (3 : Nat) (Option.some Jvm.ClassFile.FieldType.int)) ∈ lw_all := lw_g (lw_at lw_m14 99 rfl) rfl
theorem q3340 : (Jvm.Cond.methodLink "EditsMeetModel" (280 : Nat) ({ cls := "EditsMeetModel", name := "isFull", desc := "(II)Z" } : Jvm.MethodName)) ∈ lw_all := lw_g (lw_at lw_m14 100 rfl) rfl
theorem q3341 : (Jvm.Cond.privateMethod ({ cls := "EditsMeetModel", name := "isFull", desc := "(II)Z" } : Jvm.MethodName)) ∈ lw_tbl := lw_at lw_m14 101 rfl
theorem q3342 : (Jvm.Cond.instanceMethod ({ cls := "EditsMeetModel", name := "isFull", desc := "(II)Z" } : Jvm.MethodName)) ∈ lw_all := lw_g (lw_at lw_m14 102 rfl) rfl
theorem q3343 : (Jvm.Cond.code ({ cls := "EditsMeetModel", name := "isFull", desc := "(II)Z" } : Jvm.MethodName) prog_24_method_28_code (3 : Nat) (Option.some Jvm.ClassFile.FieldType.boolean)) ∈ lw_all := lw_g (lw_at lw_m14 103 rfl) rfl
theorem q3344 : (Jvm.Cond.methodLink "EditsMeetModel" (161 : Nat) ({ cls := "EditsMeetModel", name := "resultLength", desc := "(I)I" } : Jvm.MethodName)) ∈ lw_all := lw_g (lw_at lw_m14 104 rfl) rfl
theorem q3345 : (Jvm.Cond.privateMethod ({ cls := "EditsMeetModel", name := "resultLength", desc := "(I)I" } : Jvm.MethodName)) ∈ lw_tbl := lw_at lw_m14 105 rfl
theorem q3346 : (Jvm.Cond.instanceMethod ({ cls := "EditsMeetModel", name := "resultLength", desc := "(I)I" } : Jvm.MethodName)) ∈ lw_all := lw_g (lw_at lw_m14 106 rfl) rfl
theorem q3347 : (Jvm.Cond.code ({ cls := "EditsMeetModel", name := "resultLength", desc := "(I)I" } : Jvm.MethodName) prog_24_method_27_code (2 : Nat) (Option.some Jvm.ClassFile.FieldType.int)) ∈ lw_all := lw_g (lw_at lw_m14 107 rfl) rfl
theorem q3348 : (Jvm.Cond.methodLink "EditsMeetModel" (283 : Nat) ({ cls := "EditsMeetModel", name := "done", desc := "(IIZ)V" } : Jvm.MethodName)) ∈ lw_all := lw_g (lw_at lw_m14 108 rfl) rfl
theorem q3349 : (Jvm.Cond.privateMethod ({ cls := "EditsMeetModel", name := "done", desc := "(IIZ)V" } : Jvm.MethodName)) ∈ lw_tbl := lw_at lw_m14 109 rfl
theorem q3350 : (Jvm.Cond.instanceMethod ({ cls := "EditsMeetModel", name := "done", desc := "(IIZ)V" } : Jvm.MethodName)) ∈ lw_all := lw_g (lw_at lw_m14 110 rfl) rfl
theorem q3351 : (Jvm.Cond.code ({ cls := "EditsMeetModel", name := "done", desc := "(IIZ)V" } : Jvm.MethodName) prog_24_method_26_code (4 : Nat) (Option.none : Option Jvm.ClassFile.FieldType)) ∈ lw_all := lw_g (lw_at lw_m14 111 rfl) rfl
theorem q3352 : (Jvm.Cond.methodLink "EditsMeetModel" (148 : Nat) ({ cls := "EditsMeetModel", name := "makes", desc := "(II)V" } : Jvm.MethodName)) ∈ lw_all := lw_g (lw_at lw_m14 112 rfl) rfl
theorem q3353 : (Jvm.Cond.privateMethod ({ cls := "EditsMeetModel", name := "makes", desc := "(II)V" } : Jvm.MethodName)) ∈ lw_tbl := lw_at lw_m14 113 rfl
theorem q3354 : (Jvm.Cond.instanceMethod ({ cls := "EditsMeetModel", name := "makes", desc := "(II)V" } : Jvm.MethodName)) ∈ lw_all := lw_g (lw_at lw_m14 114 rfl) rfl
theorem q3355 : (Jvm.Cond.code ({ cls := "EditsMeetModel", name := "makes", desc := "(II)V" } : Jvm.MethodName) prog_24_method_21_code (8 : Nat) (Option.none : Option Jvm.ClassFile.FieldType)) ∈ lw_all := lw_g (lw_at lw_m14 115 rfl) rfl
theorem q3356 : (Jvm.Cond.methodLink "EditsMeetModel" (151 : Nat) ({ cls := "EditsMeetModel", name := "cursorGoes", desc := "(IIZ)V" } : Jvm.MethodName)) ∈ lw_all := lw_g (lw_at lw_m14 116 rfl) rfl
theorem q3357 : (Jvm.Cond.privateMethod ({ cls := "EditsMeetModel", name := "cursorGoes", desc := "(IIZ)V" } : Jvm.MethodName)) ∈ lw_tbl := lw_at lw_m14 117 rfl
theorem q3358 : (Jvm.Cond.instanceMethod ({ cls := "EditsMeetModel", name := "cursorGoes", desc := "(IIZ)V" } : Jvm.MethodName)) ∈ lw_all := lw_g (lw_at lw_m14 118 rfl) rfl
theorem q3359 : (Jvm.Cond.code ({ cls := "EditsMeetModel", name := "cursorGoes", desc := "(IIZ)V" } : Jvm.MethodName) prog_24_method_24_code (4 : Nat) (Option.none : Option Jvm.ClassFile.FieldType)) ∈ lw_all := lw_g (lw_at lw_m14 119 rfl) rfl
theorem q3360 : (Jvm.Cond.methodLink "EditsMeetModel" (135 : Nat) ({ cls := "EditsMeetModel", name := "st", desc := "(II)I" } : Jvm.MethodName)) ∈ lw_all := lw_g (lw_at lw_m14 120 rfl) rfl
theorem q3361 : (Jvm.Cond.privateMethod ({ cls := "EditsMeetModel", name := "st", desc := "(II)I" } : Jvm.MethodName)) ∈ lw_tbl := lw_at lw_m14 121 rfl
theorem q3362 : (Jvm.Cond.instanceMethod ({ cls := "EditsMeetModel", name := "st", desc := "(II)I" } : Jvm.MethodName)) ∈ lw_all := lw_g (lw_at lw_m14 122 rfl) rfl
theorem q3363 : (Jvm.Cond.code ({ cls := "EditsMeetModel", name := "st", desc := "(II)I" } : Jvm.MethodName) prog_24_method_23_code (3 : Nat) (Option.some Jvm.ClassFile.FieldType.int)) ∈ lw_all := lw_g (lw_at lw_m14 123 rfl) rfl
theorem q3364 : (Jvm.Cond.methodLink "EditsMeetModel" (138 : Nat) ({ cls := "EditsMeetModel", name := "goesAlong", desc := "(IIZ)I" } : Jvm.MethodName)) ∈ lw_all := lw_g (lw_at lw_m14 124 rfl) rfl
theorem q3365 : (Jvm.Cond.privateMethod ({ cls := "EditsMeetModel", name := "goesAlong", desc := "(IIZ)I" } : Jvm.MethodName)) ∈ lw_tbl := lw_at lw_m14 125 rfl
theorem q3366 : (Jvm.Cond.instanceMethod ({ cls := "EditsMeetModel", name := "goesAlong", desc := "(IIZ)I" } : Jvm.MethodName)) ∈ lw_all := lw_g (lw_at lw_m14 126 rfl) rfl
theorem q3367 : (Jvm.Cond.code ({ cls := "EditsMeetModel", name := "goesAlong", desc := "(IIZ)I" } : Jvm.MethodName) prog_24_method_22_code (8 : Nat) (Option.some Jvm.ClassFile.FieldType.int)) ∈ lw_all := lw_g (lw_at lw_m14 127 rfl) rfl
theorem q3368 : (Jvm.Cond.methodLink "EditsMeetModel" (155 : Nat) ({ cls := "EditsMeetModel", name := "pushes", desc := "(III)V" } : Jvm.MethodName)) ∈ lw_all := lw_g (lw_at lw_m14 128 rfl) rfl
theorem q3369 : (Jvm.Cond.privateMethod ({ cls := "EditsMeetModel", name := "pushes", desc := "(III)V" } : Jvm.MethodName)) ∈ lw_tbl := lw_at lw_m14 129 rfl
theorem q3370 : (Jvm.Cond.instanceMethod ({ cls := "EditsMeetModel", name := "pushes", desc := "(III)V" } : Jvm.MethodName)) ∈ lw_all := lw_g (lw_at lw_m14 130 rfl) rfl
theorem q3371 : (Jvm.Cond.code ({ cls := "EditsMeetModel", name := "pushes", desc := "(III)V" } : Jvm.MethodName) prog_24_method_25_code (7 : Nat) (Option.none : Option Jvm.ClassFile.FieldType)) ∈ lw_all := lw_g (lw_at lw_m14 131 rfl) rfl
theorem q3372 : (Jvm.Cond.methodLink "EditsMeetModel" (142 : Nat) ({ cls := "EditsMeetModel", name := "copiesRow", desc := "(II)V" } : Jvm.MethodName)) ∈ lw_all := lw_g (lw_at lw_m14 132 rfl) rfl
theorem q3373 : (Jvm.Cond.privateMethod ({ cls := "EditsMeetModel", name := "copiesRow", desc := "(II)V" } : Jvm.MethodName)) ∈ lw_tbl := lw_at lw_m14 133 rfl
theorem q3374 : (Jvm.Cond.instanceMethod ({ cls := "EditsMeetModel", name := "copiesRow", desc := "(II)V" } : Jvm.MethodName)) ∈ lw_all := lw_g (lw_at lw_m14 134 rfl) rfl
theorem q3375 : (Jvm.Cond.code ({ cls := "EditsMeetModel", name := "copiesRow", desc := "(II)V" } : Jvm.MethodName) prog_24_method_9_code (3 : Nat) (Option.none : Option Jvm.ClassFile.FieldType)) ∈ lw_all := lw_g (lw_at lw_m14 135 rfl) rfl
theorem q3377 : (Jvm.Cond.instanceMethod ({ cls := "EditsMeetModel", name := "insert", desc := "(IIII)I" } : Jvm.MethodName)) ∈ lw_all := lw_g (lw_at lw_m14 137 rfl) rfl
theorem q3378 : (Jvm.Cond.selects "EditsMeetModel" ({ cls := "EditsMeetModel", name := "insert", desc := "(IIII)I" } : Jvm.MethodName) ({ cls := "EditsMeetModel", name := "insert", desc := "(IIII)I" } : Jvm.MethodName)) ∈ lw_all := lw_g (lw_at lw_m14 138 rfl) rfl
theorem q3379 : (Jvm.Cond.code ({ cls := "EditsMeetModel", name := "insert", desc := "(IIII)I" } : Jvm.MethodName) prog_24_method_63_code (5 : Nat) (Option.some Jvm.ClassFile.FieldType.int)) ∈ lw_all := lw_g (lw_at lw_m14 139 rfl) rfl
theorem q3380 : (Jvm.Cond.constantLong "EditsMeetModel" (286 : Nat) (25 : Int64)) ∈ lw_all := lw_g (lw_at lw_m14 140 rfl) rfl
theorem q3381 : (Jvm.Cond.constantLong "EditsMeetModel" (288 : Nat) (15 : Int64)) ∈ lw_all := lw_g (lw_at lw_m14 141 rfl) rfl
theorem q3382 : (Jvm.Cond.methodLink "EditsMeetModel" (290 : Nat) ({ cls := "EditsMeetModel", name := "inserts", desc := "(III)V" } : Jvm.MethodName)) ∈ lw_all := lw_g (lw_at lw_m14 142 rfl) rfl
theorem q3383 : (Jvm.Cond.privateMethod ({ cls := "EditsMeetModel", name := "inserts", desc := "(III)V" } : Jvm.MethodName)) ∈ lw_tbl := lw_at lw_m14 143 rfl
theorem q3384 : (Jvm.Cond.instanceMethod ({ cls := "EditsMeetModel", name := "inserts", desc := "(III)V" } : Jvm.MethodName)) ∈ lw_all := lw_g (lw_at lw_m14 144 rfl) rfl
theorem q3385 : (Jvm.Cond.code ({ cls := "EditsMeetModel", name := "inserts", desc := "(III)V" } : Jvm.MethodName) prog_24_method_62_code (5 : Nat) (Option.none : Option Jvm.ClassFile.FieldType)) ∈ lw_all := lw_g (lw_at lw_m14 145 rfl) rfl
theorem q3387 : (Jvm.Cond.instanceMethod ({ cls := "EditsMeetModel", name := "cut", desc := "(III)I" } : Jvm.MethodName)) ∈ lw_all := lw_g (lw_at lw_m14 147 rfl) rfl
theorem q3388 : (Jvm.Cond.selects "EditsMeetModel" ({ cls := "EditsMeetModel", name := "cut", desc := "(III)I" } : Jvm.MethodName) ({ cls := "EditsMeetModel", name := "cut", desc := "(III)I" } : Jvm.MethodName)) ∈ lw_all := lw_g (lw_at lw_m14 148 rfl) rfl
theorem q3389 : (Jvm.Cond.code ({ cls := "EditsMeetModel", name := "cut", desc := "(III)I" } : Jvm.MethodName) prog_24_method_65_code (4 : Nat) (Option.some Jvm.ClassFile.FieldType.int)) ∈ lw_all := lw_g (lw_at lw_m14 149 rfl) rfl
theorem q3390 : (Jvm.Cond.methodLink "EditsMeetModel" (293 : Nat) ({ cls := "EditsMeetModel", name := "isStretch", desc := "(III)Z" } : Jvm.MethodName)) ∈ lw_all := lw_g (lw_at lw_m14 150 rfl) rfl
theorem q3391 : (Jvm.Cond.privateMethod ({ cls := "EditsMeetModel", name := "isStretch", desc := "(III)Z" } : Jvm.MethodName)) ∈ lw_tbl := lw_at lw_m14 151 rfl
theorem q3392 : (Jvm.Cond.instanceMethod ({ cls := "EditsMeetModel", name := "isStretch", desc := "(III)Z" } : Jvm.MethodName)) ∈ lw_all := lw_g (lw_at lw_m14 152 rfl) rfl
theorem q3393 : (Jvm.Cond.code ({ cls := "EditsMeetModel", name := "isStretch", desc := "(III)Z" } : Jvm.MethodName) prog_24_method_64_code (4 : Nat) (Option.some Jvm.ClassFile.FieldType.boolean)) ∈ lw_all := lw_g (lw_at lw_m14 153 rfl) rfl
theorem q3394 : (Jvm.Cond.methodLink "EditsMeetModel" (297 : Nat) ({ cls := "EditsMeetModel", name := "keepsAllBut", desc := "(IIII)V" } : Jvm.MethodName)) ∈ lw_all := lw_g (lw_at lw_m14 154 rfl) rfl
theorem q3395 : (Jvm.Cond.privateMethod ({ cls := "EditsMeetModel", name := "keepsAllBut", desc := "(IIII)V" } : Jvm.MethodName)) ∈ lw_tbl := lw_at lw_m14 155 rfl
theorem q3396 : (Jvm.Cond.instanceMethod ({ cls := "EditsMeetModel", name := "keepsAllBut", desc := "(IIII)V" } : Jvm.MethodName)) ∈ lw_all := lw_g (lw_at lw_m14 156 rfl) rfl
theorem q3397 : (Jvm.Cond.code ({ cls := "EditsMeetModel", name := "keepsAllBut", desc := "(IIII)V" } : Jvm.MethodName) prog_24_method_61_code (6 : Nat) (Option.none : Option Jvm.ClassFile.FieldType)) ∈ lw_all := lw_g (lw_at lw_m14 157 rfl) rfl
theorem q3399 : (Jvm.Cond.instanceMethod ({ cls := "EditsMeetModel", name := "mark", desc := "(IIIII)I" } : Jvm.MethodName)) ∈ lw_all := lw_g (lw_at lw_m14 159 rfl) rfl
theorem q3400 : (Jvm.Cond.selects "EditsMeetModel" ({ cls := "EditsMeetModel", name := "mark", desc := "(IIIII)I" } : Jvm.MethodName) ({ cls := "EditsMeetModel", name := "mark", desc := "(IIIII)I" } : Jvm.MethodName)) ∈ lw_all := lw_g (lw_at lw_m14 160 rfl) rfl
theorem q3401 : (Jvm.Cond.code ({ cls := "EditsMeetModel", name := "mark", desc := "(IIIII)I" } : Jvm.MethodName) prog_24_method_66_code (8 : Nat) (Option.some Jvm.ClassFile.FieldType.int)) ∈ lw_all := lw_g (lw_at lw_m14 161 rfl) rfl
theorem q3403 : (Jvm.Cond.instanceMethod ({ cls := "EditsMeetModel", name := "serve", desc := "(I)I" } : Jvm.MethodName)) ∈ lw_all := lw_g (lw_at lw_m14 163 rfl) rfl
theorem q3404 : (Jvm.Cond.selects "EditsMeetModel" ({ cls := "EditsMeetModel", name := "serve", desc := "(I)I" } : Jvm.MethodName) ({ cls := "EditsMeetModel", name := "serve", desc := "(I)I" } : Jvm.MethodName)) ∈ lw_all := lw_g (lw_at lw_m14 164 rfl) rfl
theorem q3405 : (Jvm.Cond.code ({ cls := "EditsMeetModel", name := "serve", desc := "(I)I" } : Jvm.MethodName) prog_24_method_67_code (2 : Nat) (Option.some Jvm.ClassFile.FieldType.int)) ∈ lw_all := lw_g (lw_at lw_m14 165 rfl) rfl
theorem q3406 : (Jvm.Cond.methodLink "EditsMeetModel" (300 : Nat) ({ cls := "EditsMeetModel", name := "serves", desc := "(I)I" } : Jvm.MethodName)) ∈ lw_all := lw_g (lw_at lw_m14 166 rfl) rfl
theorem q3407 : (Jvm.Cond.privateMethod ({ cls := "EditsMeetModel", name := "serves", desc := "(I)I" } : Jvm.MethodName)) ∈ lw_tbl := lw_at lw_m14 167 rfl
theorem q3408 : (Jvm.Cond.instanceMethod ({ cls := "EditsMeetModel", name := "serves", desc := "(I)I" } : Jvm.MethodName)) ∈ lw_all := lw_g (lw_at lw_m14 168 rfl) rfl
theorem q3409 : (Jvm.Cond.code ({ cls := "EditsMeetModel", name := "serves", desc := "(I)I" } : Jvm.MethodName) prog_24_method_29_code (3 : Nat) (Option.some Jvm.ClassFile.FieldType.int)) ∈ lw_all := lw_g (lw_at lw_m14 169 rfl) rfl
theorem q3410 : (Jvm.Cond.methodLink "EditsMeetModel" (167 : Nat) ({ cls := "EditsMeetModel", name := "keepsWork", desc := "(II)V" } : Jvm.MethodName)) ∈ lw_all := lw_g (lw_at lw_m14 170 rfl) rfl
theorem q3411 : (Jvm.Cond.privateMethod ({ cls := "EditsMeetModel", name := "keepsWork", desc := "(II)V" } : Jvm.MethodName)) ∈ lw_tbl := lw_at lw_m14 171 rfl
theorem q3412 : (Jvm.Cond.instanceMethod ({ cls := "EditsMeetModel", name := "keepsWork", desc := "(II)V" } : Jvm.MethodName)) ∈ lw_all := lw_g (lw_at lw_m14 172 rfl) rfl
theorem q3413 : (Jvm.Cond.code ({ cls := "EditsMeetModel", name := "keepsWork", desc := "(II)V" } : Jvm.MethodName) prog_24_method_30_code (4 : Nat) (Option.none : Option Jvm.ClassFile.FieldType)) ∈ lw_all := lw_g (lw_at lw_m14 173 rfl) rfl
theorem q3415 : (Jvm.Cond.instanceMethod ({ cls := "EditsMeetModel", name := "hear", desc := "(I)I" } : Jvm.MethodName)) ∈ lw_all := lw_g (lw_at lw_m14 175 rfl) rfl
theorem q3416 : (Jvm.Cond.selects "EditsMeetModel" ({ cls := "EditsMeetModel", name := "hear", desc := "(I)I" } : Jvm.MethodName) ({ cls := "EditsMeetModel", name := "hear", desc := "(I)I" } : Jvm.MethodName)) ∈ lw_all := lw_g (lw_at lw_m14 176 rfl) rfl
theorem q3417 : (Jvm.Cond.code ({ cls := "EditsMeetModel", name := "hear", desc := "(I)I" } : Jvm.MethodName) prog_24_method_68_code (2 : Nat) (Option.some Jvm.ClassFile.FieldType.int)) ∈ lw_all := lw_g (lw_at lw_m14 177 rfl) rfl
theorem q3418 : (Jvm.Cond.methodLink "EditsMeetModel" (303 : Nat) ({ cls := "EditsMeetModel", name := "hears", desc := "(I)V" } : Jvm.MethodName)) ∈ lw_all := lw_g (lw_at lw_m14 178 rfl) rfl
theorem q3419 : (Jvm.Cond.privateMethod ({ cls := "EditsMeetModel", name := "hears", desc := "(I)V" } : Jvm.MethodName)) ∈ lw_tbl := lw_at lw_m14 179 rfl
theorem q3420 : (Jvm.Cond.instanceMethod ({ cls := "EditsMeetModel", name := "hears", desc := "(I)V" } : Jvm.MethodName)) ∈ lw_all := lw_g (lw_at lw_m14 180 rfl) rfl
theorem q3421 : (Jvm.Cond.code ({ cls := "EditsMeetModel", name := "hears", desc := "(I)V" } : Jvm.MethodName) prog_24_method_32_code (4 : Nat) (Option.none : Option Jvm.ClassFile.FieldType)) ∈ lw_all := lw_g (lw_at lw_m14 181 rfl) rfl
theorem q3422 : (Jvm.Cond.methodLink "EditsMeetModel" (170 : Nat) ({ cls := "EditsMeetModel", name := "crosses", desc := "(I)V" } : Jvm.MethodName)) ∈ lw_all := lw_g (lw_at lw_m14 182 rfl) rfl
theorem q3423 : (Jvm.Cond.privateMethod ({ cls := "EditsMeetModel", name := "crosses", desc := "(I)V" } : Jvm.MethodName)) ∈ lw_tbl := lw_at lw_m14 183 rfl
theorem q3424 : (Jvm.Cond.instanceMethod ({ cls := "EditsMeetModel", name := "crosses", desc := "(I)V" } : Jvm.MethodName)) ∈ lw_all := lw_g (lw_at lw_m14 184 rfl) rfl
theorem q3425 : (Jvm.Cond.code ({ cls := "EditsMeetModel", name := "crosses", desc := "(I)V" } : Jvm.MethodName) prog_24_method_31_code (2 : Nat) (Option.none : Option Jvm.ClassFile.FieldType)) ∈ lw_all := lw_g (lw_at lw_m14 185 rfl) rfl
theorem q3427 : (Jvm.Cond.instanceMethod ({ cls := "EditsMeetModel", name := "meet", desc := "()I" } : Jvm.MethodName)) ∈ lw_all := lw_g (lw_at lw_m14 187 rfl) rfl
theorem q3428 : (Jvm.Cond.selects "EditsMeetModel" ({ cls := "EditsMeetModel", name := "meet", desc := "()I" } : Jvm.MethodName) ({ cls := "EditsMeetModel", name := "meet", desc := "()I" } : Jvm.MethodName)) ∈ lw_all := lw_g (lw_at lw_m14 188 rfl) rfl
theorem q3429 : (Jvm.Cond.code ({ cls := "EditsMeetModel", name := "meet", desc := "()I" } : Jvm.MethodName) prog_24_method_71_code (4 : Nat) (Option.some Jvm.ClassFile.FieldType.int)) ∈ lw_all := lw_g (lw_at lw_m14 189 rfl) rfl
theorem q3430 : (Jvm.Cond.methodLink "EditsMeetModel" (306 : Nat) ({ cls := "EditsMeetModel", name := "hearAll", desc := "()V" } : Jvm.MethodName)) ∈ lw_all := lw_g (lw_at lw_m14 190 rfl) rfl
theorem q3431 : (Jvm.Cond.privateMethod ({ cls := "EditsMeetModel", name := "hearAll", desc := "()V" } : Jvm.MethodName)) ∈ lw_tbl := lw_at lw_m14 191 rfl
theorem q3432 : (Jvm.Cond.instanceMethod ({ cls := "EditsMeetModel", name := "hearAll", desc := "()V" } : Jvm.MethodName)) ∈ lw_all := lw_g (lw_at lw_m14 192 rfl) rfl
theorem q3433 : (Jvm.Cond.code ({ cls := "EditsMeetModel", name := "hearAll", desc := "()V" } : Jvm.MethodName) prog_24_method_69_code (2 : Nat) (Option.none : Option Jvm.ClassFile.FieldType)) ∈ lw_all := lw_g (lw_at lw_m14 193 rfl) rfl
theorem q3434 : (Jvm.Cond.methodLink "EditsMeetModel" (309 : Nat) ({ cls := "EditsMeetModel", name := "isAnySent", desc := "()Z" } : Jvm.MethodName)) ∈ lw_all := lw_g (lw_at lw_m14 194 rfl) rfl
theorem q3435 : (Jvm.Cond.privateMethod ({ cls := "EditsMeetModel", name := "isAnySent", desc := "()Z" } : Jvm.MethodName)) ∈ lw_tbl := lw_at lw_m14 195 rfl
theorem q3436 : (Jvm.Cond.instanceMethod ({ cls := "EditsMeetModel", name := "isAnySent", desc := "()Z" } : Jvm.MethodName)) ∈ lw_all := lw_g (lw_at lw_m14 196 rfl) rfl
theorem q3437 : (Jvm.Cond.code ({ cls := "EditsMeetModel", name := "isAnySent", desc := "()Z" } : Jvm.MethodName) prog_24_method_70_code (3 : Nat) (Option.some Jvm.ClassFile.FieldType.boolean)) ∈ lw_all := lw_g (lw_at lw_m14 197 rfl) rfl
theorem q3439 : (Jvm.Cond.instanceMethod ({ cls := "EditsMeetModel", name := "undo", desc := "(I)I" } : Jvm.MethodName)) ∈ lw_all := lw_g (lw_at lw_m14 199 rfl) rfl
theorem q3440 : (Jvm.Cond.selects "EditsMeetModel" ({ cls := "EditsMeetModel", name := "undo", desc := "(I)I" } : Jvm.MethodName) ({ cls := "EditsMeetModel", name := "undo", desc := "(I)I" } : Jvm.MethodName)) ∈ lw_all := lw_g (lw_at lw_m14 200 rfl) rfl
theorem q3441 : (Jvm.Cond.code ({ cls := "EditsMeetModel", name := "undo", desc := "(I)I" } : Jvm.MethodName) prog_24_method_73_code (3 : Nat) (Option.some Jvm.ClassFile.FieldType.int)) ∈ lw_all := lw_g (lw_at lw_m14 201 rfl) rfl
theorem q3442 : (Jvm.Cond.methodLink "EditsMeetModel" (312 : Nat) ({ cls := "EditsMeetModel", name := "again", desc := "(II)I" } : Jvm.MethodName)) ∈ lw_all := lw_g (lw_at lw_m14 202 rfl) rfl
theorem q3443 : (Jvm.Cond.privateMethod ({ cls := "EditsMeetModel", name := "again", desc := "(II)I" } : Jvm.MethodName)) ∈ lw_tbl := lw_at lw_m14 203 rfl
theorem q3444 : (Jvm.Cond.instanceMethod ({ cls := "EditsMeetModel", name := "again", desc := "(II)I" } : Jvm.MethodName)) ∈ lw_all := lw_g (lw_at lw_m14 204 rfl) rfl
theorem q3445 : (Jvm.Cond.code ({ cls := "EditsMeetModel", name := "again", desc := "(II)I" } : Jvm.MethodName) prog_24_method_72_code (4 : Nat) (Option.some Jvm.ClassFile.FieldType.int)) ∈ lw_all := lw_g (lw_at lw_m14 205 rfl) rfl
theorem q3447 : (Jvm.Cond.instanceMethod ({ cls := "EditsMeetModel", name := "redo", desc := "(I)I" } : Jvm.MethodName)) ∈ lw_all := lw_g (lw_at lw_m14 207 rfl) rfl
theorem q3448 : (Jvm.Cond.selects "EditsMeetModel" ({ cls := "EditsMeetModel", name := "redo", desc := "(I)I" } : Jvm.MethodName) ({ cls := "EditsMeetModel", name := "redo", desc := "(I)I" } : Jvm.MethodName)) ∈ lw_all := lw_g (lw_at lw_m14 208 rfl) rfl
theorem q3449 : (Jvm.Cond.code ({ cls := "EditsMeetModel", name := "redo", desc := "(I)I" } : Jvm.MethodName) prog_24_method_74_code (3 : Nat) (Option.some Jvm.ClassFile.FieldType.int)) ∈ lw_all := lw_g (lw_at lw_m14 209 rfl) rfl
theorem q3451 : (Jvm.Cond.instanceMethod ({ cls := "EditsMeetModel", name := "point", desc := "(III)I" } : Jvm.MethodName)) ∈ lw_all := lw_g (lw_at lw_m14 211 rfl) rfl
theorem q3452 : (Jvm.Cond.selects "EditsMeetModel" ({ cls := "EditsMeetModel", name := "point", desc := "(III)I" } : Jvm.MethodName) ({ cls := "EditsMeetModel", name := "point", desc := "(III)I" } : Jvm.MethodName)) ∈ lw_all := lw_g (lw_at lw_m14 212 rfl) rfl
theorem q3453 : (Jvm.Cond.code ({ cls := "EditsMeetModel", name := "point", desc := "(III)I" } : Jvm.MethodName) prog_24_method_75_code (4 : Nat) (Option.some Jvm.ClassFile.FieldType.int)) ∈ lw_all := lw_g (lw_at lw_m14 213 rfl) rfl
theorem q3455 : (Jvm.Cond.instanceMethod ({ cls := "EditsMeetModel", name := "cursor", desc := "(II)I" } : Jvm.MethodName)) ∈ lw_all := lw_g (lw_at lw_m14 215 rfl) rfl
theorem q3456 : (Jvm.Cond.selects "EditsMeetModel" ({ cls := "EditsMeetModel", name := "cursor", desc := "(II)I" } : Jvm.MethodName) ({ cls := "EditsMeetModel", name := "cursor", desc := "(II)I" } : Jvm.MethodName)) ∈ lw_all := lw_g (lw_at lw_m14 216 rfl) rfl
theorem q3457 : (Jvm.Cond.code ({ cls := "EditsMeetModel", name := "cursor", desc := "(II)I" } : Jvm.MethodName) prog_24_method_76_code (3 : Nat) (Option.some Jvm.ClassFile.FieldType.int)) ∈ lw_all := lw_g (lw_at lw_m14 217 rfl) rfl
theorem q3459 : (Jvm.Cond.instanceMethod ({ cls := "EditsMeetModel", name := "clientOf", desc := "(II)I" } : Jvm.MethodName)) ∈ lw_all := lw_g (lw_at lw_m14 219 rfl) rfl
theorem q3460 : (Jvm.Cond.selects "EditsMeetModel" ({ cls := "EditsMeetModel", name := "clientOf", desc := "(II)I" } : Jvm.MethodName) ({ cls := "EditsMeetModel", name := "clientOf", desc := "(II)I" } : Jvm.MethodName)) ∈ lw_all := lw_g (lw_at lw_m14 220 rfl) rfl
theorem q3461 : (Jvm.Cond.code ({ cls := "EditsMeetModel", name := "clientOf", desc := "(II)I" } : Jvm.MethodName) prog_24_method_77_code (3 : Nat) (Option.some Jvm.ClassFile.FieldType.int)) ∈ lw_all := lw_g (lw_at lw_m14 221 rfl) rfl
theorem q3462 : (Jvm.Cond.constantLong "EditsMeetModel" (315 : Nat) (6 : Int64)) ∈ lw_all := lw_g (lw_at lw_m14 222 rfl) rfl
theorem q3464 : (Jvm.Cond.instanceMethod ({ cls := "EditsMeetModel", name := "takes", desc := "(III)I" } : Jvm.MethodName)) ∈ lw_all := lw_g (lw_at lw_m14 224 rfl) rfl
theorem q3465 : (Jvm.Cond.selects "EditsMeetModel" ({ cls := "EditsMeetModel", name := "takes", desc := "(III)I" } : Jvm.MethodName) ({ cls := "EditsMeetModel", name := "takes", desc := "(III)I" } : Jvm.MethodName)) ∈ lw_all := lw_g (lw_at lw_m14 225 rfl) rfl
theorem q3466 : (Jvm.Cond.code ({ cls := "EditsMeetModel", name := "takes", desc := "(III)I" } : Jvm.MethodName) prog_24_method_78_code (6 : Nat) (Option.some Jvm.ClassFile.FieldType.int)) ∈ lw_all := lw_g (lw_at lw_m14 226 rfl) rfl
theorem q3468 : (Jvm.Cond.instanceMethod ({ cls := "EditsMeetModel", name := "revision", desc := "(II)I" } : Jvm.MethodName)) ∈ lw_all := lw_g (lw_at lw_m14 228 rfl) rfl
theorem q3469 : (Jvm.Cond.selects "EditsMeetModel" ({ cls := "EditsMeetModel", name := "revision", desc := "(II)I" } : Jvm.MethodName) ({ cls := "EditsMeetModel", name := "revision", desc := "(II)I" } : Jvm.MethodName)) ∈ lw_all := lw_g (lw_at lw_m14 229 rfl) rfl
theorem q3470 : (Jvm.Cond.code ({ cls := "EditsMeetModel", name := "revision", desc := "(II)I" } : Jvm.MethodName) prog_24_method_79_code (4 : Nat) (Option.some Jvm.ClassFile.FieldType.int)) ∈ lw_all := lw_g (lw_at lw_m14 230 rfl) rfl
theorem q3472 : (Jvm.Cond.instanceMethod ({ cls := "EditsMeetModel", name := "length", desc := "(I)I" } : Jvm.MethodName)) ∈ lw_all := lw_g (lw_at lw_m14 232 rfl) rfl
theorem q3473 : (Jvm.Cond.selects "EditsMeetModel" ({ cls := "EditsMeetModel", name := "length", desc := "(I)I" } : Jvm.MethodName) ({ cls := "EditsMeetModel", name := "length", desc := "(I)I" } : Jvm.MethodName)) ∈ lw_all := lw_g (lw_at lw_m14 233 rfl) rfl
theorem q3474 : (Jvm.Cond.code ({ cls := "EditsMeetModel", name := "length", desc := "(I)I" } : Jvm.MethodName) prog_24_method_81_code (2 : Nat) (Option.some Jvm.ClassFile.FieldType.int)) ∈ lw_all := lw_g (lw_at lw_m14 234 rfl) rfl
theorem q3475 : (Jvm.Cond.methodLink "EditsMeetModel" (319 : Nat) ({ cls := "EditsMeetModel", name := "isText", desc := "(I)Z" } : Jvm.MethodName)) ∈ lw_all := lw_g (lw_at lw_m14 235 rfl) rfl
theorem q3476 : (Jvm.Cond.static ({ cls := "EditsMeetModel", name := "isText", desc := "(I)Z" } : Jvm.MethodName)) ∈ lw_all := lw_g (lw_at lw_m14 236 rfl) rfl
theorem q3477 : (Jvm.Cond.code ({ cls := "EditsMeetModel", name := "isText", desc := "(I)Z" } : Jvm.MethodName) prog_24_method_80_code (1 : Nat) (Option.some Jvm.ClassFile.FieldType.boolean)) ∈ lw_all := lw_g (lw_at lw_m14 237 rfl) rfl
theorem q3478 : (Jvm.Cond.constantLong "EditsMeetModel" (317 : Nat) (4 : Int64)) ∈ lw_all := lw_g (lw_at lw_m14 238 rfl) rfl
theorem q3480 : (Jvm.Cond.instanceMethod ({ cls := "EditsMeetModel", name := "text", desc := "(III)I" } : Jvm.MethodName)) ∈ lw_all := lw_g (lw_at lw_m15 0 rfl) rfl
theorem q3481 : (Jvm.Cond.selects "EditsMeetModel" ({ cls := "EditsMeetModel", name := "text", desc := "(III)I" } : Jvm.MethodName) ({ cls := "EditsMeetModel", name := "text", desc := "(III)I" } : Jvm.MethodName)) ∈ lw_all := lw_g (lw_at lw_m15 1 rfl) rfl
theorem q3482 : (Jvm.Cond.code ({ cls := "EditsMeetModel", name := "text", desc := "(III)I" } : Jvm.MethodName) prog_24_method_82_code (5 : Nat) (Option.some Jvm.ClassFile.FieldType.int)) ∈ lw_all := lw_g (lw_at lw_m15 2 rfl) rfl
theorem q3484 : (Jvm.Cond.instanceMethod ({ cls := "EditsMeetModel", name := "apart", desc := "(II)I" } : Jvm.MethodName)) ∈ lw_all := lw_g (lw_at lw_m15 4 rfl) rfl
theorem q3485 : (Jvm.Cond.selects "EditsMeetModel" ({ cls := "EditsMeetModel", name := "apart", desc := "(II)I" } : Jvm.MethodName) ({ cls := "EditsMeetModel", name := "apart", desc := "(II)I" } : Jvm.MethodName)) ∈ lw_all := lw_g (lw_at lw_m15 5 rfl) rfl
theorem q3486 : (Jvm.Cond.code ({ cls := "EditsMeetModel", name := "apart", desc := "(II)I" } : Jvm.MethodName) prog_24_method_84_code (3 : Nat) (Option.some Jvm.ClassFile.FieldType.int)) ∈ lw_all := lw_g (lw_at lw_m15 6 rfl) rfl
theorem q3487 : (Jvm.Cond.methodLink "EditsMeetModel" (322 : Nat) ({ cls := "EditsMeetModel", name := "firstApart", desc := "(II)I" } : Jvm.MethodName)) ∈ lw_all := lw_g (lw_at lw_m15 7 rfl) rfl
theorem q3488 : (Jvm.Cond.privateMethod ({ cls := "EditsMeetModel", name := "firstApart", desc := "(II)I" } : Jvm.MethodName)) ∈ lw_tbl := lw_at lw_m15 8 rfl
theorem q3489 : (Jvm.Cond.instanceMethod ({ cls := "EditsMeetModel", name := "firstApart", desc := "(II)I" } : Jvm.MethodName)) ∈ lw_all := lw_g (lw_at lw_m15 9 rfl) rfl
theorem q3490 : (Jvm.Cond.code ({ cls := "EditsMeetModel", name := "firstApart", desc := "(II)I" } : Jvm.MethodName) prog_24_method_83_code (4 : Nat) (Option.some Jvm.ClassFile.FieldType.int)) ∈ lw_all := lw_g (lw_at lw_m15 10 rfl) rfl
theorem q3492 : (Jvm.Cond.instanceMethod ({ cls := "EditsMeetModel", name := "marked", desc := "(II)I" } : Jvm.MethodName)) ∈ lw_all := lw_g (lw_at lw_m15 12 rfl) rfl
theorem q3493 : (Jvm.Cond.selects "EditsMeetModel" ({ cls := "EditsMeetModel", name := "marked", desc := "(II)I" } : Jvm.MethodName) ({ cls := "EditsMeetModel", name := "marked", desc := "(II)I" } : Jvm.MethodName)) ∈ lw_all := lw_g (lw_at lw_m15 13 rfl) rfl
theorem q3494 : (Jvm.Cond.code ({ cls := "EditsMeetModel", name := "marked", desc := "(II)I" } : Jvm.MethodName) prog_24_method_85_code (7 : Nat) (Option.some Jvm.ClassFile.FieldType.int)) ∈ lw_all := lw_g (lw_at lw_m15 14 rfl) rfl
theorem q3496 : (Jvm.Cond.instanceMethod ({ cls := "EditsMeetModel", name := "row", desc := "(III)I" } : Jvm.MethodName)) ∈ lw_all := lw_g (lw_at lw_m15 16 rfl) rfl
theorem q3497 : (Jvm.Cond.selects "EditsMeetModel" ({ cls := "EditsMeetModel", name := "row", desc := "(III)I" } : Jvm.MethodName) ({ cls := "EditsMeetModel", name := "row", desc := "(III)I" } : Jvm.MethodName)) ∈ lw_all := lw_g (lw_at lw_m15 17 rfl) rfl
theorem q3498 : (Jvm.Cond.code ({ cls := "EditsMeetModel", name := "row", desc := "(III)I" } : Jvm.MethodName) prog_24_method_87_code (5 : Nat) (Option.some Jvm.ClassFile.FieldType.int)) ∈ lw_all := lw_g (lw_at lw_m15 18 rfl) rfl
theorem q3499 : (Jvm.Cond.methodLink "EditsMeetModel" (327 : Nat) ({ cls := "EditsMeetModel", name := "isShelf", desc := "(I)Z" } : Jvm.MethodName)) ∈ lw_all := lw_g (lw_at lw_m15 19 rfl) rfl
theorem q3500 : (Jvm.Cond.static ({ cls := "EditsMeetModel", name := "isShelf", desc := "(I)Z" } : Jvm.MethodName)) ∈ lw_all := lw_g (lw_at lw_m15 20 rfl) rfl
theorem q3501 : (Jvm.Cond.code ({ cls := "EditsMeetModel", name := "isShelf", desc := "(I)Z" } : Jvm.MethodName) prog_24_method_86_code (1 : Nat) (Option.some Jvm.ClassFile.FieldType.boolean)) ∈ lw_all := lw_g (lw_at lw_m15 21 rfl) rfl
theorem q3502 : (Jvm.Cond.constantLong "EditsMeetModel" (325 : Nat) (7 : Int64)) ∈ lw_all := lw_g (lw_at lw_m15 22 rfl) rfl
theorem q3503 : (Jvm.Cond.constantLong "EditsMeetModel" (330 : Nat) (40 : Int64)) ∈ lw_all := lw_g (lw_at lw_m15 23 rfl) rfl
theorem q3505 : (Jvm.Cond.instanceMethod ({ cls := "EditsMeetModel", name := "set", desc := "(IIJ)I" } : Jvm.MethodName)) ∈ lw_all := lw_g (lw_at lw_m15 25 rfl) rfl
theorem q3506 : (Jvm.Cond.selects "EditsMeetModel" ({ cls := "EditsMeetModel", name := "set", desc := "(IIJ)I" } : Jvm.MethodName) ({ cls := "EditsMeetModel", name := "set", desc := "(IIJ)I" } : Jvm.MethodName)) ∈ lw_all := lw_g (lw_at lw_m15 26 rfl) rfl
theorem q3507 : (Jvm.Cond.code ({ cls := "EditsMeetModel", name := "set", desc := "(IIJ)I" } : Jvm.MethodName) prog_24_method_89_code (5 : Nat) (Option.some Jvm.ClassFile.FieldType.int)) ∈ lw_all := lw_g (lw_at lw_m15 27 rfl) rfl
theorem q3508 : (Jvm.Cond.methodLink "EditsMeetModel" (332 : Nat) ({ cls := "EditsMeetModel", name := "lowest", desc := "(IJ)J" } : Jvm.MethodName)) ∈ lw_all := lw_g (lw_at lw_m15 28 rfl) rfl
theorem q3509 : (Jvm.Cond.static ({ cls := "EditsMeetModel", name := "lowest", desc := "(IJ)J" } : Jvm.MethodName)) ∈ lw_all := lw_g (lw_at lw_m15 29 rfl) rfl
theorem q3510 : (Jvm.Cond.code ({ cls := "EditsMeetModel", name := "lowest", desc := "(IJ)J" } : Jvm.MethodName) prog_24_method_88_code (3 : Nat) (Option.some Jvm.ClassFile.FieldType.long)) ∈ lw_all := lw_g (lw_at lw_m15 30 rfl) rfl
theorem q3512 : (Jvm.Cond.instanceMethod ({ cls := "EditsMeetModel", name := "copy", desc := "(IIIII)I" } : Jvm.MethodName)) ∈ lw_all := lw_g (lw_at lw_m15 32 rfl) rfl
theorem q3513 : (Jvm.Cond.selects "EditsMeetModel" ({ cls := "EditsMeetModel", name := "copy", desc := "(IIIII)I" } : Jvm.MethodName) ({ cls := "EditsMeetModel", name := "copy", desc := "(IIIII)I" } : Jvm.MethodName)) ∈ lw_all := lw_g (lw_at lw_m15 33 rfl) rfl
theorem q3514 : (Jvm.Cond.code ({ cls := "EditsMeetModel", name := "copy", desc := "(IIIII)I" } : Jvm.MethodName) prog_24_method_90_code (8 : Nat) (Option.some Jvm.ClassFile.FieldType.int)) ∈ lw_all := lw_g (lw_at lw_m15 34 rfl) rfl
theorem q3516 : (Jvm.Cond.instanceMethod ({ cls := "EditsMeetModel", name := "element", desc := "(II)J" } : Jvm.MethodName)) ∈ lw_all := lw_g (lw_at lw_m15 36 rfl) rfl
theorem q3517 : (Jvm.Cond.selects "EditsMeetModel" ({ cls := "EditsMeetModel", name := "element", desc := "(II)J" } : Jvm.MethodName) ({ cls := "EditsMeetModel", name := "element", desc := "(II)J" } : Jvm.MethodName)) ∈ lw_all := lw_g (lw_at lw_m15 37 rfl) rfl
theorem q3518 : (Jvm.Cond.code ({ cls := "EditsMeetModel", name := "element", desc := "(II)J" } : Jvm.MethodName) prog_24_method_91_code (3 : Nat) (Option.some Jvm.ClassFile.FieldType.long)) ∈ lw_all := lw_g (lw_at lw_m15 38 rfl) rfl
theorem q3520 : (Jvm.Cond.instanceMethod ({ cls := "EditsMeetModel", name := "holds", desc := "(I)I" } : Jvm.MethodName)) ∈ lw_all := lw_g (lw_at lw_m15 40 rfl) rfl
theorem q3521 : (Jvm.Cond.selects "EditsMeetModel" ({ cls := "EditsMeetModel", name := "holds", desc := "(I)I" } : Jvm.MethodName) ({ cls := "EditsMeetModel", name := "holds", desc := "(I)I" } : Jvm.MethodName)) ∈ lw_all := lw_g (lw_at lw_m15 41 rfl) rfl
theorem q3522 : (Jvm.Cond.code ({ cls := "EditsMeetModel", name := "holds", desc := "(I)I" } : Jvm.MethodName) prog_24_method_92_code (2 : Nat) (Option.some Jvm.ClassFile.FieldType.int)) ∈ lw_all := lw_g (lw_at lw_m15 42 rfl) rfl
theorem q3524 : (Jvm.Cond.instanceMethod ({ cls := "EditsMeetModel", name := "show", desc := "(III)I" } : Jvm.MethodName)) ∈ lw_all := lw_g (lw_at lw_m15 44 rfl) rfl
theorem q3525 : (Jvm.Cond.selects "EditsMeetModel" ({ cls := "EditsMeetModel", name := "show", desc := "(III)I" } : Jvm.MethodName) ({ cls := "EditsMeetModel", name := "show", desc := "(III)I" } : Jvm.MethodName)) ∈ lw_all := lw_g (lw_at lw_m15 45 rfl) rfl
theorem q3526 : (Jvm.Cond.code ({ cls := "EditsMeetModel", name := "show", desc := "(III)I" } : Jvm.MethodName) prog_24_method_93_code (5 : Nat) (Option.some Jvm.ClassFile.FieldType.int)) ∈ lw_all := lw_g (lw_at lw_m15 46 rfl) rfl
theorem q3528 : (Jvm.Cond.instanceMethod ({ cls := "EditsMeetModel", name := "says", desc := "(II)I" } : Jvm.MethodName)) ∈ lw_all := lw_g (lw_at lw_m15 48 rfl) rfl
theorem q3529 : (Jvm.Cond.selects "EditsMeetModel" ({ cls := "EditsMeetModel", name := "says", desc := "(II)I" } : Jvm.MethodName) ({ cls := "EditsMeetModel", name := "says", desc := "(II)I" } : Jvm.MethodName)) ∈ lw_all := lw_g (lw_at lw_m15 49 rfl) rfl
theorem q3530 : (Jvm.Cond.code ({ cls := "EditsMeetModel", name := "says", desc := "(II)I" } : Jvm.MethodName) prog_24_method_95_code (4 : Nat) (Option.some Jvm.ClassFile.FieldType.int)) ∈ lw_all := lw_g (lw_at lw_m15 50 rfl) rfl
theorem q3531 : (Jvm.Cond.methodLink "EditsMeetModel" (336 : Nat) ({ cls := "EditsMeetModel", name := "isUnder", desc := "(II)Z" } : Jvm.MethodName)) ∈ lw_all := lw_g (lw_at lw_m15 51 rfl) rfl
theorem q3532 : (Jvm.Cond.static ({ cls := "EditsMeetModel", name := "isUnder", desc := "(II)Z" } : Jvm.MethodName)) ∈ lw_all := lw_g (lw_at lw_m15 52 rfl) rfl
theorem q3533 : (Jvm.Cond.code ({ cls := "EditsMeetModel", name := "isUnder", desc := "(II)Z" } : Jvm.MethodName) prog_24_method_94_code (2 : Nat) (Option.some Jvm.ClassFile.FieldType.boolean)) ∈ lw_all := lw_g (lw_at lw_m15 53 rfl) rfl
theorem q3534 : (Jvm.Cond.methodLink "EditsMeetModel" (339 : Nat) ({ cls := "java/lang/Integer", name := "bitCount", desc := "(I)I" } : Jvm.MethodName)) ∈ lw_all := lw_g (lw_at lw_m15 54 rfl) rfl
theorem q3536 : (Jvm.Cond.instanceMethod ({ cls := "EditsMeetModel", name := "judge", desc := "(III)I" } : Jvm.MethodName)) ∈ lw_all := lw_g (lw_at lw_m15 56 rfl) rfl
theorem q3537 : (Jvm.Cond.selects "EditsMeetModel" ({ cls := "EditsMeetModel", name := "judge", desc := "(III)I" } : Jvm.MethodName) ({ cls := "EditsMeetModel", name := "judge", desc := "(III)I" } : Jvm.MethodName)) ∈ lw_all := lw_g (lw_at lw_m15 57 rfl) rfl
theorem q3538 : (Jvm.Cond.code ({ cls := "EditsMeetModel", name := "judge", desc := "(III)I" } : Jvm.MethodName) prog_24_method_96_code (6 : Nat) (Option.some Jvm.ClassFile.FieldType.int)) ∈ lw_all := lw_g (lw_at lw_m15 58 rfl) rfl
theorem q3539 : (Jvm.Cond.constantLong "EditsMeetModel" (344 : Nat) (20 : Int64)) ∈ lw_all := lw_g (lw_at lw_m15 59 rfl) rfl
theorem q3541 : (Jvm.Cond.instanceMethod ({ cls := "EditsMeetModel", name := "days", desc := "(I)I" } : Jvm.MethodName)) ∈ lw_all := lw_g (lw_at lw_m15 61 rfl) rfl
theorem q3542 : (Jvm.Cond.selects "EditsMeetModel" ({ cls := "EditsMeetModel", name := "days", desc := "(I)I" } : Jvm.MethodName) ({ cls := "EditsMeetModel", name := "days", desc := "(I)I" } : Jvm.MethodName)) ∈ lw_all := lw_g (lw_at lw_m15 62 rfl) rfl
theorem q3543 : (Jvm.Cond.code ({ cls := "EditsMeetModel", name := "days", desc := "(I)I" } : Jvm.MethodName) prog_24_method_99_code (5 : Nat) (Option.some Jvm.ClassFile.FieldType.int)) ∈ lw_all := lw_g (lw_at lw_m15 63 rfl) rfl
theorem q3544 : (Jvm.Cond.constantLong "EditsMeetModel" (350 : Nat) (60 : Int64)) ∈ lw_all := lw_g (lw_at lw_m15 64 rfl) rfl
theorem q3545 : (Jvm.Cond.methodLink "EditsMeetModel" (347 : Nat) ({ cls := "EditsMeetModel", name := "draw", desc := "(I)I" } : Jvm.MethodName)) ∈ lw_all := lw_g (lw_at lw_m15 65 rfl) rfl
theorem q3546 : (Jvm.Cond.privateMethod ({ cls := "EditsMeetModel", name := "draw", desc := "(I)I" } : Jvm.MethodName)) ∈ lw_tbl := lw_at lw_m15 66 rfl
theorem q3547 : (Jvm.Cond.instanceMethod ({ cls := "EditsMeetModel", name := "draw", desc := "(I)I" } : Jvm.MethodName)) ∈ lw_all := lw_g (lw_at lw_m15 67 rfl) rfl
theorem q3548 : (Jvm.Cond.code ({ cls := "EditsMeetModel", name := "draw", desc := "(I)I" } : Jvm.MethodName) prog_24_method_97_code (2 : Nat) (Option.some Jvm.ClassFile.FieldType.int)) ∈ lw_all := lw_g (lw_at lw_m15 68 rfl) rfl
theorem q3549 : (Jvm.Cond.constant "EditsMeetModel" (346 : Nat) (1103515245 : Int32)) ∈ lw_all := lw_g (lw_at lw_m15 69 rfl) rfl
theorem q3550 : (Jvm.Cond.methodLink "EditsMeetModel" (352 : Nat) ({ cls := "EditsMeetModel", name := "isDay", desc := "(II)Z" } : Jvm.MethodName)) ∈ lw_all := lw_g (lw_at lw_m15 70 rfl) rfl
theorem q3551 : (Jvm.Cond.privateMethod ({ cls := "EditsMeetModel", name := "isDay", desc := "(II)Z" } : Jvm.MethodName)) ∈ lw_tbl := lw_at lw_m15 71 rfl
theorem q3552 : (Jvm.Cond.instanceMethod ({ cls := "EditsMeetModel", name := "isDay", desc := "(II)Z" } : Jvm.MethodName)) ∈ lw_all := lw_g (lw_at lw_m15 72 rfl) rfl
theorem q3553 : (Jvm.Cond.code ({ cls := "EditsMeetModel", name := "isDay", desc := "(II)Z" } : Jvm.MethodName) prog_24_method_98_code (6 : Nat) (Option.some Jvm.ClassFile.FieldType.boolean)) ∈ lw_all := lw_g (lw_at lw_m15 73 rfl) rfl
theorem q3555 : (Jvm.Cond.instanceMethod ({ cls := "EditsMeetModel", name := "seed", desc := "(I)I" } : Jvm.MethodName)) ∈ lw_all := lw_g (lw_at lw_m15 75 rfl) rfl
theorem q3556 : (Jvm.Cond.selects "EditsMeetModel" ({ cls := "EditsMeetModel", name := "seed", desc := "(I)I" } : Jvm.MethodName) ({ cls := "EditsMeetModel", name := "seed", desc := "(I)I" } : Jvm.MethodName)) ∈ lw_all := lw_g (lw_at lw_m15 76 rfl) rfl
theorem q3557 : (Jvm.Cond.code ({ cls := "EditsMeetModel", name := "seed", desc := "(I)I" } : Jvm.MethodName) prog_24_method_100_code (3 : Nat) (Option.some Jvm.ClassFile.FieldType.int)) ∈ lw_all := lw_g (lw_at lw_m15 77 rfl) rfl
theorem q3559 : (Jvm.Cond.instanceMethod ({ cls := "EditsMeetModel", name := "image", desc := "()I" } : Jvm.MethodName)) ∈ lw_all := lw_g (lw_at lw_m15 79 rfl) rfl
theorem q3560 : (Jvm.Cond.selects "EditsMeetModel" ({ cls := "EditsMeetModel", name := "image", desc := "()I" } : Jvm.MethodName) ({ cls := "EditsMeetModel", name := "image", desc := "()I" } : Jvm.MethodName)) ∈ lw_all := lw_g (lw_at lw_m15 80 rfl) rfl
theorem q3561 : (Jvm.Cond.code ({ cls := "EditsMeetModel", name := "image", desc := "()I" } : Jvm.MethodName) prog_24_method_103_code (1 : Nat) (Option.some Jvm.ClassFile.FieldType.int)) ∈ lw_all := lw_g (lw_at lw_m15 81 rfl) rfl
theorem q3562 : (Jvm.Cond.methodLink "EditsMeetModel" (359 : Nat) ({ cls := "EditsMeetModel", name := "copiesRows", desc := "([[I[II[[I[I)V" } : Jvm.MethodName)) ∈ lw_all := lw_g (lw_at lw_m15 82 rfl) rfl
theorem q3563 : (Jvm.Cond.static ({ cls := "EditsMeetModel", name := "copiesRows", desc := "([[I[II[[I[I)V" } : Jvm.MethodName)) ∈ lw_all := lw_g (lw_at lw_m15 83 rfl) rfl
theorem q3564 : (Jvm.Cond.code ({ cls := "EditsMeetModel", name := "copiesRows", desc := "([[I[II[[I[I)V" } : Jvm.MethodName) prog_24_method_102_code (6 : Nat) (Option.none : Option Jvm.ClassFile.FieldType)) ∈ lw_all := lw_g (lw_at lw_m15 84 rfl) rfl
theorem q3565 : (Jvm.Cond.methodLink "EditsMeetModel" (355 : Nat) ({ cls := "EditsMeetModel", name := "copies", desc := "([I[II)V" } : Jvm.MethodName)) ∈ lw_all := lw_g (lw_at lw_m15 85 rfl) rfl
theorem q3566 : (Jvm.Cond.static ({ cls := "EditsMeetModel", name := "copies", desc := "([I[II)V" } : Jvm.MethodName)) ∈ lw_all := lw_g (lw_at lw_m15 86 rfl) rfl
theorem q3567 : (Jvm.Cond.code ({ cls := "EditsMeetModel", name := "copies", desc := "([I[II)V" } : Jvm.MethodName) prog_24_method_101_code (4 : Nat) (Option.none : Option Jvm.ClassFile.FieldType)) ∈ lw_all := lw_g (lw_at lw_m15 87 rfl) rfl
theorem q3569 : (Jvm.Cond.instanceMethod ({ cls := "EditsMeetModel", name := "back", desc := "()I" } : Jvm.MethodName)) ∈ lw_all := lw_g (lw_at lw_m15 89 rfl) rfl
theorem q3570 : (Jvm.Cond.selects "EditsMeetModel" ({ cls := "EditsMeetModel", name := "back", desc := "()I" } : Jvm.MethodName) ({ cls := "EditsMeetModel", name := "back", desc := "()I" } : Jvm.MethodName)) ∈ lw_all := lw_g (lw_at lw_m15 90 rfl) rfl
theorem q3571 : (Jvm.Cond.code ({ cls := "EditsMeetModel", name := "back", desc := "()I" } : Jvm.MethodName) prog_24_method_104_code (1 : Nat) (Option.some Jvm.ClassFile.FieldType.int)) ∈ lw_all := lw_g (lw_at lw_m15 91 rfl) rfl
theorem q3573 : (Jvm.Cond.instanceMethod ({ cls := "EditsMeetModel", name := "status", desc := "(I)I" } : Jvm.MethodName)) ∈ lw_all := lw_g (lw_at lw_m15 93 rfl) rfl
theorem q3574 : (Jvm.Cond.selects "EditsMeetModel" ({ cls := "EditsMeetModel", name := "status", desc := "(I)I" } : Jvm.MethodName) ({ cls := "EditsMeetModel", name := "status", desc := "(I)I" } : Jvm.MethodName)) ∈ lw_all := lw_g (lw_at lw_m15 94 rfl) rfl
theorem q3575 : (Jvm.Cond.code ({ cls := "EditsMeetModel", name := "status", desc := "(I)I" } : Jvm.MethodName) prog_24_method_105_code (4 : Nat) (Option.some Jvm.ClassFile.FieldType.int)) ∈ lw_all := lw_g (lw_at lw_m15 95 rfl) rfl
theorem q3576 : (Jvm.Cond.constantLong "EditsMeetModel" (367 : Nat) (12 : Int64)) ∈ lw_all := lw_g (lw_at lw_m15 96 rfl) rfl
theorem q3577 : (Jvm.Cond.constantLong "EditsMeetModel" (369 : Nat) (16 : Int64)) ∈ lw_all := lw_g (lw_at lw_m15 97 rfl) rfl
theorem q3639 : (Jvm.Cond.castable "EditsMeetModel" "java/lang/Object") ∈ lw_tbl := lw_at lw_m15 159 rfl
theorem in_X12 : ∀ w ∈ wsX120, w ∈ lw_all := lw_in wsX120 [3084, 3086, 3088, 3090, 3092, 3094, 3096, 3098, 3100, 3102, 3104, 3106, 3108, 3110, 3112, 3114, 3116, 3118, 3120, 3122, 3124, 3126, 3128, 3130, 3132, 3134, 3136, 3138, 3140, 3142, 3144, 3146, 3148] (by decide +kernel) (by decide +kernel)
