/-! EditsMeet -/
set_option maxRecDepth 100000
def RX0 : String := "EditsMeet"
def TX0 : u_T := fun k => match k with
  | 0 => ("EditsMeet", "now", "LEditsMeet$World;", true)
  | 1 => ("EditsMeet", "kept", "LEditsMeet$World;", true)
  | 2 => ("EditsMeet", "isKept", "Z", false)
  | 3 => ("EditsMeet", "edits", "[LEditsMeet$Edit;", true)
  | 4 => ("EditsMeet", "shelves", "[LEditsMeet$Sheet;", true)
  | 5 => ("EditsMeet", "tape", "[I", true)
  | 6 => ("EditsMeet", "size", "I", false)
  | _ => ("EditsMeet", "refused", "[I", true)
def tyX0 : Nat → FieldType := fun k => match k with
  | 0 => .object "EditsMeet$World"
  | 1 => .object "EditsMeet$World"
  | 2 => .boolean
  | 3 => .array (.object "EditsMeet$Edit")
  | 4 => .array (.object "EditsMeet$Sheet")
  | 5 => .array .int
  | 6 => .int
  | _ => .array .int
abbrev wsX00 : List Cond := u_ws RX0 TX0 8
theorem nmX0 : ∀ a, a < 8 → ∀ b, b < 8 → a ≠ b → (TX0 a).2.1 ≠ (TX0 b).2.1 := by decide +kernel
theorem tyX0_ok : ∀ k, k < 8 → parseFieldDescriptor (TX0 k).2.2.1 = some (tyX0 k) := by decide +kernel
abbrev cX0_init : ByteArray := prog_1_method_4_code
def yX0_init : MethodName := ⟨RX0, "<init>", "()V"⟩
def dkwX0_init_3 : List UInt8 := [42, 180, 0, 33, 27, 187, 0, 31, 89, 183, 0, 44, 83, 132, 1, 1, 167, 255, 234, 177]
abbrev dktX0_init_3 : List UInt8 := dkwX0_init_3 ++ []
def dkwX0_init_2 : List UInt8 := [17, 0, 250, 188, 10, 181, 0, 37, 42, 16, 7, 188, 10, 181, 0, 41, 3, 60, 27, 16, 8, 162, 0, 22]
abbrev dktX0_init_2 : List UInt8 := dkwX0_init_2 ++ dktX0_init_3
def dkwX0_init_1 : List UInt8 := [181, 0, 22, 42, 16, 12, 189, 0, 25, 181, 0, 27, 42, 16, 8, 189, 0, 31, 181, 0, 33, 42]
abbrev dktX0_init_1 : List UInt8 := dkwX0_init_1 ++ dktX0_init_2
def dkwX0_init_0 : List UInt8 := [42, 183, 0, 7, 42, 187, 0, 13, 89, 183, 0, 15, 181, 0, 16, 42, 187, 0, 13, 89, 183, 0, 15]
abbrev dktX0_init_0 : List UInt8 := dkwX0_init_0 ++ dktX0_init_1
theorem dksX0_init_0 : cX0_init.data.toList.drop 0 = dktX0_init_0 := by decide +kernel
theorem dksX0_init_1 : cX0_init.data.toList.drop 23 = dktX0_init_1 := dk_seg dksX0_init_0 23 rfl rfl
theorem dksX0_init_2 : cX0_init.data.toList.drop 45 = dktX0_init_2 := dk_seg dksX0_init_1 22 rfl rfl
theorem dksX0_init_3 : cX0_init.data.toList.drop 69 = dktX0_init_3 := dk_seg dksX0_init_2 24 rfl rfl
theorem dX0_init_0 : decode cX0_init 0 = .ok (.aload_n 0, 1) := dk_42 (dk_at dksX0_init_0 0 rfl rfl)
theorem dX0_init_1 : decode cX0_init 1 = .ok (.invokespecial 7, 3) := dk_183 0 7 (dk_at dksX0_init_0 1 rfl rfl)
theorem dX0_init_4 : decode cX0_init 4 = .ok (.aload_n 0, 1) := dk_42 (dk_at dksX0_init_0 4 rfl rfl)
theorem dX0_init_5 : decode cX0_init 5 = .ok (.new 13, 3) := dk_187 0 13 (dk_at dksX0_init_0 5 rfl rfl)
theorem dX0_init_8 : decode cX0_init 8 = .ok (.dup, 1) := dk_89 (dk_at dksX0_init_0 8 rfl rfl)
theorem dX0_init_9 : decode cX0_init 9 = .ok (.invokespecial 15, 3) := dk_183 0 15 (dk_at dksX0_init_0 9 rfl rfl)
theorem dX0_init_12 : decode cX0_init 12 = .ok (.putfield 16, 3) := dk_181 0 16 (dk_at dksX0_init_0 12 rfl rfl)
theorem dX0_init_15 : decode cX0_init 15 = .ok (.aload_n 0, 1) := dk_42 (dk_at dksX0_init_0 15 rfl rfl)
theorem dX0_init_16 : decode cX0_init 16 = .ok (.new 13, 3) := dk_187 0 13 (dk_at dksX0_init_0 16 rfl rfl)
theorem dX0_init_19 : decode cX0_init 19 = .ok (.dup, 1) := dk_89 (dk_at dksX0_init_0 19 rfl rfl)
theorem dX0_init_20 : decode cX0_init 20 = .ok (.invokespecial 15, 3) := dk_183 0 15 (dk_at dksX0_init_0 20 rfl rfl)
theorem dX0_init_23 : decode cX0_init 23 = .ok (.putfield 22, 3) := dk_181 0 22 (dk_at dksX0_init_1 0 rfl rfl)
theorem dX0_init_26 : decode cX0_init 26 = .ok (.aload_n 0, 1) := dk_42 (dk_at dksX0_init_1 3 rfl rfl)
theorem dX0_init_27 : decode cX0_init 27 = .ok (.bipush 12, 2) := dk_16 12 (dk_at dksX0_init_1 4 rfl rfl)
theorem dX0_init_29 : decode cX0_init 29 = .ok (.anewarray 25, 3) := dk_189 0 25 (dk_at dksX0_init_1 6 rfl rfl)
theorem dX0_init_32 : decode cX0_init 32 = .ok (.putfield 27, 3) := dk_181 0 27 (dk_at dksX0_init_1 9 rfl rfl)
theorem dX0_init_35 : decode cX0_init 35 = .ok (.aload_n 0, 1) := dk_42 (dk_at dksX0_init_1 12 rfl rfl)
theorem dX0_init_36 : decode cX0_init 36 = .ok (.bipush 8, 2) := dk_16 8 (dk_at dksX0_init_1 13 rfl rfl)
theorem dX0_init_38 : decode cX0_init 38 = .ok (.anewarray 31, 3) := dk_189 0 31 (dk_at dksX0_init_1 15 rfl rfl)
theorem dX0_init_41 : decode cX0_init 41 = .ok (.putfield 33, 3) := dk_181 0 33 (dk_at dksX0_init_1 18 rfl rfl)
theorem dX0_init_44 : decode cX0_init 44 = .ok (.aload_n 0, 1) := dk_42 (dk_at dksX0_init_1 21 rfl rfl)
theorem dX0_init_45 : decode cX0_init 45 = .ok (.sipush 250, 3) := dk_17 0 250 (dk_at dksX0_init_2 0 rfl rfl)
theorem dX0_init_48 : decode cX0_init 48 = .ok (.newarray .int, 2) := dk_188_10 (dk_at dksX0_init_2 3 rfl rfl)
theorem dX0_init_50 : decode cX0_init 50 = .ok (.putfield 37, 3) := dk_181 0 37 (dk_at dksX0_init_2 5 rfl rfl)
theorem dX0_init_53 : decode cX0_init 53 = .ok (.aload_n 0, 1) := dk_42 (dk_at dksX0_init_2 8 rfl rfl)
theorem dX0_init_54 : decode cX0_init 54 = .ok (.bipush 7, 2) := dk_16 7 (dk_at dksX0_init_2 9 rfl rfl)
theorem dX0_init_56 : decode cX0_init 56 = .ok (.newarray .int, 2) := dk_188_10 (dk_at dksX0_init_2 11 rfl rfl)
theorem dX0_init_58 : decode cX0_init 58 = .ok (.putfield 41, 3) := dk_181 0 41 (dk_at dksX0_init_2 13 rfl rfl)
theorem dX0_init_61 : decode cX0_init 61 = .ok (.iconst 0, 1) := dk_3 (dk_at dksX0_init_2 16 rfl rfl)
theorem dX0_init_62 : decode cX0_init 62 = .ok (.istore_n 1, 1) := dk_60 (dk_at dksX0_init_2 17 rfl rfl)
theorem dX0_init_63 : decode cX0_init 63 = .ok (.iload_n 1, 1) := dk_27 (dk_at dksX0_init_2 18 rfl rfl)
theorem dX0_init_64 : decode cX0_init 64 = .ok (.bipush 8, 2) := dk_16 8 (dk_at dksX0_init_2 19 rfl rfl)
theorem dX0_init_66 : decode cX0_init 66 = .ok (.if_icmp .ge 22, 3) := dk_162 0 22 (dk_at dksX0_init_2 21 rfl rfl)
theorem dX0_init_69 : decode cX0_init 69 = .ok (.aload_n 0, 1) := dk_42 (dk_at dksX0_init_3 0 rfl rfl)
theorem dX0_init_70 : decode cX0_init 70 = .ok (.getfield 33, 3) := dk_180 0 33 (dk_at dksX0_init_3 1 rfl rfl)
theorem dX0_init_73 : decode cX0_init 73 = .ok (.iload_n 1, 1) := dk_27 (dk_at dksX0_init_3 4 rfl rfl)
theorem dX0_init_74 : decode cX0_init 74 = .ok (.new 31, 3) := dk_187 0 31 (dk_at dksX0_init_3 5 rfl rfl)
theorem dX0_init_77 : decode cX0_init 77 = .ok (.dup, 1) := dk_89 (dk_at dksX0_init_3 8 rfl rfl)
theorem dX0_init_78 : decode cX0_init 78 = .ok (.invokespecial 44, 3) := dk_183 0 44 (dk_at dksX0_init_3 9 rfl rfl)
theorem dX0_init_81 : decode cX0_init 81 = .ok (.aastore, 1) := dk_83 (dk_at dksX0_init_3 12 rfl rfl)
theorem dX0_init_82 : decode cX0_init 82 = .ok (.iinc 1 1, 3) := dk_132 1 1 (dk_at dksX0_init_3 13 rfl rfl)
theorem dX0_init_85 : decode cX0_init 85 = .ok (.goto (-22), 3) := dk_167 255 234 (dk_at dksX0_init_3 16 rfl rfl)
theorem dX0_init_88 : decode cX0_init 88 = .ok (.return_, 1) := dk_177 (dk_at dksX0_init_3 19 rfl rfl)
abbrev cX0_row : ByteArray := prog_1_method_19_code
def yX0_row : MethodName := ⟨RX0, "row", "(III)I"⟩
def dkwX0_row_2 : List UInt8 := [58, 4, 42, 16, 254, 182, 0, 79, 172, 4, 172]
abbrev dktX0_row_2 : List UInt8 := dkwX0_row_2 ++ []
def dkwX0_row_1 : List UInt8 := [16, 254, 182, 0, 79, 172, 42, 180, 0, 33, 27, 50, 28, 29, 184, 0, 98, 181, 0, 102, 167, 0, 12]
abbrev dktX0_row_1 : List UInt8 := dkwX0_row_1 ++ dktX0_row_2
def dkwX0_row_0 : List UInt8 := [27, 184, 0, 95, 153, 0, 18, 28, 155, 0, 14, 28, 7, 163, 0, 9, 29, 16, 40, 164, 0, 10, 42]
abbrev dktX0_row_0 : List UInt8 := dkwX0_row_0 ++ dktX0_row_1
theorem dksX0_row_0 : cX0_row.data.toList.drop 0 = dktX0_row_0 := by decide +kernel
theorem dksX0_row_1 : cX0_row.data.toList.drop 23 = dktX0_row_1 := dk_seg dksX0_row_0 23 rfl rfl
theorem dksX0_row_2 : cX0_row.data.toList.drop 46 = dktX0_row_2 := dk_seg dksX0_row_1 23 rfl rfl
theorem dX0_row_0 : decode cX0_row 0 = .ok (.iload_n 1, 1) := dk_27 (dk_at dksX0_row_0 0 rfl rfl)
theorem dX0_row_1 : decode cX0_row 1 = .ok (.invokestatic 95, 3) := dk_184 0 95 (dk_at dksX0_row_0 1 rfl rfl)
theorem dX0_row_4 : decode cX0_row 4 = .ok (.ifCond .eq 18, 3) := dk_153 0 18 (dk_at dksX0_row_0 4 rfl rfl)
theorem dX0_row_7 : decode cX0_row 7 = .ok (.iload_n 2, 1) := dk_28 (dk_at dksX0_row_0 7 rfl rfl)
theorem dX0_row_8 : decode cX0_row 8 = .ok (.ifCond .lt 14, 3) := dk_155 0 14 (dk_at dksX0_row_0 8 rfl rfl)
theorem dX0_row_11 : decode cX0_row 11 = .ok (.iload_n 2, 1) := dk_28 (dk_at dksX0_row_0 11 rfl rfl)
theorem dX0_row_12 : decode cX0_row 12 = .ok (.iconst 4, 1) := dk_7 (dk_at dksX0_row_0 12 rfl rfl)
theorem dX0_row_13 : decode cX0_row 13 = .ok (.if_icmp .gt 9, 3) := dk_163 0 9 (dk_at dksX0_row_0 13 rfl rfl)
theorem dX0_row_16 : decode cX0_row 16 = .ok (.iload_n 3, 1) := dk_29 (dk_at dksX0_row_0 16 rfl rfl)
theorem dX0_row_17 : decode cX0_row 17 = .ok (.bipush 40, 2) := dk_16 40 (dk_at dksX0_row_0 17 rfl rfl)
theorem dX0_row_19 : decode cX0_row 19 = .ok (.if_icmp .le 10, 3) := dk_164 0 10 (dk_at dksX0_row_0 19 rfl rfl)
theorem dX0_row_22 : decode cX0_row 22 = .ok (.aload_n 0, 1) := dk_42 (dk_at dksX0_row_0 22 rfl rfl)
theorem dX0_row_23 : decode cX0_row 23 = .ok (.bipush (-2), 2) := dk_16 254 (dk_at dksX0_row_1 0 rfl rfl)
theorem dX0_row_25 : decode cX0_row 25 = .ok (.invokevirtual 79, 3) := dk_182 0 79 (dk_at dksX0_row_1 2 rfl rfl)
theorem dX0_row_28 : decode cX0_row 28 = .ok (.ireturn, 1) := dk_172 (dk_at dksX0_row_1 5 rfl rfl)
theorem dX0_row_29 : decode cX0_row 29 = .ok (.aload_n 0, 1) := dk_42 (dk_at dksX0_row_1 6 rfl rfl)
theorem dX0_row_30 : decode cX0_row 30 = .ok (.getfield 33, 3) := dk_180 0 33 (dk_at dksX0_row_1 7 rfl rfl)
theorem dX0_row_33 : decode cX0_row 33 = .ok (.iload_n 1, 1) := dk_27 (dk_at dksX0_row_1 10 rfl rfl)
theorem dX0_row_34 : decode cX0_row 34 = .ok (.aaload, 1) := dk_50 (dk_at dksX0_row_1 11 rfl rfl)
theorem dX0_row_35 : decode cX0_row 35 = .ok (.iload_n 2, 1) := dk_28 (dk_at dksX0_row_1 12 rfl rfl)
theorem dX0_row_36 : decode cX0_row 36 = .ok (.iload_n 3, 1) := dk_29 (dk_at dksX0_row_1 13 rfl rfl)
theorem dX0_row_37 : decode cX0_row 37 = .ok (.invokestatic 98, 3) := dk_184 0 98 (dk_at dksX0_row_1 14 rfl rfl)
theorem dX0_row_40 : decode cX0_row 40 = .ok (.putfield 102, 3) := dk_181 0 102 (dk_at dksX0_row_1 17 rfl rfl)
theorem dX0_row_43 : decode cX0_row 43 = .ok (.goto 12, 3) := dk_167 0 12 (dk_at dksX0_row_1 20 rfl rfl)
theorem dX0_row_46 : decode cX0_row 46 = .ok (.astore 4, 2) := dk_58 4 (dk_at dksX0_row_2 0 rfl rfl)
theorem dX0_row_48 : decode cX0_row 48 = .ok (.aload_n 0, 1) := dk_42 (dk_at dksX0_row_2 2 rfl rfl)
theorem dX0_row_49 : decode cX0_row 49 = .ok (.bipush (-2), 2) := dk_16 254 (dk_at dksX0_row_2 3 rfl rfl)
theorem dX0_row_51 : decode cX0_row 51 = .ok (.invokevirtual 79, 3) := dk_182 0 79 (dk_at dksX0_row_2 5 rfl rfl)
theorem dX0_row_54 : decode cX0_row 54 = .ok (.ireturn, 1) := dk_172 (dk_at dksX0_row_2 8 rfl rfl)
theorem dX0_row_55 : decode cX0_row 55 = .ok (.iconst 1, 1) := dk_4 (dk_at dksX0_row_2 9 rfl rfl)
theorem dX0_row_56 : decode cX0_row 56 = .ok (.ireturn, 1) := dk_172 (dk_at dksX0_row_2 10 rfl rfl)
abbrev cX0_isShelf : ByteArray := prog_1_method_6_code
def yX0_isShelf : MethodName := ⟨RX0, "isShelf", "(I)Z"⟩
def dkwX0_isShelf_0 : List UInt8 := [26, 3, 16, 7, 184, 0, 45, 172]
abbrev dktX0_isShelf_0 : List UInt8 := dkwX0_isShelf_0 ++ []
theorem dksX0_isShelf_0 : cX0_isShelf.data.toList.drop 0 = dktX0_isShelf_0 := by decide +kernel
theorem dX0_isShelf_0 : decode cX0_isShelf 0 = .ok (.iload_n 0, 1) := dk_26 (dk_at dksX0_isShelf_0 0 rfl rfl)
theorem dX0_isShelf_1 : decode cX0_isShelf 1 = .ok (.iconst 0, 1) := dk_3 (dk_at dksX0_isShelf_0 1 rfl rfl)
theorem dX0_isShelf_2 : decode cX0_isShelf 2 = .ok (.bipush 7, 2) := dk_16 7 (dk_at dksX0_isShelf_0 2 rfl rfl)
theorem dX0_isShelf_4 : decode cX0_isShelf 4 = .ok (.invokestatic 45, 3) := dk_184 0 45 (dk_at dksX0_isShelf_0 4 rfl rfl)
theorem dX0_isShelf_7 : decode cX0_isShelf 7 = .ok (.ireturn, 1) := dk_172 (dk_at dksX0_isShelf_0 7 rfl rfl)
abbrev cX0_isIn : ByteArray := prog_1_method_1_code
def yX0_isIn : MethodName := ⟨RX0, "isIn", "(III)Z"⟩
def dkwX0_isIn_0 : List UInt8 := [26, 27, 161, 0, 12, 26, 28, 163, 0, 7, 4, 167, 0, 4, 3, 172]
abbrev dktX0_isIn_0 : List UInt8 := dkwX0_isIn_0 ++ []
theorem dksX0_isIn_0 : cX0_isIn.data.toList.drop 0 = dktX0_isIn_0 := by decide +kernel
theorem dX0_isIn_0 : decode cX0_isIn 0 = .ok (.iload_n 0, 1) := dk_26 (dk_at dksX0_isIn_0 0 rfl rfl)
theorem dX0_isIn_1 : decode cX0_isIn 1 = .ok (.iload_n 1, 1) := dk_27 (dk_at dksX0_isIn_0 1 rfl rfl)
theorem dX0_isIn_2 : decode cX0_isIn 2 = .ok (.if_icmp .lt 12, 3) := dk_161 0 12 (dk_at dksX0_isIn_0 2 rfl rfl)
theorem dX0_isIn_5 : decode cX0_isIn 5 = .ok (.iload_n 0, 1) := dk_26 (dk_at dksX0_isIn_0 5 rfl rfl)
theorem dX0_isIn_6 : decode cX0_isIn 6 = .ok (.iload_n 2, 1) := dk_28 (dk_at dksX0_isIn_0 6 rfl rfl)
theorem dX0_isIn_7 : decode cX0_isIn 7 = .ok (.if_icmp .gt 7, 3) := dk_163 0 7 (dk_at dksX0_isIn_0 7 rfl rfl)
theorem dX0_isIn_10 : decode cX0_isIn 10 = .ok (.iconst 1, 1) := dk_4 (dk_at dksX0_isIn_0 10 rfl rfl)
theorem dX0_isIn_11 : decode cX0_isIn 11 = .ok (.goto 4, 3) := dk_167 0 4 (dk_at dksX0_isIn_0 11 rfl rfl)
theorem dX0_isIn_14 : decode cX0_isIn 14 = .ok (.iconst 0, 1) := dk_3 (dk_at dksX0_isIn_0 14 rfl rfl)
theorem dX0_isIn_15 : decode cX0_isIn 15 = .ok (.ireturn, 1) := dk_172 (dk_at dksX0_isIn_0 15 rfl rfl)
abbrev cX0_no : ByteArray := prog_1_method_5_code
def yX0_no : MethodName := ⟨RX0, "no", "(I)I"⟩
def dkwX0_no_0 : List UInt8 := [42, 180, 0, 41, 3, 27, 100, 92, 46, 4, 96, 79, 27, 172]
abbrev dktX0_no_0 : List UInt8 := dkwX0_no_0 ++ []
theorem dksX0_no_0 : cX0_no.data.toList.drop 0 = dktX0_no_0 := by decide +kernel
theorem dX0_no_0 : decode cX0_no 0 = .ok (.aload_n 0, 1) := dk_42 (dk_at dksX0_no_0 0 rfl rfl)
theorem dX0_no_1 : decode cX0_no 1 = .ok (.getfield 41, 3) := dk_180 0 41 (dk_at dksX0_no_0 1 rfl rfl)
theorem dX0_no_4 : decode cX0_no 4 = .ok (.iconst 0, 1) := dk_3 (dk_at dksX0_no_0 4 rfl rfl)
theorem dX0_no_5 : decode cX0_no 5 = .ok (.iload_n 1, 1) := dk_27 (dk_at dksX0_no_0 5 rfl rfl)
theorem dX0_no_6 : decode cX0_no 6 = .ok (.isub, 1) := dk_100 (dk_at dksX0_no_0 6 rfl rfl)
theorem dX0_no_7 : decode cX0_no 7 = .ok (.dup2, 1) := dk_92 (dk_at dksX0_no_0 7 rfl rfl)
theorem dX0_no_8 : decode cX0_no 8 = .ok (.iaload, 1) := dk_46 (dk_at dksX0_no_0 8 rfl rfl)
theorem dX0_no_9 : decode cX0_no 9 = .ok (.iconst 1, 1) := dk_4 (dk_at dksX0_no_0 9 rfl rfl)
theorem dX0_no_10 : decode cX0_no 10 = .ok (.iadd, 1) := dk_96 (dk_at dksX0_no_0 10 rfl rfl)
theorem dX0_no_11 : decode cX0_no 11 = .ok (.iastore, 1) := dk_79 (dk_at dksX0_no_0 11 rfl rfl)
theorem dX0_no_12 : decode cX0_no 12 = .ok (.iload_n 1, 1) := dk_27 (dk_at dksX0_no_0 12 rfl rfl)
theorem dX0_no_13 : decode cX0_no 13 = .ok (.ireturn, 1) := dk_172 (dk_at dksX0_no_0 13 rfl rfl)
abbrev cX0_rowOf : ByteArray := prog_1_method_15_code
def yX0_rowOf : MethodName := ⟨RX0, "rowOf", "(II)Ljava/lang/Object;"⟩
def dkwX0_rowOf_2 : List UInt8 := [27, 188, 8, 176, 27, 188, 9, 176, 27, 188, 10, 176, 27, 188, 11, 176, 27, 188, 4, 176]
abbrev dktX0_rowOf_2 : List UInt8 := dkwX0_rowOf_2 ++ []
def dkwX0_rowOf_1 : List UInt8 := [170, 0, 0, 0, 0, 0, 47, 0, 0, 0, 0, 0, 0, 0, 3, 0, 0, 0, 31, 0, 0, 0, 35, 0, 0, 0, 39, 0, 0, 0, 43]
abbrev dktX0_rowOf_1 : List UInt8 := dkwX0_rowOf_1 ++ dktX0_rowOf_2
def dkwX0_rowOf_0 : List UInt8 := [26]
abbrev dktX0_rowOf_0 : List UInt8 := dkwX0_rowOf_0 ++ dktX0_rowOf_1
theorem dksX0_rowOf_0 : cX0_rowOf.data.toList.drop 0 = dktX0_rowOf_0 := by decide +kernel
theorem dksX0_rowOf_1 : cX0_rowOf.data.toList.drop 1 = dktX0_rowOf_1 := dk_seg dksX0_rowOf_0 1 rfl rfl
theorem dksX0_rowOf_2 : cX0_rowOf.data.toList.drop 32 = dktX0_rowOf_2 := dk_seg dksX0_rowOf_1 31 rfl rfl
theorem dX0_rowOf_0 : decode cX0_rowOf 0 = .ok (.iload_n 0, 1) := dk_26 (dk_at dksX0_rowOf_0 0 rfl rfl)
theorem dX0_rowOf_1 : decode cX0_rowOf 1 = .ok (.tableswitch 47 0 3 #[31, 35, 39, 43], 31) := by decide +kernel
theorem dX0_rowOf_32 : decode cX0_rowOf 32 = .ok (.iload_n 1, 1) := dk_27 (dk_at dksX0_rowOf_2 0 rfl rfl)
theorem dX0_rowOf_33 : decode cX0_rowOf 33 = .ok (.newarray .byte, 2) := dk_188_8 (dk_at dksX0_rowOf_2 1 rfl rfl)
theorem dX0_rowOf_35 : decode cX0_rowOf 35 = .ok (.areturn, 1) := dk_176 (dk_at dksX0_rowOf_2 3 rfl rfl)
theorem dX0_rowOf_36 : decode cX0_rowOf 36 = .ok (.iload_n 1, 1) := dk_27 (dk_at dksX0_rowOf_2 4 rfl rfl)
theorem dX0_rowOf_37 : decode cX0_rowOf 37 = .ok (.newarray .short, 2) := dk_188_9 (dk_at dksX0_rowOf_2 5 rfl rfl)
theorem dX0_rowOf_39 : decode cX0_rowOf 39 = .ok (.areturn, 1) := dk_176 (dk_at dksX0_rowOf_2 7 rfl rfl)
theorem dX0_rowOf_40 : decode cX0_rowOf 40 = .ok (.iload_n 1, 1) := dk_27 (dk_at dksX0_rowOf_2 8 rfl rfl)
theorem dX0_rowOf_41 : decode cX0_rowOf 41 = .ok (.newarray .int, 2) := dk_188_10 (dk_at dksX0_rowOf_2 9 rfl rfl)
theorem dX0_rowOf_43 : decode cX0_rowOf 43 = .ok (.areturn, 1) := dk_176 (dk_at dksX0_rowOf_2 11 rfl rfl)
theorem dX0_rowOf_44 : decode cX0_rowOf 44 = .ok (.iload_n 1, 1) := dk_27 (dk_at dksX0_rowOf_2 12 rfl rfl)
theorem dX0_rowOf_45 : decode cX0_rowOf 45 = .ok (.newarray .long, 2) := dk_188_11 (dk_at dksX0_rowOf_2 13 rfl rfl)
theorem dX0_rowOf_47 : decode cX0_rowOf 47 = .ok (.areturn, 1) := dk_176 (dk_at dksX0_rowOf_2 15 rfl rfl)
theorem dX0_rowOf_48 : decode cX0_rowOf 48 = .ok (.iload_n 1, 1) := dk_27 (dk_at dksX0_rowOf_2 16 rfl rfl)
theorem dX0_rowOf_49 : decode cX0_rowOf 49 = .ok (.newarray .boolean, 2) := dk_188_4 (dk_at dksX0_rowOf_2 17 rfl rfl)
theorem dX0_rowOf_51 : decode cX0_rowOf 51 = .ok (.areturn, 1) := dk_176 (dk_at dksX0_rowOf_2 19 rfl rfl)
abbrev cX0_set : ByteArray := prog_1_method_21_code
def yX0_set : MethodName := ⟨RX0, "set", "(IIJ)I"⟩
def dkwX0_set_1 : List UInt8 := [4, 172, 58, 5, 42, 25, 5, 180, 0, 75, 182, 0, 79, 172, 58, 5, 42, 16, 254, 182, 0, 79, 172]
abbrev dktX0_set_1 : List UInt8 := dkwX0_set_1 ++ []
def dkwX0_set_0 : List UInt8 := [27, 184, 0, 95, 154, 0, 10, 42, 16, 254, 182, 0, 79, 172, 42, 27, 182, 0, 110, 28, 33, 184, 0, 114]
abbrev dktX0_set_0 : List UInt8 := dkwX0_set_0 ++ dktX0_set_1
theorem dksX0_set_0 : cX0_set.data.toList.drop 0 = dktX0_set_0 := by decide +kernel
theorem dksX0_set_1 : cX0_set.data.toList.drop 24 = dktX0_set_1 := dk_seg dksX0_set_0 24 rfl rfl
theorem dX0_set_0 : decode cX0_set 0 = .ok (.iload_n 1, 1) := dk_27 (dk_at dksX0_set_0 0 rfl rfl)
theorem dX0_set_1 : decode cX0_set 1 = .ok (.invokestatic 95, 3) := dk_184 0 95 (dk_at dksX0_set_0 1 rfl rfl)
theorem dX0_set_4 : decode cX0_set 4 = .ok (.ifCond .ne 10, 3) := dk_154 0 10 (dk_at dksX0_set_0 4 rfl rfl)
theorem dX0_set_7 : decode cX0_set 7 = .ok (.aload_n 0, 1) := dk_42 (dk_at dksX0_set_0 7 rfl rfl)
theorem dX0_set_8 : decode cX0_set 8 = .ok (.bipush (-2), 2) := dk_16 254 (dk_at dksX0_set_0 8 rfl rfl)
theorem dX0_set_10 : decode cX0_set 10 = .ok (.invokevirtual 79, 3) := dk_182 0 79 (dk_at dksX0_set_0 10 rfl rfl)
theorem dX0_set_13 : decode cX0_set 13 = .ok (.ireturn, 1) := dk_172 (dk_at dksX0_set_0 13 rfl rfl)
theorem dX0_set_14 : decode cX0_set 14 = .ok (.aload_n 0, 1) := dk_42 (dk_at dksX0_set_0 14 rfl rfl)
theorem dX0_set_15 : decode cX0_set 15 = .ok (.iload_n 1, 1) := dk_27 (dk_at dksX0_set_0 15 rfl rfl)
theorem dX0_set_16 : decode cX0_set 16 = .ok (.invokevirtual 110, 3) := dk_182 0 110 (dk_at dksX0_set_0 16 rfl rfl)
theorem dX0_set_19 : decode cX0_set 19 = .ok (.iload_n 2, 1) := dk_28 (dk_at dksX0_set_0 19 rfl rfl)
theorem dX0_set_20 : decode cX0_set 20 = .ok (.lload_n 3, 1) := dk_33 (dk_at dksX0_set_0 20 rfl rfl)
theorem dX0_set_21 : decode cX0_set 21 = .ok (.invokestatic 114, 3) := dk_184 0 114 (dk_at dksX0_set_0 21 rfl rfl)
theorem dX0_set_24 : decode cX0_set 24 = .ok (.iconst 1, 1) := dk_4 (dk_at dksX0_set_1 0 rfl rfl)
theorem dX0_set_25 : decode cX0_set 25 = .ok (.ireturn, 1) := dk_172 (dk_at dksX0_set_1 1 rfl rfl)
theorem dX0_set_26 : decode cX0_set 26 = .ok (.astore 5, 2) := dk_58 5 (dk_at dksX0_set_1 2 rfl rfl)
theorem dX0_set_28 : decode cX0_set 28 = .ok (.aload_n 0, 1) := dk_42 (dk_at dksX0_set_1 4 rfl rfl)
theorem dX0_set_29 : decode cX0_set 29 = .ok (.aload 5, 2) := dk_25 5 (dk_at dksX0_set_1 5 rfl rfl)
theorem dX0_set_31 : decode cX0_set 31 = .ok (.getfield 75, 3) := dk_180 0 75 (dk_at dksX0_set_1 7 rfl rfl)
theorem dX0_set_34 : decode cX0_set 34 = .ok (.invokevirtual 79, 3) := dk_182 0 79 (dk_at dksX0_set_1 10 rfl rfl)
theorem dX0_set_37 : decode cX0_set 37 = .ok (.ireturn, 1) := dk_172 (dk_at dksX0_set_1 13 rfl rfl)
theorem dX0_set_38 : decode cX0_set 38 = .ok (.astore 5, 2) := dk_58 5 (dk_at dksX0_set_1 14 rfl rfl)
theorem dX0_set_40 : decode cX0_set 40 = .ok (.aload_n 0, 1) := dk_42 (dk_at dksX0_set_1 16 rfl rfl)
theorem dX0_set_41 : decode cX0_set 41 = .ok (.bipush (-2), 2) := dk_16 254 (dk_at dksX0_set_1 17 rfl rfl)
theorem dX0_set_43 : decode cX0_set 43 = .ok (.invokevirtual 79, 3) := dk_182 0 79 (dk_at dksX0_set_1 19 rfl rfl)
theorem dX0_set_46 : decode cX0_set 46 = .ok (.ireturn, 1) := dk_172 (dk_at dksX0_set_1 22 rfl rfl)
abbrev cX0_rowIn : ByteArray := prog_1_method_20_code
def yX0_rowIn : MethodName := ⟨RX0, "rowIn", "(I)Ljava/lang/Object;"⟩
def dkwX0_rowIn_1 : List UInt8 := [183, 0, 55, 191, 44, 199, 0, 13, 187, 0, 53, 89, 16, 252, 183, 0, 55, 191, 44, 176]
abbrev dktX0_rowIn_1 : List UInt8 := dkwX0_rowIn_1 ++ []
def dkwX0_rowIn_0 : List UInt8 := [42, 180, 0, 33, 27, 50, 180, 0, 102, 77, 44, 193, 0, 108, 153, 0, 13, 187, 0, 53, 89, 16, 253]
abbrev dktX0_rowIn_0 : List UInt8 := dkwX0_rowIn_0 ++ dktX0_rowIn_1
theorem dksX0_rowIn_0 : cX0_rowIn.data.toList.drop 0 = dktX0_rowIn_0 := by decide +kernel
theorem dksX0_rowIn_1 : cX0_rowIn.data.toList.drop 23 = dktX0_rowIn_1 := dk_seg dksX0_rowIn_0 23 rfl rfl
theorem dX0_rowIn_0 : decode cX0_rowIn 0 = .ok (.aload_n 0, 1) := dk_42 (dk_at dksX0_rowIn_0 0 rfl rfl)
theorem dX0_rowIn_1 : decode cX0_rowIn 1 = .ok (.getfield 33, 3) := dk_180 0 33 (dk_at dksX0_rowIn_0 1 rfl rfl)
theorem dX0_rowIn_4 : decode cX0_rowIn 4 = .ok (.iload_n 1, 1) := dk_27 (dk_at dksX0_rowIn_0 4 rfl rfl)
theorem dX0_rowIn_5 : decode cX0_rowIn 5 = .ok (.aaload, 1) := dk_50 (dk_at dksX0_rowIn_0 5 rfl rfl)
theorem dX0_rowIn_6 : decode cX0_rowIn 6 = .ok (.getfield 102, 3) := dk_180 0 102 (dk_at dksX0_rowIn_0 6 rfl rfl)
theorem dX0_rowIn_9 : decode cX0_rowIn 9 = .ok (.astore_n 2, 1) := dk_77 (dk_at dksX0_rowIn_0 9 rfl rfl)
theorem dX0_rowIn_10 : decode cX0_rowIn 10 = .ok (.aload_n 2, 1) := dk_44 (dk_at dksX0_rowIn_0 10 rfl rfl)
theorem dX0_rowIn_11 : decode cX0_rowIn 11 = .ok (.instanceof 108, 3) := dk_193 0 108 (dk_at dksX0_rowIn_0 11 rfl rfl)
theorem dX0_rowIn_14 : decode cX0_rowIn 14 = .ok (.ifCond .eq 13, 3) := dk_153 0 13 (dk_at dksX0_rowIn_0 14 rfl rfl)
theorem dX0_rowIn_17 : decode cX0_rowIn 17 = .ok (.new 53, 3) := dk_187 0 53 (dk_at dksX0_rowIn_0 17 rfl rfl)
theorem dX0_rowIn_20 : decode cX0_rowIn 20 = .ok (.dup, 1) := dk_89 (dk_at dksX0_rowIn_0 20 rfl rfl)
theorem dX0_rowIn_21 : decode cX0_rowIn 21 = .ok (.bipush (-3), 2) := dk_16 253 (dk_at dksX0_rowIn_0 21 rfl rfl)
theorem dX0_rowIn_23 : decode cX0_rowIn 23 = .ok (.invokespecial 55, 3) := dk_183 0 55 (dk_at dksX0_rowIn_1 0 rfl rfl)
theorem dX0_rowIn_26 : decode cX0_rowIn 26 = .ok (.athrow, 1) := dk_191 (dk_at dksX0_rowIn_1 3 rfl rfl)
theorem dX0_rowIn_27 : decode cX0_rowIn 27 = .ok (.aload_n 2, 1) := dk_44 (dk_at dksX0_rowIn_1 4 rfl rfl)
theorem dX0_rowIn_28 : decode cX0_rowIn 28 = .ok (.ifnonnull 13, 3) := dk_199 0 13 (dk_at dksX0_rowIn_1 5 rfl rfl)
theorem dX0_rowIn_31 : decode cX0_rowIn 31 = .ok (.new 53, 3) := dk_187 0 53 (dk_at dksX0_rowIn_1 8 rfl rfl)
theorem dX0_rowIn_34 : decode cX0_rowIn 34 = .ok (.dup, 1) := dk_89 (dk_at dksX0_rowIn_1 11 rfl rfl)
theorem dX0_rowIn_35 : decode cX0_rowIn 35 = .ok (.bipush (-4), 2) := dk_16 252 (dk_at dksX0_rowIn_1 12 rfl rfl)
theorem dX0_rowIn_37 : decode cX0_rowIn 37 = .ok (.invokespecial 55, 3) := dk_183 0 55 (dk_at dksX0_rowIn_1 14 rfl rfl)
theorem dX0_rowIn_40 : decode cX0_rowIn 40 = .ok (.athrow, 1) := dk_191 (dk_at dksX0_rowIn_1 17 rfl rfl)
theorem dX0_rowIn_41 : decode cX0_rowIn 41 = .ok (.aload_n 2, 1) := dk_44 (dk_at dksX0_rowIn_1 18 rfl rfl)
theorem dX0_rowIn_42 : decode cX0_rowIn 42 = .ok (.areturn, 1) := dk_176 (dk_at dksX0_rowIn_1 19 rfl rfl)
abbrev cX0_puts : ByteArray := prog_1_method_18_code
def yX0_puts : MethodName := ⟨RX0, "puts", "(Ljava/lang/Object;IJ)V"⟩
def dkwX0_puts_4 : List UInt8 := [192, 0, 93, 27, 32, 9, 148, 153, 0, 7, 4, 167, 0, 4, 3, 84, 177]
abbrev dktX0_puts_4 : List UInt8 := dkwX0_puts_4 ++ []
def dkwX0_puts_3 : List UInt8 := [42, 192, 0, 86, 27, 32, 136, 79, 167, 0, 30, 42, 192, 0, 87, 27, 32, 80, 167, 0, 20, 42]
abbrev dktX0_puts_3 : List UInt8 := dkwX0_puts_3 ++ dktX0_puts_4
def dkwX0_puts_2 : List UInt8 := [42, 192, 0, 82, 27, 32, 136, 145, 84, 167, 0, 53, 42, 192, 0, 84, 27, 32, 136, 147, 86, 167, 0, 41]
abbrev dktX0_puts_2 : List UInt8 := dkwX0_puts_2 ++ dktX0_puts_3
def dkwX0_puts_1 : List UInt8 := [170, 0, 0, 0, 0, 0, 0, 77, 0, 0, 0, 0, 0, 0, 0, 3, 0, 0, 0, 32, 0, 0, 0, 44, 0, 0, 0, 56, 0, 0, 0, 67]
abbrev dktX0_puts_1 : List UInt8 := dkwX0_puts_1 ++ dktX0_puts_2
def dkwX0_puts_0 : List UInt8 := [42, 184, 0, 89]
abbrev dktX0_puts_0 : List UInt8 := dkwX0_puts_0 ++ dktX0_puts_1
theorem dksX0_puts_0 : cX0_puts.data.toList.drop 0 = dktX0_puts_0 := by decide +kernel
theorem dksX0_puts_1 : cX0_puts.data.toList.drop 4 = dktX0_puts_1 := dk_seg dksX0_puts_0 4 rfl rfl
theorem dksX0_puts_2 : cX0_puts.data.toList.drop 36 = dktX0_puts_2 := dk_seg dksX0_puts_1 32 rfl rfl
theorem dksX0_puts_3 : cX0_puts.data.toList.drop 60 = dktX0_puts_3 := dk_seg dksX0_puts_2 24 rfl rfl
theorem dksX0_puts_4 : cX0_puts.data.toList.drop 82 = dktX0_puts_4 := dk_seg dksX0_puts_3 22 rfl rfl
theorem dX0_puts_0 : decode cX0_puts 0 = .ok (.aload_n 0, 1) := dk_42 (dk_at dksX0_puts_0 0 rfl rfl)
theorem dX0_puts_1 : decode cX0_puts 1 = .ok (.invokestatic 89, 3) := dk_184 0 89 (dk_at dksX0_puts_0 1 rfl rfl)
theorem dX0_puts_4 : decode cX0_puts 4 = .ok (.tableswitch 77 0 3 #[32, 44, 56, 67], 32) := by decide +kernel
theorem dX0_puts_36 : decode cX0_puts 36 = .ok (.aload_n 0, 1) := dk_42 (dk_at dksX0_puts_2 0 rfl rfl)
theorem dX0_puts_37 : decode cX0_puts 37 = .ok (.checkcast 82, 3) := dk_192 0 82 (dk_at dksX0_puts_2 1 rfl rfl)
theorem dX0_puts_40 : decode cX0_puts 40 = .ok (.iload_n 1, 1) := dk_27 (dk_at dksX0_puts_2 4 rfl rfl)
theorem dX0_puts_41 : decode cX0_puts 41 = .ok (.lload_n 2, 1) := dk_32 (dk_at dksX0_puts_2 5 rfl rfl)
theorem dX0_puts_42 : decode cX0_puts 42 = .ok (.l2i, 1) := dk_136 (dk_at dksX0_puts_2 6 rfl rfl)
theorem dX0_puts_43 : decode cX0_puts 43 = .ok (.i2b, 1) := dk_145 (dk_at dksX0_puts_2 7 rfl rfl)
theorem dX0_puts_44 : decode cX0_puts 44 = .ok (.bastore, 1) := dk_84 (dk_at dksX0_puts_2 8 rfl rfl)
theorem dX0_puts_45 : decode cX0_puts 45 = .ok (.goto 53, 3) := dk_167 0 53 (dk_at dksX0_puts_2 9 rfl rfl)
theorem dX0_puts_48 : decode cX0_puts 48 = .ok (.aload_n 0, 1) := dk_42 (dk_at dksX0_puts_2 12 rfl rfl)
theorem dX0_puts_49 : decode cX0_puts 49 = .ok (.checkcast 84, 3) := dk_192 0 84 (dk_at dksX0_puts_2 13 rfl rfl)
theorem dX0_puts_52 : decode cX0_puts 52 = .ok (.iload_n 1, 1) := dk_27 (dk_at dksX0_puts_2 16 rfl rfl)
theorem dX0_puts_53 : decode cX0_puts 53 = .ok (.lload_n 2, 1) := dk_32 (dk_at dksX0_puts_2 17 rfl rfl)
theorem dX0_puts_54 : decode cX0_puts 54 = .ok (.l2i, 1) := dk_136 (dk_at dksX0_puts_2 18 rfl rfl)
theorem dX0_puts_55 : decode cX0_puts 55 = .ok (.i2s, 1) := dk_147 (dk_at dksX0_puts_2 19 rfl rfl)
theorem dX0_puts_56 : decode cX0_puts 56 = .ok (.sastore, 1) := dk_86 (dk_at dksX0_puts_2 20 rfl rfl)
theorem dX0_puts_57 : decode cX0_puts 57 = .ok (.goto 41, 3) := dk_167 0 41 (dk_at dksX0_puts_2 21 rfl rfl)
theorem dX0_puts_60 : decode cX0_puts 60 = .ok (.aload_n 0, 1) := dk_42 (dk_at dksX0_puts_3 0 rfl rfl)
theorem dX0_puts_61 : decode cX0_puts 61 = .ok (.checkcast 86, 3) := dk_192 0 86 (dk_at dksX0_puts_3 1 rfl rfl)
theorem dX0_puts_64 : decode cX0_puts 64 = .ok (.iload_n 1, 1) := dk_27 (dk_at dksX0_puts_3 4 rfl rfl)
theorem dX0_puts_65 : decode cX0_puts 65 = .ok (.lload_n 2, 1) := dk_32 (dk_at dksX0_puts_3 5 rfl rfl)
theorem dX0_puts_66 : decode cX0_puts 66 = .ok (.l2i, 1) := dk_136 (dk_at dksX0_puts_3 6 rfl rfl)
theorem dX0_puts_67 : decode cX0_puts 67 = .ok (.iastore, 1) := dk_79 (dk_at dksX0_puts_3 7 rfl rfl)
theorem dX0_puts_68 : decode cX0_puts 68 = .ok (.goto 30, 3) := dk_167 0 30 (dk_at dksX0_puts_3 8 rfl rfl)
theorem dX0_puts_71 : decode cX0_puts 71 = .ok (.aload_n 0, 1) := dk_42 (dk_at dksX0_puts_3 11 rfl rfl)
theorem dX0_puts_72 : decode cX0_puts 72 = .ok (.checkcast 87, 3) := dk_192 0 87 (dk_at dksX0_puts_3 12 rfl rfl)
theorem dX0_puts_75 : decode cX0_puts 75 = .ok (.iload_n 1, 1) := dk_27 (dk_at dksX0_puts_3 15 rfl rfl)
theorem dX0_puts_76 : decode cX0_puts 76 = .ok (.lload_n 2, 1) := dk_32 (dk_at dksX0_puts_3 16 rfl rfl)
theorem dX0_puts_77 : decode cX0_puts 77 = .ok (.lastore, 1) := dk_80 (dk_at dksX0_puts_3 17 rfl rfl)
theorem dX0_puts_78 : decode cX0_puts 78 = .ok (.goto 20, 3) := dk_167 0 20 (dk_at dksX0_puts_3 18 rfl rfl)
theorem dX0_puts_81 : decode cX0_puts 81 = .ok (.aload_n 0, 1) := dk_42 (dk_at dksX0_puts_3 21 rfl rfl)
theorem dX0_puts_82 : decode cX0_puts 82 = .ok (.checkcast 93, 3) := dk_192 0 93 (dk_at dksX0_puts_4 0 rfl rfl)
theorem dX0_puts_85 : decode cX0_puts 85 = .ok (.iload_n 1, 1) := dk_27 (dk_at dksX0_puts_4 3 rfl rfl)
theorem dX0_puts_86 : decode cX0_puts 86 = .ok (.lload_n 2, 1) := dk_32 (dk_at dksX0_puts_4 4 rfl rfl)
theorem dX0_puts_87 : decode cX0_puts 87 = .ok (.lconst 0, 1) := dk_9 (dk_at dksX0_puts_4 5 rfl rfl)
theorem dX0_puts_88 : decode cX0_puts 88 = .ok (.lcmp, 1) := dk_148 (dk_at dksX0_puts_4 6 rfl rfl)
theorem dX0_puts_89 : decode cX0_puts 89 = .ok (.ifCond .eq 7, 3) := dk_153 0 7 (dk_at dksX0_puts_4 7 rfl rfl)
theorem dX0_puts_92 : decode cX0_puts 92 = .ok (.iconst 1, 1) := dk_4 (dk_at dksX0_puts_4 10 rfl rfl)
theorem dX0_puts_93 : decode cX0_puts 93 = .ok (.goto 4, 3) := dk_167 0 4 (dk_at dksX0_puts_4 11 rfl rfl)
theorem dX0_puts_96 : decode cX0_puts 96 = .ok (.iconst 0, 1) := dk_3 (dk_at dksX0_puts_4 14 rfl rfl)
theorem dX0_puts_97 : decode cX0_puts 97 = .ok (.bastore, 1) := dk_84 (dk_at dksX0_puts_4 15 rfl rfl)
theorem dX0_puts_98 : decode cX0_puts 98 = .ok (.return_, 1) := dk_177 (dk_at dksX0_puts_4 16 rfl rfl)
abbrev cX0_sortOf : ByteArray := prog_1_method_16_code
def yX0_sortOf : MethodName := ⟨RX0, "sortOf", "(Ljava/lang/Object;)I"⟩
def dkwX0_sortOf_1 : List UInt8 := [153, 0, 5, 5, 172, 42, 193, 0, 87, 153, 0, 7, 6, 167, 0, 4, 7, 172]
abbrev dktX0_sortOf_1 : List UInt8 := dkwX0_sortOf_1 ++ []
def dkwX0_sortOf_0 : List UInt8 := [42, 193, 0, 82, 153, 0, 5, 3, 172, 42, 193, 0, 84, 153, 0, 5, 4, 172, 42, 193, 0, 86]
abbrev dktX0_sortOf_0 : List UInt8 := dkwX0_sortOf_0 ++ dktX0_sortOf_1
theorem dksX0_sortOf_0 : cX0_sortOf.data.toList.drop 0 = dktX0_sortOf_0 := by decide +kernel
theorem dksX0_sortOf_1 : cX0_sortOf.data.toList.drop 22 = dktX0_sortOf_1 := dk_seg dksX0_sortOf_0 22 rfl rfl
theorem dX0_sortOf_0 : decode cX0_sortOf 0 = .ok (.aload_n 0, 1) := dk_42 (dk_at dksX0_sortOf_0 0 rfl rfl)
theorem dX0_sortOf_1 : decode cX0_sortOf 1 = .ok (.instanceof 82, 3) := dk_193 0 82 (dk_at dksX0_sortOf_0 1 rfl rfl)
theorem dX0_sortOf_4 : decode cX0_sortOf 4 = .ok (.ifCond .eq 5, 3) := dk_153 0 5 (dk_at dksX0_sortOf_0 4 rfl rfl)
theorem dX0_sortOf_7 : decode cX0_sortOf 7 = .ok (.iconst 0, 1) := dk_3 (dk_at dksX0_sortOf_0 7 rfl rfl)
theorem dX0_sortOf_8 : decode cX0_sortOf 8 = .ok (.ireturn, 1) := dk_172 (dk_at dksX0_sortOf_0 8 rfl rfl)
theorem dX0_sortOf_9 : decode cX0_sortOf 9 = .ok (.aload_n 0, 1) := dk_42 (dk_at dksX0_sortOf_0 9 rfl rfl)
theorem dX0_sortOf_10 : decode cX0_sortOf 10 = .ok (.instanceof 84, 3) := dk_193 0 84 (dk_at dksX0_sortOf_0 10 rfl rfl)
theorem dX0_sortOf_13 : decode cX0_sortOf 13 = .ok (.ifCond .eq 5, 3) := dk_153 0 5 (dk_at dksX0_sortOf_0 13 rfl rfl)
theorem dX0_sortOf_16 : decode cX0_sortOf 16 = .ok (.iconst 1, 1) := dk_4 (dk_at dksX0_sortOf_0 16 rfl rfl)
theorem dX0_sortOf_17 : decode cX0_sortOf 17 = .ok (.ireturn, 1) := dk_172 (dk_at dksX0_sortOf_0 17 rfl rfl)
theorem dX0_sortOf_18 : decode cX0_sortOf 18 = .ok (.aload_n 0, 1) := dk_42 (dk_at dksX0_sortOf_0 18 rfl rfl)
theorem dX0_sortOf_19 : decode cX0_sortOf 19 = .ok (.instanceof 86, 3) := dk_193 0 86 (dk_at dksX0_sortOf_0 19 rfl rfl)
theorem dX0_sortOf_22 : decode cX0_sortOf 22 = .ok (.ifCond .eq 5, 3) := dk_153 0 5 (dk_at dksX0_sortOf_1 0 rfl rfl)
theorem dX0_sortOf_25 : decode cX0_sortOf 25 = .ok (.iconst 2, 1) := dk_5 (dk_at dksX0_sortOf_1 3 rfl rfl)
theorem dX0_sortOf_26 : decode cX0_sortOf 26 = .ok (.ireturn, 1) := dk_172 (dk_at dksX0_sortOf_1 4 rfl rfl)
theorem dX0_sortOf_27 : decode cX0_sortOf 27 = .ok (.aload_n 0, 1) := dk_42 (dk_at dksX0_sortOf_1 5 rfl rfl)
theorem dX0_sortOf_28 : decode cX0_sortOf 28 = .ok (.instanceof 87, 3) := dk_193 0 87 (dk_at dksX0_sortOf_1 6 rfl rfl)
theorem dX0_sortOf_31 : decode cX0_sortOf 31 = .ok (.ifCond .eq 7, 3) := dk_153 0 7 (dk_at dksX0_sortOf_1 9 rfl rfl)
theorem dX0_sortOf_34 : decode cX0_sortOf 34 = .ok (.iconst 3, 1) := dk_6 (dk_at dksX0_sortOf_1 12 rfl rfl)
theorem dX0_sortOf_35 : decode cX0_sortOf 35 = .ok (.goto 4, 3) := dk_167 0 4 (dk_at dksX0_sortOf_1 13 rfl rfl)
theorem dX0_sortOf_38 : decode cX0_sortOf 38 = .ok (.iconst 4, 1) := dk_7 (dk_at dksX0_sortOf_1 16 rfl rfl)
theorem dX0_sortOf_39 : decode cX0_sortOf 39 = .ok (.ireturn, 1) := dk_172 (dk_at dksX0_sortOf_1 17 rfl rfl)
abbrev cX0_copy : ByteArray := prog_1_method_22_code
def yX0_copy : MethodName := ⟨RX0, "copy", "(IIIII)I"⟩
def dkwX0_copy_4 : List UInt8 := [16, 253, 182, 0, 79, 172, 58, 8, 42, 16, 254, 182, 0, 79, 172]
abbrev dktX0_copy_4 : List UInt8 := dkwX0_copy_4 ++ []
def dkwX0_copy_3 : List UInt8 := [25, 7, 21, 4, 21, 5, 184, 0, 120, 21, 5, 172, 58, 8, 42, 16, 252, 182, 0, 79, 172, 58, 8, 42]
abbrev dktX0_copy_3 : List UInt8 := dkwX0_copy_3 ++ dktX0_copy_4
def dkwX0_copy_2 : List UInt8 := [193, 0, 108, 154, 0, 11, 25, 7, 193, 0, 108, 153, 0, 10, 42, 16, 253, 182, 0, 79, 172, 25, 6, 29]
abbrev dktX0_copy_2 : List UInt8 := dkwX0_copy_2 ++ dktX0_copy_3
def dkwX0_copy_1 : List UInt8 := [180, 0, 33, 27, 50, 180, 0, 102, 58, 6, 42, 180, 0, 33, 28, 50, 180, 0, 102, 58, 7, 25, 6]
abbrev dktX0_copy_1 : List UInt8 := dkwX0_copy_1 ++ dktX0_copy_2
def dkwX0_copy_0 : List UInt8 := [27, 184, 0, 95, 153, 0, 10, 28, 184, 0, 95, 154, 0, 10, 42, 16, 254, 182, 0, 79, 172, 42]
abbrev dktX0_copy_0 : List UInt8 := dkwX0_copy_0 ++ dktX0_copy_1
theorem dksX0_copy_0 : cX0_copy.data.toList.drop 0 = dktX0_copy_0 := by decide +kernel
theorem dksX0_copy_1 : cX0_copy.data.toList.drop 22 = dktX0_copy_1 := dk_seg dksX0_copy_0 22 rfl rfl
theorem dksX0_copy_2 : cX0_copy.data.toList.drop 45 = dktX0_copy_2 := dk_seg dksX0_copy_1 23 rfl rfl
theorem dksX0_copy_3 : cX0_copy.data.toList.drop 69 = dktX0_copy_3 := dk_seg dksX0_copy_2 24 rfl rfl
theorem dksX0_copy_4 : cX0_copy.data.toList.drop 93 = dktX0_copy_4 := dk_seg dksX0_copy_3 24 rfl rfl
theorem dX0_copy_0 : decode cX0_copy 0 = .ok (.iload_n 1, 1) := dk_27 (dk_at dksX0_copy_0 0 rfl rfl)
theorem dX0_copy_1 : decode cX0_copy 1 = .ok (.invokestatic 95, 3) := dk_184 0 95 (dk_at dksX0_copy_0 1 rfl rfl)
theorem dX0_copy_4 : decode cX0_copy 4 = .ok (.ifCond .eq 10, 3) := dk_153 0 10 (dk_at dksX0_copy_0 4 rfl rfl)
theorem dX0_copy_7 : decode cX0_copy 7 = .ok (.iload_n 2, 1) := dk_28 (dk_at dksX0_copy_0 7 rfl rfl)
theorem dX0_copy_8 : decode cX0_copy 8 = .ok (.invokestatic 95, 3) := dk_184 0 95 (dk_at dksX0_copy_0 8 rfl rfl)
theorem dX0_copy_11 : decode cX0_copy 11 = .ok (.ifCond .ne 10, 3) := dk_154 0 10 (dk_at dksX0_copy_0 11 rfl rfl)
theorem dX0_copy_14 : decode cX0_copy 14 = .ok (.aload_n 0, 1) := dk_42 (dk_at dksX0_copy_0 14 rfl rfl)
theorem dX0_copy_15 : decode cX0_copy 15 = .ok (.bipush (-2), 2) := dk_16 254 (dk_at dksX0_copy_0 15 rfl rfl)
theorem dX0_copy_17 : decode cX0_copy 17 = .ok (.invokevirtual 79, 3) := dk_182 0 79 (dk_at dksX0_copy_0 17 rfl rfl)
theorem dX0_copy_20 : decode cX0_copy 20 = .ok (.ireturn, 1) := dk_172 (dk_at dksX0_copy_0 20 rfl rfl)
theorem dX0_copy_21 : decode cX0_copy 21 = .ok (.aload_n 0, 1) := dk_42 (dk_at dksX0_copy_0 21 rfl rfl)
theorem dX0_copy_22 : decode cX0_copy 22 = .ok (.getfield 33, 3) := dk_180 0 33 (dk_at dksX0_copy_1 0 rfl rfl)
theorem dX0_copy_25 : decode cX0_copy 25 = .ok (.iload_n 1, 1) := dk_27 (dk_at dksX0_copy_1 3 rfl rfl)
theorem dX0_copy_26 : decode cX0_copy 26 = .ok (.aaload, 1) := dk_50 (dk_at dksX0_copy_1 4 rfl rfl)
theorem dX0_copy_27 : decode cX0_copy 27 = .ok (.getfield 102, 3) := dk_180 0 102 (dk_at dksX0_copy_1 5 rfl rfl)
theorem dX0_copy_30 : decode cX0_copy 30 = .ok (.astore 6, 2) := dk_58 6 (dk_at dksX0_copy_1 8 rfl rfl)
theorem dX0_copy_32 : decode cX0_copy 32 = .ok (.aload_n 0, 1) := dk_42 (dk_at dksX0_copy_1 10 rfl rfl)
theorem dX0_copy_33 : decode cX0_copy 33 = .ok (.getfield 33, 3) := dk_180 0 33 (dk_at dksX0_copy_1 11 rfl rfl)
theorem dX0_copy_36 : decode cX0_copy 36 = .ok (.iload_n 2, 1) := dk_28 (dk_at dksX0_copy_1 14 rfl rfl)
theorem dX0_copy_37 : decode cX0_copy 37 = .ok (.aaload, 1) := dk_50 (dk_at dksX0_copy_1 15 rfl rfl)
theorem dX0_copy_38 : decode cX0_copy 38 = .ok (.getfield 102, 3) := dk_180 0 102 (dk_at dksX0_copy_1 16 rfl rfl)
theorem dX0_copy_41 : decode cX0_copy 41 = .ok (.astore 7, 2) := dk_58 7 (dk_at dksX0_copy_1 19 rfl rfl)
theorem dX0_copy_43 : decode cX0_copy 43 = .ok (.aload 6, 2) := dk_25 6 (dk_at dksX0_copy_1 21 rfl rfl)
theorem dX0_copy_45 : decode cX0_copy 45 = .ok (.instanceof 108, 3) := dk_193 0 108 (dk_at dksX0_copy_2 0 rfl rfl)
theorem dX0_copy_48 : decode cX0_copy 48 = .ok (.ifCond .ne 11, 3) := dk_154 0 11 (dk_at dksX0_copy_2 3 rfl rfl)
theorem dX0_copy_51 : decode cX0_copy 51 = .ok (.aload 7, 2) := dk_25 7 (dk_at dksX0_copy_2 6 rfl rfl)
theorem dX0_copy_53 : decode cX0_copy 53 = .ok (.instanceof 108, 3) := dk_193 0 108 (dk_at dksX0_copy_2 8 rfl rfl)
theorem dX0_copy_56 : decode cX0_copy 56 = .ok (.ifCond .eq 10, 3) := dk_153 0 10 (dk_at dksX0_copy_2 11 rfl rfl)
theorem dX0_copy_59 : decode cX0_copy 59 = .ok (.aload_n 0, 1) := dk_42 (dk_at dksX0_copy_2 14 rfl rfl)
theorem dX0_copy_60 : decode cX0_copy 60 = .ok (.bipush (-3), 2) := dk_16 253 (dk_at dksX0_copy_2 15 rfl rfl)
theorem dX0_copy_62 : decode cX0_copy 62 = .ok (.invokevirtual 79, 3) := dk_182 0 79 (dk_at dksX0_copy_2 17 rfl rfl)
theorem dX0_copy_65 : decode cX0_copy 65 = .ok (.ireturn, 1) := dk_172 (dk_at dksX0_copy_2 20 rfl rfl)
theorem dX0_copy_66 : decode cX0_copy 66 = .ok (.aload 6, 2) := dk_25 6 (dk_at dksX0_copy_2 21 rfl rfl)
theorem dX0_copy_68 : decode cX0_copy 68 = .ok (.iload_n 3, 1) := dk_29 (dk_at dksX0_copy_2 23 rfl rfl)
theorem dX0_copy_69 : decode cX0_copy 69 = .ok (.aload 7, 2) := dk_25 7 (dk_at dksX0_copy_3 0 rfl rfl)
theorem dX0_copy_71 : decode cX0_copy 71 = .ok (.iload 4, 2) := dk_21 4 (dk_at dksX0_copy_3 2 rfl rfl)
theorem dX0_copy_73 : decode cX0_copy 73 = .ok (.iload 5, 2) := dk_21 5 (dk_at dksX0_copy_3 4 rfl rfl)
theorem dX0_copy_75 : decode cX0_copy 75 = .ok (.invokestatic 120, 3) := dk_184 0 120 (dk_at dksX0_copy_3 6 rfl rfl)
theorem dX0_copy_78 : decode cX0_copy 78 = .ok (.iload 5, 2) := dk_21 5 (dk_at dksX0_copy_3 9 rfl rfl)
theorem dX0_copy_80 : decode cX0_copy 80 = .ok (.ireturn, 1) := dk_172 (dk_at dksX0_copy_3 11 rfl rfl)
theorem dX0_copy_81 : decode cX0_copy 81 = .ok (.astore 8, 2) := dk_58 8 (dk_at dksX0_copy_3 12 rfl rfl)
theorem dX0_copy_83 : decode cX0_copy 83 = .ok (.aload_n 0, 1) := dk_42 (dk_at dksX0_copy_3 14 rfl rfl)
theorem dX0_copy_84 : decode cX0_copy 84 = .ok (.bipush (-4), 2) := dk_16 252 (dk_at dksX0_copy_3 15 rfl rfl)
theorem dX0_copy_86 : decode cX0_copy 86 = .ok (.invokevirtual 79, 3) := dk_182 0 79 (dk_at dksX0_copy_3 17 rfl rfl)
theorem dX0_copy_89 : decode cX0_copy 89 = .ok (.ireturn, 1) := dk_172 (dk_at dksX0_copy_3 20 rfl rfl)
theorem dX0_copy_90 : decode cX0_copy 90 = .ok (.astore 8, 2) := dk_58 8 (dk_at dksX0_copy_3 21 rfl rfl)
theorem dX0_copy_92 : decode cX0_copy 92 = .ok (.aload_n 0, 1) := dk_42 (dk_at dksX0_copy_3 23 rfl rfl)
theorem dX0_copy_93 : decode cX0_copy 93 = .ok (.bipush (-3), 2) := dk_16 253 (dk_at dksX0_copy_4 0 rfl rfl)
theorem dX0_copy_95 : decode cX0_copy 95 = .ok (.invokevirtual 79, 3) := dk_182 0 79 (dk_at dksX0_copy_4 2 rfl rfl)
theorem dX0_copy_98 : decode cX0_copy 98 = .ok (.ireturn, 1) := dk_172 (dk_at dksX0_copy_4 5 rfl rfl)
theorem dX0_copy_99 : decode cX0_copy 99 = .ok (.astore 8, 2) := dk_58 8 (dk_at dksX0_copy_4 6 rfl rfl)
theorem dX0_copy_101 : decode cX0_copy 101 = .ok (.aload_n 0, 1) := dk_42 (dk_at dksX0_copy_4 8 rfl rfl)
theorem dX0_copy_102 : decode cX0_copy 102 = .ok (.bipush (-2), 2) := dk_16 254 (dk_at dksX0_copy_4 9 rfl rfl)
theorem dX0_copy_104 : decode cX0_copy 104 = .ok (.invokevirtual 79, 3) := dk_182 0 79 (dk_at dksX0_copy_4 11 rfl rfl)
theorem dX0_copy_107 : decode cX0_copy 107 = .ok (.ireturn, 1) := dk_172 (dk_at dksX0_copy_4 14 rfl rfl)
abbrev cX0_element : ByteArray := prog_1_method_23_code
def yX0_element : MethodName := ⟨RX0, "element", "(II)J"⟩
def dkwX0_element_1 : List UInt8 := [173]
abbrev dktX0_element_1 : List UInt8 := dkwX0_element_1 ++ []
def dkwX0_element_0 : List UInt8 := [27, 184, 0, 95, 154, 0, 5, 9, 173, 42, 27, 182, 0, 110, 28, 184, 0, 132, 173, 78, 9, 173, 78, 9]
abbrev dktX0_element_0 : List UInt8 := dkwX0_element_0 ++ dktX0_element_1
theorem dksX0_element_0 : cX0_element.data.toList.drop 0 = dktX0_element_0 := by decide +kernel
theorem dksX0_element_1 : cX0_element.data.toList.drop 24 = dktX0_element_1 := dk_seg dksX0_element_0 24 rfl rfl
theorem dX0_element_0 : decode cX0_element 0 = .ok (.iload_n 1, 1) := dk_27 (dk_at dksX0_element_0 0 rfl rfl)
theorem dX0_element_1 : decode cX0_element 1 = .ok (.invokestatic 95, 3) := dk_184 0 95 (dk_at dksX0_element_0 1 rfl rfl)
theorem dX0_element_4 : decode cX0_element 4 = .ok (.ifCond .ne 5, 3) := dk_154 0 5 (dk_at dksX0_element_0 4 rfl rfl)
theorem dX0_element_7 : decode cX0_element 7 = .ok (.lconst 0, 1) := dk_9 (dk_at dksX0_element_0 7 rfl rfl)
theorem dX0_element_8 : decode cX0_element 8 = .ok (.lreturn, 1) := dk_173 (dk_at dksX0_element_0 8 rfl rfl)
theorem dX0_element_9 : decode cX0_element 9 = .ok (.aload_n 0, 1) := dk_42 (dk_at dksX0_element_0 9 rfl rfl)
theorem dX0_element_10 : decode cX0_element 10 = .ok (.iload_n 1, 1) := dk_27 (dk_at dksX0_element_0 10 rfl rfl)
theorem dX0_element_11 : decode cX0_element 11 = .ok (.invokevirtual 110, 3) := dk_182 0 110 (dk_at dksX0_element_0 11 rfl rfl)
theorem dX0_element_14 : decode cX0_element 14 = .ok (.iload_n 2, 1) := dk_28 (dk_at dksX0_element_0 14 rfl rfl)
theorem dX0_element_15 : decode cX0_element 15 = .ok (.invokestatic 132, 3) := dk_184 0 132 (dk_at dksX0_element_0 15 rfl rfl)
theorem dX0_element_18 : decode cX0_element 18 = .ok (.lreturn, 1) := dk_173 (dk_at dksX0_element_0 18 rfl rfl)
theorem dX0_element_19 : decode cX0_element 19 = .ok (.astore_n 3, 1) := dk_78 (dk_at dksX0_element_0 19 rfl rfl)
theorem dX0_element_20 : decode cX0_element 20 = .ok (.lconst 0, 1) := dk_9 (dk_at dksX0_element_0 20 rfl rfl)
theorem dX0_element_21 : decode cX0_element 21 = .ok (.lreturn, 1) := dk_173 (dk_at dksX0_element_0 21 rfl rfl)
theorem dX0_element_22 : decode cX0_element 22 = .ok (.astore_n 3, 1) := dk_78 (dk_at dksX0_element_0 22 rfl rfl)
theorem dX0_element_23 : decode cX0_element 23 = .ok (.lconst 0, 1) := dk_9 (dk_at dksX0_element_0 23 rfl rfl)
theorem dX0_element_24 : decode cX0_element 24 = .ok (.lreturn, 1) := dk_173 (dk_at dksX0_element_1 0 rfl rfl)
abbrev cX0_elementOf : ByteArray := prog_1_method_17_code
def yX0_elementOf : MethodName := ⟨RX0, "elementOf", "(Ljava/lang/Object;I)J"⟩
def dkwX0_elementOf_3 : List UInt8 := [42, 192, 0, 87, 27, 47, 173, 42, 192, 0, 93, 27, 51, 153, 0, 7, 10, 167, 0, 4, 9, 173]
abbrev dktX0_elementOf_3 : List UInt8 := dkwX0_elementOf_3 ++ []
def dkwX0_elementOf_2 : List UInt8 := [42, 192, 0, 82, 27, 51, 133, 173, 42, 192, 0, 84, 27, 53, 133, 173, 42, 192, 0, 86, 27, 46, 133, 173]
abbrev dktX0_elementOf_2 : List UInt8 := dkwX0_elementOf_2 ++ dktX0_elementOf_3
def dkwX0_elementOf_1 : List UInt8 := [170, 0, 0, 0, 0, 0, 0, 63, 0, 0, 0, 0, 0, 0, 0, 3, 0, 0, 0, 32, 0, 0, 0, 40, 0, 0, 0, 48, 0, 0, 0, 56]
abbrev dktX0_elementOf_1 : List UInt8 := dkwX0_elementOf_1 ++ dktX0_elementOf_2
def dkwX0_elementOf_0 : List UInt8 := [42, 184, 0, 89]
abbrev dktX0_elementOf_0 : List UInt8 := dkwX0_elementOf_0 ++ dktX0_elementOf_1
theorem dksX0_elementOf_0 : cX0_elementOf.data.toList.drop 0 = dktX0_elementOf_0 := by decide +kernel
theorem dksX0_elementOf_1 : cX0_elementOf.data.toList.drop 4 = dktX0_elementOf_1 := dk_seg dksX0_elementOf_0 4 rfl rfl
theorem dksX0_elementOf_2 : cX0_elementOf.data.toList.drop 36 = dktX0_elementOf_2 := dk_seg dksX0_elementOf_1 32 rfl rfl
theorem dksX0_elementOf_3 : cX0_elementOf.data.toList.drop 60 = dktX0_elementOf_3 := dk_seg dksX0_elementOf_2 24 rfl rfl
theorem dX0_elementOf_0 : decode cX0_elementOf 0 = .ok (.aload_n 0, 1) := dk_42 (dk_at dksX0_elementOf_0 0 rfl rfl)
theorem dX0_elementOf_1 : decode cX0_elementOf 1 = .ok (.invokestatic 89, 3) := dk_184 0 89 (dk_at dksX0_elementOf_0 1 rfl rfl)
theorem dX0_elementOf_4 : decode cX0_elementOf 4 = .ok (.tableswitch 63 0 3 #[32, 40, 48, 56], 32) := by decide +kernel
theorem dX0_elementOf_36 : decode cX0_elementOf 36 = .ok (.aload_n 0, 1) := dk_42 (dk_at dksX0_elementOf_2 0 rfl rfl)
theorem dX0_elementOf_37 : decode cX0_elementOf 37 = .ok (.checkcast 82, 3) := dk_192 0 82 (dk_at dksX0_elementOf_2 1 rfl rfl)
theorem dX0_elementOf_40 : decode cX0_elementOf 40 = .ok (.iload_n 1, 1) := dk_27 (dk_at dksX0_elementOf_2 4 rfl rfl)
theorem dX0_elementOf_41 : decode cX0_elementOf 41 = .ok (.baload, 1) := dk_51 (dk_at dksX0_elementOf_2 5 rfl rfl)
theorem dX0_elementOf_42 : decode cX0_elementOf 42 = .ok (.i2l, 1) := dk_133 (dk_at dksX0_elementOf_2 6 rfl rfl)
theorem dX0_elementOf_43 : decode cX0_elementOf 43 = .ok (.lreturn, 1) := dk_173 (dk_at dksX0_elementOf_2 7 rfl rfl)
theorem dX0_elementOf_44 : decode cX0_elementOf 44 = .ok (.aload_n 0, 1) := dk_42 (dk_at dksX0_elementOf_2 8 rfl rfl)
theorem dX0_elementOf_45 : decode cX0_elementOf 45 = .ok (.checkcast 84, 3) := dk_192 0 84 (dk_at dksX0_elementOf_2 9 rfl rfl)
theorem dX0_elementOf_48 : decode cX0_elementOf 48 = .ok (.iload_n 1, 1) := dk_27 (dk_at dksX0_elementOf_2 12 rfl rfl)
theorem dX0_elementOf_49 : decode cX0_elementOf 49 = .ok (.saload, 1) := dk_53 (dk_at dksX0_elementOf_2 13 rfl rfl)
theorem dX0_elementOf_50 : decode cX0_elementOf 50 = .ok (.i2l, 1) := dk_133 (dk_at dksX0_elementOf_2 14 rfl rfl)
theorem dX0_elementOf_51 : decode cX0_elementOf 51 = .ok (.lreturn, 1) := dk_173 (dk_at dksX0_elementOf_2 15 rfl rfl)
theorem dX0_elementOf_52 : decode cX0_elementOf 52 = .ok (.aload_n 0, 1) := dk_42 (dk_at dksX0_elementOf_2 16 rfl rfl)
theorem dX0_elementOf_53 : decode cX0_elementOf 53 = .ok (.checkcast 86, 3) := dk_192 0 86 (dk_at dksX0_elementOf_2 17 rfl rfl)
theorem dX0_elementOf_56 : decode cX0_elementOf 56 = .ok (.iload_n 1, 1) := dk_27 (dk_at dksX0_elementOf_2 20 rfl rfl)
theorem dX0_elementOf_57 : decode cX0_elementOf 57 = .ok (.iaload, 1) := dk_46 (dk_at dksX0_elementOf_2 21 rfl rfl)
theorem dX0_elementOf_58 : decode cX0_elementOf 58 = .ok (.i2l, 1) := dk_133 (dk_at dksX0_elementOf_2 22 rfl rfl)
theorem dX0_elementOf_59 : decode cX0_elementOf 59 = .ok (.lreturn, 1) := dk_173 (dk_at dksX0_elementOf_2 23 rfl rfl)
theorem dX0_elementOf_60 : decode cX0_elementOf 60 = .ok (.aload_n 0, 1) := dk_42 (dk_at dksX0_elementOf_3 0 rfl rfl)
theorem dX0_elementOf_61 : decode cX0_elementOf 61 = .ok (.checkcast 87, 3) := dk_192 0 87 (dk_at dksX0_elementOf_3 1 rfl rfl)
theorem dX0_elementOf_64 : decode cX0_elementOf 64 = .ok (.iload_n 1, 1) := dk_27 (dk_at dksX0_elementOf_3 4 rfl rfl)
theorem dX0_elementOf_65 : decode cX0_elementOf 65 = .ok (.laload, 1) := dk_47 (dk_at dksX0_elementOf_3 5 rfl rfl)
theorem dX0_elementOf_66 : decode cX0_elementOf 66 = .ok (.lreturn, 1) := dk_173 (dk_at dksX0_elementOf_3 6 rfl rfl)
theorem dX0_elementOf_67 : decode cX0_elementOf 67 = .ok (.aload_n 0, 1) := dk_42 (dk_at dksX0_elementOf_3 7 rfl rfl)
theorem dX0_elementOf_68 : decode cX0_elementOf 68 = .ok (.checkcast 93, 3) := dk_192 0 93 (dk_at dksX0_elementOf_3 8 rfl rfl)
theorem dX0_elementOf_71 : decode cX0_elementOf 71 = .ok (.iload_n 1, 1) := dk_27 (dk_at dksX0_elementOf_3 11 rfl rfl)
theorem dX0_elementOf_72 : decode cX0_elementOf 72 = .ok (.baload, 1) := dk_51 (dk_at dksX0_elementOf_3 12 rfl rfl)
theorem dX0_elementOf_73 : decode cX0_elementOf 73 = .ok (.ifCond .eq 7, 3) := dk_153 0 7 (dk_at dksX0_elementOf_3 13 rfl rfl)
theorem dX0_elementOf_76 : decode cX0_elementOf 76 = .ok (.lconst 1, 1) := dk_10 (dk_at dksX0_elementOf_3 16 rfl rfl)
theorem dX0_elementOf_77 : decode cX0_elementOf 77 = .ok (.goto 4, 3) := dk_167 0 4 (dk_at dksX0_elementOf_3 17 rfl rfl)
theorem dX0_elementOf_80 : decode cX0_elementOf 80 = .ok (.lconst 0, 1) := dk_9 (dk_at dksX0_elementOf_3 20 rfl rfl)
theorem dX0_elementOf_81 : decode cX0_elementOf 81 = .ok (.lreturn, 1) := dk_173 (dk_at dksX0_elementOf_3 21 rfl rfl)
abbrev cX0_holds : ByteArray := prog_1_method_24_code
def yX0_holds : MethodName := ⟨RX0, "holds", "(I)I"⟩
def dkwX0_holds_2 : List UInt8 := [185, 0, 136, 1, 0, 96, 167, 0, 7, 44, 184, 0, 89, 172]
abbrev dktX0_holds_2 : List UInt8 := dkwX0_holds_2 ++ []
def dkwX0_holds_1 : List UInt8 := [180, 0, 33, 27, 50, 180, 0, 102, 77, 44, 193, 0, 108, 153, 0, 18, 16, 10, 44, 192, 0, 108]
abbrev dktX0_holds_1 : List UInt8 := dkwX0_holds_1 ++ dktX0_holds_2
def dkwX0_holds_0 : List UInt8 := [27, 184, 0, 95, 153, 0, 15, 42, 180, 0, 33, 27, 50, 180, 0, 102, 199, 0, 5, 2, 172, 42]
abbrev dktX0_holds_0 : List UInt8 := dkwX0_holds_0 ++ dktX0_holds_1
theorem dksX0_holds_0 : cX0_holds.data.toList.drop 0 = dktX0_holds_0 := by decide +kernel
theorem dksX0_holds_1 : cX0_holds.data.toList.drop 22 = dktX0_holds_1 := dk_seg dksX0_holds_0 22 rfl rfl
theorem dksX0_holds_2 : cX0_holds.data.toList.drop 44 = dktX0_holds_2 := dk_seg dksX0_holds_1 22 rfl rfl
theorem dX0_holds_0 : decode cX0_holds 0 = .ok (.iload_n 1, 1) := dk_27 (dk_at dksX0_holds_0 0 rfl rfl)
theorem dX0_holds_1 : decode cX0_holds 1 = .ok (.invokestatic 95, 3) := dk_184 0 95 (dk_at dksX0_holds_0 1 rfl rfl)
theorem dX0_holds_4 : decode cX0_holds 4 = .ok (.ifCond .eq 15, 3) := dk_153 0 15 (dk_at dksX0_holds_0 4 rfl rfl)
theorem dX0_holds_7 : decode cX0_holds 7 = .ok (.aload_n 0, 1) := dk_42 (dk_at dksX0_holds_0 7 rfl rfl)
theorem dX0_holds_8 : decode cX0_holds 8 = .ok (.getfield 33, 3) := dk_180 0 33 (dk_at dksX0_holds_0 8 rfl rfl)
theorem dX0_holds_11 : decode cX0_holds 11 = .ok (.iload_n 1, 1) := dk_27 (dk_at dksX0_holds_0 11 rfl rfl)
theorem dX0_holds_12 : decode cX0_holds 12 = .ok (.aaload, 1) := dk_50 (dk_at dksX0_holds_0 12 rfl rfl)
theorem dX0_holds_13 : decode cX0_holds 13 = .ok (.getfield 102, 3) := dk_180 0 102 (dk_at dksX0_holds_0 13 rfl rfl)
theorem dX0_holds_16 : decode cX0_holds 16 = .ok (.ifnonnull 5, 3) := dk_199 0 5 (dk_at dksX0_holds_0 16 rfl rfl)
theorem dX0_holds_19 : decode cX0_holds 19 = .ok (.iconst (-1), 1) := dk_2 (dk_at dksX0_holds_0 19 rfl rfl)
theorem dX0_holds_20 : decode cX0_holds 20 = .ok (.ireturn, 1) := dk_172 (dk_at dksX0_holds_0 20 rfl rfl)
theorem dX0_holds_21 : decode cX0_holds 21 = .ok (.aload_n 0, 1) := dk_42 (dk_at dksX0_holds_0 21 rfl rfl)
theorem dX0_holds_22 : decode cX0_holds 22 = .ok (.getfield 33, 3) := dk_180 0 33 (dk_at dksX0_holds_1 0 rfl rfl)
theorem dX0_holds_25 : decode cX0_holds 25 = .ok (.iload_n 1, 1) := dk_27 (dk_at dksX0_holds_1 3 rfl rfl)
theorem dX0_holds_26 : decode cX0_holds 26 = .ok (.aaload, 1) := dk_50 (dk_at dksX0_holds_1 4 rfl rfl)
theorem dX0_holds_27 : decode cX0_holds 27 = .ok (.getfield 102, 3) := dk_180 0 102 (dk_at dksX0_holds_1 5 rfl rfl)
theorem dX0_holds_30 : decode cX0_holds 30 = .ok (.astore_n 2, 1) := dk_77 (dk_at dksX0_holds_1 8 rfl rfl)
theorem dX0_holds_31 : decode cX0_holds 31 = .ok (.aload_n 2, 1) := dk_44 (dk_at dksX0_holds_1 9 rfl rfl)
theorem dX0_holds_32 : decode cX0_holds 32 = .ok (.instanceof 108, 3) := dk_193 0 108 (dk_at dksX0_holds_1 10 rfl rfl)
theorem dX0_holds_35 : decode cX0_holds 35 = .ok (.ifCond .eq 18, 3) := dk_153 0 18 (dk_at dksX0_holds_1 13 rfl rfl)
theorem dX0_holds_38 : decode cX0_holds 38 = .ok (.bipush 10, 2) := dk_16 10 (dk_at dksX0_holds_1 16 rfl rfl)
theorem dX0_holds_40 : decode cX0_holds 40 = .ok (.aload_n 2, 1) := dk_44 (dk_at dksX0_holds_1 18 rfl rfl)
theorem dX0_holds_41 : decode cX0_holds 41 = .ok (.checkcast 108, 3) := dk_192 0 108 (dk_at dksX0_holds_1 19 rfl rfl)
theorem dX0_holds_44 : decode cX0_holds 44 = .ok (.invokeinterface 136 1, 5) := by decide +kernel
theorem dX0_holds_49 : decode cX0_holds 49 = .ok (.iadd, 1) := dk_96 (dk_at dksX0_holds_2 5 rfl rfl)
theorem dX0_holds_50 : decode cX0_holds 50 = .ok (.goto 7, 3) := dk_167 0 7 (dk_at dksX0_holds_2 6 rfl rfl)
theorem dX0_holds_53 : decode cX0_holds 53 = .ok (.aload_n 2, 1) := dk_44 (dk_at dksX0_holds_2 9 rfl rfl)
theorem dX0_holds_54 : decode cX0_holds 54 = .ok (.invokestatic 89, 3) := dk_184 0 89 (dk_at dksX0_holds_2 10 rfl rfl)
theorem dX0_holds_57 : decode cX0_holds 57 = .ok (.ireturn, 1) := dk_172 (dk_at dksX0_holds_2 13 rfl rfl)
abbrev cX0_show : ByteArray := prog_1_method_25_code
def yX0_show : MethodName := ⟨RX0, "show", "(III)I"⟩
def dkwX0_show_0 : List UInt8 := [42, 42, 27, 28, 29, 186, 0, 139, 0, 0, 182, 0, 142, 172]
abbrev dktX0_show_0 : List UInt8 := dkwX0_show_0 ++ []
theorem dksX0_show_0 : cX0_show.data.toList.drop 0 = dktX0_show_0 := by decide +kernel
theorem dX0_show_0 : decode cX0_show 0 = .ok (.aload_n 0, 1) := dk_42 (dk_at dksX0_show_0 0 rfl rfl)
theorem dX0_show_1 : decode cX0_show 1 = .ok (.aload_n 0, 1) := dk_42 (dk_at dksX0_show_0 1 rfl rfl)
theorem dX0_show_2 : decode cX0_show 2 = .ok (.iload_n 1, 1) := dk_27 (dk_at dksX0_show_0 2 rfl rfl)
theorem dX0_show_3 : decode cX0_show 3 = .ok (.iload_n 2, 1) := dk_28 (dk_at dksX0_show_0 3 rfl rfl)
theorem dX0_show_4 : decode cX0_show 4 = .ok (.iload_n 3, 1) := dk_29 (dk_at dksX0_show_0 4 rfl rfl)
theorem dX0_show_5 : decode cX0_show 5 = .ok (.invokedynamic 139, 5) := by decide +kernel
theorem dX0_show_10 : decode cX0_show 10 = .ok (.invokevirtual 142, 3) := dk_182 0 142 (dk_at dksX0_show_0 10 rfl rfl)
theorem dX0_show_13 : decode cX0_show 13 = .ok (.ireturn, 1) := dk_172 (dk_at dksX0_show_0 13 rfl rfl)
abbrev cX0_lambda_show_0 : ByteArray := prog_1_method_113_code
def yX0_lambda_show_0 : MethodName := ⟨RX0, "lambda$show$0", "(III)I"⟩
def dkwX0_lambda_show_0_3 : List UInt8 := [180, 0, 27, 28, 50, 29, 182, 1, 236, 181, 0, 102, 4, 172]
abbrev dktX0_lambda_show_0_3 : List UInt8 := dkwX0_lambda_show_0_3 ++ []
def dkwX0_lambda_show_0_2 : List UInt8 := [184, 0, 45, 16, 254, 184, 0, 196, 42, 180, 0, 33, 27, 50, 28, 2, 160, 0, 7, 1, 167, 0, 13, 42]
abbrev dktX0_lambda_show_0_2 : List UInt8 := dkwX0_lambda_show_0_2 ++ dktX0_lambda_show_0_3
def dkwX0_lambda_show_0_1 : List UInt8 := [16, 254, 184, 0, 196, 28, 2, 159, 0, 23, 29, 3, 42, 28, 182, 0, 58, 182, 0, 179, 4, 100]
abbrev dktX0_lambda_show_0_1 : List UInt8 := dkwX0_lambda_show_0_1 ++ dktX0_lambda_show_0_2
def dkwX0_lambda_show_0_0 : List UInt8 := [27, 184, 0, 95, 153, 0, 19, 28, 2, 159, 0, 10, 28, 184, 0, 49, 153, 0, 7, 4, 167, 0, 4, 3]
abbrev dktX0_lambda_show_0_0 : List UInt8 := dkwX0_lambda_show_0_0 ++ dktX0_lambda_show_0_1
theorem dksX0_lambda_show_0_0 : cX0_lambda_show_0.data.toList.drop 0 = dktX0_lambda_show_0_0 := by decide +kernel
theorem dksX0_lambda_show_0_1 : cX0_lambda_show_0.data.toList.drop 24 = dktX0_lambda_show_0_1 := dk_seg dksX0_lambda_show_0_0 24 rfl rfl
theorem dksX0_lambda_show_0_2 : cX0_lambda_show_0.data.toList.drop 46 = dktX0_lambda_show_0_2 := dk_seg dksX0_lambda_show_0_1 22 rfl rfl
theorem dksX0_lambda_show_0_3 : cX0_lambda_show_0.data.toList.drop 70 = dktX0_lambda_show_0_3 := dk_seg dksX0_lambda_show_0_2 24 rfl rfl
theorem dX0_lambda_show_0_0 : decode cX0_lambda_show_0 0 = .ok (.iload_n 1, 1) := dk_27 (dk_at dksX0_lambda_show_0_0 0 rfl rfl)
theorem dX0_lambda_show_0_1 : decode cX0_lambda_show_0 1 = .ok (.invokestatic 95, 3) := dk_184 0 95 (dk_at dksX0_lambda_show_0_0 1 rfl rfl)
theorem dX0_lambda_show_0_4 : decode cX0_lambda_show_0 4 = .ok (.ifCond .eq 19, 3) := dk_153 0 19 (dk_at dksX0_lambda_show_0_0 4 rfl rfl)
theorem dX0_lambda_show_0_7 : decode cX0_lambda_show_0 7 = .ok (.iload_n 2, 1) := dk_28 (dk_at dksX0_lambda_show_0_0 7 rfl rfl)
theorem dX0_lambda_show_0_8 : decode cX0_lambda_show_0 8 = .ok (.iconst (-1), 1) := dk_2 (dk_at dksX0_lambda_show_0_0 8 rfl rfl)
theorem dX0_lambda_show_0_9 : decode cX0_lambda_show_0 9 = .ok (.if_icmp .eq 10, 3) := dk_159 0 10 (dk_at dksX0_lambda_show_0_0 9 rfl rfl)
theorem dX0_lambda_show_0_12 : decode cX0_lambda_show_0 12 = .ok (.iload_n 2, 1) := dk_28 (dk_at dksX0_lambda_show_0_0 12 rfl rfl)
theorem dX0_lambda_show_0_13 : decode cX0_lambda_show_0 13 = .ok (.invokestatic 49, 3) := dk_184 0 49 (dk_at dksX0_lambda_show_0_0 13 rfl rfl)
theorem dX0_lambda_show_0_16 : decode cX0_lambda_show_0 16 = .ok (.ifCond .eq 7, 3) := dk_153 0 7 (dk_at dksX0_lambda_show_0_0 16 rfl rfl)
theorem dX0_lambda_show_0_19 : decode cX0_lambda_show_0 19 = .ok (.iconst 1, 1) := dk_4 (dk_at dksX0_lambda_show_0_0 19 rfl rfl)
theorem dX0_lambda_show_0_20 : decode cX0_lambda_show_0 20 = .ok (.goto 4, 3) := dk_167 0 4 (dk_at dksX0_lambda_show_0_0 20 rfl rfl)
theorem dX0_lambda_show_0_23 : decode cX0_lambda_show_0 23 = .ok (.iconst 0, 1) := dk_3 (dk_at dksX0_lambda_show_0_0 23 rfl rfl)
theorem dX0_lambda_show_0_24 : decode cX0_lambda_show_0 24 = .ok (.bipush (-2), 2) := dk_16 254 (dk_at dksX0_lambda_show_0_1 0 rfl rfl)
theorem dX0_lambda_show_0_26 : decode cX0_lambda_show_0 26 = .ok (.invokestatic 196, 3) := dk_184 0 196 (dk_at dksX0_lambda_show_0_1 2 rfl rfl)
theorem dX0_lambda_show_0_29 : decode cX0_lambda_show_0 29 = .ok (.iload_n 2, 1) := dk_28 (dk_at dksX0_lambda_show_0_1 5 rfl rfl)
theorem dX0_lambda_show_0_30 : decode cX0_lambda_show_0 30 = .ok (.iconst (-1), 1) := dk_2 (dk_at dksX0_lambda_show_0_1 6 rfl rfl)
theorem dX0_lambda_show_0_31 : decode cX0_lambda_show_0 31 = .ok (.if_icmp .eq 23, 3) := dk_159 0 23 (dk_at dksX0_lambda_show_0_1 7 rfl rfl)
theorem dX0_lambda_show_0_34 : decode cX0_lambda_show_0 34 = .ok (.iload_n 3, 1) := dk_29 (dk_at dksX0_lambda_show_0_1 10 rfl rfl)
theorem dX0_lambda_show_0_35 : decode cX0_lambda_show_0 35 = .ok (.iconst 0, 1) := dk_3 (dk_at dksX0_lambda_show_0_1 11 rfl rfl)
theorem dX0_lambda_show_0_36 : decode cX0_lambda_show_0 36 = .ok (.aload_n 0, 1) := dk_42 (dk_at dksX0_lambda_show_0_1 12 rfl rfl)
theorem dX0_lambda_show_0_37 : decode cX0_lambda_show_0 37 = .ok (.iload_n 2, 1) := dk_28 (dk_at dksX0_lambda_show_0_1 13 rfl rfl)
theorem dX0_lambda_show_0_38 : decode cX0_lambda_show_0 38 = .ok (.invokevirtual 58, 3) := dk_182 0 58 (dk_at dksX0_lambda_show_0_1 14 rfl rfl)
theorem dX0_lambda_show_0_41 : decode cX0_lambda_show_0 41 = .ok (.invokevirtual 179, 3) := dk_182 0 179 (dk_at dksX0_lambda_show_0_1 17 rfl rfl)
theorem dX0_lambda_show_0_44 : decode cX0_lambda_show_0 44 = .ok (.iconst 1, 1) := dk_4 (dk_at dksX0_lambda_show_0_1 20 rfl rfl)
theorem dX0_lambda_show_0_45 : decode cX0_lambda_show_0 45 = .ok (.isub, 1) := dk_100 (dk_at dksX0_lambda_show_0_1 21 rfl rfl)
theorem dX0_lambda_show_0_46 : decode cX0_lambda_show_0 46 = .ok (.invokestatic 45, 3) := dk_184 0 45 (dk_at dksX0_lambda_show_0_2 0 rfl rfl)
theorem dX0_lambda_show_0_49 : decode cX0_lambda_show_0 49 = .ok (.bipush (-2), 2) := dk_16 254 (dk_at dksX0_lambda_show_0_2 3 rfl rfl)
theorem dX0_lambda_show_0_51 : decode cX0_lambda_show_0 51 = .ok (.invokestatic 196, 3) := dk_184 0 196 (dk_at dksX0_lambda_show_0_2 5 rfl rfl)
theorem dX0_lambda_show_0_54 : decode cX0_lambda_show_0 54 = .ok (.aload_n 0, 1) := dk_42 (dk_at dksX0_lambda_show_0_2 8 rfl rfl)
theorem dX0_lambda_show_0_55 : decode cX0_lambda_show_0 55 = .ok (.getfield 33, 3) := dk_180 0 33 (dk_at dksX0_lambda_show_0_2 9 rfl rfl)
theorem dX0_lambda_show_0_58 : decode cX0_lambda_show_0 58 = .ok (.iload_n 1, 1) := dk_27 (dk_at dksX0_lambda_show_0_2 12 rfl rfl)
theorem dX0_lambda_show_0_59 : decode cX0_lambda_show_0 59 = .ok (.aaload, 1) := dk_50 (dk_at dksX0_lambda_show_0_2 13 rfl rfl)
theorem dX0_lambda_show_0_60 : decode cX0_lambda_show_0 60 = .ok (.iload_n 2, 1) := dk_28 (dk_at dksX0_lambda_show_0_2 14 rfl rfl)
theorem dX0_lambda_show_0_61 : decode cX0_lambda_show_0 61 = .ok (.iconst (-1), 1) := dk_2 (dk_at dksX0_lambda_show_0_2 15 rfl rfl)
theorem dX0_lambda_show_0_62 : decode cX0_lambda_show_0 62 = .ok (.if_icmp .ne 7, 3) := dk_160 0 7 (dk_at dksX0_lambda_show_0_2 16 rfl rfl)
theorem dX0_lambda_show_0_65 : decode cX0_lambda_show_0 65 = .ok (.aconst_null, 1) := dk_1 (dk_at dksX0_lambda_show_0_2 19 rfl rfl)
theorem dX0_lambda_show_0_66 : decode cX0_lambda_show_0 66 = .ok (.goto 13, 3) := dk_167 0 13 (dk_at dksX0_lambda_show_0_2 20 rfl rfl)
theorem dX0_lambda_show_0_69 : decode cX0_lambda_show_0 69 = .ok (.aload_n 0, 1) := dk_42 (dk_at dksX0_lambda_show_0_2 23 rfl rfl)
theorem dX0_lambda_show_0_70 : decode cX0_lambda_show_0 70 = .ok (.getfield 27, 3) := dk_180 0 27 (dk_at dksX0_lambda_show_0_3 0 rfl rfl)
theorem dX0_lambda_show_0_73 : decode cX0_lambda_show_0 73 = .ok (.iload_n 2, 1) := dk_28 (dk_at dksX0_lambda_show_0_3 3 rfl rfl)
theorem dX0_lambda_show_0_74 : decode cX0_lambda_show_0 74 = .ok (.aaload, 1) := dk_50 (dk_at dksX0_lambda_show_0_3 4 rfl rfl)
theorem dX0_lambda_show_0_75 : decode cX0_lambda_show_0 75 = .ok (.iload_n 3, 1) := dk_29 (dk_at dksX0_lambda_show_0_3 5 rfl rfl)
theorem dX0_lambda_show_0_76 : decode cX0_lambda_show_0 76 = .ok (.invokevirtual 492, 3) := dk_182 1 236 (dk_at dksX0_lambda_show_0_3 6 rfl rfl)
theorem dX0_lambda_show_0_79 : decode cX0_lambda_show_0 79 = .ok (.putfield 102, 3) := dk_181 0 102 (dk_at dksX0_lambda_show_0_3 9 rfl rfl)
theorem dX0_lambda_show_0_82 : decode cX0_lambda_show_0 82 = .ok (.iconst 1, 1) := dk_4 (dk_at dksX0_lambda_show_0_3 12 rfl rfl)
theorem dX0_lambda_show_0_83 : decode cX0_lambda_show_0 83 = .ok (.ireturn, 1) := dk_172 (dk_at dksX0_lambda_show_0_3 13 rfl rfl)
abbrev cX0_isEdit : ByteArray := prog_1_method_9_code
def yX0_isEdit : MethodName := ⟨RX0, "isEdit", "(I)Z"⟩
def dkwX0_isEdit_0 : List UInt8 := [26, 3, 16, 11, 184, 0, 45, 172]
abbrev dktX0_isEdit_0 : List UInt8 := dkwX0_isEdit_0 ++ []
theorem dksX0_isEdit_0 : cX0_isEdit.data.toList.drop 0 = dktX0_isEdit_0 := by decide +kernel
theorem dX0_isEdit_0 : decode cX0_isEdit 0 = .ok (.iload_n 0, 1) := dk_26 (dk_at dksX0_isEdit_0 0 rfl rfl)
theorem dX0_isEdit_1 : decode cX0_isEdit 1 = .ok (.iconst 0, 1) := dk_3 (dk_at dksX0_isEdit_0 1 rfl rfl)
theorem dX0_isEdit_2 : decode cX0_isEdit 2 = .ok (.bipush 11, 2) := dk_16 11 (dk_at dksX0_isEdit_0 2 rfl rfl)
theorem dX0_isEdit_4 : decode cX0_isEdit 4 = .ok (.invokestatic 45, 3) := dk_184 0 45 (dk_at dksX0_isEdit_0 4 rfl rfl)
theorem dX0_isEdit_7 : decode cX0_isEdit 7 = .ok (.ireturn, 1) := dk_172 (dk_at dksX0_isEdit_0 7 rfl rfl)
abbrev cX0_may : ByteArray := prog_1_method_13_code
def yX0_may : MethodName := ⟨RX0, "may", "(ZI)V"⟩
def dkwX0_may_0 : List UInt8 := [26, 154, 0, 12, 187, 0, 53, 89, 27, 183, 0, 55, 191, 177]
abbrev dktX0_may_0 : List UInt8 := dkwX0_may_0 ++ []
theorem dksX0_may_0 : cX0_may.data.toList.drop 0 = dktX0_may_0 := by decide +kernel
theorem dX0_may_0 : decode cX0_may 0 = .ok (.iload_n 0, 1) := dk_26 (dk_at dksX0_may_0 0 rfl rfl)
theorem dX0_may_1 : decode cX0_may 1 = .ok (.ifCond .ne 12, 3) := dk_154 0 12 (dk_at dksX0_may_0 1 rfl rfl)
theorem dX0_may_4 : decode cX0_may 4 = .ok (.new 53, 3) := dk_187 0 53 (dk_at dksX0_may_0 4 rfl rfl)
theorem dX0_may_7 : decode cX0_may 7 = .ok (.dup, 1) := dk_89 (dk_at dksX0_may_0 7 rfl rfl)
theorem dX0_may_8 : decode cX0_may 8 = .ok (.iload_n 1, 1) := dk_27 (dk_at dksX0_may_0 8 rfl rfl)
theorem dX0_may_9 : decode cX0_may 9 = .ok (.invokespecial 55, 3) := dk_183 0 55 (dk_at dksX0_may_0 9 rfl rfl)
theorem dX0_may_12 : decode cX0_may 12 = .ok (.athrow, 1) := dk_191 (dk_at dksX0_may_0 12 rfl rfl)
theorem dX0_may_13 : decode cX0_may 13 = .ok (.return_, 1) := dk_177 (dk_at dksX0_may_0 13 rfl rfl)
abbrev cX0_present : ByteArray := prog_1_method_11_code
def yX0_present : MethodName := ⟨RX0, "present", "(I)LEditsMeet$Edit;"⟩
def dkwX0_present_1 : List UInt8 := [50, 176]
abbrev dktX0_present_1 : List UInt8 := dkwX0_present_1 ++ []
def dkwX0_present_0 : List UInt8 := [42, 180, 0, 27, 27, 50, 199, 0, 13, 187, 0, 53, 89, 16, 252, 183, 0, 55, 191, 42, 180, 0, 27, 27]
abbrev dktX0_present_0 : List UInt8 := dkwX0_present_0 ++ dktX0_present_1
theorem dksX0_present_0 : cX0_present.data.toList.drop 0 = dktX0_present_0 := by decide +kernel
theorem dksX0_present_1 : cX0_present.data.toList.drop 24 = dktX0_present_1 := dk_seg dksX0_present_0 24 rfl rfl
theorem dX0_present_0 : decode cX0_present 0 = .ok (.aload_n 0, 1) := dk_42 (dk_at dksX0_present_0 0 rfl rfl)
theorem dX0_present_1 : decode cX0_present 1 = .ok (.getfield 27, 3) := dk_180 0 27 (dk_at dksX0_present_0 1 rfl rfl)
theorem dX0_present_4 : decode cX0_present 4 = .ok (.iload_n 1, 1) := dk_27 (dk_at dksX0_present_0 4 rfl rfl)
theorem dX0_present_5 : decode cX0_present 5 = .ok (.aaload, 1) := dk_50 (dk_at dksX0_present_0 5 rfl rfl)
theorem dX0_present_6 : decode cX0_present 6 = .ok (.ifnonnull 13, 3) := dk_199 0 13 (dk_at dksX0_present_0 6 rfl rfl)
theorem dX0_present_9 : decode cX0_present 9 = .ok (.new 53, 3) := dk_187 0 53 (dk_at dksX0_present_0 9 rfl rfl)
theorem dX0_present_12 : decode cX0_present 12 = .ok (.dup, 1) := dk_89 (dk_at dksX0_present_0 12 rfl rfl)
theorem dX0_present_13 : decode cX0_present 13 = .ok (.bipush (-4), 2) := dk_16 252 (dk_at dksX0_present_0 13 rfl rfl)
theorem dX0_present_15 : decode cX0_present 15 = .ok (.invokespecial 55, 3) := dk_183 0 55 (dk_at dksX0_present_0 15 rfl rfl)
theorem dX0_present_18 : decode cX0_present 18 = .ok (.athrow, 1) := dk_191 (dk_at dksX0_present_0 18 rfl rfl)
theorem dX0_present_19 : decode cX0_present 19 = .ok (.aload_n 0, 1) := dk_42 (dk_at dksX0_present_0 19 rfl rfl)
theorem dX0_present_20 : decode cX0_present 20 = .ok (.getfield 27, 3) := dk_180 0 27 (dk_at dksX0_present_0 20 rfl rfl)
theorem dX0_present_23 : decode cX0_present 23 = .ok (.iload_n 1, 1) := dk_27 (dk_at dksX0_present_0 23 rfl rfl)
theorem dX0_present_24 : decode cX0_present 24 = .ok (.aaload, 1) := dk_50 (dk_at dksX0_present_1 0 rfl rfl)
theorem dX0_present_25 : decode cX0_present 25 = .ok (.areturn, 1) := dk_176 (dk_at dksX0_present_1 1 rfl rfl)
abbrev cX0_told : ByteArray := prog_1_method_14_code
def yX0_told : MethodName := ⟨RX0, "told", "(LEditsMeet$Asked;)I"⟩
def dkwX0_told_0 : List UInt8 := [43, 185, 0, 69, 1, 0, 172, 77, 42, 44, 180, 0, 75, 182, 0, 79, 172]
abbrev dktX0_told_0 : List UInt8 := dkwX0_told_0 ++ []
theorem dksX0_told_0 : cX0_told.data.toList.drop 0 = dktX0_told_0 := by decide +kernel
theorem dX0_told_0 : decode cX0_told 0 = .ok (.aload_n 1, 1) := dk_43 (dk_at dksX0_told_0 0 rfl rfl)
theorem dX0_told_1 : decode cX0_told 1 = .ok (.invokeinterface 69 1, 5) := by decide +kernel
theorem dX0_told_6 : decode cX0_told 6 = .ok (.ireturn, 1) := dk_172 (dk_at dksX0_told_0 6 rfl rfl)
theorem dX0_told_7 : decode cX0_told 7 = .ok (.astore_n 2, 1) := dk_77 (dk_at dksX0_told_0 7 rfl rfl)
theorem dX0_told_8 : decode cX0_told 8 = .ok (.aload_n 0, 1) := dk_42 (dk_at dksX0_told_0 8 rfl rfl)
theorem dX0_told_9 : decode cX0_told 9 = .ok (.aload_n 2, 1) := dk_44 (dk_at dksX0_told_0 9 rfl rfl)
theorem dX0_told_10 : decode cX0_told 10 = .ok (.getfield 75, 3) := dk_180 0 75 (dk_at dksX0_told_0 10 rfl rfl)
theorem dX0_told_13 : decode cX0_told 13 = .ok (.invokevirtual 79, 3) := dk_182 0 79 (dk_at dksX0_told_0 13 rfl rfl)
theorem dX0_told_16 : decode cX0_told 16 = .ok (.ireturn, 1) := dk_172 (dk_at dksX0_told_0 16 rfl rfl)
abbrev cX0_says : ByteArray := prog_1_method_26_code
def yX0_says : MethodName := ⟨RX0, "says", "(II)I"⟩
def dkwX0_says_6 : List UInt8 := [182, 0, 171, 96, 172, 58, 4, 42, 16, 253, 182, 0, 79, 172]
abbrev dktX0_says_6 : List UInt8 := dkwX0_says_6 ++ []
def dkwX0_says_5 : List UInt8 := [192, 0, 163, 182, 0, 165, 96, 167, 0, 21, 16, 16, 45, 192, 0, 166, 182, 0, 168, 104, 45, 192, 0, 166]
abbrev dktX0_says_5 : List UInt8 := dkwX0_says_5 ++ dktX0_says_6
def dkwX0_says_4 : List UInt8 := [192, 0, 153, 182, 0, 155, 167, 0, 44, 45, 192, 0, 158, 182, 0, 160, 167, 0, 34, 16, 100, 45]
abbrev dktX0_says_4 : List UInt8 := dkwX0_says_4 ++ dktX0_says_5
def dkwX0_says_3 : List UInt8 := [45, 192, 0, 108, 185, 0, 145, 1, 0, 167, 0, 65, 45, 192, 0, 148, 3, 182, 0, 150, 167, 0, 54, 45]
abbrev dktX0_says_3 : List UInt8 := dkwX0_says_3 ++ dktX0_says_4
def dkwX0_says_2 : List UInt8 := [170, 0, 0, 0, 0, 0, 91, 0, 0, 0, 0, 0, 0, 0, 4, 0, 0, 0, 35, 0, 0, 0, 47, 0, 0, 0, 58, 0, 0, 0, 68, 0, 0, 0, 78]
abbrev dktX0_says_2 : List UInt8 := dkwX0_says_2 ++ dktX0_says_3
def dkwX0_says_1 : List UInt8 := [180, 0, 33, 27, 50, 180, 0, 102, 78, 45, 199, 0, 10, 42, 16, 252, 182, 0, 79, 172, 28]
abbrev dktX0_says_1 : List UInt8 := dkwX0_says_1 ++ dktX0_says_2
def dkwX0_says_0 : List UInt8 := [27, 184, 0, 95, 153, 0, 12, 28, 3, 8, 184, 0, 45, 154, 0, 10, 42, 16, 254, 182, 0, 79, 172, 42]
abbrev dktX0_says_0 : List UInt8 := dkwX0_says_0 ++ dktX0_says_1
theorem dksX0_says_0 : cX0_says.data.toList.drop 0 = dktX0_says_0 := by decide +kernel
theorem dksX0_says_1 : cX0_says.data.toList.drop 24 = dktX0_says_1 := dk_seg dksX0_says_0 24 rfl rfl
theorem dksX0_says_2 : cX0_says.data.toList.drop 45 = dktX0_says_2 := dk_seg dksX0_says_1 21 rfl rfl
theorem dksX0_says_3 : cX0_says.data.toList.drop 80 = dktX0_says_3 := dk_seg dksX0_says_2 35 rfl rfl
theorem dksX0_says_4 : cX0_says.data.toList.drop 104 = dktX0_says_4 := dk_seg dksX0_says_3 24 rfl rfl
theorem dksX0_says_5 : cX0_says.data.toList.drop 126 = dktX0_says_5 := dk_seg dksX0_says_4 22 rfl rfl
theorem dksX0_says_6 : cX0_says.data.toList.drop 150 = dktX0_says_6 := dk_seg dksX0_says_5 24 rfl rfl
theorem dX0_says_0 : decode cX0_says 0 = .ok (.iload_n 1, 1) := dk_27 (dk_at dksX0_says_0 0 rfl rfl)
theorem dX0_says_1 : decode cX0_says 1 = .ok (.invokestatic 95, 3) := dk_184 0 95 (dk_at dksX0_says_0 1 rfl rfl)
theorem dX0_says_4 : decode cX0_says 4 = .ok (.ifCond .eq 12, 3) := dk_153 0 12 (dk_at dksX0_says_0 4 rfl rfl)
theorem dX0_says_7 : decode cX0_says 7 = .ok (.iload_n 2, 1) := dk_28 (dk_at dksX0_says_0 7 rfl rfl)
theorem dX0_says_8 : decode cX0_says 8 = .ok (.iconst 0, 1) := dk_3 (dk_at dksX0_says_0 8 rfl rfl)
theorem dX0_says_9 : decode cX0_says 9 = .ok (.iconst 5, 1) := dk_8 (dk_at dksX0_says_0 9 rfl rfl)
theorem dX0_says_10 : decode cX0_says 10 = .ok (.invokestatic 45, 3) := dk_184 0 45 (dk_at dksX0_says_0 10 rfl rfl)
theorem dX0_says_13 : decode cX0_says 13 = .ok (.ifCond .ne 10, 3) := dk_154 0 10 (dk_at dksX0_says_0 13 rfl rfl)
theorem dX0_says_16 : decode cX0_says 16 = .ok (.aload_n 0, 1) := dk_42 (dk_at dksX0_says_0 16 rfl rfl)
theorem dX0_says_17 : decode cX0_says 17 = .ok (.bipush (-2), 2) := dk_16 254 (dk_at dksX0_says_0 17 rfl rfl)
theorem dX0_says_19 : decode cX0_says 19 = .ok (.invokevirtual 79, 3) := dk_182 0 79 (dk_at dksX0_says_0 19 rfl rfl)
theorem dX0_says_22 : decode cX0_says 22 = .ok (.ireturn, 1) := dk_172 (dk_at dksX0_says_0 22 rfl rfl)
theorem dX0_says_23 : decode cX0_says 23 = .ok (.aload_n 0, 1) := dk_42 (dk_at dksX0_says_0 23 rfl rfl)
theorem dX0_says_24 : decode cX0_says 24 = .ok (.getfield 33, 3) := dk_180 0 33 (dk_at dksX0_says_1 0 rfl rfl)
theorem dX0_says_27 : decode cX0_says 27 = .ok (.iload_n 1, 1) := dk_27 (dk_at dksX0_says_1 3 rfl rfl)
theorem dX0_says_28 : decode cX0_says 28 = .ok (.aaload, 1) := dk_50 (dk_at dksX0_says_1 4 rfl rfl)
theorem dX0_says_29 : decode cX0_says 29 = .ok (.getfield 102, 3) := dk_180 0 102 (dk_at dksX0_says_1 5 rfl rfl)
theorem dX0_says_32 : decode cX0_says 32 = .ok (.astore_n 3, 1) := dk_78 (dk_at dksX0_says_1 8 rfl rfl)
theorem dX0_says_33 : decode cX0_says 33 = .ok (.aload_n 3, 1) := dk_45 (dk_at dksX0_says_1 9 rfl rfl)
theorem dX0_says_34 : decode cX0_says 34 = .ok (.ifnonnull 10, 3) := dk_199 0 10 (dk_at dksX0_says_1 10 rfl rfl)
theorem dX0_says_37 : decode cX0_says 37 = .ok (.aload_n 0, 1) := dk_42 (dk_at dksX0_says_1 13 rfl rfl)
theorem dX0_says_38 : decode cX0_says 38 = .ok (.bipush (-4), 2) := dk_16 252 (dk_at dksX0_says_1 14 rfl rfl)
theorem dX0_says_40 : decode cX0_says 40 = .ok (.invokevirtual 79, 3) := dk_182 0 79 (dk_at dksX0_says_1 16 rfl rfl)
theorem dX0_says_43 : decode cX0_says 43 = .ok (.ireturn, 1) := dk_172 (dk_at dksX0_says_1 19 rfl rfl)
theorem dX0_says_44 : decode cX0_says 44 = .ok (.iload_n 2, 1) := dk_28 (dk_at dksX0_says_1 20 rfl rfl)
theorem dX0_says_45 : decode cX0_says 45 = .ok (.tableswitch 91 0 4 #[35, 47, 58, 68, 78], 35) := by decide +kernel
theorem dX0_says_80 : decode cX0_says 80 = .ok (.aload_n 3, 1) := dk_45 (dk_at dksX0_says_3 0 rfl rfl)
theorem dX0_says_81 : decode cX0_says 81 = .ok (.checkcast 108, 3) := dk_192 0 108 (dk_at dksX0_says_3 1 rfl rfl)
theorem dX0_says_84 : decode cX0_says 84 = .ok (.invokeinterface 145 1, 5) := by decide +kernel
theorem dX0_says_89 : decode cX0_says 89 = .ok (.goto 65, 3) := dk_167 0 65 (dk_at dksX0_says_3 9 rfl rfl)
theorem dX0_says_92 : decode cX0_says 92 = .ok (.aload_n 3, 1) := dk_45 (dk_at dksX0_says_3 12 rfl rfl)
theorem dX0_says_93 : decode cX0_says 93 = .ok (.checkcast 148, 3) := dk_192 0 148 (dk_at dksX0_says_3 13 rfl rfl)
theorem dX0_says_96 : decode cX0_says 96 = .ok (.iconst 0, 1) := dk_3 (dk_at dksX0_says_3 16 rfl rfl)
theorem dX0_says_97 : decode cX0_says 97 = .ok (.invokevirtual 150, 3) := dk_182 0 150 (dk_at dksX0_says_3 17 rfl rfl)
theorem dX0_says_100 : decode cX0_says 100 = .ok (.goto 54, 3) := dk_167 0 54 (dk_at dksX0_says_3 20 rfl rfl)
theorem dX0_says_103 : decode cX0_says 103 = .ok (.aload_n 3, 1) := dk_45 (dk_at dksX0_says_3 23 rfl rfl)
theorem dX0_says_104 : decode cX0_says 104 = .ok (.checkcast 153, 3) := dk_192 0 153 (dk_at dksX0_says_4 0 rfl rfl)
theorem dX0_says_107 : decode cX0_says 107 = .ok (.invokevirtual 155, 3) := dk_182 0 155 (dk_at dksX0_says_4 3 rfl rfl)
theorem dX0_says_110 : decode cX0_says 110 = .ok (.goto 44, 3) := dk_167 0 44 (dk_at dksX0_says_4 6 rfl rfl)
theorem dX0_says_113 : decode cX0_says 113 = .ok (.aload_n 3, 1) := dk_45 (dk_at dksX0_says_4 9 rfl rfl)
theorem dX0_says_114 : decode cX0_says 114 = .ok (.checkcast 158, 3) := dk_192 0 158 (dk_at dksX0_says_4 10 rfl rfl)
theorem dX0_says_117 : decode cX0_says 117 = .ok (.invokevirtual 160, 3) := dk_182 0 160 (dk_at dksX0_says_4 13 rfl rfl)
theorem dX0_says_120 : decode cX0_says 120 = .ok (.goto 34, 3) := dk_167 0 34 (dk_at dksX0_says_4 16 rfl rfl)
theorem dX0_says_123 : decode cX0_says 123 = .ok (.bipush 100, 2) := dk_16 100 (dk_at dksX0_says_4 19 rfl rfl)
theorem dX0_says_125 : decode cX0_says 125 = .ok (.aload_n 3, 1) := dk_45 (dk_at dksX0_says_4 21 rfl rfl)
theorem dX0_says_126 : decode cX0_says 126 = .ok (.checkcast 163, 3) := dk_192 0 163 (dk_at dksX0_says_5 0 rfl rfl)
theorem dX0_says_129 : decode cX0_says 129 = .ok (.invokevirtual 165, 3) := dk_182 0 165 (dk_at dksX0_says_5 3 rfl rfl)
theorem dX0_says_132 : decode cX0_says 132 = .ok (.iadd, 1) := dk_96 (dk_at dksX0_says_5 6 rfl rfl)
theorem dX0_says_133 : decode cX0_says 133 = .ok (.goto 21, 3) := dk_167 0 21 (dk_at dksX0_says_5 7 rfl rfl)
theorem dX0_says_136 : decode cX0_says 136 = .ok (.bipush 16, 2) := dk_16 16 (dk_at dksX0_says_5 10 rfl rfl)
theorem dX0_says_138 : decode cX0_says 138 = .ok (.aload_n 3, 1) := dk_45 (dk_at dksX0_says_5 12 rfl rfl)
theorem dX0_says_139 : decode cX0_says 139 = .ok (.checkcast 166, 3) := dk_192 0 166 (dk_at dksX0_says_5 13 rfl rfl)
theorem dX0_says_142 : decode cX0_says 142 = .ok (.invokevirtual 168, 3) := dk_182 0 168 (dk_at dksX0_says_5 16 rfl rfl)
theorem dX0_says_145 : decode cX0_says 145 = .ok (.imul, 1) := dk_104 (dk_at dksX0_says_5 19 rfl rfl)
theorem dX0_says_146 : decode cX0_says 146 = .ok (.aload_n 3, 1) := dk_45 (dk_at dksX0_says_5 20 rfl rfl)
theorem dX0_says_147 : decode cX0_says 147 = .ok (.checkcast 166, 3) := dk_192 0 166 (dk_at dksX0_says_5 21 rfl rfl)
theorem dX0_says_150 : decode cX0_says 150 = .ok (.invokevirtual 171, 3) := dk_182 0 171 (dk_at dksX0_says_6 0 rfl rfl)
theorem dX0_says_153 : decode cX0_says 153 = .ok (.iadd, 1) := dk_96 (dk_at dksX0_says_6 3 rfl rfl)
theorem dX0_says_154 : decode cX0_says 154 = .ok (.ireturn, 1) := dk_172 (dk_at dksX0_says_6 4 rfl rfl)
theorem dX0_says_155 : decode cX0_says 155 = .ok (.astore 4, 2) := dk_58 4 (dk_at dksX0_says_6 5 rfl rfl)
theorem dX0_says_157 : decode cX0_says 157 = .ok (.aload_n 0, 1) := dk_42 (dk_at dksX0_says_6 7 rfl rfl)
theorem dX0_says_158 : decode cX0_says 158 = .ok (.bipush (-3), 2) := dk_16 253 (dk_at dksX0_says_6 8 rfl rfl)
theorem dX0_says_160 : decode cX0_says 160 = .ok (.invokevirtual 79, 3) := dk_182 0 79 (dk_at dksX0_says_6 10 rfl rfl)
theorem dX0_says_163 : decode cX0_says 163 = .ok (.ireturn, 1) := dk_172 (dk_at dksX0_says_6 13 rfl rfl)
abbrev cX0_bits : ByteArray := prog_1_method_3_code
def yX0_bits : MethodName := ⟨RX0, "bits", "(I)I"⟩
theorem dX0_bits_0 : decode cX0_bits 0 = .ok (.iload_n 0, 1) := by decide +kernel
theorem dX0_bits_1 : decode cX0_bits 1 = .ok (.invokestatic 1, 3) := by decide +kernel
theorem dX0_bits_4 : decode cX0_bits 4 = .ok (.ireturn, 1) := by decide +kernel
abbrev cX0_feed : ByteArray := prog_1_method_27_code
def yX0_feed : MethodName := ⟨RX0, "feed", "(I)I"⟩
def dkwX0_feed_2 : List UInt8 := [89, 180, 0, 176, 4, 96, 181, 0, 176, 42, 180, 0, 176, 172]
abbrev dktX0_feed_2 : List UInt8 := dkwX0_feed_2 ++ []
def dkwX0_feed_1 : List UInt8 := [17, 0, 250, 160, 0, 10, 42, 16, 250, 182, 0, 79, 172, 42, 180, 0, 37, 42, 180, 0, 176, 27, 79, 42]
abbrev dktX0_feed_1 : List UInt8 := dkwX0_feed_1 ++ dktX0_feed_2
def dkwX0_feed_0 : List UInt8 := [27, 3, 17, 0, 255, 184, 0, 45, 154, 0, 10, 42, 16, 254, 182, 0, 79, 172, 42, 180, 0, 176]
abbrev dktX0_feed_0 : List UInt8 := dkwX0_feed_0 ++ dktX0_feed_1
theorem dksX0_feed_0 : cX0_feed.data.toList.drop 0 = dktX0_feed_0 := by decide +kernel
theorem dksX0_feed_1 : cX0_feed.data.toList.drop 22 = dktX0_feed_1 := dk_seg dksX0_feed_0 22 rfl rfl
theorem dksX0_feed_2 : cX0_feed.data.toList.drop 46 = dktX0_feed_2 := dk_seg dksX0_feed_1 24 rfl rfl
theorem dX0_feed_0 : decode cX0_feed 0 = .ok (.iload_n 1, 1) := dk_27 (dk_at dksX0_feed_0 0 rfl rfl)
theorem dX0_feed_1 : decode cX0_feed 1 = .ok (.iconst 0, 1) := dk_3 (dk_at dksX0_feed_0 1 rfl rfl)
theorem dX0_feed_2 : decode cX0_feed 2 = .ok (.sipush 255, 3) := dk_17 0 255 (dk_at dksX0_feed_0 2 rfl rfl)
theorem dX0_feed_5 : decode cX0_feed 5 = .ok (.invokestatic 45, 3) := dk_184 0 45 (dk_at dksX0_feed_0 5 rfl rfl)
theorem dX0_feed_8 : decode cX0_feed 8 = .ok (.ifCond .ne 10, 3) := dk_154 0 10 (dk_at dksX0_feed_0 8 rfl rfl)
theorem dX0_feed_11 : decode cX0_feed 11 = .ok (.aload_n 0, 1) := dk_42 (dk_at dksX0_feed_0 11 rfl rfl)
theorem dX0_feed_12 : decode cX0_feed 12 = .ok (.bipush (-2), 2) := dk_16 254 (dk_at dksX0_feed_0 12 rfl rfl)
theorem dX0_feed_14 : decode cX0_feed 14 = .ok (.invokevirtual 79, 3) := dk_182 0 79 (dk_at dksX0_feed_0 14 rfl rfl)
theorem dX0_feed_17 : decode cX0_feed 17 = .ok (.ireturn, 1) := dk_172 (dk_at dksX0_feed_0 17 rfl rfl)
theorem dX0_feed_18 : decode cX0_feed 18 = .ok (.aload_n 0, 1) := dk_42 (dk_at dksX0_feed_0 18 rfl rfl)
theorem dX0_feed_19 : decode cX0_feed 19 = .ok (.getfield 176, 3) := dk_180 0 176 (dk_at dksX0_feed_0 19 rfl rfl)
theorem dX0_feed_22 : decode cX0_feed 22 = .ok (.sipush 250, 3) := dk_17 0 250 (dk_at dksX0_feed_1 0 rfl rfl)
theorem dX0_feed_25 : decode cX0_feed 25 = .ok (.if_icmp .ne 10, 3) := dk_160 0 10 (dk_at dksX0_feed_1 3 rfl rfl)
theorem dX0_feed_28 : decode cX0_feed 28 = .ok (.aload_n 0, 1) := dk_42 (dk_at dksX0_feed_1 6 rfl rfl)
theorem dX0_feed_29 : decode cX0_feed 29 = .ok (.bipush (-6), 2) := dk_16 250 (dk_at dksX0_feed_1 7 rfl rfl)
theorem dX0_feed_31 : decode cX0_feed 31 = .ok (.invokevirtual 79, 3) := dk_182 0 79 (dk_at dksX0_feed_1 9 rfl rfl)
theorem dX0_feed_34 : decode cX0_feed 34 = .ok (.ireturn, 1) := dk_172 (dk_at dksX0_feed_1 12 rfl rfl)
theorem dX0_feed_35 : decode cX0_feed 35 = .ok (.aload_n 0, 1) := dk_42 (dk_at dksX0_feed_1 13 rfl rfl)
theorem dX0_feed_36 : decode cX0_feed 36 = .ok (.getfield 37, 3) := dk_180 0 37 (dk_at dksX0_feed_1 14 rfl rfl)
theorem dX0_feed_39 : decode cX0_feed 39 = .ok (.aload_n 0, 1) := dk_42 (dk_at dksX0_feed_1 17 rfl rfl)
theorem dX0_feed_40 : decode cX0_feed 40 = .ok (.getfield 176, 3) := dk_180 0 176 (dk_at dksX0_feed_1 18 rfl rfl)
theorem dX0_feed_43 : decode cX0_feed 43 = .ok (.iload_n 1, 1) := dk_27 (dk_at dksX0_feed_1 21 rfl rfl)
theorem dX0_feed_44 : decode cX0_feed 44 = .ok (.iastore, 1) := dk_79 (dk_at dksX0_feed_1 22 rfl rfl)
theorem dX0_feed_45 : decode cX0_feed 45 = .ok (.aload_n 0, 1) := dk_42 (dk_at dksX0_feed_1 23 rfl rfl)
theorem dX0_feed_46 : decode cX0_feed 46 = .ok (.dup, 1) := dk_89 (dk_at dksX0_feed_2 0 rfl rfl)
theorem dX0_feed_47 : decode cX0_feed 47 = .ok (.getfield 176, 3) := dk_180 0 176 (dk_at dksX0_feed_2 1 rfl rfl)
theorem dX0_feed_50 : decode cX0_feed 50 = .ok (.iconst 1, 1) := dk_4 (dk_at dksX0_feed_2 4 rfl rfl)
theorem dX0_feed_51 : decode cX0_feed 51 = .ok (.iadd, 1) := dk_96 (dk_at dksX0_feed_2 5 rfl rfl)
theorem dX0_feed_52 : decode cX0_feed 52 = .ok (.putfield 176, 3) := dk_181 0 176 (dk_at dksX0_feed_2 6 rfl rfl)
theorem dX0_feed_55 : decode cX0_feed 55 = .ok (.aload_n 0, 1) := dk_42 (dk_at dksX0_feed_2 9 rfl rfl)
theorem dX0_feed_56 : decode cX0_feed 56 = .ok (.getfield 176, 3) := dk_180 0 176 (dk_at dksX0_feed_2 10 rfl rfl)
theorem dX0_feed_59 : decode cX0_feed 59 = .ok (.ireturn, 1) := dk_172 (dk_at dksX0_feed_2 13 rfl rfl)
abbrev cX0_wipe : ByteArray := prog_1_method_28_code
def yX0_wipe : MethodName := ⟨RX0, "wipe", "()I"⟩
def dkwX0_wipe_0 : List UInt8 := [42, 180, 0, 176, 60, 42, 3, 181, 0, 176, 27, 172]
abbrev dktX0_wipe_0 : List UInt8 := dkwX0_wipe_0 ++ []
theorem dksX0_wipe_0 : cX0_wipe.data.toList.drop 0 = dktX0_wipe_0 := by decide +kernel
theorem dX0_wipe_0 : decode cX0_wipe 0 = .ok (.aload_n 0, 1) := dk_42 (dk_at dksX0_wipe_0 0 rfl rfl)
theorem dX0_wipe_1 : decode cX0_wipe 1 = .ok (.getfield 176, 3) := dk_180 0 176 (dk_at dksX0_wipe_0 1 rfl rfl)
theorem dX0_wipe_4 : decode cX0_wipe 4 = .ok (.istore_n 1, 1) := dk_60 (dk_at dksX0_wipe_0 4 rfl rfl)
theorem dX0_wipe_5 : decode cX0_wipe 5 = .ok (.aload_n 0, 1) := dk_42 (dk_at dksX0_wipe_0 5 rfl rfl)
theorem dX0_wipe_6 : decode cX0_wipe 6 = .ok (.iconst 0, 1) := dk_3 (dk_at dksX0_wipe_0 6 rfl rfl)
theorem dX0_wipe_7 : decode cX0_wipe 7 = .ok (.putfield 176, 3) := dk_181 0 176 (dk_at dksX0_wipe_0 7 rfl rfl)
theorem dX0_wipe_10 : decode cX0_wipe 10 = .ok (.iload_n 1, 1) := dk_27 (dk_at dksX0_wipe_0 10 rfl rfl)
theorem dX0_wipe_11 : decode cX0_wipe 11 = .ok (.ireturn, 1) := dk_172 (dk_at dksX0_wipe_0 11 rfl rfl)
abbrev cX0_edit : ByteArray := prog_1_method_31_code
def yX0_edit : MethodName := ⟨RX0, "edit", "(I)I"⟩
def dkwX0_edit_3 : List UInt8 := [42, 3, 181, 0, 176, 25, 4, 191]
abbrev dktX0_edit_3 : List UInt8 := dkwX0_edit_3 ++ []
def dkwX0_edit_2 : List UInt8 := [16, 254, 182, 0, 79, 87, 17, 254, 212, 44, 180, 0, 215, 100, 62, 42, 3, 181, 0, 176, 29, 172, 58, 4]
abbrev dktX0_edit_2 : List UInt8 := dkwX0_edit_2 ++ dktX0_edit_3
def dkwX0_edit_1 : List UInt8 := [187, 0, 204, 89, 42, 183, 0, 206, 182, 0, 209, 182, 0, 200, 61, 42, 3, 181, 0, 176, 28, 172, 77, 42]
abbrev dktX0_edit_1 : List UInt8 := dkwX0_edit_1 ++ dktX0_edit_2
def dkwX0_edit_0 : List UInt8 := [27, 184, 0, 49, 154, 0, 17, 42, 16, 254, 182, 0, 79, 61, 42, 3, 181, 0, 176, 28, 172, 42, 27]
abbrev dktX0_edit_0 : List UInt8 := dkwX0_edit_0 ++ dktX0_edit_1
theorem dksX0_edit_0 : cX0_edit.data.toList.drop 0 = dktX0_edit_0 := by decide +kernel
theorem dksX0_edit_1 : cX0_edit.data.toList.drop 23 = dktX0_edit_1 := dk_seg dksX0_edit_0 23 rfl rfl
theorem dksX0_edit_2 : cX0_edit.data.toList.drop 47 = dktX0_edit_2 := dk_seg dksX0_edit_1 24 rfl rfl
theorem dksX0_edit_3 : cX0_edit.data.toList.drop 71 = dktX0_edit_3 := dk_seg dksX0_edit_2 24 rfl rfl
theorem dX0_edit_0 : decode cX0_edit 0 = .ok (.iload_n 1, 1) := dk_27 (dk_at dksX0_edit_0 0 rfl rfl)
theorem dX0_edit_1 : decode cX0_edit 1 = .ok (.invokestatic 49, 3) := dk_184 0 49 (dk_at dksX0_edit_0 1 rfl rfl)
theorem dX0_edit_4 : decode cX0_edit 4 = .ok (.ifCond .ne 17, 3) := dk_154 0 17 (dk_at dksX0_edit_0 4 rfl rfl)
theorem dX0_edit_7 : decode cX0_edit 7 = .ok (.aload_n 0, 1) := dk_42 (dk_at dksX0_edit_0 7 rfl rfl)
theorem dX0_edit_8 : decode cX0_edit 8 = .ok (.bipush (-2), 2) := dk_16 254 (dk_at dksX0_edit_0 8 rfl rfl)
theorem dX0_edit_10 : decode cX0_edit 10 = .ok (.invokevirtual 79, 3) := dk_182 0 79 (dk_at dksX0_edit_0 10 rfl rfl)
theorem dX0_edit_13 : decode cX0_edit 13 = .ok (.istore_n 2, 1) := dk_61 (dk_at dksX0_edit_0 13 rfl rfl)
theorem dX0_edit_14 : decode cX0_edit 14 = .ok (.aload_n 0, 1) := dk_42 (dk_at dksX0_edit_0 14 rfl rfl)
theorem dX0_edit_15 : decode cX0_edit 15 = .ok (.iconst 0, 1) := dk_3 (dk_at dksX0_edit_0 15 rfl rfl)
theorem dX0_edit_16 : decode cX0_edit 16 = .ok (.putfield 176, 3) := dk_181 0 176 (dk_at dksX0_edit_0 16 rfl rfl)
theorem dX0_edit_19 : decode cX0_edit 19 = .ok (.iload_n 2, 1) := dk_28 (dk_at dksX0_edit_0 19 rfl rfl)
theorem dX0_edit_20 : decode cX0_edit 20 = .ok (.ireturn, 1) := dk_172 (dk_at dksX0_edit_0 20 rfl rfl)
theorem dX0_edit_21 : decode cX0_edit 21 = .ok (.aload_n 0, 1) := dk_42 (dk_at dksX0_edit_0 21 rfl rfl)
theorem dX0_edit_22 : decode cX0_edit 22 = .ok (.iload_n 1, 1) := dk_27 (dk_at dksX0_edit_0 22 rfl rfl)
theorem dX0_edit_23 : decode cX0_edit 23 = .ok (.new 204, 3) := dk_187 0 204 (dk_at dksX0_edit_1 0 rfl rfl)
theorem dX0_edit_26 : decode cX0_edit 26 = .ok (.dup, 1) := dk_89 (dk_at dksX0_edit_1 3 rfl rfl)
theorem dX0_edit_27 : decode cX0_edit 27 = .ok (.aload_n 0, 1) := dk_42 (dk_at dksX0_edit_1 4 rfl rfl)
theorem dX0_edit_28 : decode cX0_edit 28 = .ok (.invokespecial 206, 3) := dk_183 0 206 (dk_at dksX0_edit_1 5 rfl rfl)
theorem dX0_edit_31 : decode cX0_edit 31 = .ok (.invokevirtual 209, 3) := dk_182 0 209 (dk_at dksX0_edit_1 8 rfl rfl)
theorem dX0_edit_34 : decode cX0_edit 34 = .ok (.invokevirtual 200, 3) := dk_182 0 200 (dk_at dksX0_edit_1 11 rfl rfl)
theorem dX0_edit_37 : decode cX0_edit 37 = .ok (.istore_n 2, 1) := dk_61 (dk_at dksX0_edit_1 14 rfl rfl)
theorem dX0_edit_38 : decode cX0_edit 38 = .ok (.aload_n 0, 1) := dk_42 (dk_at dksX0_edit_1 15 rfl rfl)
theorem dX0_edit_39 : decode cX0_edit 39 = .ok (.iconst 0, 1) := dk_3 (dk_at dksX0_edit_1 16 rfl rfl)
theorem dX0_edit_40 : decode cX0_edit 40 = .ok (.putfield 176, 3) := dk_181 0 176 (dk_at dksX0_edit_1 17 rfl rfl)
theorem dX0_edit_43 : decode cX0_edit 43 = .ok (.iload_n 2, 1) := dk_28 (dk_at dksX0_edit_1 20 rfl rfl)
theorem dX0_edit_44 : decode cX0_edit 44 = .ok (.ireturn, 1) := dk_172 (dk_at dksX0_edit_1 21 rfl rfl)
theorem dX0_edit_45 : decode cX0_edit 45 = .ok (.astore_n 2, 1) := dk_77 (dk_at dksX0_edit_1 22 rfl rfl)
theorem dX0_edit_46 : decode cX0_edit 46 = .ok (.aload_n 0, 1) := dk_42 (dk_at dksX0_edit_1 23 rfl rfl)
theorem dX0_edit_47 : decode cX0_edit 47 = .ok (.bipush (-2), 2) := dk_16 254 (dk_at dksX0_edit_2 0 rfl rfl)
theorem dX0_edit_49 : decode cX0_edit 49 = .ok (.invokevirtual 79, 3) := dk_182 0 79 (dk_at dksX0_edit_2 2 rfl rfl)
theorem dX0_edit_52 : decode cX0_edit 52 = .ok (.pop, 1) := dk_87 (dk_at dksX0_edit_2 5 rfl rfl)
theorem dX0_edit_53 : decode cX0_edit 53 = .ok (.sipush (-300), 3) := dk_17 254 212 (dk_at dksX0_edit_2 6 rfl rfl)
theorem dX0_edit_56 : decode cX0_edit 56 = .ok (.aload_n 2, 1) := dk_44 (dk_at dksX0_edit_2 9 rfl rfl)
theorem dX0_edit_57 : decode cX0_edit 57 = .ok (.getfield 215, 3) := dk_180 0 215 (dk_at dksX0_edit_2 10 rfl rfl)
theorem dX0_edit_60 : decode cX0_edit 60 = .ok (.isub, 1) := dk_100 (dk_at dksX0_edit_2 13 rfl rfl)
theorem dX0_edit_61 : decode cX0_edit 61 = .ok (.istore_n 3, 1) := dk_62 (dk_at dksX0_edit_2 14 rfl rfl)
theorem dX0_edit_62 : decode cX0_edit 62 = .ok (.aload_n 0, 1) := dk_42 (dk_at dksX0_edit_2 15 rfl rfl)
theorem dX0_edit_63 : decode cX0_edit 63 = .ok (.iconst 0, 1) := dk_3 (dk_at dksX0_edit_2 16 rfl rfl)
theorem dX0_edit_64 : decode cX0_edit 64 = .ok (.putfield 176, 3) := dk_181 0 176 (dk_at dksX0_edit_2 17 rfl rfl)
theorem dX0_edit_67 : decode cX0_edit 67 = .ok (.iload_n 3, 1) := dk_29 (dk_at dksX0_edit_2 20 rfl rfl)
theorem dX0_edit_68 : decode cX0_edit 68 = .ok (.ireturn, 1) := dk_172 (dk_at dksX0_edit_2 21 rfl rfl)
theorem dX0_edit_69 : decode cX0_edit 69 = .ok (.astore 4, 2) := dk_58 4 (dk_at dksX0_edit_2 22 rfl rfl)
theorem dX0_edit_71 : decode cX0_edit 71 = .ok (.aload_n 0, 1) := dk_42 (dk_at dksX0_edit_3 0 rfl rfl)
theorem dX0_edit_72 : decode cX0_edit 72 = .ok (.iconst 0, 1) := dk_3 (dk_at dksX0_edit_3 1 rfl rfl)
theorem dX0_edit_73 : decode cX0_edit 73 = .ok (.putfield 176, 3) := dk_181 0 176 (dk_at dksX0_edit_3 2 rfl rfl)
theorem dX0_edit_76 : decode cX0_edit 76 = .ok (.aload 4, 2) := dk_25 4 (dk_at dksX0_edit_3 5 rfl rfl)
theorem dX0_edit_78 : decode cX0_edit 78 = .ok (.athrow, 1) := dk_191 (dk_at dksX0_edit_3 7 rfl rfl)
abbrev cX0_becomes : ByteArray := prog_1_method_29_code
def yX0_becomes : MethodName := ⟨RX0, "becomes", "(ILEditsMeet$Edit;)I"⟩
def dkwX0_becomes_0 : List UInt8 := [42, 180, 0, 27, 27, 44, 83, 44, 182, 0, 179, 172]
abbrev dktX0_becomes_0 : List UInt8 := dkwX0_becomes_0 ++ []
theorem dksX0_becomes_0 : cX0_becomes.data.toList.drop 0 = dktX0_becomes_0 := by decide +kernel
theorem dX0_becomes_0 : decode cX0_becomes 0 = .ok (.aload_n 0, 1) := dk_42 (dk_at dksX0_becomes_0 0 rfl rfl)
theorem dX0_becomes_1 : decode cX0_becomes 1 = .ok (.getfield 27, 3) := dk_180 0 27 (dk_at dksX0_becomes_0 1 rfl rfl)
theorem dX0_becomes_4 : decode cX0_becomes 4 = .ok (.iload_n 1, 1) := dk_27 (dk_at dksX0_becomes_0 4 rfl rfl)
theorem dX0_becomes_5 : decode cX0_becomes 5 = .ok (.aload_n 2, 1) := dk_44 (dk_at dksX0_becomes_0 5 rfl rfl)
theorem dX0_becomes_6 : decode cX0_becomes 6 = .ok (.aastore, 1) := dk_83 (dk_at dksX0_becomes_0 6 rfl rfl)
theorem dX0_becomes_7 : decode cX0_becomes 7 = .ok (.aload_n 2, 1) := dk_44 (dk_at dksX0_becomes_0 7 rfl rfl)
theorem dX0_becomes_8 : decode cX0_becomes 8 = .ok (.invokevirtual 179, 3) := dk_182 0 179 (dk_at dksX0_becomes_0 8 rfl rfl)
theorem dX0_becomes_11 : decode cX0_becomes 11 = .ok (.ireturn, 1) := dk_172 (dk_at dksX0_becomes_0 11 rfl rfl)
abbrev cX0_of : ByteArray := prog_1_method_33_code
def yX0_of : MethodName := ⟨RX0, "of", "(II)I"⟩
def dkwX0_of_0 : List UInt8 := [42, 42, 28, 27, 186, 0, 218, 0, 0, 182, 0, 142, 172]
abbrev dktX0_of_0 : List UInt8 := dkwX0_of_0 ++ []
theorem dksX0_of_0 : cX0_of.data.toList.drop 0 = dktX0_of_0 := by decide +kernel
theorem dX0_of_0 : decode cX0_of 0 = .ok (.aload_n 0, 1) := dk_42 (dk_at dksX0_of_0 0 rfl rfl)
theorem dX0_of_1 : decode cX0_of 1 = .ok (.aload_n 0, 1) := dk_42 (dk_at dksX0_of_0 1 rfl rfl)
theorem dX0_of_2 : decode cX0_of 2 = .ok (.iload_n 2, 1) := dk_28 (dk_at dksX0_of_0 2 rfl rfl)
theorem dX0_of_3 : decode cX0_of 3 = .ok (.iload_n 1, 1) := dk_27 (dk_at dksX0_of_0 3 rfl rfl)
theorem dX0_of_4 : decode cX0_of 4 = .ok (.invokedynamic 218, 5) := by decide +kernel
theorem dX0_of_9 : decode cX0_of 9 = .ok (.invokevirtual 142, 3) := dk_182 0 142 (dk_at dksX0_of_0 9 rfl rfl)
theorem dX0_of_12 : decode cX0_of 12 = .ok (.ireturn, 1) := dk_172 (dk_at dksX0_of_0 12 rfl rfl)
abbrev cX0_lambda_of_5 : ByteArray := prog_1_method_108_code
def yX0_lambda_of_5 : MethodName := ⟨RX0, "lambda$of$5", "(II)I"⟩
def dkwX0_lambda_of_5_4 : List UInt8 := [186, 2, 27, 0, 0, 182, 0, 192, 172]
abbrev dktX0_lambda_of_5_4 : List UInt8 := dkwX0_lambda_of_5_4 ++ []
def dkwX0_lambda_of_5_3 : List UInt8 := [186, 2, 25, 0, 0, 182, 0, 192, 167, 0, 24, 45, 186, 2, 26, 0, 0, 182, 0, 192, 167, 0, 12, 45]
abbrev dktX0_lambda_of_5_3 : List UInt8 := dkwX0_lambda_of_5_3 ++ dktX0_lambda_of_5_4
def dkwX0_lambda_of_5_2 : List UInt8 := [45, 182, 0, 179, 167, 0, 50, 45, 182, 0, 182, 167, 0, 43, 45, 182, 0, 185, 167, 0, 36, 45]
abbrev dktX0_lambda_of_5_2 : List UInt8 := dkwX0_lambda_of_5_2 ++ dktX0_lambda_of_5_3
def dkwX0_lambda_of_5_1 : List UInt8 := [170, 0, 0, 0, 0, 0, 80, 0, 0, 0, 0, 0, 0, 0, 4, 0, 0, 0, 35, 0, 0, 0, 42, 0, 0, 0, 49, 0, 0, 0, 56, 0, 0, 0, 68]
abbrev dktX0_lambda_of_5_1 : List UInt8 := dkwX0_lambda_of_5_1 ++ dktX0_lambda_of_5_2
def dkwX0_lambda_of_5_0 : List UInt8 := [42, 27, 3, 8, 184, 0, 45, 28, 182, 2, 8, 78, 27]
abbrev dktX0_lambda_of_5_0 : List UInt8 := dkwX0_lambda_of_5_0 ++ dktX0_lambda_of_5_1
theorem dksX0_lambda_of_5_0 : cX0_lambda_of_5.data.toList.drop 0 = dktX0_lambda_of_5_0 := by decide +kernel
theorem dksX0_lambda_of_5_1 : cX0_lambda_of_5.data.toList.drop 13 = dktX0_lambda_of_5_1 := dk_seg dksX0_lambda_of_5_0 13 rfl rfl
theorem dksX0_lambda_of_5_2 : cX0_lambda_of_5.data.toList.drop 48 = dktX0_lambda_of_5_2 := dk_seg dksX0_lambda_of_5_1 35 rfl rfl
theorem dksX0_lambda_of_5_3 : cX0_lambda_of_5.data.toList.drop 70 = dktX0_lambda_of_5_3 := dk_seg dksX0_lambda_of_5_2 22 rfl rfl
theorem dksX0_lambda_of_5_4 : cX0_lambda_of_5.data.toList.drop 94 = dktX0_lambda_of_5_4 := dk_seg dksX0_lambda_of_5_3 24 rfl rfl
theorem dX0_lambda_of_5_0 : decode cX0_lambda_of_5 0 = .ok (.aload_n 0, 1) := dk_42 (dk_at dksX0_lambda_of_5_0 0 rfl rfl)
theorem dX0_lambda_of_5_1 : decode cX0_lambda_of_5 1 = .ok (.iload_n 1, 1) := dk_27 (dk_at dksX0_lambda_of_5_0 1 rfl rfl)
theorem dX0_lambda_of_5_2 : decode cX0_lambda_of_5 2 = .ok (.iconst 0, 1) := dk_3 (dk_at dksX0_lambda_of_5_0 2 rfl rfl)
theorem dX0_lambda_of_5_3 : decode cX0_lambda_of_5 3 = .ok (.iconst 5, 1) := dk_8 (dk_at dksX0_lambda_of_5_0 3 rfl rfl)
theorem dX0_lambda_of_5_4 : decode cX0_lambda_of_5 4 = .ok (.invokestatic 45, 3) := dk_184 0 45 (dk_at dksX0_lambda_of_5_0 4 rfl rfl)
theorem dX0_lambda_of_5_7 : decode cX0_lambda_of_5 7 = .ok (.iload_n 2, 1) := dk_28 (dk_at dksX0_lambda_of_5_0 7 rfl rfl)
theorem dX0_lambda_of_5_8 : decode cX0_lambda_of_5 8 = .ok (.invokevirtual 520, 3) := dk_182 2 8 (dk_at dksX0_lambda_of_5_0 8 rfl rfl)
theorem dX0_lambda_of_5_11 : decode cX0_lambda_of_5 11 = .ok (.astore_n 3, 1) := dk_78 (dk_at dksX0_lambda_of_5_0 11 rfl rfl)
theorem dX0_lambda_of_5_12 : decode cX0_lambda_of_5 12 = .ok (.iload_n 1, 1) := dk_27 (dk_at dksX0_lambda_of_5_0 12 rfl rfl)
theorem dX0_lambda_of_5_13 : decode cX0_lambda_of_5 13 = .ok (.tableswitch 80 0 4 #[35, 42, 49, 56, 68], 35) := by decide +kernel
theorem dX0_lambda_of_5_48 : decode cX0_lambda_of_5 48 = .ok (.aload_n 3, 1) := dk_45 (dk_at dksX0_lambda_of_5_2 0 rfl rfl)
theorem dX0_lambda_of_5_49 : decode cX0_lambda_of_5 49 = .ok (.invokevirtual 179, 3) := dk_182 0 179 (dk_at dksX0_lambda_of_5_2 1 rfl rfl)
theorem dX0_lambda_of_5_52 : decode cX0_lambda_of_5 52 = .ok (.goto 50, 3) := dk_167 0 50 (dk_at dksX0_lambda_of_5_2 4 rfl rfl)
theorem dX0_lambda_of_5_55 : decode cX0_lambda_of_5 55 = .ok (.aload_n 3, 1) := dk_45 (dk_at dksX0_lambda_of_5_2 7 rfl rfl)
theorem dX0_lambda_of_5_56 : decode cX0_lambda_of_5 56 = .ok (.invokevirtual 182, 3) := dk_182 0 182 (dk_at dksX0_lambda_of_5_2 8 rfl rfl)
theorem dX0_lambda_of_5_59 : decode cX0_lambda_of_5 59 = .ok (.goto 43, 3) := dk_167 0 43 (dk_at dksX0_lambda_of_5_2 11 rfl rfl)
theorem dX0_lambda_of_5_62 : decode cX0_lambda_of_5 62 = .ok (.aload_n 3, 1) := dk_45 (dk_at dksX0_lambda_of_5_2 14 rfl rfl)
theorem dX0_lambda_of_5_63 : decode cX0_lambda_of_5 63 = .ok (.invokevirtual 185, 3) := dk_182 0 185 (dk_at dksX0_lambda_of_5_2 15 rfl rfl)
theorem dX0_lambda_of_5_66 : decode cX0_lambda_of_5 66 = .ok (.goto 36, 3) := dk_167 0 36 (dk_at dksX0_lambda_of_5_2 18 rfl rfl)
theorem dX0_lambda_of_5_69 : decode cX0_lambda_of_5 69 = .ok (.aload_n 3, 1) := dk_45 (dk_at dksX0_lambda_of_5_2 21 rfl rfl)
theorem dX0_lambda_of_5_70 : decode cX0_lambda_of_5 70 = .ok (.invokedynamic 537, 5) := by decide +kernel
theorem dX0_lambda_of_5_75 : decode cX0_lambda_of_5 75 = .ok (.invokevirtual 192, 3) := dk_182 0 192 (dk_at dksX0_lambda_of_5_3 5 rfl rfl)
theorem dX0_lambda_of_5_78 : decode cX0_lambda_of_5 78 = .ok (.goto 24, 3) := dk_167 0 24 (dk_at dksX0_lambda_of_5_3 8 rfl rfl)
theorem dX0_lambda_of_5_81 : decode cX0_lambda_of_5 81 = .ok (.aload_n 3, 1) := dk_45 (dk_at dksX0_lambda_of_5_3 11 rfl rfl)
theorem dX0_lambda_of_5_82 : decode cX0_lambda_of_5 82 = .ok (.invokedynamic 538, 5) := by decide +kernel
theorem dX0_lambda_of_5_87 : decode cX0_lambda_of_5 87 = .ok (.invokevirtual 192, 3) := dk_182 0 192 (dk_at dksX0_lambda_of_5_3 17 rfl rfl)
theorem dX0_lambda_of_5_90 : decode cX0_lambda_of_5 90 = .ok (.goto 12, 3) := dk_167 0 12 (dk_at dksX0_lambda_of_5_3 20 rfl rfl)
theorem dX0_lambda_of_5_93 : decode cX0_lambda_of_5 93 = .ok (.aload_n 3, 1) := dk_45 (dk_at dksX0_lambda_of_5_3 23 rfl rfl)
theorem dX0_lambda_of_5_94 : decode cX0_lambda_of_5 94 = .ok (.invokedynamic 539, 5) := by decide +kernel
theorem dX0_lambda_of_5_99 : decode cX0_lambda_of_5 99 = .ok (.invokevirtual 192, 3) := dk_182 0 192 (dk_at dksX0_lambda_of_5_4 5 rfl rfl)
theorem dX0_lambda_of_5_102 : decode cX0_lambda_of_5 102 = .ok (.ireturn, 1) := dk_172 (dk_at dksX0_lambda_of_5_4 8 rfl rfl)
abbrev cX0_edit_2 : ByteArray := prog_1_method_10_code
def yX0_edit_2 : MethodName := ⟨RX0, "edit", "(ZI)LEditsMeet$Edit;"⟩
def dkwX0_edit_2_1 : List UInt8 := [182, 0, 58, 176]
abbrev dktX0_edit_2_1 : List UInt8 := dkwX0_edit_2_1 ++ []
def dkwX0_edit_2_0 : List UInt8 := [27, 153, 0, 10, 28, 184, 0, 49, 154, 0, 13, 187, 0, 53, 89, 16, 254, 183, 0, 55, 191, 42, 28]
abbrev dktX0_edit_2_0 : List UInt8 := dkwX0_edit_2_0 ++ dktX0_edit_2_1
theorem dksX0_edit_2_0 : cX0_edit_2.data.toList.drop 0 = dktX0_edit_2_0 := by decide +kernel
theorem dksX0_edit_2_1 : cX0_edit_2.data.toList.drop 23 = dktX0_edit_2_1 := dk_seg dksX0_edit_2_0 23 rfl rfl
theorem dX0_edit_2_0 : decode cX0_edit_2 0 = .ok (.iload_n 1, 1) := dk_27 (dk_at dksX0_edit_2_0 0 rfl rfl)
theorem dX0_edit_2_1 : decode cX0_edit_2 1 = .ok (.ifCond .eq 10, 3) := dk_153 0 10 (dk_at dksX0_edit_2_0 1 rfl rfl)
theorem dX0_edit_2_4 : decode cX0_edit_2 4 = .ok (.iload_n 2, 1) := dk_28 (dk_at dksX0_edit_2_0 4 rfl rfl)
theorem dX0_edit_2_5 : decode cX0_edit_2 5 = .ok (.invokestatic 49, 3) := dk_184 0 49 (dk_at dksX0_edit_2_0 5 rfl rfl)
theorem dX0_edit_2_8 : decode cX0_edit_2 8 = .ok (.ifCond .ne 13, 3) := dk_154 0 13 (dk_at dksX0_edit_2_0 8 rfl rfl)
theorem dX0_edit_2_11 : decode cX0_edit_2 11 = .ok (.new 53, 3) := dk_187 0 53 (dk_at dksX0_edit_2_0 11 rfl rfl)
theorem dX0_edit_2_14 : decode cX0_edit_2 14 = .ok (.dup, 1) := dk_89 (dk_at dksX0_edit_2_0 14 rfl rfl)
theorem dX0_edit_2_15 : decode cX0_edit_2 15 = .ok (.bipush (-2), 2) := dk_16 254 (dk_at dksX0_edit_2_0 15 rfl rfl)
theorem dX0_edit_2_17 : decode cX0_edit_2 17 = .ok (.invokespecial 55, 3) := dk_183 0 55 (dk_at dksX0_edit_2_0 17 rfl rfl)
theorem dX0_edit_2_20 : decode cX0_edit_2 20 = .ok (.athrow, 1) := dk_191 (dk_at dksX0_edit_2_0 20 rfl rfl)
theorem dX0_edit_2_21 : decode cX0_edit_2 21 = .ok (.aload_n 0, 1) := dk_42 (dk_at dksX0_edit_2_0 21 rfl rfl)
theorem dX0_edit_2_22 : decode cX0_edit_2 22 = .ok (.iload_n 2, 1) := dk_28 (dk_at dksX0_edit_2_0 22 rfl rfl)
theorem dX0_edit_2_23 : decode cX0_edit_2 23 = .ok (.invokevirtual 58, 3) := dk_182 0 58 (dk_at dksX0_edit_2_1 0 rfl rfl)
theorem dX0_edit_2_26 : decode cX0_edit_2 26 = .ok (.areturn, 1) := dk_176 (dk_at dksX0_edit_2_1 3 rfl rfl)
abbrev cX0_lambda_of_2 : ByteArray := prog_1_method_111_code
def yX0_lambda_of_2 : MethodName := ⟨RX0, "lambda$of$2", "(LEditsMeet$Part;)I"⟩
def dkwX0_lambda_of_2_0 : List UInt8 := [42, 42, 185, 2, 21, 1, 0, 184, 2, 28, 172]
abbrev dktX0_lambda_of_2_0 : List UInt8 := dkwX0_lambda_of_2_0 ++ []
theorem dksX0_lambda_of_2_0 : cX0_lambda_of_2.data.toList.drop 0 = dktX0_lambda_of_2_0 := by decide +kernel
theorem dX0_lambda_of_2_0 : decode cX0_lambda_of_2 0 = .ok (.aload_n 0, 1) := dk_42 (dk_at dksX0_lambda_of_2_0 0 rfl rfl)
theorem dX0_lambda_of_2_1 : decode cX0_lambda_of_2 1 = .ok (.aload_n 0, 1) := dk_42 (dk_at dksX0_lambda_of_2_0 1 rfl rfl)
theorem dX0_lambda_of_2_2 : decode cX0_lambda_of_2 2 = .ok (.invokeinterface 533 1, 5) := by decide +kernel
theorem dX0_lambda_of_2_7 : decode cX0_lambda_of_2 7 = .ok (.invokestatic 540, 3) := dk_184 2 28 (dk_at dksX0_lambda_of_2_0 7 rfl rfl)
theorem dX0_lambda_of_2_10 : decode cX0_lambda_of_2 10 = .ok (.ireturn, 1) := dk_172 (dk_at dksX0_lambda_of_2_0 10 rfl rfl)
abbrev cX0_lettersOf : ByteArray := prog_1_method_32_code
def yX0_lettersOf : MethodName := ⟨RX0, "lettersOf", "(LEditsMeet$Part;Z)I"⟩
def dkwX0_lettersOf_0 : List UInt8 := [27, 153, 0, 12, 42, 185, 0, 145, 1, 0, 167, 0, 4, 3, 172]
abbrev dktX0_lettersOf_0 : List UInt8 := dkwX0_lettersOf_0 ++ []
theorem dksX0_lettersOf_0 : cX0_lettersOf.data.toList.drop 0 = dktX0_lettersOf_0 := by decide +kernel
theorem dX0_lettersOf_0 : decode cX0_lettersOf 0 = .ok (.iload_n 1, 1) := dk_27 (dk_at dksX0_lettersOf_0 0 rfl rfl)
theorem dX0_lettersOf_1 : decode cX0_lettersOf 1 = .ok (.ifCond .eq 12, 3) := dk_153 0 12 (dk_at dksX0_lettersOf_0 1 rfl rfl)
theorem dX0_lettersOf_4 : decode cX0_lettersOf 4 = .ok (.aload_n 0, 1) := dk_42 (dk_at dksX0_lettersOf_0 4 rfl rfl)
theorem dX0_lettersOf_5 : decode cX0_lettersOf 5 = .ok (.invokeinterface 145 1, 5) := by decide +kernel
theorem dX0_lettersOf_10 : decode cX0_lettersOf 10 = .ok (.goto 4, 3) := dk_167 0 4 (dk_at dksX0_lettersOf_0 10 rfl rfl)
theorem dX0_lettersOf_13 : decode cX0_lettersOf 13 = .ok (.iconst 0, 1) := dk_3 (dk_at dksX0_lettersOf_0 13 rfl rfl)
theorem dX0_lettersOf_14 : decode cX0_lettersOf 14 = .ok (.ireturn, 1) := dk_172 (dk_at dksX0_lettersOf_0 14 rfl rfl)
abbrev cX0_lambda_of_3 : ByteArray := prog_1_method_110_code
def yX0_lambda_of_3 : MethodName := ⟨RX0, "lambda$of$3", "(LEditsMeet$Part;)I"⟩
def dkwX0_lambda_of_3_0 : List UInt8 := [42, 42, 185, 2, 32, 1, 0, 184, 2, 28, 172]
abbrev dktX0_lambda_of_3_0 : List UInt8 := dkwX0_lambda_of_3_0 ++ []
theorem dksX0_lambda_of_3_0 : cX0_lambda_of_3.data.toList.drop 0 = dktX0_lambda_of_3_0 := by decide +kernel
theorem dX0_lambda_of_3_0 : decode cX0_lambda_of_3 0 = .ok (.aload_n 0, 1) := dk_42 (dk_at dksX0_lambda_of_3_0 0 rfl rfl)
theorem dX0_lambda_of_3_1 : decode cX0_lambda_of_3 1 = .ok (.aload_n 0, 1) := dk_42 (dk_at dksX0_lambda_of_3_0 1 rfl rfl)
theorem dX0_lambda_of_3_2 : decode cX0_lambda_of_3 2 = .ok (.invokeinterface 544 1, 5) := by decide +kernel
theorem dX0_lambda_of_3_7 : decode cX0_lambda_of_3 7 = .ok (.invokestatic 540, 3) := dk_184 2 28 (dk_at dksX0_lambda_of_3_0 7 rfl rfl)
theorem dX0_lambda_of_3_10 : decode cX0_lambda_of_3 10 = .ok (.ireturn, 1) := dk_172 (dk_at dksX0_lambda_of_3_0 10 rfl rfl)
abbrev cX0_lambda_of_4 : ByteArray := prog_1_method_109_code
def yX0_lambda_of_4 : MethodName := ⟨RX0, "lambda$of$4", "(LEditsMeet$Part;)I"⟩
def dkwX0_lambda_of_4_0 : List UInt8 := [42, 42, 193, 0, 166, 184, 2, 28, 172]
abbrev dktX0_lambda_of_4_0 : List UInt8 := dkwX0_lambda_of_4_0 ++ []
theorem dksX0_lambda_of_4_0 : cX0_lambda_of_4.data.toList.drop 0 = dktX0_lambda_of_4_0 := by decide +kernel
theorem dX0_lambda_of_4_0 : decode cX0_lambda_of_4 0 = .ok (.aload_n 0, 1) := dk_42 (dk_at dksX0_lambda_of_4_0 0 rfl rfl)
theorem dX0_lambda_of_4_1 : decode cX0_lambda_of_4 1 = .ok (.aload_n 0, 1) := dk_42 (dk_at dksX0_lambda_of_4_0 1 rfl rfl)
theorem dX0_lambda_of_4_2 : decode cX0_lambda_of_4 2 = .ok (.instanceof 166, 3) := dk_193 0 166 (dk_at dksX0_lambda_of_4_0 2 rfl rfl)
theorem dX0_lambda_of_4_5 : decode cX0_lambda_of_4 5 = .ok (.invokestatic 540, 3) := dk_184 2 28 (dk_at dksX0_lambda_of_4_0 5 rfl rfl)
theorem dX0_lambda_of_4_8 : decode cX0_lambda_of_4 8 = .ok (.ireturn, 1) := dk_172 (dk_at dksX0_lambda_of_4_0 8 rfl rfl)
abbrev cX0_part : ByteArray := prog_1_method_34_code
def yX0_part : MethodName := ⟨RX0, "part", "(III)I"⟩
def dkwX0_part_0 : List UInt8 := [42, 42, 29, 27, 28, 186, 0, 221, 0, 0, 182, 0, 142, 172]
abbrev dktX0_part_0 : List UInt8 := dkwX0_part_0 ++ []
theorem dksX0_part_0 : cX0_part.data.toList.drop 0 = dktX0_part_0 := by decide +kernel
theorem dX0_part_0 : decode cX0_part 0 = .ok (.aload_n 0, 1) := dk_42 (dk_at dksX0_part_0 0 rfl rfl)
theorem dX0_part_1 : decode cX0_part 1 = .ok (.aload_n 0, 1) := dk_42 (dk_at dksX0_part_0 1 rfl rfl)
theorem dX0_part_2 : decode cX0_part 2 = .ok (.iload_n 3, 1) := dk_29 (dk_at dksX0_part_0 2 rfl rfl)
theorem dX0_part_3 : decode cX0_part 3 = .ok (.iload_n 1, 1) := dk_27 (dk_at dksX0_part_0 3 rfl rfl)
theorem dX0_part_4 : decode cX0_part 4 = .ok (.iload_n 2, 1) := dk_28 (dk_at dksX0_part_0 4 rfl rfl)
theorem dX0_part_5 : decode cX0_part 5 = .ok (.invokedynamic 221, 5) := by decide +kernel
theorem dX0_part_10 : decode cX0_part 10 = .ok (.invokevirtual 142, 3) := dk_182 0 142 (dk_at dksX0_part_0 10 rfl rfl)
theorem dX0_part_13 : decode cX0_part 13 = .ok (.ireturn, 1) := dk_172 (dk_at dksX0_part_0 13 rfl rfl)
abbrev cX0_lambda_part_6 : ByteArray := prog_1_method_107_code
def yX0_lambda_part_6 : MethodName := ⟨RX0, "lambda$part$6", "(III)I"⟩
def dkwX0_lambda_part_6_4 : List UInt8 := [185, 0, 229, 1, 0, 167, 0, 10, 25, 5, 185, 0, 230, 1, 0, 172]
abbrev dktX0_lambda_part_6_4 : List UInt8 := dkwX0_lambda_part_6_4 ++ []
def dkwX0_lambda_part_6_3 : List UInt8 := [25, 5, 185, 0, 136, 1, 0, 167, 0, 30, 25, 5, 185, 0, 145, 1, 0, 167, 0, 20, 25, 5]
abbrev dktX0_lambda_part_6_3 : List UInt8 := dkwX0_lambda_part_6_3 ++ dktX0_lambda_part_6_4
def dkwX0_lambda_part_6_2 : List UInt8 := [170, 0, 0, 0, 55, 0, 0, 0, 0, 0, 0, 0, 2, 0, 0, 0, 25, 0, 0, 0, 35, 0, 0, 0, 45]
abbrev dktX0_lambda_part_6_2 : List UInt8 := dkwX0_lambda_part_6_2 ++ dktX0_lambda_part_6_3
def dkwX0_lambda_part_6_1 : List UInt8 := [184, 0, 45, 16, 254, 184, 0, 196, 25, 4, 29, 182, 1, 236, 58, 5, 27]
abbrev dktX0_lambda_part_6_1 : List UInt8 := dkwX0_lambda_part_6_1 ++ dktX0_lambda_part_6_2
def dkwX0_lambda_part_6_0 : List UInt8 := [42, 27, 3, 6, 184, 0, 45, 28, 182, 2, 8, 58, 4, 29, 3, 25, 4, 182, 0, 179, 4, 100]
abbrev dktX0_lambda_part_6_0 : List UInt8 := dkwX0_lambda_part_6_0 ++ dktX0_lambda_part_6_1
theorem dksX0_lambda_part_6_0 : cX0_lambda_part_6.data.toList.drop 0 = dktX0_lambda_part_6_0 := by decide +kernel
theorem dksX0_lambda_part_6_1 : cX0_lambda_part_6.data.toList.drop 22 = dktX0_lambda_part_6_1 := dk_seg dksX0_lambda_part_6_0 22 rfl rfl
theorem dksX0_lambda_part_6_2 : cX0_lambda_part_6.data.toList.drop 39 = dktX0_lambda_part_6_2 := dk_seg dksX0_lambda_part_6_1 17 rfl rfl
theorem dksX0_lambda_part_6_3 : cX0_lambda_part_6.data.toList.drop 64 = dktX0_lambda_part_6_3 := dk_seg dksX0_lambda_part_6_2 25 rfl rfl
theorem dksX0_lambda_part_6_4 : cX0_lambda_part_6.data.toList.drop 86 = dktX0_lambda_part_6_4 := dk_seg dksX0_lambda_part_6_3 22 rfl rfl
theorem dX0_lambda_part_6_0 : decode cX0_lambda_part_6 0 = .ok (.aload_n 0, 1) := dk_42 (dk_at dksX0_lambda_part_6_0 0 rfl rfl)
theorem dX0_lambda_part_6_1 : decode cX0_lambda_part_6 1 = .ok (.iload_n 1, 1) := dk_27 (dk_at dksX0_lambda_part_6_0 1 rfl rfl)
theorem dX0_lambda_part_6_2 : decode cX0_lambda_part_6 2 = .ok (.iconst 0, 1) := dk_3 (dk_at dksX0_lambda_part_6_0 2 rfl rfl)
theorem dX0_lambda_part_6_3 : decode cX0_lambda_part_6 3 = .ok (.iconst 3, 1) := dk_6 (dk_at dksX0_lambda_part_6_0 3 rfl rfl)
theorem dX0_lambda_part_6_4 : decode cX0_lambda_part_6 4 = .ok (.invokestatic 45, 3) := dk_184 0 45 (dk_at dksX0_lambda_part_6_0 4 rfl rfl)
theorem dX0_lambda_part_6_7 : decode cX0_lambda_part_6 7 = .ok (.iload_n 2, 1) := dk_28 (dk_at dksX0_lambda_part_6_0 7 rfl rfl)
theorem dX0_lambda_part_6_8 : decode cX0_lambda_part_6 8 = .ok (.invokevirtual 520, 3) := dk_182 2 8 (dk_at dksX0_lambda_part_6_0 8 rfl rfl)
theorem dX0_lambda_part_6_11 : decode cX0_lambda_part_6 11 = .ok (.astore 4, 2) := dk_58 4 (dk_at dksX0_lambda_part_6_0 11 rfl rfl)
theorem dX0_lambda_part_6_13 : decode cX0_lambda_part_6 13 = .ok (.iload_n 3, 1) := dk_29 (dk_at dksX0_lambda_part_6_0 13 rfl rfl)
theorem dX0_lambda_part_6_14 : decode cX0_lambda_part_6 14 = .ok (.iconst 0, 1) := dk_3 (dk_at dksX0_lambda_part_6_0 14 rfl rfl)
theorem dX0_lambda_part_6_15 : decode cX0_lambda_part_6 15 = .ok (.aload 4, 2) := dk_25 4 (dk_at dksX0_lambda_part_6_0 15 rfl rfl)
theorem dX0_lambda_part_6_17 : decode cX0_lambda_part_6 17 = .ok (.invokevirtual 179, 3) := dk_182 0 179 (dk_at dksX0_lambda_part_6_0 17 rfl rfl)
theorem dX0_lambda_part_6_20 : decode cX0_lambda_part_6 20 = .ok (.iconst 1, 1) := dk_4 (dk_at dksX0_lambda_part_6_0 20 rfl rfl)
theorem dX0_lambda_part_6_21 : decode cX0_lambda_part_6 21 = .ok (.isub, 1) := dk_100 (dk_at dksX0_lambda_part_6_0 21 rfl rfl)
theorem dX0_lambda_part_6_22 : decode cX0_lambda_part_6 22 = .ok (.invokestatic 45, 3) := dk_184 0 45 (dk_at dksX0_lambda_part_6_1 0 rfl rfl)
theorem dX0_lambda_part_6_25 : decode cX0_lambda_part_6 25 = .ok (.bipush (-2), 2) := dk_16 254 (dk_at dksX0_lambda_part_6_1 3 rfl rfl)
theorem dX0_lambda_part_6_27 : decode cX0_lambda_part_6 27 = .ok (.invokestatic 196, 3) := dk_184 0 196 (dk_at dksX0_lambda_part_6_1 5 rfl rfl)
theorem dX0_lambda_part_6_30 : decode cX0_lambda_part_6 30 = .ok (.aload 4, 2) := dk_25 4 (dk_at dksX0_lambda_part_6_1 8 rfl rfl)
theorem dX0_lambda_part_6_32 : decode cX0_lambda_part_6 32 = .ok (.iload_n 3, 1) := dk_29 (dk_at dksX0_lambda_part_6_1 10 rfl rfl)
theorem dX0_lambda_part_6_33 : decode cX0_lambda_part_6 33 = .ok (.invokevirtual 492, 3) := dk_182 1 236 (dk_at dksX0_lambda_part_6_1 11 rfl rfl)
theorem dX0_lambda_part_6_36 : decode cX0_lambda_part_6 36 = .ok (.astore 5, 2) := dk_58 5 (dk_at dksX0_lambda_part_6_1 14 rfl rfl)
theorem dX0_lambda_part_6_38 : decode cX0_lambda_part_6 38 = .ok (.iload_n 1, 1) := dk_27 (dk_at dksX0_lambda_part_6_1 16 rfl rfl)
theorem dX0_lambda_part_6_39 : decode cX0_lambda_part_6 39 = .ok (.tableswitch 55 0 2 #[25, 35, 45], 25) := by decide +kernel
theorem dX0_lambda_part_6_64 : decode cX0_lambda_part_6 64 = .ok (.aload 5, 2) := dk_25 5 (dk_at dksX0_lambda_part_6_3 0 rfl rfl)
theorem dX0_lambda_part_6_66 : decode cX0_lambda_part_6 66 = .ok (.invokeinterface 136 1, 5) := by decide +kernel
theorem dX0_lambda_part_6_71 : decode cX0_lambda_part_6 71 = .ok (.goto 30, 3) := dk_167 0 30 (dk_at dksX0_lambda_part_6_3 7 rfl rfl)
theorem dX0_lambda_part_6_74 : decode cX0_lambda_part_6 74 = .ok (.aload 5, 2) := dk_25 5 (dk_at dksX0_lambda_part_6_3 10 rfl rfl)
theorem dX0_lambda_part_6_76 : decode cX0_lambda_part_6 76 = .ok (.invokeinterface 145 1, 5) := by decide +kernel
theorem dX0_lambda_part_6_81 : decode cX0_lambda_part_6 81 = .ok (.goto 20, 3) := dk_167 0 20 (dk_at dksX0_lambda_part_6_3 17 rfl rfl)
theorem dX0_lambda_part_6_84 : decode cX0_lambda_part_6 84 = .ok (.aload 5, 2) := dk_25 5 (dk_at dksX0_lambda_part_6_3 20 rfl rfl)
theorem dX0_lambda_part_6_86 : decode cX0_lambda_part_6 86 = .ok (.invokeinterface 229 1, 5) := by decide +kernel
theorem dX0_lambda_part_6_91 : decode cX0_lambda_part_6 91 = .ok (.goto 10, 3) := dk_167 0 10 (dk_at dksX0_lambda_part_6_4 5 rfl rfl)
theorem dX0_lambda_part_6_94 : decode cX0_lambda_part_6 94 = .ok (.aload 5, 2) := dk_25 5 (dk_at dksX0_lambda_part_6_4 8 rfl rfl)
theorem dX0_lambda_part_6_96 : decode cX0_lambda_part_6 96 = .ok (.invokeinterface 230 1, 5) := by decide +kernel
theorem dX0_lambda_part_6_101 : decode cX0_lambda_part_6 101 = .ok (.ireturn, 1) := dk_172 (dk_at dksX0_lambda_part_6_4 15 rfl rfl)
abbrev cX0_letter : ByteArray := prog_1_method_35_code
def yX0_letter : MethodName := ⟨RX0, "letter", "(III)I"⟩
def dkwX0_letter_0 : List UInt8 := [42, 42, 27, 28, 29, 186, 0, 222, 0, 0, 182, 0, 142, 172]
abbrev dktX0_letter_0 : List UInt8 := dkwX0_letter_0 ++ []
theorem dksX0_letter_0 : cX0_letter.data.toList.drop 0 = dktX0_letter_0 := by decide +kernel
theorem dX0_letter_0 : decode cX0_letter 0 = .ok (.aload_n 0, 1) := dk_42 (dk_at dksX0_letter_0 0 rfl rfl)
theorem dX0_letter_1 : decode cX0_letter 1 = .ok (.aload_n 0, 1) := dk_42 (dk_at dksX0_letter_0 1 rfl rfl)
theorem dX0_letter_2 : decode cX0_letter 2 = .ok (.iload_n 1, 1) := dk_27 (dk_at dksX0_letter_0 2 rfl rfl)
theorem dX0_letter_3 : decode cX0_letter 3 = .ok (.iload_n 2, 1) := dk_28 (dk_at dksX0_letter_0 3 rfl rfl)
theorem dX0_letter_4 : decode cX0_letter 4 = .ok (.iload_n 3, 1) := dk_29 (dk_at dksX0_letter_0 4 rfl rfl)
theorem dX0_letter_5 : decode cX0_letter 5 = .ok (.invokedynamic 222, 5) := by decide +kernel
theorem dX0_letter_10 : decode cX0_letter 10 = .ok (.invokevirtual 142, 3) := dk_182 0 142 (dk_at dksX0_letter_0 10 rfl rfl)
theorem dX0_letter_13 : decode cX0_letter 13 = .ok (.ireturn, 1) := dk_172 (dk_at dksX0_letter_0 13 rfl rfl)
abbrev cX0_lambda_letter_7 : ByteArray := prog_1_method_106_code
def yX0_lambda_letter_7 : MethodName := ⟨RX0, "lambda$letter$7", "(III)I"⟩
def dkwX0_lambda_letter_7_3 : List UInt8 := [184, 0, 196, 25, 5, 29, 182, 0, 150, 16, 100, 25, 5, 29, 182, 2, 24, 104, 96, 172]
abbrev dktX0_lambda_letter_7_3 : List UInt8 := dkwX0_lambda_letter_7_3 ++ []
def dkwX0_lambda_letter_7_2 : List UInt8 := [182, 1, 236, 192, 0, 148, 58, 5, 29, 3, 25, 5, 182, 2, 23, 4, 100, 184, 0, 45, 16, 254]
abbrev dktX0_lambda_letter_7_2 : List UInt8 := dkwX0_lambda_letter_7_2 ++ dktX0_lambda_letter_7_3
def dkwX0_lambda_letter_7_1 : List UInt8 := [184, 0, 196, 25, 4, 28, 182, 1, 236, 185, 2, 21, 1, 0, 16, 253, 184, 0, 196, 25, 4, 28]
abbrev dktX0_lambda_letter_7_1 : List UInt8 := dkwX0_lambda_letter_7_1 ++ dktX0_lambda_letter_7_2
def dkwX0_lambda_letter_7_0 : List UInt8 := [42, 4, 27, 182, 2, 8, 58, 4, 28, 3, 25, 4, 182, 0, 179, 4, 100, 184, 0, 45, 16, 254]
abbrev dktX0_lambda_letter_7_0 : List UInt8 := dkwX0_lambda_letter_7_0 ++ dktX0_lambda_letter_7_1
theorem dksX0_lambda_letter_7_0 : cX0_lambda_letter_7.data.toList.drop 0 = dktX0_lambda_letter_7_0 := by decide +kernel
theorem dksX0_lambda_letter_7_1 : cX0_lambda_letter_7.data.toList.drop 22 = dktX0_lambda_letter_7_1 := dk_seg dksX0_lambda_letter_7_0 22 rfl rfl
theorem dksX0_lambda_letter_7_2 : cX0_lambda_letter_7.data.toList.drop 44 = dktX0_lambda_letter_7_2 := dk_seg dksX0_lambda_letter_7_1 22 rfl rfl
theorem dksX0_lambda_letter_7_3 : cX0_lambda_letter_7.data.toList.drop 66 = dktX0_lambda_letter_7_3 := dk_seg dksX0_lambda_letter_7_2 22 rfl rfl
theorem dX0_lambda_letter_7_0 : decode cX0_lambda_letter_7 0 = .ok (.aload_n 0, 1) := dk_42 (dk_at dksX0_lambda_letter_7_0 0 rfl rfl)
theorem dX0_lambda_letter_7_1 : decode cX0_lambda_letter_7 1 = .ok (.iconst 1, 1) := dk_4 (dk_at dksX0_lambda_letter_7_0 1 rfl rfl)
theorem dX0_lambda_letter_7_2 : decode cX0_lambda_letter_7 2 = .ok (.iload_n 1, 1) := dk_27 (dk_at dksX0_lambda_letter_7_0 2 rfl rfl)
theorem dX0_lambda_letter_7_3 : decode cX0_lambda_letter_7 3 = .ok (.invokevirtual 520, 3) := dk_182 2 8 (dk_at dksX0_lambda_letter_7_0 3 rfl rfl)
theorem dX0_lambda_letter_7_6 : decode cX0_lambda_letter_7 6 = .ok (.astore 4, 2) := dk_58 4 (dk_at dksX0_lambda_letter_7_0 6 rfl rfl)
theorem dX0_lambda_letter_7_8 : decode cX0_lambda_letter_7 8 = .ok (.iload_n 2, 1) := dk_28 (dk_at dksX0_lambda_letter_7_0 8 rfl rfl)
theorem dX0_lambda_letter_7_9 : decode cX0_lambda_letter_7 9 = .ok (.iconst 0, 1) := dk_3 (dk_at dksX0_lambda_letter_7_0 9 rfl rfl)
theorem dX0_lambda_letter_7_10 : decode cX0_lambda_letter_7 10 = .ok (.aload 4, 2) := dk_25 4 (dk_at dksX0_lambda_letter_7_0 10 rfl rfl)
theorem dX0_lambda_letter_7_12 : decode cX0_lambda_letter_7 12 = .ok (.invokevirtual 179, 3) := dk_182 0 179 (dk_at dksX0_lambda_letter_7_0 12 rfl rfl)
theorem dX0_lambda_letter_7_15 : decode cX0_lambda_letter_7 15 = .ok (.iconst 1, 1) := dk_4 (dk_at dksX0_lambda_letter_7_0 15 rfl rfl)
theorem dX0_lambda_letter_7_16 : decode cX0_lambda_letter_7 16 = .ok (.isub, 1) := dk_100 (dk_at dksX0_lambda_letter_7_0 16 rfl rfl)
theorem dX0_lambda_letter_7_17 : decode cX0_lambda_letter_7 17 = .ok (.invokestatic 45, 3) := dk_184 0 45 (dk_at dksX0_lambda_letter_7_0 17 rfl rfl)
theorem dX0_lambda_letter_7_20 : decode cX0_lambda_letter_7 20 = .ok (.bipush (-2), 2) := dk_16 254 (dk_at dksX0_lambda_letter_7_0 20 rfl rfl)
theorem dX0_lambda_letter_7_22 : decode cX0_lambda_letter_7 22 = .ok (.invokestatic 196, 3) := dk_184 0 196 (dk_at dksX0_lambda_letter_7_1 0 rfl rfl)
theorem dX0_lambda_letter_7_25 : decode cX0_lambda_letter_7 25 = .ok (.aload 4, 2) := dk_25 4 (dk_at dksX0_lambda_letter_7_1 3 rfl rfl)
theorem dX0_lambda_letter_7_27 : decode cX0_lambda_letter_7 27 = .ok (.iload_n 2, 1) := dk_28 (dk_at dksX0_lambda_letter_7_1 5 rfl rfl)
theorem dX0_lambda_letter_7_28 : decode cX0_lambda_letter_7 28 = .ok (.invokevirtual 492, 3) := dk_182 1 236 (dk_at dksX0_lambda_letter_7_1 6 rfl rfl)
theorem dX0_lambda_letter_7_31 : decode cX0_lambda_letter_7 31 = .ok (.invokeinterface 533 1, 5) := by decide +kernel
theorem dX0_lambda_letter_7_36 : decode cX0_lambda_letter_7 36 = .ok (.bipush (-3), 2) := dk_16 253 (dk_at dksX0_lambda_letter_7_1 14 rfl rfl)
theorem dX0_lambda_letter_7_38 : decode cX0_lambda_letter_7 38 = .ok (.invokestatic 196, 3) := dk_184 0 196 (dk_at dksX0_lambda_letter_7_1 16 rfl rfl)
theorem dX0_lambda_letter_7_41 : decode cX0_lambda_letter_7 41 = .ok (.aload 4, 2) := dk_25 4 (dk_at dksX0_lambda_letter_7_1 19 rfl rfl)
theorem dX0_lambda_letter_7_43 : decode cX0_lambda_letter_7 43 = .ok (.iload_n 2, 1) := dk_28 (dk_at dksX0_lambda_letter_7_1 21 rfl rfl)
theorem dX0_lambda_letter_7_44 : decode cX0_lambda_letter_7 44 = .ok (.invokevirtual 492, 3) := dk_182 1 236 (dk_at dksX0_lambda_letter_7_2 0 rfl rfl)
theorem dX0_lambda_letter_7_47 : decode cX0_lambda_letter_7 47 = .ok (.checkcast 148, 3) := dk_192 0 148 (dk_at dksX0_lambda_letter_7_2 3 rfl rfl)
theorem dX0_lambda_letter_7_50 : decode cX0_lambda_letter_7 50 = .ok (.astore 5, 2) := dk_58 5 (dk_at dksX0_lambda_letter_7_2 6 rfl rfl)
theorem dX0_lambda_letter_7_52 : decode cX0_lambda_letter_7 52 = .ok (.iload_n 3, 1) := dk_29 (dk_at dksX0_lambda_letter_7_2 8 rfl rfl)
theorem dX0_lambda_letter_7_53 : decode cX0_lambda_letter_7 53 = .ok (.iconst 0, 1) := dk_3 (dk_at dksX0_lambda_letter_7_2 9 rfl rfl)
theorem dX0_lambda_letter_7_54 : decode cX0_lambda_letter_7 54 = .ok (.aload 5, 2) := dk_25 5 (dk_at dksX0_lambda_letter_7_2 10 rfl rfl)
theorem dX0_lambda_letter_7_56 : decode cX0_lambda_letter_7 56 = .ok (.invokevirtual 535, 3) := dk_182 2 23 (dk_at dksX0_lambda_letter_7_2 12 rfl rfl)
theorem dX0_lambda_letter_7_59 : decode cX0_lambda_letter_7 59 = .ok (.iconst 1, 1) := dk_4 (dk_at dksX0_lambda_letter_7_2 15 rfl rfl)
theorem dX0_lambda_letter_7_60 : decode cX0_lambda_letter_7 60 = .ok (.isub, 1) := dk_100 (dk_at dksX0_lambda_letter_7_2 16 rfl rfl)
theorem dX0_lambda_letter_7_61 : decode cX0_lambda_letter_7 61 = .ok (.invokestatic 45, 3) := dk_184 0 45 (dk_at dksX0_lambda_letter_7_2 17 rfl rfl)
theorem dX0_lambda_letter_7_64 : decode cX0_lambda_letter_7 64 = .ok (.bipush (-2), 2) := dk_16 254 (dk_at dksX0_lambda_letter_7_2 20 rfl rfl)
theorem dX0_lambda_letter_7_66 : decode cX0_lambda_letter_7 66 = .ok (.invokestatic 196, 3) := dk_184 0 196 (dk_at dksX0_lambda_letter_7_3 0 rfl rfl)
theorem dX0_lambda_letter_7_69 : decode cX0_lambda_letter_7 69 = .ok (.aload 5, 2) := dk_25 5 (dk_at dksX0_lambda_letter_7_3 3 rfl rfl)
theorem dX0_lambda_letter_7_71 : decode cX0_lambda_letter_7 71 = .ok (.iload_n 3, 1) := dk_29 (dk_at dksX0_lambda_letter_7_3 5 rfl rfl)
theorem dX0_lambda_letter_7_72 : decode cX0_lambda_letter_7 72 = .ok (.invokevirtual 150, 3) := dk_182 0 150 (dk_at dksX0_lambda_letter_7_3 6 rfl rfl)
theorem dX0_lambda_letter_7_75 : decode cX0_lambda_letter_7 75 = .ok (.bipush 100, 2) := dk_16 100 (dk_at dksX0_lambda_letter_7_3 9 rfl rfl)
theorem dX0_lambda_letter_7_77 : decode cX0_lambda_letter_7 77 = .ok (.aload 5, 2) := dk_25 5 (dk_at dksX0_lambda_letter_7_3 11 rfl rfl)
theorem dX0_lambda_letter_7_79 : decode cX0_lambda_letter_7 79 = .ok (.iload_n 3, 1) := dk_29 (dk_at dksX0_lambda_letter_7_3 13 rfl rfl)
theorem dX0_lambda_letter_7_80 : decode cX0_lambda_letter_7 80 = .ok (.invokevirtual 536, 3) := dk_182 2 24 (dk_at dksX0_lambda_letter_7_3 14 rfl rfl)
theorem dX0_lambda_letter_7_83 : decode cX0_lambda_letter_7 83 = .ok (.imul, 1) := dk_104 (dk_at dksX0_lambda_letter_7_3 17 rfl rfl)
theorem dX0_lambda_letter_7_84 : decode cX0_lambda_letter_7 84 = .ok (.iadd, 1) := dk_96 (dk_at dksX0_lambda_letter_7_3 18 rfl rfl)
theorem dX0_lambda_letter_7_85 : decode cX0_lambda_letter_7 85 = .ok (.ireturn, 1) := dk_172 (dk_at dksX0_lambda_letter_7_3 19 rfl rfl)
abbrev cX0_spelled : ByteArray := prog_1_method_36_code
def yX0_spelled : MethodName := ⟨RX0, "spelled", "(II)I"⟩
def dkwX0_spelled_0 : List UInt8 := [42, 42, 27, 28, 186, 0, 223, 0, 0, 182, 0, 142, 172]
abbrev dktX0_spelled_0 : List UInt8 := dkwX0_spelled_0 ++ []
theorem dksX0_spelled_0 : cX0_spelled.data.toList.drop 0 = dktX0_spelled_0 := by decide +kernel
theorem dX0_spelled_0 : decode cX0_spelled 0 = .ok (.aload_n 0, 1) := dk_42 (dk_at dksX0_spelled_0 0 rfl rfl)
theorem dX0_spelled_1 : decode cX0_spelled 1 = .ok (.aload_n 0, 1) := dk_42 (dk_at dksX0_spelled_0 1 rfl rfl)
theorem dX0_spelled_2 : decode cX0_spelled 2 = .ok (.iload_n 1, 1) := dk_27 (dk_at dksX0_spelled_0 2 rfl rfl)
theorem dX0_spelled_3 : decode cX0_spelled 3 = .ok (.iload_n 2, 1) := dk_28 (dk_at dksX0_spelled_0 3 rfl rfl)
theorem dX0_spelled_4 : decode cX0_spelled 4 = .ok (.invokedynamic 223, 5) := by decide +kernel
theorem dX0_spelled_9 : decode cX0_spelled 9 = .ok (.invokevirtual 142, 3) := dk_182 0 142 (dk_at dksX0_spelled_0 9 rfl rfl)
theorem dX0_spelled_12 : decode cX0_spelled 12 = .ok (.ireturn, 1) := dk_172 (dk_at dksX0_spelled_0 12 rfl rfl)
abbrev cX0_lambda_spelled_8 : ByteArray := prog_1_method_105_code
def yX0_lambda_spelled_8 : MethodName := ⟨RX0, "lambda$spelled$8", "(II)I"⟩
def dkwX0_lambda_spelled_8_1 : List UInt8 := [153, 0, 13, 45, 28, 185, 2, 17, 2, 0, 167, 0, 4, 2, 172]
abbrev dktX0_lambda_spelled_8_1 : List UInt8 := dkwX0_lambda_spelled_8_1 ++ []
def dkwX0_lambda_spelled_8_0 : List UInt8 := [42, 4, 27, 182, 2, 8, 182, 2, 11, 78, 28, 3, 45, 185, 2, 14, 1, 0, 4, 100, 184, 0, 45]
abbrev dktX0_lambda_spelled_8_0 : List UInt8 := dkwX0_lambda_spelled_8_0 ++ dktX0_lambda_spelled_8_1
theorem dksX0_lambda_spelled_8_0 : cX0_lambda_spelled_8.data.toList.drop 0 = dktX0_lambda_spelled_8_0 := by decide +kernel
theorem dksX0_lambda_spelled_8_1 : cX0_lambda_spelled_8.data.toList.drop 23 = dktX0_lambda_spelled_8_1 := dk_seg dksX0_lambda_spelled_8_0 23 rfl rfl
theorem dX0_lambda_spelled_8_0 : decode cX0_lambda_spelled_8 0 = .ok (.aload_n 0, 1) := dk_42 (dk_at dksX0_lambda_spelled_8_0 0 rfl rfl)
theorem dX0_lambda_spelled_8_1 : decode cX0_lambda_spelled_8 1 = .ok (.iconst 1, 1) := dk_4 (dk_at dksX0_lambda_spelled_8_0 1 rfl rfl)
theorem dX0_lambda_spelled_8_2 : decode cX0_lambda_spelled_8 2 = .ok (.iload_n 1, 1) := dk_27 (dk_at dksX0_lambda_spelled_8_0 2 rfl rfl)
theorem dX0_lambda_spelled_8_3 : decode cX0_lambda_spelled_8 3 = .ok (.invokevirtual 520, 3) := dk_182 2 8 (dk_at dksX0_lambda_spelled_8_0 3 rfl rfl)
theorem dX0_lambda_spelled_8_6 : decode cX0_lambda_spelled_8 6 = .ok (.invokevirtual 523, 3) := dk_182 2 11 (dk_at dksX0_lambda_spelled_8_0 6 rfl rfl)
theorem dX0_lambda_spelled_8_9 : decode cX0_lambda_spelled_8 9 = .ok (.astore_n 3, 1) := dk_78 (dk_at dksX0_lambda_spelled_8_0 9 rfl rfl)
theorem dX0_lambda_spelled_8_10 : decode cX0_lambda_spelled_8 10 = .ok (.iload_n 2, 1) := dk_28 (dk_at dksX0_lambda_spelled_8_0 10 rfl rfl)
theorem dX0_lambda_spelled_8_11 : decode cX0_lambda_spelled_8 11 = .ok (.iconst 0, 1) := dk_3 (dk_at dksX0_lambda_spelled_8_0 11 rfl rfl)
theorem dX0_lambda_spelled_8_12 : decode cX0_lambda_spelled_8 12 = .ok (.aload_n 3, 1) := dk_45 (dk_at dksX0_lambda_spelled_8_0 12 rfl rfl)
theorem dX0_lambda_spelled_8_13 : decode cX0_lambda_spelled_8 13 = .ok (.invokeinterface 526 1, 5) := by decide +kernel
theorem dX0_lambda_spelled_8_18 : decode cX0_lambda_spelled_8 18 = .ok (.iconst 1, 1) := dk_4 (dk_at dksX0_lambda_spelled_8_0 18 rfl rfl)
theorem dX0_lambda_spelled_8_19 : decode cX0_lambda_spelled_8 19 = .ok (.isub, 1) := dk_100 (dk_at dksX0_lambda_spelled_8_0 19 rfl rfl)
theorem dX0_lambda_spelled_8_20 : decode cX0_lambda_spelled_8 20 = .ok (.invokestatic 45, 3) := dk_184 0 45 (dk_at dksX0_lambda_spelled_8_0 20 rfl rfl)
theorem dX0_lambda_spelled_8_23 : decode cX0_lambda_spelled_8 23 = .ok (.ifCond .eq 13, 3) := dk_153 0 13 (dk_at dksX0_lambda_spelled_8_1 0 rfl rfl)
theorem dX0_lambda_spelled_8_26 : decode cX0_lambda_spelled_8 26 = .ok (.aload_n 3, 1) := dk_45 (dk_at dksX0_lambda_spelled_8_1 3 rfl rfl)
theorem dX0_lambda_spelled_8_27 : decode cX0_lambda_spelled_8 27 = .ok (.iload_n 2, 1) := dk_28 (dk_at dksX0_lambda_spelled_8_1 4 rfl rfl)
theorem dX0_lambda_spelled_8_28 : decode cX0_lambda_spelled_8 28 = .ok (.invokeinterface 529 2, 5) := by decide +kernel
theorem dX0_lambda_spelled_8_33 : decode cX0_lambda_spelled_8 33 = .ok (.goto 4, 3) := dk_167 0 4 (dk_at dksX0_lambda_spelled_8_1 10 rfl rfl)
theorem dX0_lambda_spelled_8_36 : decode cX0_lambda_spelled_8 36 = .ok (.iconst (-1), 1) := dk_2 (dk_at dksX0_lambda_spelled_8_1 13 rfl rfl)
theorem dX0_lambda_spelled_8_37 : decode cX0_lambda_spelled_8 37 = .ok (.ireturn, 1) := dk_172 (dk_at dksX0_lambda_spelled_8_1 14 rfl rfl)
abbrev cX0_behind : ByteArray := prog_1_method_37_code
def yX0_behind : MethodName := ⟨RX0, "behind", "(III)I"⟩
def dkwX0_behind_0 : List UInt8 := [42, 42, 27, 28, 29, 186, 0, 224, 0, 0, 182, 0, 142, 172]
abbrev dktX0_behind_0 : List UInt8 := dkwX0_behind_0 ++ []
theorem dksX0_behind_0 : cX0_behind.data.toList.drop 0 = dktX0_behind_0 := by decide +kernel
theorem dX0_behind_0 : decode cX0_behind 0 = .ok (.aload_n 0, 1) := dk_42 (dk_at dksX0_behind_0 0 rfl rfl)
theorem dX0_behind_1 : decode cX0_behind 1 = .ok (.aload_n 0, 1) := dk_42 (dk_at dksX0_behind_0 1 rfl rfl)
theorem dX0_behind_2 : decode cX0_behind 2 = .ok (.iload_n 1, 1) := dk_27 (dk_at dksX0_behind_0 2 rfl rfl)
theorem dX0_behind_3 : decode cX0_behind 3 = .ok (.iload_n 2, 1) := dk_28 (dk_at dksX0_behind_0 3 rfl rfl)
theorem dX0_behind_4 : decode cX0_behind 4 = .ok (.iload_n 3, 1) := dk_29 (dk_at dksX0_behind_0 4 rfl rfl)
theorem dX0_behind_5 : decode cX0_behind 5 = .ok (.invokedynamic 224, 5) := by decide +kernel
theorem dX0_behind_10 : decode cX0_behind 10 = .ok (.invokevirtual 142, 3) := dk_182 0 142 (dk_at dksX0_behind_0 10 rfl rfl)
theorem dX0_behind_13 : decode cX0_behind 13 = .ok (.ireturn, 1) := dk_172 (dk_at dksX0_behind_0 13 rfl rfl)
abbrev cX0_lambda_behind_9 : ByteArray := prog_1_method_104_code
def yX0_lambda_behind_9 : MethodName := ⟨RX0, "lambda$behind$9", "(III)I"⟩
def dkwX0_lambda_behind_9_4 : List UInt8 := [182, 1, 247, 172]
abbrev dktX0_lambda_behind_9_4 : List UInt8 := dkwX0_lambda_behind_9_4 ++ []
def dkwX0_lambda_behind_9_3 : List UInt8 := [27, 42, 180, 0, 16, 180, 1, 250, 187, 0, 25, 89, 183, 1, 242, 25, 4, 25, 5, 182, 2, 4]
abbrev dktX0_lambda_behind_9_3 : List UInt8 := dkwX0_lambda_behind_9_3 ++ dktX0_lambda_behind_9_4
def dkwX0_lambda_behind_9_2 : List UInt8 := [25, 4, 182, 0, 185, 25, 5, 182, 0, 182, 160, 0, 7, 4, 167, 0, 4, 3, 16, 251, 184, 0, 196, 42]
abbrev dktX0_lambda_behind_9_2 : List UInt8 := dkwX0_lambda_behind_9_2 ++ dktX0_lambda_behind_9_3
def dkwX0_lambda_behind_9_1 : List UInt8 := [167, 0, 4, 3, 16, 254, 184, 0, 196, 42, 28, 182, 0, 58, 58, 4, 42, 29, 182, 0, 58, 58, 5]
abbrev dktX0_lambda_behind_9_1 : List UInt8 := dkwX0_lambda_behind_9_1 ++ dktX0_lambda_behind_9_2
def dkwX0_lambda_behind_9_0 : List UInt8 := [27, 184, 0, 49, 153, 0, 21, 28, 184, 0, 49, 153, 0, 14, 29, 184, 0, 49, 153, 0, 7, 4]
abbrev dktX0_lambda_behind_9_0 : List UInt8 := dkwX0_lambda_behind_9_0 ++ dktX0_lambda_behind_9_1
theorem dksX0_lambda_behind_9_0 : cX0_lambda_behind_9.data.toList.drop 0 = dktX0_lambda_behind_9_0 := by decide +kernel
theorem dksX0_lambda_behind_9_1 : cX0_lambda_behind_9.data.toList.drop 22 = dktX0_lambda_behind_9_1 := dk_seg dksX0_lambda_behind_9_0 22 rfl rfl
theorem dksX0_lambda_behind_9_2 : cX0_lambda_behind_9.data.toList.drop 45 = dktX0_lambda_behind_9_2 := dk_seg dksX0_lambda_behind_9_1 23 rfl rfl
theorem dksX0_lambda_behind_9_3 : cX0_lambda_behind_9.data.toList.drop 69 = dktX0_lambda_behind_9_3 := dk_seg dksX0_lambda_behind_9_2 24 rfl rfl
theorem dksX0_lambda_behind_9_4 : cX0_lambda_behind_9.data.toList.drop 91 = dktX0_lambda_behind_9_4 := dk_seg dksX0_lambda_behind_9_3 22 rfl rfl
theorem dX0_lambda_behind_9_0 : decode cX0_lambda_behind_9 0 = .ok (.iload_n 1, 1) := dk_27 (dk_at dksX0_lambda_behind_9_0 0 rfl rfl)
theorem dX0_lambda_behind_9_1 : decode cX0_lambda_behind_9 1 = .ok (.invokestatic 49, 3) := dk_184 0 49 (dk_at dksX0_lambda_behind_9_0 1 rfl rfl)
theorem dX0_lambda_behind_9_4 : decode cX0_lambda_behind_9 4 = .ok (.ifCond .eq 21, 3) := dk_153 0 21 (dk_at dksX0_lambda_behind_9_0 4 rfl rfl)
theorem dX0_lambda_behind_9_7 : decode cX0_lambda_behind_9 7 = .ok (.iload_n 2, 1) := dk_28 (dk_at dksX0_lambda_behind_9_0 7 rfl rfl)
theorem dX0_lambda_behind_9_8 : decode cX0_lambda_behind_9 8 = .ok (.invokestatic 49, 3) := dk_184 0 49 (dk_at dksX0_lambda_behind_9_0 8 rfl rfl)
theorem dX0_lambda_behind_9_11 : decode cX0_lambda_behind_9 11 = .ok (.ifCond .eq 14, 3) := dk_153 0 14 (dk_at dksX0_lambda_behind_9_0 11 rfl rfl)
theorem dX0_lambda_behind_9_14 : decode cX0_lambda_behind_9 14 = .ok (.iload_n 3, 1) := dk_29 (dk_at dksX0_lambda_behind_9_0 14 rfl rfl)
theorem dX0_lambda_behind_9_15 : decode cX0_lambda_behind_9 15 = .ok (.invokestatic 49, 3) := dk_184 0 49 (dk_at dksX0_lambda_behind_9_0 15 rfl rfl)
theorem dX0_lambda_behind_9_18 : decode cX0_lambda_behind_9 18 = .ok (.ifCond .eq 7, 3) := dk_153 0 7 (dk_at dksX0_lambda_behind_9_0 18 rfl rfl)
theorem dX0_lambda_behind_9_21 : decode cX0_lambda_behind_9 21 = .ok (.iconst 1, 1) := dk_4 (dk_at dksX0_lambda_behind_9_0 21 rfl rfl)
theorem dX0_lambda_behind_9_22 : decode cX0_lambda_behind_9 22 = .ok (.goto 4, 3) := dk_167 0 4 (dk_at dksX0_lambda_behind_9_1 0 rfl rfl)
theorem dX0_lambda_behind_9_25 : decode cX0_lambda_behind_9 25 = .ok (.iconst 0, 1) := dk_3 (dk_at dksX0_lambda_behind_9_1 3 rfl rfl)
theorem dX0_lambda_behind_9_26 : decode cX0_lambda_behind_9 26 = .ok (.bipush (-2), 2) := dk_16 254 (dk_at dksX0_lambda_behind_9_1 4 rfl rfl)
theorem dX0_lambda_behind_9_28 : decode cX0_lambda_behind_9 28 = .ok (.invokestatic 196, 3) := dk_184 0 196 (dk_at dksX0_lambda_behind_9_1 6 rfl rfl)
theorem dX0_lambda_behind_9_31 : decode cX0_lambda_behind_9 31 = .ok (.aload_n 0, 1) := dk_42 (dk_at dksX0_lambda_behind_9_1 9 rfl rfl)
theorem dX0_lambda_behind_9_32 : decode cX0_lambda_behind_9 32 = .ok (.iload_n 2, 1) := dk_28 (dk_at dksX0_lambda_behind_9_1 10 rfl rfl)
theorem dX0_lambda_behind_9_33 : decode cX0_lambda_behind_9 33 = .ok (.invokevirtual 58, 3) := dk_182 0 58 (dk_at dksX0_lambda_behind_9_1 11 rfl rfl)
theorem dX0_lambda_behind_9_36 : decode cX0_lambda_behind_9 36 = .ok (.astore 4, 2) := dk_58 4 (dk_at dksX0_lambda_behind_9_1 14 rfl rfl)
theorem dX0_lambda_behind_9_38 : decode cX0_lambda_behind_9 38 = .ok (.aload_n 0, 1) := dk_42 (dk_at dksX0_lambda_behind_9_1 16 rfl rfl)
theorem dX0_lambda_behind_9_39 : decode cX0_lambda_behind_9 39 = .ok (.iload_n 3, 1) := dk_29 (dk_at dksX0_lambda_behind_9_1 17 rfl rfl)
theorem dX0_lambda_behind_9_40 : decode cX0_lambda_behind_9 40 = .ok (.invokevirtual 58, 3) := dk_182 0 58 (dk_at dksX0_lambda_behind_9_1 18 rfl rfl)
theorem dX0_lambda_behind_9_43 : decode cX0_lambda_behind_9 43 = .ok (.astore 5, 2) := dk_58 5 (dk_at dksX0_lambda_behind_9_1 21 rfl rfl)
theorem dX0_lambda_behind_9_45 : decode cX0_lambda_behind_9 45 = .ok (.aload 4, 2) := dk_25 4 (dk_at dksX0_lambda_behind_9_2 0 rfl rfl)
theorem dX0_lambda_behind_9_47 : decode cX0_lambda_behind_9 47 = .ok (.invokevirtual 185, 3) := dk_182 0 185 (dk_at dksX0_lambda_behind_9_2 2 rfl rfl)
theorem dX0_lambda_behind_9_50 : decode cX0_lambda_behind_9 50 = .ok (.aload 5, 2) := dk_25 5 (dk_at dksX0_lambda_behind_9_2 5 rfl rfl)
theorem dX0_lambda_behind_9_52 : decode cX0_lambda_behind_9 52 = .ok (.invokevirtual 182, 3) := dk_182 0 182 (dk_at dksX0_lambda_behind_9_2 7 rfl rfl)
theorem dX0_lambda_behind_9_55 : decode cX0_lambda_behind_9 55 = .ok (.if_icmp .ne 7, 3) := dk_160 0 7 (dk_at dksX0_lambda_behind_9_2 10 rfl rfl)
theorem dX0_lambda_behind_9_58 : decode cX0_lambda_behind_9 58 = .ok (.iconst 1, 1) := dk_4 (dk_at dksX0_lambda_behind_9_2 13 rfl rfl)
theorem dX0_lambda_behind_9_59 : decode cX0_lambda_behind_9 59 = .ok (.goto 4, 3) := dk_167 0 4 (dk_at dksX0_lambda_behind_9_2 14 rfl rfl)
theorem dX0_lambda_behind_9_62 : decode cX0_lambda_behind_9 62 = .ok (.iconst 0, 1) := dk_3 (dk_at dksX0_lambda_behind_9_2 17 rfl rfl)
theorem dX0_lambda_behind_9_63 : decode cX0_lambda_behind_9 63 = .ok (.bipush (-5), 2) := dk_16 251 (dk_at dksX0_lambda_behind_9_2 18 rfl rfl)
theorem dX0_lambda_behind_9_65 : decode cX0_lambda_behind_9 65 = .ok (.invokestatic 196, 3) := dk_184 0 196 (dk_at dksX0_lambda_behind_9_2 20 rfl rfl)
theorem dX0_lambda_behind_9_68 : decode cX0_lambda_behind_9 68 = .ok (.aload_n 0, 1) := dk_42 (dk_at dksX0_lambda_behind_9_2 23 rfl rfl)
theorem dX0_lambda_behind_9_69 : decode cX0_lambda_behind_9 69 = .ok (.iload_n 1, 1) := dk_27 (dk_at dksX0_lambda_behind_9_3 0 rfl rfl)
theorem dX0_lambda_behind_9_70 : decode cX0_lambda_behind_9 70 = .ok (.aload_n 0, 1) := dk_42 (dk_at dksX0_lambda_behind_9_3 1 rfl rfl)
theorem dX0_lambda_behind_9_71 : decode cX0_lambda_behind_9 71 = .ok (.getfield 16, 3) := dk_180 0 16 (dk_at dksX0_lambda_behind_9_3 2 rfl rfl)
theorem dX0_lambda_behind_9_74 : decode cX0_lambda_behind_9 74 = .ok (.getfield 506, 3) := dk_180 1 250 (dk_at dksX0_lambda_behind_9_3 5 rfl rfl)
theorem dX0_lambda_behind_9_77 : decode cX0_lambda_behind_9 77 = .ok (.new 25, 3) := dk_187 0 25 (dk_at dksX0_lambda_behind_9_3 8 rfl rfl)
theorem dX0_lambda_behind_9_80 : decode cX0_lambda_behind_9 80 = .ok (.dup, 1) := dk_89 (dk_at dksX0_lambda_behind_9_3 11 rfl rfl)
theorem dX0_lambda_behind_9_81 : decode cX0_lambda_behind_9 81 = .ok (.invokespecial 498, 3) := dk_183 1 242 (dk_at dksX0_lambda_behind_9_3 12 rfl rfl)
theorem dX0_lambda_behind_9_84 : decode cX0_lambda_behind_9 84 = .ok (.aload 4, 2) := dk_25 4 (dk_at dksX0_lambda_behind_9_3 15 rfl rfl)
theorem dX0_lambda_behind_9_86 : decode cX0_lambda_behind_9 86 = .ok (.aload 5, 2) := dk_25 5 (dk_at dksX0_lambda_behind_9_3 17 rfl rfl)
theorem dX0_lambda_behind_9_88 : decode cX0_lambda_behind_9 88 = .ok (.invokevirtual 516, 3) := dk_182 2 4 (dk_at dksX0_lambda_behind_9_3 19 rfl rfl)
theorem dX0_lambda_behind_9_91 : decode cX0_lambda_behind_9 91 = .ok (.invokevirtual 503, 3) := dk_182 1 247 (dk_at dksX0_lambda_behind_9_4 0 rfl rfl)
theorem dX0_lambda_behind_9_94 : decode cX0_lambda_behind_9 94 = .ok (.ireturn, 1) := dk_172 (dk_at dksX0_lambda_behind_9_4 3 rfl rfl)
abbrev cX0_fits : ByteArray := prog_1_method_30_code
def yX0_fits : MethodName := ⟨RX0, "fits", "(ILEditsMeet$Edit;)I"⟩
def dkwX0_fits_2 : List UInt8 := [42, 27, 44, 182, 0, 200, 172]
abbrev dktX0_fits_2 : List UInt8 := dkwX0_fits_2 ++ []
def dkwX0_fits_1 : List UInt8 := [186, 0, 188, 0, 0, 182, 0, 192, 17, 1, 144, 163, 0, 7, 4, 167, 0, 4, 3, 16, 250, 184, 0, 196]
abbrev dktX0_fits_1 : List UInt8 := dkwX0_fits_1 ++ dktX0_fits_2
def dkwX0_fits_0 : List UInt8 := [44, 182, 0, 182, 17, 39, 15, 163, 0, 32, 44, 182, 0, 185, 17, 39, 15, 163, 0, 22, 44]
abbrev dktX0_fits_0 : List UInt8 := dkwX0_fits_0 ++ dktX0_fits_1
theorem dksX0_fits_0 : cX0_fits.data.toList.drop 0 = dktX0_fits_0 := by decide +kernel
theorem dksX0_fits_1 : cX0_fits.data.toList.drop 21 = dktX0_fits_1 := dk_seg dksX0_fits_0 21 rfl rfl
theorem dksX0_fits_2 : cX0_fits.data.toList.drop 45 = dktX0_fits_2 := dk_seg dksX0_fits_1 24 rfl rfl
theorem dX0_fits_0 : decode cX0_fits 0 = .ok (.aload_n 2, 1) := dk_44 (dk_at dksX0_fits_0 0 rfl rfl)
theorem dX0_fits_1 : decode cX0_fits 1 = .ok (.invokevirtual 182, 3) := dk_182 0 182 (dk_at dksX0_fits_0 1 rfl rfl)
theorem dX0_fits_4 : decode cX0_fits 4 = .ok (.sipush 9999, 3) := dk_17 39 15 (dk_at dksX0_fits_0 4 rfl rfl)
theorem dX0_fits_7 : decode cX0_fits 7 = .ok (.if_icmp .gt 32, 3) := dk_163 0 32 (dk_at dksX0_fits_0 7 rfl rfl)
theorem dX0_fits_10 : decode cX0_fits 10 = .ok (.aload_n 2, 1) := dk_44 (dk_at dksX0_fits_0 10 rfl rfl)
theorem dX0_fits_11 : decode cX0_fits 11 = .ok (.invokevirtual 185, 3) := dk_182 0 185 (dk_at dksX0_fits_0 11 rfl rfl)
theorem dX0_fits_14 : decode cX0_fits 14 = .ok (.sipush 9999, 3) := dk_17 39 15 (dk_at dksX0_fits_0 14 rfl rfl)
theorem dX0_fits_17 : decode cX0_fits 17 = .ok (.if_icmp .gt 22, 3) := dk_163 0 22 (dk_at dksX0_fits_0 17 rfl rfl)
theorem dX0_fits_20 : decode cX0_fits 20 = .ok (.aload_n 2, 1) := dk_44 (dk_at dksX0_fits_0 20 rfl rfl)
theorem dX0_fits_21 : decode cX0_fits 21 = .ok (.invokedynamic 188, 5) := by decide +kernel
theorem dX0_fits_26 : decode cX0_fits 26 = .ok (.invokevirtual 192, 3) := dk_182 0 192 (dk_at dksX0_fits_1 5 rfl rfl)
theorem dX0_fits_29 : decode cX0_fits 29 = .ok (.sipush 400, 3) := dk_17 1 144 (dk_at dksX0_fits_1 8 rfl rfl)
theorem dX0_fits_32 : decode cX0_fits 32 = .ok (.if_icmp .gt 7, 3) := dk_163 0 7 (dk_at dksX0_fits_1 11 rfl rfl)
theorem dX0_fits_35 : decode cX0_fits 35 = .ok (.iconst 1, 1) := dk_4 (dk_at dksX0_fits_1 14 rfl rfl)
theorem dX0_fits_36 : decode cX0_fits 36 = .ok (.goto 4, 3) := dk_167 0 4 (dk_at dksX0_fits_1 15 rfl rfl)
theorem dX0_fits_39 : decode cX0_fits 39 = .ok (.iconst 0, 1) := dk_3 (dk_at dksX0_fits_1 18 rfl rfl)
theorem dX0_fits_40 : decode cX0_fits 40 = .ok (.bipush (-6), 2) := dk_16 250 (dk_at dksX0_fits_1 19 rfl rfl)
theorem dX0_fits_42 : decode cX0_fits 42 = .ok (.invokestatic 196, 3) := dk_184 0 196 (dk_at dksX0_fits_1 21 rfl rfl)
theorem dX0_fits_45 : decode cX0_fits 45 = .ok (.aload_n 0, 1) := dk_42 (dk_at dksX0_fits_2 0 rfl rfl)
theorem dX0_fits_46 : decode cX0_fits 46 = .ok (.iload_n 1, 1) := dk_27 (dk_at dksX0_fits_2 1 rfl rfl)
theorem dX0_fits_47 : decode cX0_fits 47 = .ok (.aload_n 2, 1) := dk_44 (dk_at dksX0_fits_2 2 rfl rfl)
theorem dX0_fits_48 : decode cX0_fits 48 = .ok (.invokevirtual 200, 3) := dk_182 0 200 (dk_at dksX0_fits_2 3 rfl rfl)
theorem dX0_fits_51 : decode cX0_fits 51 = .ok (.ireturn, 1) := dk_172 (dk_at dksX0_fits_2 6 rfl rfl)
abbrev cX0_lambda_fits_1 : ByteArray := prog_1_method_112_code
def yX0_lambda_fits_1 : MethodName := ⟨RX0, "lambda$fits$1", "(LEditsMeet$Part;)I"⟩
def dkwX0_lambda_fits_1_0 : List UInt8 := [42, 42, 185, 2, 21, 1, 0, 184, 2, 28, 172]
abbrev dktX0_lambda_fits_1_0 : List UInt8 := dkwX0_lambda_fits_1_0 ++ []
theorem dksX0_lambda_fits_1_0 : cX0_lambda_fits_1.data.toList.drop 0 = dktX0_lambda_fits_1_0 := by decide +kernel
theorem dX0_lambda_fits_1_0 : decode cX0_lambda_fits_1 0 = .ok (.aload_n 0, 1) := dk_42 (dk_at dksX0_lambda_fits_1_0 0 rfl rfl)
theorem dX0_lambda_fits_1_1 : decode cX0_lambda_fits_1 1 = .ok (.aload_n 0, 1) := dk_42 (dk_at dksX0_lambda_fits_1_0 1 rfl rfl)
theorem dX0_lambda_fits_1_2 : decode cX0_lambda_fits_1 2 = .ok (.invokeinterface 533 1, 5) := by decide +kernel
theorem dX0_lambda_fits_1_7 : decode cX0_lambda_fits_1 7 = .ok (.invokestatic 540, 3) := dk_184 2 28 (dk_at dksX0_lambda_fits_1_0 7 rfl rfl)
theorem dX0_lambda_fits_1_10 : decode cX0_lambda_fits_1 10 = .ok (.ireturn, 1) := dk_172 (dk_at dksX0_lambda_fits_1_0 10 rfl rfl)
abbrev cX0_over : ByteArray := prog_1_method_38_code
def yX0_over : MethodName := ⟨RX0, "over", "(IIII)I"⟩
def dkwX0_over_0 : List UInt8 := [42, 42, 27, 28, 29, 21, 4, 186, 0, 225, 0, 0, 182, 0, 142, 172]
abbrev dktX0_over_0 : List UInt8 := dkwX0_over_0 ++ []
theorem dksX0_over_0 : cX0_over.data.toList.drop 0 = dktX0_over_0 := by decide +kernel
theorem dX0_over_0 : decode cX0_over 0 = .ok (.aload_n 0, 1) := dk_42 (dk_at dksX0_over_0 0 rfl rfl)
theorem dX0_over_1 : decode cX0_over 1 = .ok (.aload_n 0, 1) := dk_42 (dk_at dksX0_over_0 1 rfl rfl)
theorem dX0_over_2 : decode cX0_over 2 = .ok (.iload_n 1, 1) := dk_27 (dk_at dksX0_over_0 2 rfl rfl)
theorem dX0_over_3 : decode cX0_over 3 = .ok (.iload_n 2, 1) := dk_28 (dk_at dksX0_over_0 3 rfl rfl)
theorem dX0_over_4 : decode cX0_over 4 = .ok (.iload_n 3, 1) := dk_29 (dk_at dksX0_over_0 4 rfl rfl)
theorem dX0_over_5 : decode cX0_over 5 = .ok (.iload 4, 2) := dk_21 4 (dk_at dksX0_over_0 5 rfl rfl)
theorem dX0_over_7 : decode cX0_over 7 = .ok (.invokedynamic 225, 5) := by decide +kernel
theorem dX0_over_12 : decode cX0_over 12 = .ok (.invokevirtual 142, 3) := dk_182 0 142 (dk_at dksX0_over_0 12 rfl rfl)
theorem dX0_over_15 : decode cX0_over 15 = .ok (.ireturn, 1) := dk_172 (dk_at dksX0_over_0 15 rfl rfl)
abbrev cX0_lambda_over_10 : ByteArray := prog_1_method_103_code
def yX0_lambda_over_10 : MethodName := ⟨RX0, "lambda$over$10", "(IIII)I"⟩
def dkwX0_lambda_over_10_4 : List UInt8 := [25, 6, 21, 4, 4, 160, 0, 7, 4, 167, 0, 4, 3, 182, 1, 254, 182, 1, 247, 172]
abbrev dktX0_lambda_over_10_4 : List UInt8 := dkwX0_lambda_over_10_4 ++ []
def dkwX0_lambda_over_10_3 : List UInt8 := [3, 16, 251, 184, 0, 196, 42, 27, 42, 180, 0, 16, 180, 1, 250, 187, 0, 25, 89, 183, 1, 242, 25, 5]
abbrev dktX0_lambda_over_10_3 : List UInt8 := dkwX0_lambda_over_10_3 ++ dktX0_lambda_over_10_4
def dkwX0_lambda_over_10_2 : List UInt8 := [42, 29, 182, 0, 58, 58, 6, 25, 5, 182, 0, 182, 25, 6, 182, 0, 182, 160, 0, 7, 4, 167, 0, 4]
abbrev dktX0_lambda_over_10_2 : List UInt8 := dkwX0_lambda_over_10_2 ++ dktX0_lambda_over_10_3
def dkwX0_lambda_over_10_1 : List UInt8 := [4, 184, 0, 45, 153, 0, 7, 4, 167, 0, 4, 3, 16, 254, 184, 0, 196, 42, 28, 182, 0, 58, 58, 5]
abbrev dktX0_lambda_over_10_1 : List UInt8 := dkwX0_lambda_over_10_1 ++ dktX0_lambda_over_10_2
def dkwX0_lambda_over_10_0 : List UInt8 := [27, 184, 0, 49, 153, 0, 31, 28, 184, 0, 49, 153, 0, 24, 29, 184, 0, 49, 153, 0, 17, 21, 4, 3]
abbrev dktX0_lambda_over_10_0 : List UInt8 := dkwX0_lambda_over_10_0 ++ dktX0_lambda_over_10_1
theorem dksX0_lambda_over_10_0 : cX0_lambda_over_10.data.toList.drop 0 = dktX0_lambda_over_10_0 := by decide +kernel
theorem dksX0_lambda_over_10_1 : cX0_lambda_over_10.data.toList.drop 24 = dktX0_lambda_over_10_1 := dk_seg dksX0_lambda_over_10_0 24 rfl rfl
theorem dksX0_lambda_over_10_2 : cX0_lambda_over_10.data.toList.drop 48 = dktX0_lambda_over_10_2 := dk_seg dksX0_lambda_over_10_1 24 rfl rfl
theorem dksX0_lambda_over_10_3 : cX0_lambda_over_10.data.toList.drop 72 = dktX0_lambda_over_10_3 := dk_seg dksX0_lambda_over_10_2 24 rfl rfl
theorem dksX0_lambda_over_10_4 : cX0_lambda_over_10.data.toList.drop 96 = dktX0_lambda_over_10_4 := dk_seg dksX0_lambda_over_10_3 24 rfl rfl
theorem dX0_lambda_over_10_0 : decode cX0_lambda_over_10 0 = .ok (.iload_n 1, 1) := dk_27 (dk_at dksX0_lambda_over_10_0 0 rfl rfl)
theorem dX0_lambda_over_10_1 : decode cX0_lambda_over_10 1 = .ok (.invokestatic 49, 3) := dk_184 0 49 (dk_at dksX0_lambda_over_10_0 1 rfl rfl)
theorem dX0_lambda_over_10_4 : decode cX0_lambda_over_10 4 = .ok (.ifCond .eq 31, 3) := dk_153 0 31 (dk_at dksX0_lambda_over_10_0 4 rfl rfl)
theorem dX0_lambda_over_10_7 : decode cX0_lambda_over_10 7 = .ok (.iload_n 2, 1) := dk_28 (dk_at dksX0_lambda_over_10_0 7 rfl rfl)
theorem dX0_lambda_over_10_8 : decode cX0_lambda_over_10 8 = .ok (.invokestatic 49, 3) := dk_184 0 49 (dk_at dksX0_lambda_over_10_0 8 rfl rfl)
theorem dX0_lambda_over_10_11 : decode cX0_lambda_over_10 11 = .ok (.ifCond .eq 24, 3) := dk_153 0 24 (dk_at dksX0_lambda_over_10_0 11 rfl rfl)
theorem dX0_lambda_over_10_14 : decode cX0_lambda_over_10 14 = .ok (.iload_n 3, 1) := dk_29 (dk_at dksX0_lambda_over_10_0 14 rfl rfl)
theorem dX0_lambda_over_10_15 : decode cX0_lambda_over_10 15 = .ok (.invokestatic 49, 3) := dk_184 0 49 (dk_at dksX0_lambda_over_10_0 15 rfl rfl)
theorem dX0_lambda_over_10_18 : decode cX0_lambda_over_10 18 = .ok (.ifCond .eq 17, 3) := dk_153 0 17 (dk_at dksX0_lambda_over_10_0 18 rfl rfl)
theorem dX0_lambda_over_10_21 : decode cX0_lambda_over_10 21 = .ok (.iload 4, 2) := dk_21 4 (dk_at dksX0_lambda_over_10_0 21 rfl rfl)
theorem dX0_lambda_over_10_23 : decode cX0_lambda_over_10 23 = .ok (.iconst 0, 1) := dk_3 (dk_at dksX0_lambda_over_10_0 23 rfl rfl)
theorem dX0_lambda_over_10_24 : decode cX0_lambda_over_10 24 = .ok (.iconst 1, 1) := dk_4 (dk_at dksX0_lambda_over_10_1 0 rfl rfl)
theorem dX0_lambda_over_10_25 : decode cX0_lambda_over_10 25 = .ok (.invokestatic 45, 3) := dk_184 0 45 (dk_at dksX0_lambda_over_10_1 1 rfl rfl)
theorem dX0_lambda_over_10_28 : decode cX0_lambda_over_10 28 = .ok (.ifCond .eq 7, 3) := dk_153 0 7 (dk_at dksX0_lambda_over_10_1 4 rfl rfl)
theorem dX0_lambda_over_10_31 : decode cX0_lambda_over_10 31 = .ok (.iconst 1, 1) := dk_4 (dk_at dksX0_lambda_over_10_1 7 rfl rfl)
theorem dX0_lambda_over_10_32 : decode cX0_lambda_over_10 32 = .ok (.goto 4, 3) := dk_167 0 4 (dk_at dksX0_lambda_over_10_1 8 rfl rfl)
theorem dX0_lambda_over_10_35 : decode cX0_lambda_over_10 35 = .ok (.iconst 0, 1) := dk_3 (dk_at dksX0_lambda_over_10_1 11 rfl rfl)
theorem dX0_lambda_over_10_36 : decode cX0_lambda_over_10 36 = .ok (.bipush (-2), 2) := dk_16 254 (dk_at dksX0_lambda_over_10_1 12 rfl rfl)
theorem dX0_lambda_over_10_38 : decode cX0_lambda_over_10 38 = .ok (.invokestatic 196, 3) := dk_184 0 196 (dk_at dksX0_lambda_over_10_1 14 rfl rfl)
theorem dX0_lambda_over_10_41 : decode cX0_lambda_over_10 41 = .ok (.aload_n 0, 1) := dk_42 (dk_at dksX0_lambda_over_10_1 17 rfl rfl)
theorem dX0_lambda_over_10_42 : decode cX0_lambda_over_10 42 = .ok (.iload_n 2, 1) := dk_28 (dk_at dksX0_lambda_over_10_1 18 rfl rfl)
theorem dX0_lambda_over_10_43 : decode cX0_lambda_over_10 43 = .ok (.invokevirtual 58, 3) := dk_182 0 58 (dk_at dksX0_lambda_over_10_1 19 rfl rfl)
theorem dX0_lambda_over_10_46 : decode cX0_lambda_over_10 46 = .ok (.astore 5, 2) := dk_58 5 (dk_at dksX0_lambda_over_10_1 22 rfl rfl)
theorem dX0_lambda_over_10_48 : decode cX0_lambda_over_10 48 = .ok (.aload_n 0, 1) := dk_42 (dk_at dksX0_lambda_over_10_2 0 rfl rfl)
theorem dX0_lambda_over_10_49 : decode cX0_lambda_over_10 49 = .ok (.iload_n 3, 1) := dk_29 (dk_at dksX0_lambda_over_10_2 1 rfl rfl)
theorem dX0_lambda_over_10_50 : decode cX0_lambda_over_10 50 = .ok (.invokevirtual 58, 3) := dk_182 0 58 (dk_at dksX0_lambda_over_10_2 2 rfl rfl)
theorem dX0_lambda_over_10_53 : decode cX0_lambda_over_10 53 = .ok (.astore 6, 2) := dk_58 6 (dk_at dksX0_lambda_over_10_2 5 rfl rfl)
theorem dX0_lambda_over_10_55 : decode cX0_lambda_over_10 55 = .ok (.aload 5, 2) := dk_25 5 (dk_at dksX0_lambda_over_10_2 7 rfl rfl)
theorem dX0_lambda_over_10_57 : decode cX0_lambda_over_10 57 = .ok (.invokevirtual 182, 3) := dk_182 0 182 (dk_at dksX0_lambda_over_10_2 9 rfl rfl)
theorem dX0_lambda_over_10_60 : decode cX0_lambda_over_10 60 = .ok (.aload 6, 2) := dk_25 6 (dk_at dksX0_lambda_over_10_2 12 rfl rfl)
theorem dX0_lambda_over_10_62 : decode cX0_lambda_over_10 62 = .ok (.invokevirtual 182, 3) := dk_182 0 182 (dk_at dksX0_lambda_over_10_2 14 rfl rfl)
theorem dX0_lambda_over_10_65 : decode cX0_lambda_over_10 65 = .ok (.if_icmp .ne 7, 3) := dk_160 0 7 (dk_at dksX0_lambda_over_10_2 17 rfl rfl)
theorem dX0_lambda_over_10_68 : decode cX0_lambda_over_10 68 = .ok (.iconst 1, 1) := dk_4 (dk_at dksX0_lambda_over_10_2 20 rfl rfl)
theorem dX0_lambda_over_10_69 : decode cX0_lambda_over_10 69 = .ok (.goto 4, 3) := dk_167 0 4 (dk_at dksX0_lambda_over_10_2 21 rfl rfl)
theorem dX0_lambda_over_10_72 : decode cX0_lambda_over_10 72 = .ok (.iconst 0, 1) := dk_3 (dk_at dksX0_lambda_over_10_3 0 rfl rfl)
theorem dX0_lambda_over_10_73 : decode cX0_lambda_over_10 73 = .ok (.bipush (-5), 2) := dk_16 251 (dk_at dksX0_lambda_over_10_3 1 rfl rfl)
theorem dX0_lambda_over_10_75 : decode cX0_lambda_over_10 75 = .ok (.invokestatic 196, 3) := dk_184 0 196 (dk_at dksX0_lambda_over_10_3 3 rfl rfl)
theorem dX0_lambda_over_10_78 : decode cX0_lambda_over_10 78 = .ok (.aload_n 0, 1) := dk_42 (dk_at dksX0_lambda_over_10_3 6 rfl rfl)
theorem dX0_lambda_over_10_79 : decode cX0_lambda_over_10 79 = .ok (.iload_n 1, 1) := dk_27 (dk_at dksX0_lambda_over_10_3 7 rfl rfl)
theorem dX0_lambda_over_10_80 : decode cX0_lambda_over_10 80 = .ok (.aload_n 0, 1) := dk_42 (dk_at dksX0_lambda_over_10_3 8 rfl rfl)
theorem dX0_lambda_over_10_81 : decode cX0_lambda_over_10 81 = .ok (.getfield 16, 3) := dk_180 0 16 (dk_at dksX0_lambda_over_10_3 9 rfl rfl)
theorem dX0_lambda_over_10_84 : decode cX0_lambda_over_10 84 = .ok (.getfield 506, 3) := dk_180 1 250 (dk_at dksX0_lambda_over_10_3 12 rfl rfl)
theorem dX0_lambda_over_10_87 : decode cX0_lambda_over_10 87 = .ok (.new 25, 3) := dk_187 0 25 (dk_at dksX0_lambda_over_10_3 15 rfl rfl)
theorem dX0_lambda_over_10_90 : decode cX0_lambda_over_10 90 = .ok (.dup, 1) := dk_89 (dk_at dksX0_lambda_over_10_3 18 rfl rfl)
theorem dX0_lambda_over_10_91 : decode cX0_lambda_over_10 91 = .ok (.invokespecial 498, 3) := dk_183 1 242 (dk_at dksX0_lambda_over_10_3 19 rfl rfl)
theorem dX0_lambda_over_10_94 : decode cX0_lambda_over_10 94 = .ok (.aload 5, 2) := dk_25 5 (dk_at dksX0_lambda_over_10_3 22 rfl rfl)
theorem dX0_lambda_over_10_96 : decode cX0_lambda_over_10 96 = .ok (.aload 6, 2) := dk_25 6 (dk_at dksX0_lambda_over_10_4 0 rfl rfl)
theorem dX0_lambda_over_10_98 : decode cX0_lambda_over_10 98 = .ok (.iload 4, 2) := dk_21 4 (dk_at dksX0_lambda_over_10_4 2 rfl rfl)
theorem dX0_lambda_over_10_100 : decode cX0_lambda_over_10 100 = .ok (.iconst 1, 1) := dk_4 (dk_at dksX0_lambda_over_10_4 4 rfl rfl)
theorem dX0_lambda_over_10_101 : decode cX0_lambda_over_10 101 = .ok (.if_icmp .ne 7, 3) := dk_160 0 7 (dk_at dksX0_lambda_over_10_4 5 rfl rfl)
theorem dX0_lambda_over_10_104 : decode cX0_lambda_over_10 104 = .ok (.iconst 1, 1) := dk_4 (dk_at dksX0_lambda_over_10_4 8 rfl rfl)
theorem dX0_lambda_over_10_105 : decode cX0_lambda_over_10 105 = .ok (.goto 4, 3) := dk_167 0 4 (dk_at dksX0_lambda_over_10_4 9 rfl rfl)
theorem dX0_lambda_over_10_108 : decode cX0_lambda_over_10 108 = .ok (.iconst 0, 1) := dk_3 (dk_at dksX0_lambda_over_10_4 12 rfl rfl)
theorem dX0_lambda_over_10_109 : decode cX0_lambda_over_10 109 = .ok (.invokevirtual 510, 3) := dk_182 1 254 (dk_at dksX0_lambda_over_10_4 13 rfl rfl)
theorem dX0_lambda_over_10_112 : decode cX0_lambda_over_10 112 = .ok (.invokevirtual 503, 3) := dk_182 1 247 (dk_at dksX0_lambda_over_10_4 16 rfl rfl)
theorem dX0_lambda_over_10_115 : decode cX0_lambda_over_10 115 = .ok (.ireturn, 1) := dk_172 (dk_at dksX0_lambda_over_10_4 19 rfl rfl)
abbrev cX0_turned : ByteArray := prog_1_method_39_code
def yX0_turned : MethodName := ⟨RX0, "turned", "(III)I"⟩
def dkwX0_turned_0 : List UInt8 := [42, 42, 27, 28, 29, 186, 0, 228, 0, 0, 182, 0, 142, 172]
abbrev dktX0_turned_0 : List UInt8 := dkwX0_turned_0 ++ []
theorem dksX0_turned_0 : cX0_turned.data.toList.drop 0 = dktX0_turned_0 := by decide +kernel
theorem dX0_turned_0 : decode cX0_turned 0 = .ok (.aload_n 0, 1) := dk_42 (dk_at dksX0_turned_0 0 rfl rfl)
theorem dX0_turned_1 : decode cX0_turned 1 = .ok (.aload_n 0, 1) := dk_42 (dk_at dksX0_turned_0 1 rfl rfl)
theorem dX0_turned_2 : decode cX0_turned 2 = .ok (.iload_n 1, 1) := dk_27 (dk_at dksX0_turned_0 2 rfl rfl)
theorem dX0_turned_3 : decode cX0_turned 3 = .ok (.iload_n 2, 1) := dk_28 (dk_at dksX0_turned_0 3 rfl rfl)
theorem dX0_turned_4 : decode cX0_turned 4 = .ok (.iload_n 3, 1) := dk_29 (dk_at dksX0_turned_0 4 rfl rfl)
theorem dX0_turned_5 : decode cX0_turned 5 = .ok (.invokedynamic 228, 5) := by decide +kernel
theorem dX0_turned_10 : decode cX0_turned 10 = .ok (.invokevirtual 142, 3) := dk_182 0 142 (dk_at dksX0_turned_0 10 rfl rfl)
theorem dX0_turned_13 : decode cX0_turned 13 = .ok (.ireturn, 1) := dk_172 (dk_at dksX0_turned_0 13 rfl rfl)
abbrev cX0_lambda_turned_11 : ByteArray := prog_1_method_102_code
def yX0_lambda_turned_11 : MethodName := ⟨RX0, "lambda$turned$11", "(III)I"⟩
def dkwX0_lambda_turned_11_3 : List UInt8 := [184, 0, 196, 42, 27, 25, 5, 187, 0, 25, 89, 183, 1, 242, 25, 4, 182, 1, 243, 182, 1, 247, 172]
abbrev dktX0_lambda_turned_11_3 : List UInt8 := dkwX0_lambda_turned_11_3 ++ []
def dkwX0_lambda_turned_11_2 : List UInt8 := [58, 5, 25, 4, 182, 0, 182, 25, 5, 182, 0, 245, 160, 0, 7, 4, 167, 0, 4, 3, 16, 251]
abbrev dktX0_lambda_turned_11_2 : List UInt8 := dkwX0_lambda_turned_11_2 ++ dktX0_lambda_turned_11_3
def dkwX0_lambda_turned_11_1 : List UInt8 := [167, 0, 4, 3, 16, 254, 184, 0, 196, 42, 28, 182, 0, 58, 58, 4, 42, 180, 0, 16, 29, 182, 1, 140]
abbrev dktX0_lambda_turned_11_1 : List UInt8 := dkwX0_lambda_turned_11_1 ++ dktX0_lambda_turned_11_2
def dkwX0_lambda_turned_11_0 : List UInt8 := [27, 184, 0, 49, 153, 0, 21, 28, 184, 0, 49, 153, 0, 14, 29, 184, 0, 62, 153, 0, 7, 4]
abbrev dktX0_lambda_turned_11_0 : List UInt8 := dkwX0_lambda_turned_11_0 ++ dktX0_lambda_turned_11_1
theorem dksX0_lambda_turned_11_0 : cX0_lambda_turned_11.data.toList.drop 0 = dktX0_lambda_turned_11_0 := by decide +kernel
theorem dksX0_lambda_turned_11_1 : cX0_lambda_turned_11.data.toList.drop 22 = dktX0_lambda_turned_11_1 := dk_seg dksX0_lambda_turned_11_0 22 rfl rfl
theorem dksX0_lambda_turned_11_2 : cX0_lambda_turned_11.data.toList.drop 46 = dktX0_lambda_turned_11_2 := dk_seg dksX0_lambda_turned_11_1 24 rfl rfl
theorem dksX0_lambda_turned_11_3 : cX0_lambda_turned_11.data.toList.drop 68 = dktX0_lambda_turned_11_3 := dk_seg dksX0_lambda_turned_11_2 22 rfl rfl
theorem dX0_lambda_turned_11_0 : decode cX0_lambda_turned_11 0 = .ok (.iload_n 1, 1) := dk_27 (dk_at dksX0_lambda_turned_11_0 0 rfl rfl)
theorem dX0_lambda_turned_11_1 : decode cX0_lambda_turned_11 1 = .ok (.invokestatic 49, 3) := dk_184 0 49 (dk_at dksX0_lambda_turned_11_0 1 rfl rfl)
theorem dX0_lambda_turned_11_4 : decode cX0_lambda_turned_11 4 = .ok (.ifCond .eq 21, 3) := dk_153 0 21 (dk_at dksX0_lambda_turned_11_0 4 rfl rfl)
theorem dX0_lambda_turned_11_7 : decode cX0_lambda_turned_11 7 = .ok (.iload_n 2, 1) := dk_28 (dk_at dksX0_lambda_turned_11_0 7 rfl rfl)
theorem dX0_lambda_turned_11_8 : decode cX0_lambda_turned_11 8 = .ok (.invokestatic 49, 3) := dk_184 0 49 (dk_at dksX0_lambda_turned_11_0 8 rfl rfl)
theorem dX0_lambda_turned_11_11 : decode cX0_lambda_turned_11 11 = .ok (.ifCond .eq 14, 3) := dk_153 0 14 (dk_at dksX0_lambda_turned_11_0 11 rfl rfl)
theorem dX0_lambda_turned_11_14 : decode cX0_lambda_turned_11 14 = .ok (.iload_n 3, 1) := dk_29 (dk_at dksX0_lambda_turned_11_0 14 rfl rfl)
theorem dX0_lambda_turned_11_15 : decode cX0_lambda_turned_11 15 = .ok (.invokestatic 62, 3) := dk_184 0 62 (dk_at dksX0_lambda_turned_11_0 15 rfl rfl)
theorem dX0_lambda_turned_11_18 : decode cX0_lambda_turned_11 18 = .ok (.ifCond .eq 7, 3) := dk_153 0 7 (dk_at dksX0_lambda_turned_11_0 18 rfl rfl)
theorem dX0_lambda_turned_11_21 : decode cX0_lambda_turned_11 21 = .ok (.iconst 1, 1) := dk_4 (dk_at dksX0_lambda_turned_11_0 21 rfl rfl)
theorem dX0_lambda_turned_11_22 : decode cX0_lambda_turned_11 22 = .ok (.goto 4, 3) := dk_167 0 4 (dk_at dksX0_lambda_turned_11_1 0 rfl rfl)
theorem dX0_lambda_turned_11_25 : decode cX0_lambda_turned_11 25 = .ok (.iconst 0, 1) := dk_3 (dk_at dksX0_lambda_turned_11_1 3 rfl rfl)
theorem dX0_lambda_turned_11_26 : decode cX0_lambda_turned_11 26 = .ok (.bipush (-2), 2) := dk_16 254 (dk_at dksX0_lambda_turned_11_1 4 rfl rfl)
theorem dX0_lambda_turned_11_28 : decode cX0_lambda_turned_11 28 = .ok (.invokestatic 196, 3) := dk_184 0 196 (dk_at dksX0_lambda_turned_11_1 6 rfl rfl)
theorem dX0_lambda_turned_11_31 : decode cX0_lambda_turned_11 31 = .ok (.aload_n 0, 1) := dk_42 (dk_at dksX0_lambda_turned_11_1 9 rfl rfl)
theorem dX0_lambda_turned_11_32 : decode cX0_lambda_turned_11 32 = .ok (.iload_n 2, 1) := dk_28 (dk_at dksX0_lambda_turned_11_1 10 rfl rfl)
theorem dX0_lambda_turned_11_33 : decode cX0_lambda_turned_11 33 = .ok (.invokevirtual 58, 3) := dk_182 0 58 (dk_at dksX0_lambda_turned_11_1 11 rfl rfl)
theorem dX0_lambda_turned_11_36 : decode cX0_lambda_turned_11 36 = .ok (.astore 4, 2) := dk_58 4 (dk_at dksX0_lambda_turned_11_1 14 rfl rfl)
theorem dX0_lambda_turned_11_38 : decode cX0_lambda_turned_11 38 = .ok (.aload_n 0, 1) := dk_42 (dk_at dksX0_lambda_turned_11_1 16 rfl rfl)
theorem dX0_lambda_turned_11_39 : decode cX0_lambda_turned_11 39 = .ok (.getfield 16, 3) := dk_180 0 16 (dk_at dksX0_lambda_turned_11_1 17 rfl rfl)
theorem dX0_lambda_turned_11_42 : decode cX0_lambda_turned_11 42 = .ok (.iload_n 3, 1) := dk_29 (dk_at dksX0_lambda_turned_11_1 20 rfl rfl)
theorem dX0_lambda_turned_11_43 : decode cX0_lambda_turned_11 43 = .ok (.invokevirtual 396, 3) := dk_182 1 140 (dk_at dksX0_lambda_turned_11_1 21 rfl rfl)
theorem dX0_lambda_turned_11_46 : decode cX0_lambda_turned_11 46 = .ok (.astore 5, 2) := dk_58 5 (dk_at dksX0_lambda_turned_11_2 0 rfl rfl)
theorem dX0_lambda_turned_11_48 : decode cX0_lambda_turned_11 48 = .ok (.aload 4, 2) := dk_25 4 (dk_at dksX0_lambda_turned_11_2 2 rfl rfl)
theorem dX0_lambda_turned_11_50 : decode cX0_lambda_turned_11 50 = .ok (.invokevirtual 182, 3) := dk_182 0 182 (dk_at dksX0_lambda_turned_11_2 4 rfl rfl)
theorem dX0_lambda_turned_11_53 : decode cX0_lambda_turned_11 53 = .ok (.aload 5, 2) := dk_25 5 (dk_at dksX0_lambda_turned_11_2 7 rfl rfl)
theorem dX0_lambda_turned_11_55 : decode cX0_lambda_turned_11 55 = .ok (.invokevirtual 245, 3) := dk_182 0 245 (dk_at dksX0_lambda_turned_11_2 9 rfl rfl)
theorem dX0_lambda_turned_11_58 : decode cX0_lambda_turned_11 58 = .ok (.if_icmp .ne 7, 3) := dk_160 0 7 (dk_at dksX0_lambda_turned_11_2 12 rfl rfl)
theorem dX0_lambda_turned_11_61 : decode cX0_lambda_turned_11 61 = .ok (.iconst 1, 1) := dk_4 (dk_at dksX0_lambda_turned_11_2 15 rfl rfl)
theorem dX0_lambda_turned_11_62 : decode cX0_lambda_turned_11 62 = .ok (.goto 4, 3) := dk_167 0 4 (dk_at dksX0_lambda_turned_11_2 16 rfl rfl)
theorem dX0_lambda_turned_11_65 : decode cX0_lambda_turned_11 65 = .ok (.iconst 0, 1) := dk_3 (dk_at dksX0_lambda_turned_11_2 19 rfl rfl)
theorem dX0_lambda_turned_11_66 : decode cX0_lambda_turned_11 66 = .ok (.bipush (-5), 2) := dk_16 251 (dk_at dksX0_lambda_turned_11_2 20 rfl rfl)
theorem dX0_lambda_turned_11_68 : decode cX0_lambda_turned_11 68 = .ok (.invokestatic 196, 3) := dk_184 0 196 (dk_at dksX0_lambda_turned_11_3 0 rfl rfl)
theorem dX0_lambda_turned_11_71 : decode cX0_lambda_turned_11 71 = .ok (.aload_n 0, 1) := dk_42 (dk_at dksX0_lambda_turned_11_3 3 rfl rfl)
theorem dX0_lambda_turned_11_72 : decode cX0_lambda_turned_11 72 = .ok (.iload_n 1, 1) := dk_27 (dk_at dksX0_lambda_turned_11_3 4 rfl rfl)
theorem dX0_lambda_turned_11_73 : decode cX0_lambda_turned_11 73 = .ok (.aload 5, 2) := dk_25 5 (dk_at dksX0_lambda_turned_11_3 5 rfl rfl)
theorem dX0_lambda_turned_11_75 : decode cX0_lambda_turned_11 75 = .ok (.new 25, 3) := dk_187 0 25 (dk_at dksX0_lambda_turned_11_3 7 rfl rfl)
theorem dX0_lambda_turned_11_78 : decode cX0_lambda_turned_11 78 = .ok (.dup, 1) := dk_89 (dk_at dksX0_lambda_turned_11_3 10 rfl rfl)
theorem dX0_lambda_turned_11_79 : decode cX0_lambda_turned_11 79 = .ok (.invokespecial 498, 3) := dk_183 1 242 (dk_at dksX0_lambda_turned_11_3 11 rfl rfl)
theorem dX0_lambda_turned_11_82 : decode cX0_lambda_turned_11 82 = .ok (.aload 4, 2) := dk_25 4 (dk_at dksX0_lambda_turned_11_3 14 rfl rfl)
theorem dX0_lambda_turned_11_84 : decode cX0_lambda_turned_11 84 = .ok (.invokevirtual 499, 3) := dk_182 1 243 (dk_at dksX0_lambda_turned_11_3 16 rfl rfl)
theorem dX0_lambda_turned_11_87 : decode cX0_lambda_turned_11 87 = .ok (.invokevirtual 503, 3) := dk_182 1 247 (dk_at dksX0_lambda_turned_11_3 19 rfl rfl)
theorem dX0_lambda_turned_11_90 : decode cX0_lambda_turned_11 90 = .ok (.ireturn, 1) := dk_172 (dk_at dksX0_lambda_turned_11_3 22 rfl rfl)
abbrev cX0_isClient : ByteArray := prog_1_method_7_code
def yX0_isClient : MethodName := ⟨RX0, "isClient", "(I)Z"⟩
def dkwX0_isClient_0 : List UInt8 := [26, 3, 6, 184, 0, 45, 172]
abbrev dktX0_isClient_0 : List UInt8 := dkwX0_isClient_0 ++ []
theorem dksX0_isClient_0 : cX0_isClient.data.toList.drop 0 = dktX0_isClient_0 := by decide +kernel
theorem dX0_isClient_0 : decode cX0_isClient 0 = .ok (.iload_n 0, 1) := dk_26 (dk_at dksX0_isClient_0 0 rfl rfl)
theorem dX0_isClient_1 : decode cX0_isClient 1 = .ok (.iconst 0, 1) := dk_3 (dk_at dksX0_isClient_0 1 rfl rfl)
theorem dX0_isClient_2 : decode cX0_isClient 2 = .ok (.iconst 3, 1) := dk_6 (dk_at dksX0_isClient_0 2 rfl rfl)
theorem dX0_isClient_3 : decode cX0_isClient 3 = .ok (.invokestatic 45, 3) := dk_184 0 45 (dk_at dksX0_isClient_0 3 rfl rfl)
theorem dX0_isClient_6 : decode cX0_isClient 6 = .ok (.ireturn, 1) := dk_172 (dk_at dksX0_isClient_0 6 rfl rfl)
abbrev cX0_differ : ByteArray := prog_1_method_41_code
def yX0_differ : MethodName := ⟨RX0, "differ", "(II)I"⟩
def dkwX0_differ_0 : List UInt8 := [42, 42, 27, 28, 186, 0, 244, 0, 0, 182, 0, 142, 172]
abbrev dktX0_differ_0 : List UInt8 := dkwX0_differ_0 ++ []
theorem dksX0_differ_0 : cX0_differ.data.toList.drop 0 = dktX0_differ_0 := by decide +kernel
theorem dX0_differ_0 : decode cX0_differ 0 = .ok (.aload_n 0, 1) := dk_42 (dk_at dksX0_differ_0 0 rfl rfl)
theorem dX0_differ_1 : decode cX0_differ 1 = .ok (.aload_n 0, 1) := dk_42 (dk_at dksX0_differ_0 1 rfl rfl)
theorem dX0_differ_2 : decode cX0_differ 2 = .ok (.iload_n 1, 1) := dk_27 (dk_at dksX0_differ_0 2 rfl rfl)
theorem dX0_differ_3 : decode cX0_differ 3 = .ok (.iload_n 2, 1) := dk_28 (dk_at dksX0_differ_0 3 rfl rfl)
theorem dX0_differ_4 : decode cX0_differ 4 = .ok (.invokedynamic 244, 5) := by decide +kernel
theorem dX0_differ_9 : decode cX0_differ 9 = .ok (.invokevirtual 142, 3) := dk_182 0 142 (dk_at dksX0_differ_0 9 rfl rfl)
theorem dX0_differ_12 : decode cX0_differ 12 = .ok (.ireturn, 1) := dk_172 (dk_at dksX0_differ_0 12 rfl rfl)
abbrev cX0_lambda_differ_12 : ByteArray := prog_1_method_101_code
def yX0_lambda_differ_12 : MethodName := ⟨RX0, "lambda$differ$12", "(II)I"⟩
def dkwX0_lambda_differ_12_4 : List UInt8 := [25, 4, 182, 0, 179, 160, 0, 7, 2, 167, 0, 5, 21, 5, 172]
abbrev dktX0_lambda_differ_12_4 : List UInt8 := dkwX0_lambda_differ_12_4 ++ []
def dkwX0_lambda_differ_12_3 : List UInt8 := [21, 6, 182, 1, 236, 184, 1, 238, 154, 0, 6, 21, 6, 172, 132, 6, 1, 167, 255, 224, 45, 182, 0, 179]
abbrev dktX0_lambda_differ_12_3 : List UInt8 := dkwX0_lambda_differ_12_3 ++ dktX0_lambda_differ_12_4
def dkwX0_lambda_differ_12_2 : List UInt8 := [184, 1, 230, 54, 5, 3, 54, 6, 21, 6, 21, 5, 162, 0, 31, 45, 21, 6, 182, 1, 236, 25, 4]
abbrev dktX0_lambda_differ_12_2 : List UInt8 := dkwX0_lambda_differ_12_2 ++ dktX0_lambda_differ_12_3
def dkwX0_lambda_differ_12_1 : List UInt8 := [42, 27, 182, 0, 58, 78, 42, 28, 182, 0, 58, 58, 4, 45, 182, 0, 179, 25, 4, 182, 0, 179]
abbrev dktX0_lambda_differ_12_1 : List UInt8 := dkwX0_lambda_differ_12_1 ++ dktX0_lambda_differ_12_2
def dkwX0_lambda_differ_12_0 : List UInt8 := [27, 184, 0, 49, 153, 0, 14, 28, 184, 0, 49, 153, 0, 7, 4, 167, 0, 4, 3, 16, 254, 184, 0, 196]
abbrev dktX0_lambda_differ_12_0 : List UInt8 := dkwX0_lambda_differ_12_0 ++ dktX0_lambda_differ_12_1
theorem dksX0_lambda_differ_12_0 : cX0_lambda_differ_12.data.toList.drop 0 = dktX0_lambda_differ_12_0 := by decide +kernel
theorem dksX0_lambda_differ_12_1 : cX0_lambda_differ_12.data.toList.drop 24 = dktX0_lambda_differ_12_1 := dk_seg dksX0_lambda_differ_12_0 24 rfl rfl
theorem dksX0_lambda_differ_12_2 : cX0_lambda_differ_12.data.toList.drop 46 = dktX0_lambda_differ_12_2 := dk_seg dksX0_lambda_differ_12_1 22 rfl rfl
theorem dksX0_lambda_differ_12_3 : cX0_lambda_differ_12.data.toList.drop 69 = dktX0_lambda_differ_12_3 := dk_seg dksX0_lambda_differ_12_2 23 rfl rfl
theorem dksX0_lambda_differ_12_4 : cX0_lambda_differ_12.data.toList.drop 93 = dktX0_lambda_differ_12_4 := dk_seg dksX0_lambda_differ_12_3 24 rfl rfl
theorem dX0_lambda_differ_12_0 : decode cX0_lambda_differ_12 0 = .ok (.iload_n 1, 1) := dk_27 (dk_at dksX0_lambda_differ_12_0 0 rfl rfl)
theorem dX0_lambda_differ_12_1 : decode cX0_lambda_differ_12 1 = .ok (.invokestatic 49, 3) := dk_184 0 49 (dk_at dksX0_lambda_differ_12_0 1 rfl rfl)
theorem dX0_lambda_differ_12_4 : decode cX0_lambda_differ_12 4 = .ok (.ifCond .eq 14, 3) := dk_153 0 14 (dk_at dksX0_lambda_differ_12_0 4 rfl rfl)
theorem dX0_lambda_differ_12_7 : decode cX0_lambda_differ_12 7 = .ok (.iload_n 2, 1) := dk_28 (dk_at dksX0_lambda_differ_12_0 7 rfl rfl)
theorem dX0_lambda_differ_12_8 : decode cX0_lambda_differ_12 8 = .ok (.invokestatic 49, 3) := dk_184 0 49 (dk_at dksX0_lambda_differ_12_0 8 rfl rfl)
theorem dX0_lambda_differ_12_11 : decode cX0_lambda_differ_12 11 = .ok (.ifCond .eq 7, 3) := dk_153 0 7 (dk_at dksX0_lambda_differ_12_0 11 rfl rfl)
theorem dX0_lambda_differ_12_14 : decode cX0_lambda_differ_12 14 = .ok (.iconst 1, 1) := dk_4 (dk_at dksX0_lambda_differ_12_0 14 rfl rfl)
theorem dX0_lambda_differ_12_15 : decode cX0_lambda_differ_12 15 = .ok (.goto 4, 3) := dk_167 0 4 (dk_at dksX0_lambda_differ_12_0 15 rfl rfl)
theorem dX0_lambda_differ_12_18 : decode cX0_lambda_differ_12 18 = .ok (.iconst 0, 1) := dk_3 (dk_at dksX0_lambda_differ_12_0 18 rfl rfl)
theorem dX0_lambda_differ_12_19 : decode cX0_lambda_differ_12 19 = .ok (.bipush (-2), 2) := dk_16 254 (dk_at dksX0_lambda_differ_12_0 19 rfl rfl)
theorem dX0_lambda_differ_12_21 : decode cX0_lambda_differ_12 21 = .ok (.invokestatic 196, 3) := dk_184 0 196 (dk_at dksX0_lambda_differ_12_0 21 rfl rfl)
theorem dX0_lambda_differ_12_24 : decode cX0_lambda_differ_12 24 = .ok (.aload_n 0, 1) := dk_42 (dk_at dksX0_lambda_differ_12_1 0 rfl rfl)
theorem dX0_lambda_differ_12_25 : decode cX0_lambda_differ_12 25 = .ok (.iload_n 1, 1) := dk_27 (dk_at dksX0_lambda_differ_12_1 1 rfl rfl)
theorem dX0_lambda_differ_12_26 : decode cX0_lambda_differ_12 26 = .ok (.invokevirtual 58, 3) := dk_182 0 58 (dk_at dksX0_lambda_differ_12_1 2 rfl rfl)
theorem dX0_lambda_differ_12_29 : decode cX0_lambda_differ_12 29 = .ok (.astore_n 3, 1) := dk_78 (dk_at dksX0_lambda_differ_12_1 5 rfl rfl)
theorem dX0_lambda_differ_12_30 : decode cX0_lambda_differ_12 30 = .ok (.aload_n 0, 1) := dk_42 (dk_at dksX0_lambda_differ_12_1 6 rfl rfl)
theorem dX0_lambda_differ_12_31 : decode cX0_lambda_differ_12 31 = .ok (.iload_n 2, 1) := dk_28 (dk_at dksX0_lambda_differ_12_1 7 rfl rfl)
theorem dX0_lambda_differ_12_32 : decode cX0_lambda_differ_12 32 = .ok (.invokevirtual 58, 3) := dk_182 0 58 (dk_at dksX0_lambda_differ_12_1 8 rfl rfl)
theorem dX0_lambda_differ_12_35 : decode cX0_lambda_differ_12 35 = .ok (.astore 4, 2) := dk_58 4 (dk_at dksX0_lambda_differ_12_1 11 rfl rfl)
theorem dX0_lambda_differ_12_37 : decode cX0_lambda_differ_12 37 = .ok (.aload_n 3, 1) := dk_45 (dk_at dksX0_lambda_differ_12_1 13 rfl rfl)
theorem dX0_lambda_differ_12_38 : decode cX0_lambda_differ_12 38 = .ok (.invokevirtual 179, 3) := dk_182 0 179 (dk_at dksX0_lambda_differ_12_1 14 rfl rfl)
theorem dX0_lambda_differ_12_41 : decode cX0_lambda_differ_12 41 = .ok (.aload 4, 2) := dk_25 4 (dk_at dksX0_lambda_differ_12_1 17 rfl rfl)
theorem dX0_lambda_differ_12_43 : decode cX0_lambda_differ_12 43 = .ok (.invokevirtual 179, 3) := dk_182 0 179 (dk_at dksX0_lambda_differ_12_1 19 rfl rfl)
theorem dX0_lambda_differ_12_46 : decode cX0_lambda_differ_12 46 = .ok (.invokestatic 486, 3) := dk_184 1 230 (dk_at dksX0_lambda_differ_12_2 0 rfl rfl)
theorem dX0_lambda_differ_12_49 : decode cX0_lambda_differ_12 49 = .ok (.istore 5, 2) := dk_54 5 (dk_at dksX0_lambda_differ_12_2 3 rfl rfl)
theorem dX0_lambda_differ_12_51 : decode cX0_lambda_differ_12 51 = .ok (.iconst 0, 1) := dk_3 (dk_at dksX0_lambda_differ_12_2 5 rfl rfl)
theorem dX0_lambda_differ_12_52 : decode cX0_lambda_differ_12 52 = .ok (.istore 6, 2) := dk_54 6 (dk_at dksX0_lambda_differ_12_2 6 rfl rfl)
theorem dX0_lambda_differ_12_54 : decode cX0_lambda_differ_12 54 = .ok (.iload 6, 2) := dk_21 6 (dk_at dksX0_lambda_differ_12_2 8 rfl rfl)
theorem dX0_lambda_differ_12_56 : decode cX0_lambda_differ_12 56 = .ok (.iload 5, 2) := dk_21 5 (dk_at dksX0_lambda_differ_12_2 10 rfl rfl)
theorem dX0_lambda_differ_12_58 : decode cX0_lambda_differ_12 58 = .ok (.if_icmp .ge 31, 3) := dk_162 0 31 (dk_at dksX0_lambda_differ_12_2 12 rfl rfl)
theorem dX0_lambda_differ_12_61 : decode cX0_lambda_differ_12 61 = .ok (.aload_n 3, 1) := dk_45 (dk_at dksX0_lambda_differ_12_2 15 rfl rfl)
theorem dX0_lambda_differ_12_62 : decode cX0_lambda_differ_12 62 = .ok (.iload 6, 2) := dk_21 6 (dk_at dksX0_lambda_differ_12_2 16 rfl rfl)
theorem dX0_lambda_differ_12_64 : decode cX0_lambda_differ_12 64 = .ok (.invokevirtual 492, 3) := dk_182 1 236 (dk_at dksX0_lambda_differ_12_2 18 rfl rfl)
theorem dX0_lambda_differ_12_67 : decode cX0_lambda_differ_12 67 = .ok (.aload 4, 2) := dk_25 4 (dk_at dksX0_lambda_differ_12_2 21 rfl rfl)
theorem dX0_lambda_differ_12_69 : decode cX0_lambda_differ_12 69 = .ok (.iload 6, 2) := dk_21 6 (dk_at dksX0_lambda_differ_12_3 0 rfl rfl)
theorem dX0_lambda_differ_12_71 : decode cX0_lambda_differ_12 71 = .ok (.invokevirtual 492, 3) := dk_182 1 236 (dk_at dksX0_lambda_differ_12_3 2 rfl rfl)
theorem dX0_lambda_differ_12_74 : decode cX0_lambda_differ_12 74 = .ok (.invokestatic 494, 3) := dk_184 1 238 (dk_at dksX0_lambda_differ_12_3 5 rfl rfl)
theorem dX0_lambda_differ_12_77 : decode cX0_lambda_differ_12 77 = .ok (.ifCond .ne 6, 3) := dk_154 0 6 (dk_at dksX0_lambda_differ_12_3 8 rfl rfl)
theorem dX0_lambda_differ_12_80 : decode cX0_lambda_differ_12 80 = .ok (.iload 6, 2) := dk_21 6 (dk_at dksX0_lambda_differ_12_3 11 rfl rfl)
theorem dX0_lambda_differ_12_82 : decode cX0_lambda_differ_12 82 = .ok (.ireturn, 1) := dk_172 (dk_at dksX0_lambda_differ_12_3 13 rfl rfl)
theorem dX0_lambda_differ_12_83 : decode cX0_lambda_differ_12 83 = .ok (.iinc 6 1, 3) := dk_132 6 1 (dk_at dksX0_lambda_differ_12_3 14 rfl rfl)
theorem dX0_lambda_differ_12_86 : decode cX0_lambda_differ_12 86 = .ok (.goto (-32), 3) := dk_167 255 224 (dk_at dksX0_lambda_differ_12_3 17 rfl rfl)
theorem dX0_lambda_differ_12_89 : decode cX0_lambda_differ_12 89 = .ok (.aload_n 3, 1) := dk_45 (dk_at dksX0_lambda_differ_12_3 20 rfl rfl)
theorem dX0_lambda_differ_12_90 : decode cX0_lambda_differ_12 90 = .ok (.invokevirtual 179, 3) := dk_182 0 179 (dk_at dksX0_lambda_differ_12_3 21 rfl rfl)
theorem dX0_lambda_differ_12_93 : decode cX0_lambda_differ_12 93 = .ok (.aload 4, 2) := dk_25 4 (dk_at dksX0_lambda_differ_12_4 0 rfl rfl)
theorem dX0_lambda_differ_12_95 : decode cX0_lambda_differ_12 95 = .ok (.invokevirtual 179, 3) := dk_182 0 179 (dk_at dksX0_lambda_differ_12_4 2 rfl rfl)
theorem dX0_lambda_differ_12_98 : decode cX0_lambda_differ_12 98 = .ok (.if_icmp .ne 7, 3) := dk_160 0 7 (dk_at dksX0_lambda_differ_12_4 5 rfl rfl)
theorem dX0_lambda_differ_12_101 : decode cX0_lambda_differ_12 101 = .ok (.iconst (-1), 1) := dk_2 (dk_at dksX0_lambda_differ_12_4 8 rfl rfl)
theorem dX0_lambda_differ_12_102 : decode cX0_lambda_differ_12 102 = .ok (.goto 5, 3) := dk_167 0 5 (dk_at dksX0_lambda_differ_12_4 9 rfl rfl)
theorem dX0_lambda_differ_12_105 : decode cX0_lambda_differ_12 105 = .ok (.iload 5, 2) := dk_21 5 (dk_at dksX0_lambda_differ_12_4 12 rfl rfl)
theorem dX0_lambda_differ_12_107 : decode cX0_lambda_differ_12 107 = .ok (.ireturn, 1) := dk_172 (dk_at dksX0_lambda_differ_12_4 14 rfl rfl)
abbrev cX0_areLike : ByteArray := prog_1_method_40_code
def yX0_areLike : MethodName := ⟨RX0, "areLike", "(LEditsMeet$Part;LEditsMeet$Part;)Z"⟩
def dkwX0_areLike_5 : List UInt8 := [167, 0, 4, 3, 172]
abbrev dktX0_areLike_5 : List UInt8 := dkwX0_areLike_5 ++ []
def dkwX0_areLike_4 : List UInt8 := [182, 0, 235, 153, 0, 24, 45, 180, 0, 241, 43, 192, 0, 148, 180, 0, 241, 182, 0, 235, 153, 0, 7, 4]
abbrev dktX0_areLike_4 : List UInt8 := dkwX0_areLike_4 ++ dktX0_areLike_5
def dkwX0_areLike_3 : List UInt8 := [42, 193, 0, 148, 153, 0, 42, 42, 192, 0, 148, 78, 45, 180, 0, 231, 43, 192, 0, 148, 180, 0, 231]
abbrev dktX0_areLike_3 : List UInt8 := dkwX0_areLike_3 ++ dktX0_areLike_4
def dkwX0_areLike_2 : List UInt8 := [185, 0, 230, 1, 0, 43, 185, 0, 230, 1, 0, 160, 0, 7, 4, 167, 0, 4, 3, 61, 28, 153, 0, 53]
abbrev dktX0_areLike_2 : List UInt8 := dkwX0_areLike_2 ++ dktX0_areLike_3
def dkwX0_areLike_1 : List UInt8 := [185, 0, 145, 1, 0, 160, 0, 37, 42, 185, 0, 229, 1, 0, 43, 185, 0, 229, 1, 0, 160, 0, 22, 42]
abbrev dktX0_areLike_1 : List UInt8 := dkwX0_areLike_1 ++ dktX0_areLike_2
def dkwX0_areLike_0 : List UInt8 := [42, 185, 0, 136, 1, 0, 43, 185, 0, 136, 1, 0, 160, 0, 52, 42, 185, 0, 145, 1, 0, 43]
abbrev dktX0_areLike_0 : List UInt8 := dkwX0_areLike_0 ++ dktX0_areLike_1
theorem dksX0_areLike_0 : cX0_areLike.data.toList.drop 0 = dktX0_areLike_0 := by decide +kernel
theorem dksX0_areLike_1 : cX0_areLike.data.toList.drop 22 = dktX0_areLike_1 := dk_seg dksX0_areLike_0 22 rfl rfl
theorem dksX0_areLike_2 : cX0_areLike.data.toList.drop 46 = dktX0_areLike_2 := dk_seg dksX0_areLike_1 24 rfl rfl
theorem dksX0_areLike_3 : cX0_areLike.data.toList.drop 70 = dktX0_areLike_3 := dk_seg dksX0_areLike_2 24 rfl rfl
theorem dksX0_areLike_4 : cX0_areLike.data.toList.drop 93 = dktX0_areLike_4 := dk_seg dksX0_areLike_3 23 rfl rfl
theorem dksX0_areLike_5 : cX0_areLike.data.toList.drop 117 = dktX0_areLike_5 := dk_seg dksX0_areLike_4 24 rfl rfl
theorem dX0_areLike_0 : decode cX0_areLike 0 = .ok (.aload_n 0, 1) := dk_42 (dk_at dksX0_areLike_0 0 rfl rfl)
theorem dX0_areLike_1 : decode cX0_areLike 1 = .ok (.invokeinterface 136 1, 5) := by decide +kernel
theorem dX0_areLike_6 : decode cX0_areLike 6 = .ok (.aload_n 1, 1) := dk_43 (dk_at dksX0_areLike_0 6 rfl rfl)
theorem dX0_areLike_7 : decode cX0_areLike 7 = .ok (.invokeinterface 136 1, 5) := by decide +kernel
theorem dX0_areLike_12 : decode cX0_areLike 12 = .ok (.if_icmp .ne 52, 3) := dk_160 0 52 (dk_at dksX0_areLike_0 12 rfl rfl)
theorem dX0_areLike_15 : decode cX0_areLike 15 = .ok (.aload_n 0, 1) := dk_42 (dk_at dksX0_areLike_0 15 rfl rfl)
theorem dX0_areLike_16 : decode cX0_areLike 16 = .ok (.invokeinterface 145 1, 5) := by decide +kernel
theorem dX0_areLike_21 : decode cX0_areLike 21 = .ok (.aload_n 1, 1) := dk_43 (dk_at dksX0_areLike_0 21 rfl rfl)
theorem dX0_areLike_22 : decode cX0_areLike 22 = .ok (.invokeinterface 145 1, 5) := by decide +kernel
theorem dX0_areLike_27 : decode cX0_areLike 27 = .ok (.if_icmp .ne 37, 3) := dk_160 0 37 (dk_at dksX0_areLike_1 5 rfl rfl)
theorem dX0_areLike_30 : decode cX0_areLike 30 = .ok (.aload_n 0, 1) := dk_42 (dk_at dksX0_areLike_1 8 rfl rfl)
theorem dX0_areLike_31 : decode cX0_areLike 31 = .ok (.invokeinterface 229 1, 5) := by decide +kernel
theorem dX0_areLike_36 : decode cX0_areLike 36 = .ok (.aload_n 1, 1) := dk_43 (dk_at dksX0_areLike_1 14 rfl rfl)
theorem dX0_areLike_37 : decode cX0_areLike 37 = .ok (.invokeinterface 229 1, 5) := by decide +kernel
theorem dX0_areLike_42 : decode cX0_areLike 42 = .ok (.if_icmp .ne 22, 3) := dk_160 0 22 (dk_at dksX0_areLike_1 20 rfl rfl)
theorem dX0_areLike_45 : decode cX0_areLike 45 = .ok (.aload_n 0, 1) := dk_42 (dk_at dksX0_areLike_1 23 rfl rfl)
theorem dX0_areLike_46 : decode cX0_areLike 46 = .ok (.invokeinterface 230 1, 5) := by decide +kernel
theorem dX0_areLike_51 : decode cX0_areLike 51 = .ok (.aload_n 1, 1) := dk_43 (dk_at dksX0_areLike_2 5 rfl rfl)
theorem dX0_areLike_52 : decode cX0_areLike 52 = .ok (.invokeinterface 230 1, 5) := by decide +kernel
theorem dX0_areLike_57 : decode cX0_areLike 57 = .ok (.if_icmp .ne 7, 3) := dk_160 0 7 (dk_at dksX0_areLike_2 11 rfl rfl)
theorem dX0_areLike_60 : decode cX0_areLike 60 = .ok (.iconst 1, 1) := dk_4 (dk_at dksX0_areLike_2 14 rfl rfl)
theorem dX0_areLike_61 : decode cX0_areLike 61 = .ok (.goto 4, 3) := dk_167 0 4 (dk_at dksX0_areLike_2 15 rfl rfl)
theorem dX0_areLike_64 : decode cX0_areLike 64 = .ok (.iconst 0, 1) := dk_3 (dk_at dksX0_areLike_2 18 rfl rfl)
theorem dX0_areLike_65 : decode cX0_areLike 65 = .ok (.istore_n 2, 1) := dk_61 (dk_at dksX0_areLike_2 19 rfl rfl)
theorem dX0_areLike_66 : decode cX0_areLike 66 = .ok (.iload_n 2, 1) := dk_28 (dk_at dksX0_areLike_2 20 rfl rfl)
theorem dX0_areLike_67 : decode cX0_areLike 67 = .ok (.ifCond .eq 53, 3) := dk_153 0 53 (dk_at dksX0_areLike_2 21 rfl rfl)
theorem dX0_areLike_70 : decode cX0_areLike 70 = .ok (.aload_n 0, 1) := dk_42 (dk_at dksX0_areLike_3 0 rfl rfl)
theorem dX0_areLike_71 : decode cX0_areLike 71 = .ok (.instanceof 148, 3) := dk_193 0 148 (dk_at dksX0_areLike_3 1 rfl rfl)
theorem dX0_areLike_74 : decode cX0_areLike 74 = .ok (.ifCond .eq 42, 3) := dk_153 0 42 (dk_at dksX0_areLike_3 4 rfl rfl)
theorem dX0_areLike_77 : decode cX0_areLike 77 = .ok (.aload_n 0, 1) := dk_42 (dk_at dksX0_areLike_3 7 rfl rfl)
theorem dX0_areLike_78 : decode cX0_areLike 78 = .ok (.checkcast 148, 3) := dk_192 0 148 (dk_at dksX0_areLike_3 8 rfl rfl)
theorem dX0_areLike_81 : decode cX0_areLike 81 = .ok (.astore_n 3, 1) := dk_78 (dk_at dksX0_areLike_3 11 rfl rfl)
theorem dX0_areLike_82 : decode cX0_areLike 82 = .ok (.aload_n 3, 1) := dk_45 (dk_at dksX0_areLike_3 12 rfl rfl)
theorem dX0_areLike_83 : decode cX0_areLike 83 = .ok (.getfield 231, 3) := dk_180 0 231 (dk_at dksX0_areLike_3 13 rfl rfl)
theorem dX0_areLike_86 : decode cX0_areLike 86 = .ok (.aload_n 1, 1) := dk_43 (dk_at dksX0_areLike_3 16 rfl rfl)
theorem dX0_areLike_87 : decode cX0_areLike 87 = .ok (.checkcast 148, 3) := dk_192 0 148 (dk_at dksX0_areLike_3 17 rfl rfl)
theorem dX0_areLike_90 : decode cX0_areLike 90 = .ok (.getfield 231, 3) := dk_180 0 231 (dk_at dksX0_areLike_3 20 rfl rfl)
theorem dX0_areLike_93 : decode cX0_areLike 93 = .ok (.invokevirtual 235, 3) := dk_182 0 235 (dk_at dksX0_areLike_4 0 rfl rfl)
theorem dX0_areLike_96 : decode cX0_areLike 96 = .ok (.ifCond .eq 24, 3) := dk_153 0 24 (dk_at dksX0_areLike_4 3 rfl rfl)
theorem dX0_areLike_99 : decode cX0_areLike 99 = .ok (.aload_n 3, 1) := dk_45 (dk_at dksX0_areLike_4 6 rfl rfl)
theorem dX0_areLike_100 : decode cX0_areLike 100 = .ok (.getfield 241, 3) := dk_180 0 241 (dk_at dksX0_areLike_4 7 rfl rfl)
theorem dX0_areLike_103 : decode cX0_areLike 103 = .ok (.aload_n 1, 1) := dk_43 (dk_at dksX0_areLike_4 10 rfl rfl)
theorem dX0_areLike_104 : decode cX0_areLike 104 = .ok (.checkcast 148, 3) := dk_192 0 148 (dk_at dksX0_areLike_4 11 rfl rfl)
theorem dX0_areLike_107 : decode cX0_areLike 107 = .ok (.getfield 241, 3) := dk_180 0 241 (dk_at dksX0_areLike_4 14 rfl rfl)
theorem dX0_areLike_110 : decode cX0_areLike 110 = .ok (.invokevirtual 235, 3) := dk_182 0 235 (dk_at dksX0_areLike_4 17 rfl rfl)
theorem dX0_areLike_113 : decode cX0_areLike 113 = .ok (.ifCond .eq 7, 3) := dk_153 0 7 (dk_at dksX0_areLike_4 20 rfl rfl)
theorem dX0_areLike_116 : decode cX0_areLike 116 = .ok (.iconst 1, 1) := dk_4 (dk_at dksX0_areLike_4 23 rfl rfl)
theorem dX0_areLike_117 : decode cX0_areLike 117 = .ok (.goto 4, 3) := dk_167 0 4 (dk_at dksX0_areLike_5 0 rfl rfl)
theorem dX0_areLike_120 : decode cX0_areLike 120 = .ok (.iconst 0, 1) := dk_3 (dk_at dksX0_areLike_5 3 rfl rfl)
theorem dX0_areLike_121 : decode cX0_areLike 121 = .ok (.ireturn, 1) := dk_172 (dk_at dksX0_areLike_5 4 rfl rfl)
abbrev cX0_does : ByteArray := prog_1_method_44_code
def yX0_does : MethodName := ⟨RX0, "does", "(II)I"⟩
def dkwX0_does_0 : List UInt8 := [42, 42, 27, 28, 186, 1, 20, 0, 0, 182, 0, 142, 172]
abbrev dktX0_does_0 : List UInt8 := dkwX0_does_0 ++ []
theorem dksX0_does_0 : cX0_does.data.toList.drop 0 = dktX0_does_0 := by decide +kernel
theorem dX0_does_0 : decode cX0_does 0 = .ok (.aload_n 0, 1) := dk_42 (dk_at dksX0_does_0 0 rfl rfl)
theorem dX0_does_1 : decode cX0_does 1 = .ok (.aload_n 0, 1) := dk_42 (dk_at dksX0_does_0 1 rfl rfl)
theorem dX0_does_2 : decode cX0_does 2 = .ok (.iload_n 1, 1) := dk_27 (dk_at dksX0_does_0 2 rfl rfl)
theorem dX0_does_3 : decode cX0_does 3 = .ok (.iload_n 2, 1) := dk_28 (dk_at dksX0_does_0 3 rfl rfl)
theorem dX0_does_4 : decode cX0_does 4 = .ok (.invokedynamic 276, 5) := by decide +kernel
theorem dX0_does_9 : decode cX0_does 9 = .ok (.invokevirtual 142, 3) := dk_182 0 142 (dk_at dksX0_does_0 9 rfl rfl)
theorem dX0_does_12 : decode cX0_does 12 = .ok (.ireturn, 1) := dk_172 (dk_at dksX0_does_0 12 rfl rfl)
abbrev cX0_lambda_does_13 : ByteArray := prog_1_method_100_code
def yX0_lambda_does_13 : MethodName := ⟨RX0, "lambda$does$13", "(II)I"⟩
def dkwX0_lambda_does_13_2 : List UInt8 := [4, 167, 0, 4, 3, 16, 251, 184, 0, 196, 42, 180, 0, 16, 180, 0, 65, 27, 50, 45, 184, 1, 48, 172]
abbrev dktX0_lambda_does_13_2 : List UInt8 := dkwX0_lambda_does_13_2 ++ []
def dkwX0_lambda_does_13_1 : List UInt8 := [42, 28, 182, 0, 58, 78, 45, 182, 0, 182, 42, 180, 0, 16, 27, 182, 1, 140, 182, 0, 245, 160, 0, 7]
abbrev dktX0_lambda_does_13_1 : List UInt8 := dkwX0_lambda_does_13_1 ++ dktX0_lambda_does_13_2
def dkwX0_lambda_does_13_0 : List UInt8 := [27, 184, 0, 62, 153, 0, 14, 28, 184, 0, 49, 153, 0, 7, 4, 167, 0, 4, 3, 16, 254, 184, 0, 196]
abbrev dktX0_lambda_does_13_0 : List UInt8 := dkwX0_lambda_does_13_0 ++ dktX0_lambda_does_13_1
theorem dksX0_lambda_does_13_0 : cX0_lambda_does_13.data.toList.drop 0 = dktX0_lambda_does_13_0 := by decide +kernel
theorem dksX0_lambda_does_13_1 : cX0_lambda_does_13.data.toList.drop 24 = dktX0_lambda_does_13_1 := dk_seg dksX0_lambda_does_13_0 24 rfl rfl
theorem dksX0_lambda_does_13_2 : cX0_lambda_does_13.data.toList.drop 48 = dktX0_lambda_does_13_2 := dk_seg dksX0_lambda_does_13_1 24 rfl rfl
theorem dX0_lambda_does_13_0 : decode cX0_lambda_does_13 0 = .ok (.iload_n 1, 1) := dk_27 (dk_at dksX0_lambda_does_13_0 0 rfl rfl)
theorem dX0_lambda_does_13_1 : decode cX0_lambda_does_13 1 = .ok (.invokestatic 62, 3) := dk_184 0 62 (dk_at dksX0_lambda_does_13_0 1 rfl rfl)
theorem dX0_lambda_does_13_4 : decode cX0_lambda_does_13 4 = .ok (.ifCond .eq 14, 3) := dk_153 0 14 (dk_at dksX0_lambda_does_13_0 4 rfl rfl)
theorem dX0_lambda_does_13_7 : decode cX0_lambda_does_13 7 = .ok (.iload_n 2, 1) := dk_28 (dk_at dksX0_lambda_does_13_0 7 rfl rfl)
theorem dX0_lambda_does_13_8 : decode cX0_lambda_does_13 8 = .ok (.invokestatic 49, 3) := dk_184 0 49 (dk_at dksX0_lambda_does_13_0 8 rfl rfl)
theorem dX0_lambda_does_13_11 : decode cX0_lambda_does_13 11 = .ok (.ifCond .eq 7, 3) := dk_153 0 7 (dk_at dksX0_lambda_does_13_0 11 rfl rfl)
theorem dX0_lambda_does_13_14 : decode cX0_lambda_does_13 14 = .ok (.iconst 1, 1) := dk_4 (dk_at dksX0_lambda_does_13_0 14 rfl rfl)
theorem dX0_lambda_does_13_15 : decode cX0_lambda_does_13 15 = .ok (.goto 4, 3) := dk_167 0 4 (dk_at dksX0_lambda_does_13_0 15 rfl rfl)
theorem dX0_lambda_does_13_18 : decode cX0_lambda_does_13 18 = .ok (.iconst 0, 1) := dk_3 (dk_at dksX0_lambda_does_13_0 18 rfl rfl)
theorem dX0_lambda_does_13_19 : decode cX0_lambda_does_13 19 = .ok (.bipush (-2), 2) := dk_16 254 (dk_at dksX0_lambda_does_13_0 19 rfl rfl)
theorem dX0_lambda_does_13_21 : decode cX0_lambda_does_13 21 = .ok (.invokestatic 196, 3) := dk_184 0 196 (dk_at dksX0_lambda_does_13_0 21 rfl rfl)
theorem dX0_lambda_does_13_24 : decode cX0_lambda_does_13 24 = .ok (.aload_n 0, 1) := dk_42 (dk_at dksX0_lambda_does_13_1 0 rfl rfl)
theorem dX0_lambda_does_13_25 : decode cX0_lambda_does_13 25 = .ok (.iload_n 2, 1) := dk_28 (dk_at dksX0_lambda_does_13_1 1 rfl rfl)
theorem dX0_lambda_does_13_26 : decode cX0_lambda_does_13 26 = .ok (.invokevirtual 58, 3) := dk_182 0 58 (dk_at dksX0_lambda_does_13_1 2 rfl rfl)
theorem dX0_lambda_does_13_29 : decode cX0_lambda_does_13 29 = .ok (.astore_n 3, 1) := dk_78 (dk_at dksX0_lambda_does_13_1 5 rfl rfl)
theorem dX0_lambda_does_13_30 : decode cX0_lambda_does_13 30 = .ok (.aload_n 3, 1) := dk_45 (dk_at dksX0_lambda_does_13_1 6 rfl rfl)
theorem dX0_lambda_does_13_31 : decode cX0_lambda_does_13 31 = .ok (.invokevirtual 182, 3) := dk_182 0 182 (dk_at dksX0_lambda_does_13_1 7 rfl rfl)
theorem dX0_lambda_does_13_34 : decode cX0_lambda_does_13 34 = .ok (.aload_n 0, 1) := dk_42 (dk_at dksX0_lambda_does_13_1 10 rfl rfl)
theorem dX0_lambda_does_13_35 : decode cX0_lambda_does_13 35 = .ok (.getfield 16, 3) := dk_180 0 16 (dk_at dksX0_lambda_does_13_1 11 rfl rfl)
theorem dX0_lambda_does_13_38 : decode cX0_lambda_does_13 38 = .ok (.iload_n 1, 1) := dk_27 (dk_at dksX0_lambda_does_13_1 14 rfl rfl)
theorem dX0_lambda_does_13_39 : decode cX0_lambda_does_13 39 = .ok (.invokevirtual 396, 3) := dk_182 1 140 (dk_at dksX0_lambda_does_13_1 15 rfl rfl)
theorem dX0_lambda_does_13_42 : decode cX0_lambda_does_13 42 = .ok (.invokevirtual 245, 3) := dk_182 0 245 (dk_at dksX0_lambda_does_13_1 18 rfl rfl)
theorem dX0_lambda_does_13_45 : decode cX0_lambda_does_13 45 = .ok (.if_icmp .ne 7, 3) := dk_160 0 7 (dk_at dksX0_lambda_does_13_1 21 rfl rfl)
theorem dX0_lambda_does_13_48 : decode cX0_lambda_does_13 48 = .ok (.iconst 1, 1) := dk_4 (dk_at dksX0_lambda_does_13_2 0 rfl rfl)
theorem dX0_lambda_does_13_49 : decode cX0_lambda_does_13 49 = .ok (.goto 4, 3) := dk_167 0 4 (dk_at dksX0_lambda_does_13_2 1 rfl rfl)
theorem dX0_lambda_does_13_52 : decode cX0_lambda_does_13 52 = .ok (.iconst 0, 1) := dk_3 (dk_at dksX0_lambda_does_13_2 4 rfl rfl)
theorem dX0_lambda_does_13_53 : decode cX0_lambda_does_13 53 = .ok (.bipush (-5), 2) := dk_16 251 (dk_at dksX0_lambda_does_13_2 5 rfl rfl)
theorem dX0_lambda_does_13_55 : decode cX0_lambda_does_13 55 = .ok (.invokestatic 196, 3) := dk_184 0 196 (dk_at dksX0_lambda_does_13_2 7 rfl rfl)
theorem dX0_lambda_does_13_58 : decode cX0_lambda_does_13 58 = .ok (.aload_n 0, 1) := dk_42 (dk_at dksX0_lambda_does_13_2 10 rfl rfl)
theorem dX0_lambda_does_13_59 : decode cX0_lambda_does_13 59 = .ok (.getfield 16, 3) := dk_180 0 16 (dk_at dksX0_lambda_does_13_2 11 rfl rfl)
theorem dX0_lambda_does_13_62 : decode cX0_lambda_does_13 62 = .ok (.getfield 65, 3) := dk_180 0 65 (dk_at dksX0_lambda_does_13_2 14 rfl rfl)
theorem dX0_lambda_does_13_65 : decode cX0_lambda_does_13 65 = .ok (.iload_n 1, 1) := dk_27 (dk_at dksX0_lambda_does_13_2 17 rfl rfl)
theorem dX0_lambda_does_13_66 : decode cX0_lambda_does_13 66 = .ok (.aaload, 1) := dk_50 (dk_at dksX0_lambda_does_13_2 18 rfl rfl)
theorem dX0_lambda_does_13_67 : decode cX0_lambda_does_13 67 = .ok (.aload_n 3, 1) := dk_45 (dk_at dksX0_lambda_does_13_2 19 rfl rfl)
theorem dX0_lambda_does_13_68 : decode cX0_lambda_does_13 68 = .ok (.invokestatic 304, 3) := dk_184 1 48 (dk_at dksX0_lambda_does_13_2 20 rfl rfl)
theorem dX0_lambda_does_13_71 : decode cX0_lambda_does_13 71 = .ok (.ireturn, 1) := dk_172 (dk_at dksX0_lambda_does_13_2 23 rfl rfl)
abbrev cX0_does_2 : ByteArray := prog_1_method_43_code
def yX0_does_2 : MethodName := ⟨RX0, "does", "(LEditsMeet$Client;LEditsMeet$Edit;)I"⟩
def dkwX0_does_2_1 : List UInt8 := [180, 1, 4, 182, 1, 8, 42, 43, 42, 180, 1, 13, 182, 1, 16, 42, 180, 0, 250, 182, 0, 245, 172]
abbrev dktX0_does_2_1 : List UInt8 := dkwX0_does_2_1 ++ []
def dkwX0_does_2_0 : List UInt8 := [42, 180, 0, 250, 43, 184, 1, 0, 154, 0, 7, 4, 167, 0, 4, 3, 16, 250, 184, 0, 196, 42]
abbrev dktX0_does_2_0 : List UInt8 := dkwX0_does_2_0 ++ dktX0_does_2_1
theorem dksX0_does_2_0 : cX0_does_2.data.toList.drop 0 = dktX0_does_2_0 := by decide +kernel
theorem dksX0_does_2_1 : cX0_does_2.data.toList.drop 22 = dktX0_does_2_1 := dk_seg dksX0_does_2_0 22 rfl rfl
theorem dX0_does_2_0 : decode cX0_does_2 0 = .ok (.aload_n 0, 1) := dk_42 (dk_at dksX0_does_2_0 0 rfl rfl)
theorem dX0_does_2_1 : decode cX0_does_2 1 = .ok (.getfield 250, 3) := dk_180 0 250 (dk_at dksX0_does_2_0 1 rfl rfl)
theorem dX0_does_2_4 : decode cX0_does_2 4 = .ok (.aload_n 1, 1) := dk_43 (dk_at dksX0_does_2_0 4 rfl rfl)
theorem dX0_does_2_5 : decode cX0_does_2 5 = .ok (.invokestatic 256, 3) := dk_184 1 0 (dk_at dksX0_does_2_0 5 rfl rfl)
theorem dX0_does_2_8 : decode cX0_does_2 8 = .ok (.ifCond .ne 7, 3) := dk_154 0 7 (dk_at dksX0_does_2_0 8 rfl rfl)
theorem dX0_does_2_11 : decode cX0_does_2 11 = .ok (.iconst 1, 1) := dk_4 (dk_at dksX0_does_2_0 11 rfl rfl)
theorem dX0_does_2_12 : decode cX0_does_2 12 = .ok (.goto 4, 3) := dk_167 0 4 (dk_at dksX0_does_2_0 12 rfl rfl)
theorem dX0_does_2_15 : decode cX0_does_2 15 = .ok (.iconst 0, 1) := dk_3 (dk_at dksX0_does_2_0 15 rfl rfl)
theorem dX0_does_2_16 : decode cX0_does_2 16 = .ok (.bipush (-6), 2) := dk_16 250 (dk_at dksX0_does_2_0 16 rfl rfl)
theorem dX0_does_2_18 : decode cX0_does_2 18 = .ok (.invokestatic 196, 3) := dk_184 0 196 (dk_at dksX0_does_2_0 18 rfl rfl)
theorem dX0_does_2_21 : decode cX0_does_2 21 = .ok (.aload_n 0, 1) := dk_42 (dk_at dksX0_does_2_0 21 rfl rfl)
theorem dX0_does_2_22 : decode cX0_does_2 22 = .ok (.getfield 260, 3) := dk_180 1 4 (dk_at dksX0_does_2_1 0 rfl rfl)
theorem dX0_does_2_25 : decode cX0_does_2 25 = .ok (.invokevirtual 264, 3) := dk_182 1 8 (dk_at dksX0_does_2_1 3 rfl rfl)
theorem dX0_does_2_28 : decode cX0_does_2 28 = .ok (.aload_n 0, 1) := dk_42 (dk_at dksX0_does_2_1 6 rfl rfl)
theorem dX0_does_2_29 : decode cX0_does_2 29 = .ok (.aload_n 1, 1) := dk_43 (dk_at dksX0_does_2_1 7 rfl rfl)
theorem dX0_does_2_30 : decode cX0_does_2 30 = .ok (.aload_n 0, 1) := dk_42 (dk_at dksX0_does_2_1 8 rfl rfl)
theorem dX0_does_2_31 : decode cX0_does_2 31 = .ok (.getfield 269, 3) := dk_180 1 13 (dk_at dksX0_does_2_1 9 rfl rfl)
theorem dX0_does_2_34 : decode cX0_does_2 34 = .ok (.invokevirtual 272, 3) := dk_182 1 16 (dk_at dksX0_does_2_1 12 rfl rfl)
theorem dX0_does_2_37 : decode cX0_does_2 37 = .ok (.aload_n 0, 1) := dk_42 (dk_at dksX0_does_2_1 15 rfl rfl)
theorem dX0_does_2_38 : decode cX0_does_2 38 = .ok (.getfield 250, 3) := dk_180 0 250 (dk_at dksX0_does_2_1 16 rfl rfl)
theorem dX0_does_2_41 : decode cX0_does_2 41 = .ok (.invokevirtual 245, 3) := dk_182 0 245 (dk_at dksX0_does_2_1 19 rfl rfl)
theorem dX0_does_2_44 : decode cX0_does_2 44 = .ok (.ireturn, 1) := dk_172 (dk_at dksX0_does_2_1 22 rfl rfl)
abbrev cX0_isTooLong : ByteArray := prog_1_method_42_code
def yX0_isTooLong : MethodName := ⟨RX0, "isTooLong", "(LEditsMeet$Text;LEditsMeet$Edit;)Z"⟩
def dkwX0_isTooLong_1 : List UInt8 := [3, 172]
abbrev dktX0_isTooLong_1 : List UInt8 := dkwX0_isTooLong_1 ++ []
def dkwX0_isTooLong_0 : List UInt8 := [43, 182, 0, 185, 16, 60, 164, 0, 18, 43, 182, 0, 185, 42, 182, 0, 245, 164, 0, 7, 4, 167, 0, 4]
abbrev dktX0_isTooLong_0 : List UInt8 := dkwX0_isTooLong_0 ++ dktX0_isTooLong_1
theorem dksX0_isTooLong_0 : cX0_isTooLong.data.toList.drop 0 = dktX0_isTooLong_0 := by decide +kernel
theorem dksX0_isTooLong_1 : cX0_isTooLong.data.toList.drop 24 = dktX0_isTooLong_1 := dk_seg dksX0_isTooLong_0 24 rfl rfl
theorem dX0_isTooLong_0 : decode cX0_isTooLong 0 = .ok (.aload_n 1, 1) := dk_43 (dk_at dksX0_isTooLong_0 0 rfl rfl)
theorem dX0_isTooLong_1 : decode cX0_isTooLong 1 = .ok (.invokevirtual 185, 3) := dk_182 0 185 (dk_at dksX0_isTooLong_0 1 rfl rfl)
theorem dX0_isTooLong_4 : decode cX0_isTooLong 4 = .ok (.bipush 60, 2) := dk_16 60 (dk_at dksX0_isTooLong_0 4 rfl rfl)
theorem dX0_isTooLong_6 : decode cX0_isTooLong 6 = .ok (.if_icmp .le 18, 3) := dk_164 0 18 (dk_at dksX0_isTooLong_0 6 rfl rfl)
theorem dX0_isTooLong_9 : decode cX0_isTooLong 9 = .ok (.aload_n 1, 1) := dk_43 (dk_at dksX0_isTooLong_0 9 rfl rfl)
theorem dX0_isTooLong_10 : decode cX0_isTooLong 10 = .ok (.invokevirtual 185, 3) := dk_182 0 185 (dk_at dksX0_isTooLong_0 10 rfl rfl)
theorem dX0_isTooLong_13 : decode cX0_isTooLong 13 = .ok (.aload_n 0, 1) := dk_42 (dk_at dksX0_isTooLong_0 13 rfl rfl)
theorem dX0_isTooLong_14 : decode cX0_isTooLong 14 = .ok (.invokevirtual 245, 3) := dk_182 0 245 (dk_at dksX0_isTooLong_0 14 rfl rfl)
theorem dX0_isTooLong_17 : decode cX0_isTooLong 17 = .ok (.if_icmp .le 7, 3) := dk_164 0 7 (dk_at dksX0_isTooLong_0 17 rfl rfl)
theorem dX0_isTooLong_20 : decode cX0_isTooLong 20 = .ok (.iconst 1, 1) := dk_4 (dk_at dksX0_isTooLong_0 20 rfl rfl)
theorem dX0_isTooLong_21 : decode cX0_isTooLong 21 = .ok (.goto 4, 3) := dk_167 0 4 (dk_at dksX0_isTooLong_0 21 rfl rfl)
theorem dX0_isTooLong_24 : decode cX0_isTooLong 24 = .ok (.iconst 0, 1) := dk_3 (dk_at dksX0_isTooLong_1 0 rfl rfl)
theorem dX0_isTooLong_25 : decode cX0_isTooLong 25 = .ok (.ireturn, 1) := dk_172 (dk_at dksX0_isTooLong_1 1 rfl rfl)
abbrev cX0_insert : ByteArray := prog_1_method_47_code
def yX0_insert : MethodName := ⟨RX0, "insert", "(IIII)I"⟩
def dkwX0_insert_0 : List UInt8 := [42, 42, 27, 28, 29, 21, 4, 186, 1, 51, 0, 0, 182, 0, 142, 172]
abbrev dktX0_insert_0 : List UInt8 := dkwX0_insert_0 ++ []
theorem dksX0_insert_0 : cX0_insert.data.toList.drop 0 = dktX0_insert_0 := by decide +kernel
theorem dX0_insert_0 : decode cX0_insert 0 = .ok (.aload_n 0, 1) := dk_42 (dk_at dksX0_insert_0 0 rfl rfl)
theorem dX0_insert_1 : decode cX0_insert 1 = .ok (.aload_n 0, 1) := dk_42 (dk_at dksX0_insert_0 1 rfl rfl)
theorem dX0_insert_2 : decode cX0_insert 2 = .ok (.iload_n 1, 1) := dk_27 (dk_at dksX0_insert_0 2 rfl rfl)
theorem dX0_insert_3 : decode cX0_insert 3 = .ok (.iload_n 2, 1) := dk_28 (dk_at dksX0_insert_0 3 rfl rfl)
theorem dX0_insert_4 : decode cX0_insert 4 = .ok (.iload_n 3, 1) := dk_29 (dk_at dksX0_insert_0 4 rfl rfl)
theorem dX0_insert_5 : decode cX0_insert 5 = .ok (.iload 4, 2) := dk_21 4 (dk_at dksX0_insert_0 5 rfl rfl)
theorem dX0_insert_7 : decode cX0_insert 7 = .ok (.invokedynamic 307, 5) := by decide +kernel
theorem dX0_insert_12 : decode cX0_insert 12 = .ok (.invokevirtual 142, 3) := dk_182 0 142 (dk_at dksX0_insert_0 12 rfl rfl)
theorem dX0_insert_15 : decode cX0_insert 15 = .ok (.ireturn, 1) := dk_172 (dk_at dksX0_insert_0 15 rfl rfl)
abbrev cX0_lambda_insert_14 : ByteArray := prog_1_method_99_code
def yX0_lambda_insert_14 : MethodName := ⟨RX0, "lambda$insert$14", "(IIII)I"⟩
def dkwX0_lambda_insert_14_2 : List UInt8 := [3, 16, 254, 184, 0, 196, 25, 5, 28, 29, 21, 4, 184, 1, 159, 172]
abbrev dktX0_lambda_insert_14_2 : List UInt8 := dkwX0_lambda_insert_14_2 ++ []
def dkwX0_lambda_insert_14_1 : List UInt8 := [3, 16, 25, 184, 0, 45, 153, 0, 18, 21, 4, 3, 16, 15, 184, 0, 45, 153, 0, 7, 4, 167, 0, 4]
abbrev dktX0_lambda_insert_14_1 : List UInt8 := dkwX0_lambda_insert_14_1 ++ dktX0_lambda_insert_14_2
def dkwX0_lambda_insert_14_0 : List UInt8 := [42, 27, 182, 1, 66, 58, 5, 28, 3, 25, 5, 180, 0, 250, 182, 0, 245, 184, 0, 45, 153, 0, 28, 29]
abbrev dktX0_lambda_insert_14_0 : List UInt8 := dkwX0_lambda_insert_14_0 ++ dktX0_lambda_insert_14_1
theorem dksX0_lambda_insert_14_0 : cX0_lambda_insert_14.data.toList.drop 0 = dktX0_lambda_insert_14_0 := by decide +kernel
theorem dksX0_lambda_insert_14_1 : cX0_lambda_insert_14.data.toList.drop 24 = dktX0_lambda_insert_14_1 := dk_seg dksX0_lambda_insert_14_0 24 rfl rfl
theorem dksX0_lambda_insert_14_2 : cX0_lambda_insert_14.data.toList.drop 48 = dktX0_lambda_insert_14_2 := dk_seg dksX0_lambda_insert_14_1 24 rfl rfl
theorem dX0_lambda_insert_14_0 : decode cX0_lambda_insert_14 0 = .ok (.aload_n 0, 1) := dk_42 (dk_at dksX0_lambda_insert_14_0 0 rfl rfl)
theorem dX0_lambda_insert_14_1 : decode cX0_lambda_insert_14 1 = .ok (.iload_n 1, 1) := dk_27 (dk_at dksX0_lambda_insert_14_0 1 rfl rfl)
theorem dX0_lambda_insert_14_2 : decode cX0_lambda_insert_14 2 = .ok (.invokevirtual 322, 3) := dk_182 1 66 (dk_at dksX0_lambda_insert_14_0 2 rfl rfl)
theorem dX0_lambda_insert_14_5 : decode cX0_lambda_insert_14 5 = .ok (.astore 5, 2) := dk_58 5 (dk_at dksX0_lambda_insert_14_0 5 rfl rfl)
theorem dX0_lambda_insert_14_7 : decode cX0_lambda_insert_14 7 = .ok (.iload_n 2, 1) := dk_28 (dk_at dksX0_lambda_insert_14_0 7 rfl rfl)
theorem dX0_lambda_insert_14_8 : decode cX0_lambda_insert_14 8 = .ok (.iconst 0, 1) := dk_3 (dk_at dksX0_lambda_insert_14_0 8 rfl rfl)
theorem dX0_lambda_insert_14_9 : decode cX0_lambda_insert_14 9 = .ok (.aload 5, 2) := dk_25 5 (dk_at dksX0_lambda_insert_14_0 9 rfl rfl)
theorem dX0_lambda_insert_14_11 : decode cX0_lambda_insert_14 11 = .ok (.getfield 250, 3) := dk_180 0 250 (dk_at dksX0_lambda_insert_14_0 11 rfl rfl)
theorem dX0_lambda_insert_14_14 : decode cX0_lambda_insert_14 14 = .ok (.invokevirtual 245, 3) := dk_182 0 245 (dk_at dksX0_lambda_insert_14_0 14 rfl rfl)
theorem dX0_lambda_insert_14_17 : decode cX0_lambda_insert_14 17 = .ok (.invokestatic 45, 3) := dk_184 0 45 (dk_at dksX0_lambda_insert_14_0 17 rfl rfl)
theorem dX0_lambda_insert_14_20 : decode cX0_lambda_insert_14 20 = .ok (.ifCond .eq 28, 3) := dk_153 0 28 (dk_at dksX0_lambda_insert_14_0 20 rfl rfl)
theorem dX0_lambda_insert_14_23 : decode cX0_lambda_insert_14 23 = .ok (.iload_n 3, 1) := dk_29 (dk_at dksX0_lambda_insert_14_0 23 rfl rfl)
theorem dX0_lambda_insert_14_24 : decode cX0_lambda_insert_14 24 = .ok (.iconst 0, 1) := dk_3 (dk_at dksX0_lambda_insert_14_1 0 rfl rfl)
theorem dX0_lambda_insert_14_25 : decode cX0_lambda_insert_14 25 = .ok (.bipush 25, 2) := dk_16 25 (dk_at dksX0_lambda_insert_14_1 1 rfl rfl)
theorem dX0_lambda_insert_14_27 : decode cX0_lambda_insert_14 27 = .ok (.invokestatic 45, 3) := dk_184 0 45 (dk_at dksX0_lambda_insert_14_1 3 rfl rfl)
theorem dX0_lambda_insert_14_30 : decode cX0_lambda_insert_14 30 = .ok (.ifCond .eq 18, 3) := dk_153 0 18 (dk_at dksX0_lambda_insert_14_1 6 rfl rfl)
theorem dX0_lambda_insert_14_33 : decode cX0_lambda_insert_14 33 = .ok (.iload 4, 2) := dk_21 4 (dk_at dksX0_lambda_insert_14_1 9 rfl rfl)
theorem dX0_lambda_insert_14_35 : decode cX0_lambda_insert_14 35 = .ok (.iconst 0, 1) := dk_3 (dk_at dksX0_lambda_insert_14_1 11 rfl rfl)
theorem dX0_lambda_insert_14_36 : decode cX0_lambda_insert_14 36 = .ok (.bipush 15, 2) := dk_16 15 (dk_at dksX0_lambda_insert_14_1 12 rfl rfl)
theorem dX0_lambda_insert_14_38 : decode cX0_lambda_insert_14 38 = .ok (.invokestatic 45, 3) := dk_184 0 45 (dk_at dksX0_lambda_insert_14_1 14 rfl rfl)
theorem dX0_lambda_insert_14_41 : decode cX0_lambda_insert_14 41 = .ok (.ifCond .eq 7, 3) := dk_153 0 7 (dk_at dksX0_lambda_insert_14_1 17 rfl rfl)
theorem dX0_lambda_insert_14_44 : decode cX0_lambda_insert_14 44 = .ok (.iconst 1, 1) := dk_4 (dk_at dksX0_lambda_insert_14_1 20 rfl rfl)
theorem dX0_lambda_insert_14_45 : decode cX0_lambda_insert_14 45 = .ok (.goto 4, 3) := dk_167 0 4 (dk_at dksX0_lambda_insert_14_1 21 rfl rfl)
theorem dX0_lambda_insert_14_48 : decode cX0_lambda_insert_14 48 = .ok (.iconst 0, 1) := dk_3 (dk_at dksX0_lambda_insert_14_2 0 rfl rfl)
theorem dX0_lambda_insert_14_49 : decode cX0_lambda_insert_14 49 = .ok (.bipush (-2), 2) := dk_16 254 (dk_at dksX0_lambda_insert_14_2 1 rfl rfl)
theorem dX0_lambda_insert_14_51 : decode cX0_lambda_insert_14 51 = .ok (.invokestatic 196, 3) := dk_184 0 196 (dk_at dksX0_lambda_insert_14_2 3 rfl rfl)
theorem dX0_lambda_insert_14_54 : decode cX0_lambda_insert_14 54 = .ok (.aload 5, 2) := dk_25 5 (dk_at dksX0_lambda_insert_14_2 6 rfl rfl)
theorem dX0_lambda_insert_14_56 : decode cX0_lambda_insert_14 56 = .ok (.iload_n 2, 1) := dk_28 (dk_at dksX0_lambda_insert_14_2 8 rfl rfl)
theorem dX0_lambda_insert_14_57 : decode cX0_lambda_insert_14 57 = .ok (.iload_n 3, 1) := dk_29 (dk_at dksX0_lambda_insert_14_2 9 rfl rfl)
theorem dX0_lambda_insert_14_58 : decode cX0_lambda_insert_14 58 = .ok (.iload 4, 2) := dk_21 4 (dk_at dksX0_lambda_insert_14_2 10 rfl rfl)
theorem dX0_lambda_insert_14_60 : decode cX0_lambda_insert_14 60 = .ok (.invokestatic 415, 3) := dk_184 1 159 (dk_at dksX0_lambda_insert_14_2 12 rfl rfl)
theorem dX0_lambda_insert_14_63 : decode cX0_lambda_insert_14 63 = .ok (.ireturn, 1) := dk_172 (dk_at dksX0_lambda_insert_14_2 15 rfl rfl)
abbrev cX0_client : ByteArray := prog_1_method_12_code
def yX0_client : MethodName := ⟨RX0, "client", "(I)LEditsMeet$Client;"⟩
def dkwX0_client_1 : List UInt8 := [27, 50, 176]
abbrev dktX0_client_1 : List UInt8 := dkwX0_client_1 ++ []
def dkwX0_client_0 : List UInt8 := [27, 184, 0, 62, 154, 0, 13, 187, 0, 53, 89, 16, 254, 183, 0, 55, 191, 42, 180, 0, 16, 180, 0, 65]
abbrev dktX0_client_0 : List UInt8 := dkwX0_client_0 ++ dktX0_client_1
theorem dksX0_client_0 : cX0_client.data.toList.drop 0 = dktX0_client_0 := by decide +kernel
theorem dksX0_client_1 : cX0_client.data.toList.drop 24 = dktX0_client_1 := dk_seg dksX0_client_0 24 rfl rfl
theorem dX0_client_0 : decode cX0_client 0 = .ok (.iload_n 1, 1) := dk_27 (dk_at dksX0_client_0 0 rfl rfl)
theorem dX0_client_1 : decode cX0_client 1 = .ok (.invokestatic 62, 3) := dk_184 0 62 (dk_at dksX0_client_0 1 rfl rfl)
theorem dX0_client_4 : decode cX0_client 4 = .ok (.ifCond .ne 13, 3) := dk_154 0 13 (dk_at dksX0_client_0 4 rfl rfl)
theorem dX0_client_7 : decode cX0_client 7 = .ok (.new 53, 3) := dk_187 0 53 (dk_at dksX0_client_0 7 rfl rfl)
theorem dX0_client_10 : decode cX0_client 10 = .ok (.dup, 1) := dk_89 (dk_at dksX0_client_0 10 rfl rfl)
theorem dX0_client_11 : decode cX0_client 11 = .ok (.bipush (-2), 2) := dk_16 254 (dk_at dksX0_client_0 11 rfl rfl)
theorem dX0_client_13 : decode cX0_client 13 = .ok (.invokespecial 55, 3) := dk_183 0 55 (dk_at dksX0_client_0 13 rfl rfl)
theorem dX0_client_16 : decode cX0_client 16 = .ok (.athrow, 1) := dk_191 (dk_at dksX0_client_0 16 rfl rfl)
theorem dX0_client_17 : decode cX0_client 17 = .ok (.aload_n 0, 1) := dk_42 (dk_at dksX0_client_0 17 rfl rfl)
theorem dX0_client_18 : decode cX0_client 18 = .ok (.getfield 16, 3) := dk_180 0 16 (dk_at dksX0_client_0 18 rfl rfl)
theorem dX0_client_21 : decode cX0_client 21 = .ok (.getfield 65, 3) := dk_180 0 65 (dk_at dksX0_client_0 21 rfl rfl)
theorem dX0_client_24 : decode cX0_client 24 = .ok (.iload_n 1, 1) := dk_27 (dk_at dksX0_client_1 0 rfl rfl)
theorem dX0_client_25 : decode cX0_client 25 = .ok (.aaload, 1) := dk_50 (dk_at dksX0_client_1 1 rfl rfl)
theorem dX0_client_26 : decode cX0_client 26 = .ok (.areturn, 1) := dk_176 (dk_at dksX0_client_1 2 rfl rfl)
abbrev cX0_inserts : ByteArray := prog_1_method_46_code
def yX0_inserts : MethodName := ⟨RX0, "inserts", "(LEditsMeet$Client;III)I"⟩
def dkwX0_inserts_2 : List UInt8 := [172]
abbrev dktX0_inserts_2 : List UInt8 := dkwX0_inserts_2 ++ []
def dkwX0_inserts_1 : List UInt8 := [180, 0, 250, 27, 16, 97, 28, 96, 184, 1, 37, 29, 184, 1, 37, 184, 1, 41, 182, 1, 45, 184, 1, 48]
abbrev dktX0_inserts_1 : List UInt8 := dkwX0_inserts_1 ++ dktX0_inserts_2
def dkwX0_inserts_0 : List UInt8 := [42, 180, 0, 250, 182, 0, 245, 16, 60, 162, 0, 7, 4, 167, 0, 4, 3, 16, 250, 184, 0, 196, 42, 42]
abbrev dktX0_inserts_0 : List UInt8 := dkwX0_inserts_0 ++ dktX0_inserts_1
theorem dksX0_inserts_0 : cX0_inserts.data.toList.drop 0 = dktX0_inserts_0 := by decide +kernel
theorem dksX0_inserts_1 : cX0_inserts.data.toList.drop 24 = dktX0_inserts_1 := dk_seg dksX0_inserts_0 24 rfl rfl
theorem dksX0_inserts_2 : cX0_inserts.data.toList.drop 48 = dktX0_inserts_2 := dk_seg dksX0_inserts_1 24 rfl rfl
theorem dX0_inserts_0 : decode cX0_inserts 0 = .ok (.aload_n 0, 1) := dk_42 (dk_at dksX0_inserts_0 0 rfl rfl)
theorem dX0_inserts_1 : decode cX0_inserts 1 = .ok (.getfield 250, 3) := dk_180 0 250 (dk_at dksX0_inserts_0 1 rfl rfl)
theorem dX0_inserts_4 : decode cX0_inserts 4 = .ok (.invokevirtual 245, 3) := dk_182 0 245 (dk_at dksX0_inserts_0 4 rfl rfl)
theorem dX0_inserts_7 : decode cX0_inserts 7 = .ok (.bipush 60, 2) := dk_16 60 (dk_at dksX0_inserts_0 7 rfl rfl)
theorem dX0_inserts_9 : decode cX0_inserts 9 = .ok (.if_icmp .ge 7, 3) := dk_162 0 7 (dk_at dksX0_inserts_0 9 rfl rfl)
theorem dX0_inserts_12 : decode cX0_inserts 12 = .ok (.iconst 1, 1) := dk_4 (dk_at dksX0_inserts_0 12 rfl rfl)
theorem dX0_inserts_13 : decode cX0_inserts 13 = .ok (.goto 4, 3) := dk_167 0 4 (dk_at dksX0_inserts_0 13 rfl rfl)
theorem dX0_inserts_16 : decode cX0_inserts 16 = .ok (.iconst 0, 1) := dk_3 (dk_at dksX0_inserts_0 16 rfl rfl)
theorem dX0_inserts_17 : decode cX0_inserts 17 = .ok (.bipush (-6), 2) := dk_16 250 (dk_at dksX0_inserts_0 17 rfl rfl)
theorem dX0_inserts_19 : decode cX0_inserts 19 = .ok (.invokestatic 196, 3) := dk_184 0 196 (dk_at dksX0_inserts_0 19 rfl rfl)
theorem dX0_inserts_22 : decode cX0_inserts 22 = .ok (.aload_n 0, 1) := dk_42 (dk_at dksX0_inserts_0 22 rfl rfl)
theorem dX0_inserts_23 : decode cX0_inserts 23 = .ok (.aload_n 0, 1) := dk_42 (dk_at dksX0_inserts_0 23 rfl rfl)
theorem dX0_inserts_24 : decode cX0_inserts 24 = .ok (.getfield 250, 3) := dk_180 0 250 (dk_at dksX0_inserts_1 0 rfl rfl)
theorem dX0_inserts_27 : decode cX0_inserts 27 = .ok (.iload_n 1, 1) := dk_27 (dk_at dksX0_inserts_1 3 rfl rfl)
theorem dX0_inserts_28 : decode cX0_inserts 28 = .ok (.bipush 97, 2) := dk_16 97 (dk_at dksX0_inserts_1 4 rfl rfl)
theorem dX0_inserts_30 : decode cX0_inserts 30 = .ok (.iload_n 2, 1) := dk_28 (dk_at dksX0_inserts_1 6 rfl rfl)
theorem dX0_inserts_31 : decode cX0_inserts 31 = .ok (.iadd, 1) := dk_96 (dk_at dksX0_inserts_1 7 rfl rfl)
theorem dX0_inserts_32 : decode cX0_inserts 32 = .ok (.invokestatic 293, 3) := dk_184 1 37 (dk_at dksX0_inserts_1 8 rfl rfl)
theorem dX0_inserts_35 : decode cX0_inserts 35 = .ok (.iload_n 3, 1) := dk_29 (dk_at dksX0_inserts_1 11 rfl rfl)
theorem dX0_inserts_36 : decode cX0_inserts 36 = .ok (.invokestatic 293, 3) := dk_184 1 37 (dk_at dksX0_inserts_1 12 rfl rfl)
theorem dX0_inserts_39 : decode cX0_inserts 39 = .ok (.invokestatic 297, 3) := dk_184 1 41 (dk_at dksX0_inserts_1 15 rfl rfl)
theorem dX0_inserts_42 : decode cX0_inserts 42 = .ok (.invokevirtual 301, 3) := dk_182 1 45 (dk_at dksX0_inserts_1 18 rfl rfl)
theorem dX0_inserts_45 : decode cX0_inserts 45 = .ok (.invokestatic 304, 3) := dk_184 1 48 (dk_at dksX0_inserts_1 21 rfl rfl)
theorem dX0_inserts_48 : decode cX0_inserts 48 = .ok (.ireturn, 1) := dk_172 (dk_at dksX0_inserts_2 0 rfl rfl)
abbrev cX0_one : ByteArray := prog_1_method_45_code
def yX0_one : MethodName := ⟨RX0, "one", "(I)Ljava/lang/String;"⟩
def dkwX0_one_0 : List UInt8 := [187, 1, 21, 89, 183, 1, 23, 19, 1, 24, 182, 1, 26, 26, 146, 182, 1, 30, 182, 1, 33, 176]
abbrev dktX0_one_0 : List UInt8 := dkwX0_one_0 ++ []
theorem dksX0_one_0 : cX0_one.data.toList.drop 0 = dktX0_one_0 := by decide +kernel
theorem dX0_one_0 : decode cX0_one 0 = .ok (.new 277, 3) := dk_187 1 21 (dk_at dksX0_one_0 0 rfl rfl)
theorem dX0_one_3 : decode cX0_one 3 = .ok (.dup, 1) := dk_89 (dk_at dksX0_one_0 3 rfl rfl)
theorem dX0_one_4 : decode cX0_one 4 = .ok (.invokespecial 279, 3) := dk_183 1 23 (dk_at dksX0_one_0 4 rfl rfl)
theorem dX0_one_7 : decode cX0_one 7 = .ok (.ldc_w 280, 3) := dk_19 1 24 (dk_at dksX0_one_0 7 rfl rfl)
theorem dX0_one_10 : decode cX0_one 10 = .ok (.invokevirtual 282, 3) := dk_182 1 26 (dk_at dksX0_one_0 10 rfl rfl)
theorem dX0_one_13 : decode cX0_one 13 = .ok (.iload_n 0, 1) := dk_26 (dk_at dksX0_one_0 13 rfl rfl)
theorem dX0_one_14 : decode cX0_one 14 = .ok (.i2c, 1) := dk_146 (dk_at dksX0_one_0 14 rfl rfl)
theorem dX0_one_15 : decode cX0_one 15 = .ok (.invokevirtual 286, 3) := dk_182 1 30 (dk_at dksX0_one_0 15 rfl rfl)
theorem dX0_one_18 : decode cX0_one 18 = .ok (.invokevirtual 289, 3) := dk_182 1 33 (dk_at dksX0_one_0 18 rfl rfl)
theorem dX0_one_21 : decode cX0_one 21 = .ok (.areturn, 1) := dk_176 (dk_at dksX0_one_0 21 rfl rfl)
abbrev cX0_cut : ByteArray := prog_1_method_49_code
def yX0_cut : MethodName := ⟨RX0, "cut", "(III)I"⟩
def dkwX0_cut_0 : List UInt8 := [42, 42, 27, 28, 29, 186, 1, 52, 0, 0, 182, 0, 142, 172]
abbrev dktX0_cut_0 : List UInt8 := dkwX0_cut_0 ++ []
theorem dksX0_cut_0 : cX0_cut.data.toList.drop 0 = dktX0_cut_0 := by decide +kernel
theorem dX0_cut_0 : decode cX0_cut 0 = .ok (.aload_n 0, 1) := dk_42 (dk_at dksX0_cut_0 0 rfl rfl)
theorem dX0_cut_1 : decode cX0_cut 1 = .ok (.aload_n 0, 1) := dk_42 (dk_at dksX0_cut_0 1 rfl rfl)
theorem dX0_cut_2 : decode cX0_cut 2 = .ok (.iload_n 1, 1) := dk_27 (dk_at dksX0_cut_0 2 rfl rfl)
theorem dX0_cut_3 : decode cX0_cut 3 = .ok (.iload_n 2, 1) := dk_28 (dk_at dksX0_cut_0 3 rfl rfl)
theorem dX0_cut_4 : decode cX0_cut 4 = .ok (.iload_n 3, 1) := dk_29 (dk_at dksX0_cut_0 4 rfl rfl)
theorem dX0_cut_5 : decode cX0_cut 5 = .ok (.invokedynamic 308, 5) := by decide +kernel
theorem dX0_cut_10 : decode cX0_cut 10 = .ok (.invokevirtual 142, 3) := dk_182 0 142 (dk_at dksX0_cut_0 10 rfl rfl)
theorem dX0_cut_13 : decode cX0_cut 13 = .ok (.ireturn, 1) := dk_172 (dk_at dksX0_cut_0 13 rfl rfl)
abbrev cX0_lambda_cut_15 : ByteArray := prog_1_method_98_code
def yX0_lambda_cut_15 : MethodName := ⟨RX0, "lambda$cut$15", "(III)I"⟩
def dkwX0_lambda_cut_15_1 : List UInt8 := [25, 4, 180, 0, 250, 28, 29, 184, 1, 163, 182, 1, 45, 184, 1, 48, 172]
abbrev dktX0_lambda_cut_15_1 : List UInt8 := dkwX0_lambda_cut_15_1 ++ []
def dkwX0_lambda_cut_15_0 : List UInt8 := [42, 27, 182, 1, 66, 58, 4, 25, 4, 180, 0, 250, 28, 29, 184, 1, 226, 16, 254, 184, 0, 196, 25, 4]
abbrev dktX0_lambda_cut_15_0 : List UInt8 := dkwX0_lambda_cut_15_0 ++ dktX0_lambda_cut_15_1
theorem dksX0_lambda_cut_15_0 : cX0_lambda_cut_15.data.toList.drop 0 = dktX0_lambda_cut_15_0 := by decide +kernel
theorem dksX0_lambda_cut_15_1 : cX0_lambda_cut_15.data.toList.drop 24 = dktX0_lambda_cut_15_1 := dk_seg dksX0_lambda_cut_15_0 24 rfl rfl
theorem dX0_lambda_cut_15_0 : decode cX0_lambda_cut_15 0 = .ok (.aload_n 0, 1) := dk_42 (dk_at dksX0_lambda_cut_15_0 0 rfl rfl)
theorem dX0_lambda_cut_15_1 : decode cX0_lambda_cut_15 1 = .ok (.iload_n 1, 1) := dk_27 (dk_at dksX0_lambda_cut_15_0 1 rfl rfl)
theorem dX0_lambda_cut_15_2 : decode cX0_lambda_cut_15 2 = .ok (.invokevirtual 322, 3) := dk_182 1 66 (dk_at dksX0_lambda_cut_15_0 2 rfl rfl)
theorem dX0_lambda_cut_15_5 : decode cX0_lambda_cut_15 5 = .ok (.astore 4, 2) := dk_58 4 (dk_at dksX0_lambda_cut_15_0 5 rfl rfl)
theorem dX0_lambda_cut_15_7 : decode cX0_lambda_cut_15 7 = .ok (.aload 4, 2) := dk_25 4 (dk_at dksX0_lambda_cut_15_0 7 rfl rfl)
theorem dX0_lambda_cut_15_9 : decode cX0_lambda_cut_15 9 = .ok (.getfield 250, 3) := dk_180 0 250 (dk_at dksX0_lambda_cut_15_0 9 rfl rfl)
theorem dX0_lambda_cut_15_12 : decode cX0_lambda_cut_15 12 = .ok (.iload_n 2, 1) := dk_28 (dk_at dksX0_lambda_cut_15_0 12 rfl rfl)
theorem dX0_lambda_cut_15_13 : decode cX0_lambda_cut_15 13 = .ok (.iload_n 3, 1) := dk_29 (dk_at dksX0_lambda_cut_15_0 13 rfl rfl)
theorem dX0_lambda_cut_15_14 : decode cX0_lambda_cut_15 14 = .ok (.invokestatic 482, 3) := dk_184 1 226 (dk_at dksX0_lambda_cut_15_0 14 rfl rfl)
theorem dX0_lambda_cut_15_17 : decode cX0_lambda_cut_15 17 = .ok (.bipush (-2), 2) := dk_16 254 (dk_at dksX0_lambda_cut_15_0 17 rfl rfl)
theorem dX0_lambda_cut_15_19 : decode cX0_lambda_cut_15 19 = .ok (.invokestatic 196, 3) := dk_184 0 196 (dk_at dksX0_lambda_cut_15_0 19 rfl rfl)
theorem dX0_lambda_cut_15_22 : decode cX0_lambda_cut_15 22 = .ok (.aload 4, 2) := dk_25 4 (dk_at dksX0_lambda_cut_15_0 22 rfl rfl)
theorem dX0_lambda_cut_15_24 : decode cX0_lambda_cut_15 24 = .ok (.aload 4, 2) := dk_25 4 (dk_at dksX0_lambda_cut_15_1 0 rfl rfl)
theorem dX0_lambda_cut_15_26 : decode cX0_lambda_cut_15 26 = .ok (.getfield 250, 3) := dk_180 0 250 (dk_at dksX0_lambda_cut_15_1 2 rfl rfl)
theorem dX0_lambda_cut_15_29 : decode cX0_lambda_cut_15 29 = .ok (.iload_n 2, 1) := dk_28 (dk_at dksX0_lambda_cut_15_1 5 rfl rfl)
theorem dX0_lambda_cut_15_30 : decode cX0_lambda_cut_15 30 = .ok (.iload_n 3, 1) := dk_29 (dk_at dksX0_lambda_cut_15_1 6 rfl rfl)
theorem dX0_lambda_cut_15_31 : decode cX0_lambda_cut_15 31 = .ok (.invokestatic 419, 3) := dk_184 1 163 (dk_at dksX0_lambda_cut_15_1 7 rfl rfl)
theorem dX0_lambda_cut_15_34 : decode cX0_lambda_cut_15 34 = .ok (.invokevirtual 301, 3) := dk_182 1 45 (dk_at dksX0_lambda_cut_15_1 10 rfl rfl)
theorem dX0_lambda_cut_15_37 : decode cX0_lambda_cut_15 37 = .ok (.invokestatic 304, 3) := dk_184 1 48 (dk_at dksX0_lambda_cut_15_1 13 rfl rfl)
theorem dX0_lambda_cut_15_40 : decode cX0_lambda_cut_15 40 = .ok (.ireturn, 1) := dk_172 (dk_at dksX0_lambda_cut_15_1 16 rfl rfl)
abbrev cX0_areThere : ByteArray := prog_1_method_48_code
def yX0_areThere : MethodName := ⟨RX0, "areThere", "(LEditsMeet$Text;II)Z"⟩
def dkwX0_areThere_1 : List UInt8 := [172]
abbrev dktX0_areThere_1 : List UInt8 := dkwX0_areThere_1 ++ []
def dkwX0_areThere_0 : List UInt8 := [27, 155, 0, 22, 28, 4, 161, 0, 17, 28, 42, 182, 0, 245, 27, 100, 163, 0, 7, 4, 167, 0, 4, 3]
abbrev dktX0_areThere_0 : List UInt8 := dkwX0_areThere_0 ++ dktX0_areThere_1
theorem dksX0_areThere_0 : cX0_areThere.data.toList.drop 0 = dktX0_areThere_0 := by decide +kernel
theorem dksX0_areThere_1 : cX0_areThere.data.toList.drop 24 = dktX0_areThere_1 := dk_seg dksX0_areThere_0 24 rfl rfl
theorem dX0_areThere_0 : decode cX0_areThere 0 = .ok (.iload_n 1, 1) := dk_27 (dk_at dksX0_areThere_0 0 rfl rfl)
theorem dX0_areThere_1 : decode cX0_areThere 1 = .ok (.ifCond .lt 22, 3) := dk_155 0 22 (dk_at dksX0_areThere_0 1 rfl rfl)
theorem dX0_areThere_4 : decode cX0_areThere 4 = .ok (.iload_n 2, 1) := dk_28 (dk_at dksX0_areThere_0 4 rfl rfl)
theorem dX0_areThere_5 : decode cX0_areThere 5 = .ok (.iconst 1, 1) := dk_4 (dk_at dksX0_areThere_0 5 rfl rfl)
theorem dX0_areThere_6 : decode cX0_areThere 6 = .ok (.if_icmp .lt 17, 3) := dk_161 0 17 (dk_at dksX0_areThere_0 6 rfl rfl)
theorem dX0_areThere_9 : decode cX0_areThere 9 = .ok (.iload_n 2, 1) := dk_28 (dk_at dksX0_areThere_0 9 rfl rfl)
theorem dX0_areThere_10 : decode cX0_areThere 10 = .ok (.aload_n 0, 1) := dk_42 (dk_at dksX0_areThere_0 10 rfl rfl)
theorem dX0_areThere_11 : decode cX0_areThere 11 = .ok (.invokevirtual 245, 3) := dk_182 0 245 (dk_at dksX0_areThere_0 11 rfl rfl)
theorem dX0_areThere_14 : decode cX0_areThere 14 = .ok (.iload_n 1, 1) := dk_27 (dk_at dksX0_areThere_0 14 rfl rfl)
theorem dX0_areThere_15 : decode cX0_areThere 15 = .ok (.isub, 1) := dk_100 (dk_at dksX0_areThere_0 15 rfl rfl)
theorem dX0_areThere_16 : decode cX0_areThere 16 = .ok (.if_icmp .gt 7, 3) := dk_163 0 7 (dk_at dksX0_areThere_0 16 rfl rfl)
theorem dX0_areThere_19 : decode cX0_areThere 19 = .ok (.iconst 1, 1) := dk_4 (dk_at dksX0_areThere_0 19 rfl rfl)
theorem dX0_areThere_20 : decode cX0_areThere 20 = .ok (.goto 4, 3) := dk_167 0 4 (dk_at dksX0_areThere_0 20 rfl rfl)
theorem dX0_areThere_23 : decode cX0_areThere 23 = .ok (.iconst 0, 1) := dk_3 (dk_at dksX0_areThere_0 23 rfl rfl)
theorem dX0_areThere_24 : decode cX0_areThere 24 = .ok (.ireturn, 1) := dk_172 (dk_at dksX0_areThere_1 0 rfl rfl)
abbrev cX0_mark : ByteArray := prog_1_method_51_code
def yX0_mark : MethodName := ⟨RX0, "mark", "(IIIII)I"⟩
def dkwX0_mark_0 : List UInt8 := [42, 42, 27, 28, 29, 21, 4, 21, 5, 186, 1, 63, 0, 0, 182, 0, 142, 172]
abbrev dktX0_mark_0 : List UInt8 := dkwX0_mark_0 ++ []
theorem dksX0_mark_0 : cX0_mark.data.toList.drop 0 = dktX0_mark_0 := by decide +kernel
theorem dX0_mark_0 : decode cX0_mark 0 = .ok (.aload_n 0, 1) := dk_42 (dk_at dksX0_mark_0 0 rfl rfl)
theorem dX0_mark_1 : decode cX0_mark 1 = .ok (.aload_n 0, 1) := dk_42 (dk_at dksX0_mark_0 1 rfl rfl)
theorem dX0_mark_2 : decode cX0_mark 2 = .ok (.iload_n 1, 1) := dk_27 (dk_at dksX0_mark_0 2 rfl rfl)
theorem dX0_mark_3 : decode cX0_mark 3 = .ok (.iload_n 2, 1) := dk_28 (dk_at dksX0_mark_0 3 rfl rfl)
theorem dX0_mark_4 : decode cX0_mark 4 = .ok (.iload_n 3, 1) := dk_29 (dk_at dksX0_mark_0 4 rfl rfl)
theorem dX0_mark_5 : decode cX0_mark 5 = .ok (.iload 4, 2) := dk_21 4 (dk_at dksX0_mark_0 5 rfl rfl)
theorem dX0_mark_7 : decode cX0_mark 7 = .ok (.iload 5, 2) := dk_21 5 (dk_at dksX0_mark_0 7 rfl rfl)
theorem dX0_mark_9 : decode cX0_mark 9 = .ok (.invokedynamic 319, 5) := by decide +kernel
theorem dX0_mark_14 : decode cX0_mark 14 = .ok (.invokevirtual 142, 3) := dk_182 0 142 (dk_at dksX0_mark_0 14 rfl rfl)
theorem dX0_mark_17 : decode cX0_mark 17 = .ok (.ireturn, 1) := dk_172 (dk_at dksX0_mark_0 17 rfl rfl)
abbrev cX0_lambda_mark_16 : ByteArray := prog_1_method_97_code
def yX0_lambda_mark_16 : MethodName := ⟨RX0, "lambda$mark$16", "(IIIII)I"⟩
def dkwX0_lambda_mark_16_2 : List UInt8 := [184, 0, 196, 25, 6, 28, 29, 21, 4, 21, 5, 4, 160, 0, 7, 4, 167, 0, 4, 3, 184, 1, 167, 172]
abbrev dktX0_lambda_mark_16_2 : List UInt8 := dkwX0_lambda_mark_16_2 ++ []
def dkwX0_lambda_mark_16_1 : List UInt8 := [184, 0, 45, 153, 0, 17, 21, 5, 3, 4, 184, 0, 45, 153, 0, 7, 4, 167, 0, 4, 3, 16, 254]
abbrev dktX0_lambda_mark_16_1 : List UInt8 := dkwX0_lambda_mark_16_1 ++ dktX0_lambda_mark_16_2
def dkwX0_lambda_mark_16_0 : List UInt8 := [42, 27, 182, 1, 66, 58, 6, 25, 6, 180, 0, 250, 28, 29, 184, 1, 226, 153, 0, 27, 21, 4, 3, 6]
abbrev dktX0_lambda_mark_16_0 : List UInt8 := dkwX0_lambda_mark_16_0 ++ dktX0_lambda_mark_16_1
theorem dksX0_lambda_mark_16_0 : cX0_lambda_mark_16.data.toList.drop 0 = dktX0_lambda_mark_16_0 := by decide +kernel
theorem dksX0_lambda_mark_16_1 : cX0_lambda_mark_16.data.toList.drop 24 = dktX0_lambda_mark_16_1 := dk_seg dksX0_lambda_mark_16_0 24 rfl rfl
theorem dksX0_lambda_mark_16_2 : cX0_lambda_mark_16.data.toList.drop 47 = dktX0_lambda_mark_16_2 := dk_seg dksX0_lambda_mark_16_1 23 rfl rfl
theorem dX0_lambda_mark_16_0 : decode cX0_lambda_mark_16 0 = .ok (.aload_n 0, 1) := dk_42 (dk_at dksX0_lambda_mark_16_0 0 rfl rfl)
theorem dX0_lambda_mark_16_1 : decode cX0_lambda_mark_16 1 = .ok (.iload_n 1, 1) := dk_27 (dk_at dksX0_lambda_mark_16_0 1 rfl rfl)
theorem dX0_lambda_mark_16_2 : decode cX0_lambda_mark_16 2 = .ok (.invokevirtual 322, 3) := dk_182 1 66 (dk_at dksX0_lambda_mark_16_0 2 rfl rfl)
theorem dX0_lambda_mark_16_5 : decode cX0_lambda_mark_16 5 = .ok (.astore 6, 2) := dk_58 6 (dk_at dksX0_lambda_mark_16_0 5 rfl rfl)
theorem dX0_lambda_mark_16_7 : decode cX0_lambda_mark_16 7 = .ok (.aload 6, 2) := dk_25 6 (dk_at dksX0_lambda_mark_16_0 7 rfl rfl)
theorem dX0_lambda_mark_16_9 : decode cX0_lambda_mark_16 9 = .ok (.getfield 250, 3) := dk_180 0 250 (dk_at dksX0_lambda_mark_16_0 9 rfl rfl)
theorem dX0_lambda_mark_16_12 : decode cX0_lambda_mark_16 12 = .ok (.iload_n 2, 1) := dk_28 (dk_at dksX0_lambda_mark_16_0 12 rfl rfl)
theorem dX0_lambda_mark_16_13 : decode cX0_lambda_mark_16 13 = .ok (.iload_n 3, 1) := dk_29 (dk_at dksX0_lambda_mark_16_0 13 rfl rfl)
theorem dX0_lambda_mark_16_14 : decode cX0_lambda_mark_16 14 = .ok (.invokestatic 482, 3) := dk_184 1 226 (dk_at dksX0_lambda_mark_16_0 14 rfl rfl)
theorem dX0_lambda_mark_16_17 : decode cX0_lambda_mark_16 17 = .ok (.ifCond .eq 27, 3) := dk_153 0 27 (dk_at dksX0_lambda_mark_16_0 17 rfl rfl)
theorem dX0_lambda_mark_16_20 : decode cX0_lambda_mark_16 20 = .ok (.iload 4, 2) := dk_21 4 (dk_at dksX0_lambda_mark_16_0 20 rfl rfl)
theorem dX0_lambda_mark_16_22 : decode cX0_lambda_mark_16 22 = .ok (.iconst 0, 1) := dk_3 (dk_at dksX0_lambda_mark_16_0 22 rfl rfl)
theorem dX0_lambda_mark_16_23 : decode cX0_lambda_mark_16 23 = .ok (.iconst 3, 1) := dk_6 (dk_at dksX0_lambda_mark_16_0 23 rfl rfl)
theorem dX0_lambda_mark_16_24 : decode cX0_lambda_mark_16 24 = .ok (.invokestatic 45, 3) := dk_184 0 45 (dk_at dksX0_lambda_mark_16_1 0 rfl rfl)
theorem dX0_lambda_mark_16_27 : decode cX0_lambda_mark_16 27 = .ok (.ifCond .eq 17, 3) := dk_153 0 17 (dk_at dksX0_lambda_mark_16_1 3 rfl rfl)
theorem dX0_lambda_mark_16_30 : decode cX0_lambda_mark_16 30 = .ok (.iload 5, 2) := dk_21 5 (dk_at dksX0_lambda_mark_16_1 6 rfl rfl)
theorem dX0_lambda_mark_16_32 : decode cX0_lambda_mark_16 32 = .ok (.iconst 0, 1) := dk_3 (dk_at dksX0_lambda_mark_16_1 8 rfl rfl)
theorem dX0_lambda_mark_16_33 : decode cX0_lambda_mark_16 33 = .ok (.iconst 1, 1) := dk_4 (dk_at dksX0_lambda_mark_16_1 9 rfl rfl)
theorem dX0_lambda_mark_16_34 : decode cX0_lambda_mark_16 34 = .ok (.invokestatic 45, 3) := dk_184 0 45 (dk_at dksX0_lambda_mark_16_1 10 rfl rfl)
theorem dX0_lambda_mark_16_37 : decode cX0_lambda_mark_16 37 = .ok (.ifCond .eq 7, 3) := dk_153 0 7 (dk_at dksX0_lambda_mark_16_1 13 rfl rfl)
theorem dX0_lambda_mark_16_40 : decode cX0_lambda_mark_16 40 = .ok (.iconst 1, 1) := dk_4 (dk_at dksX0_lambda_mark_16_1 16 rfl rfl)
theorem dX0_lambda_mark_16_41 : decode cX0_lambda_mark_16 41 = .ok (.goto 4, 3) := dk_167 0 4 (dk_at dksX0_lambda_mark_16_1 17 rfl rfl)
theorem dX0_lambda_mark_16_44 : decode cX0_lambda_mark_16 44 = .ok (.iconst 0, 1) := dk_3 (dk_at dksX0_lambda_mark_16_1 20 rfl rfl)
theorem dX0_lambda_mark_16_45 : decode cX0_lambda_mark_16 45 = .ok (.bipush (-2), 2) := dk_16 254 (dk_at dksX0_lambda_mark_16_1 21 rfl rfl)
theorem dX0_lambda_mark_16_47 : decode cX0_lambda_mark_16 47 = .ok (.invokestatic 196, 3) := dk_184 0 196 (dk_at dksX0_lambda_mark_16_2 0 rfl rfl)
theorem dX0_lambda_mark_16_50 : decode cX0_lambda_mark_16 50 = .ok (.aload 6, 2) := dk_25 6 (dk_at dksX0_lambda_mark_16_2 3 rfl rfl)
theorem dX0_lambda_mark_16_52 : decode cX0_lambda_mark_16 52 = .ok (.iload_n 2, 1) := dk_28 (dk_at dksX0_lambda_mark_16_2 5 rfl rfl)
theorem dX0_lambda_mark_16_53 : decode cX0_lambda_mark_16 53 = .ok (.iload_n 3, 1) := dk_29 (dk_at dksX0_lambda_mark_16_2 6 rfl rfl)
theorem dX0_lambda_mark_16_54 : decode cX0_lambda_mark_16 54 = .ok (.iload 4, 2) := dk_21 4 (dk_at dksX0_lambda_mark_16_2 7 rfl rfl)
theorem dX0_lambda_mark_16_56 : decode cX0_lambda_mark_16 56 = .ok (.iload 5, 2) := dk_21 5 (dk_at dksX0_lambda_mark_16_2 9 rfl rfl)
theorem dX0_lambda_mark_16_58 : decode cX0_lambda_mark_16 58 = .ok (.iconst 1, 1) := dk_4 (dk_at dksX0_lambda_mark_16_2 11 rfl rfl)
theorem dX0_lambda_mark_16_59 : decode cX0_lambda_mark_16 59 = .ok (.if_icmp .ne 7, 3) := dk_160 0 7 (dk_at dksX0_lambda_mark_16_2 12 rfl rfl)
theorem dX0_lambda_mark_16_62 : decode cX0_lambda_mark_16 62 = .ok (.iconst 1, 1) := dk_4 (dk_at dksX0_lambda_mark_16_2 15 rfl rfl)
theorem dX0_lambda_mark_16_63 : decode cX0_lambda_mark_16 63 = .ok (.goto 4, 3) := dk_167 0 4 (dk_at dksX0_lambda_mark_16_2 16 rfl rfl)
theorem dX0_lambda_mark_16_66 : decode cX0_lambda_mark_16 66 = .ok (.iconst 0, 1) := dk_3 (dk_at dksX0_lambda_mark_16_2 19 rfl rfl)
theorem dX0_lambda_mark_16_67 : decode cX0_lambda_mark_16 67 = .ok (.invokestatic 423, 3) := dk_184 1 167 (dk_at dksX0_lambda_mark_16_2 20 rfl rfl)
theorem dX0_lambda_mark_16_70 : decode cX0_lambda_mark_16 70 = .ok (.ireturn, 1) := dk_172 (dk_at dksX0_lambda_mark_16_2 23 rfl rfl)
abbrev cX0_marks : ByteArray := prog_1_method_50_code
def yX0_marks : MethodName := ⟨RX0, "marks", "(LEditsMeet$Client;IIIZ)I"⟩
def dkwX0_marks_3 : List UInt8 := [153, 0, 7, 3, 167, 0, 6, 4, 29, 120, 184, 1, 60, 182, 1, 45, 184, 1, 48, 87, 21, 5, 172]
abbrev dktX0_marks_3 : List UInt8 := dkwX0_marks_3 ++ []
def dkwX0_marks_2 : List UInt8 := [167, 255, 217, 42, 42, 180, 0, 250, 27, 28, 21, 4, 153, 0, 9, 4, 29, 120, 167, 0, 4, 3, 21, 4]
abbrev dktX0_marks_2 : List UInt8 := dkwX0_marks_2 ++ dktX0_marks_3
def dkwX0_marks_1 : List UInt8 := [182, 1, 53, 29, 184, 1, 56, 21, 4, 159, 0, 7, 4, 167, 0, 4, 3, 96, 54, 5, 132, 6, 1]
abbrev dktX0_marks_1 : List UInt8 := dkwX0_marks_1 ++ dktX0_marks_2
def dkwX0_marks_0 : List UInt8 := [3, 54, 5, 27, 54, 6, 21, 6, 27, 28, 96, 162, 0, 37, 21, 5, 42, 180, 0, 250, 21, 6]
abbrev dktX0_marks_0 : List UInt8 := dkwX0_marks_0 ++ dktX0_marks_1
theorem dksX0_marks_0 : cX0_marks.data.toList.drop 0 = dktX0_marks_0 := by decide +kernel
theorem dksX0_marks_1 : cX0_marks.data.toList.drop 22 = dktX0_marks_1 := dk_seg dksX0_marks_0 22 rfl rfl
theorem dksX0_marks_2 : cX0_marks.data.toList.drop 45 = dktX0_marks_2 := dk_seg dksX0_marks_1 23 rfl rfl
theorem dksX0_marks_3 : cX0_marks.data.toList.drop 69 = dktX0_marks_3 := dk_seg dksX0_marks_2 24 rfl rfl
theorem dX0_marks_0 : decode cX0_marks 0 = .ok (.iconst 0, 1) := dk_3 (dk_at dksX0_marks_0 0 rfl rfl)
theorem dX0_marks_1 : decode cX0_marks 1 = .ok (.istore 5, 2) := dk_54 5 (dk_at dksX0_marks_0 1 rfl rfl)
theorem dX0_marks_3 : decode cX0_marks 3 = .ok (.iload_n 1, 1) := dk_27 (dk_at dksX0_marks_0 3 rfl rfl)
theorem dX0_marks_4 : decode cX0_marks 4 = .ok (.istore 6, 2) := dk_54 6 (dk_at dksX0_marks_0 4 rfl rfl)
theorem dX0_marks_6 : decode cX0_marks 6 = .ok (.iload 6, 2) := dk_21 6 (dk_at dksX0_marks_0 6 rfl rfl)
theorem dX0_marks_8 : decode cX0_marks 8 = .ok (.iload_n 1, 1) := dk_27 (dk_at dksX0_marks_0 8 rfl rfl)
theorem dX0_marks_9 : decode cX0_marks 9 = .ok (.iload_n 2, 1) := dk_28 (dk_at dksX0_marks_0 9 rfl rfl)
theorem dX0_marks_10 : decode cX0_marks 10 = .ok (.iadd, 1) := dk_96 (dk_at dksX0_marks_0 10 rfl rfl)
theorem dX0_marks_11 : decode cX0_marks 11 = .ok (.if_icmp .ge 37, 3) := dk_162 0 37 (dk_at dksX0_marks_0 11 rfl rfl)
theorem dX0_marks_14 : decode cX0_marks 14 = .ok (.iload 5, 2) := dk_21 5 (dk_at dksX0_marks_0 14 rfl rfl)
theorem dX0_marks_16 : decode cX0_marks 16 = .ok (.aload_n 0, 1) := dk_42 (dk_at dksX0_marks_0 16 rfl rfl)
theorem dX0_marks_17 : decode cX0_marks 17 = .ok (.getfield 250, 3) := dk_180 0 250 (dk_at dksX0_marks_0 17 rfl rfl)
theorem dX0_marks_20 : decode cX0_marks 20 = .ok (.iload 6, 2) := dk_21 6 (dk_at dksX0_marks_0 20 rfl rfl)
theorem dX0_marks_22 : decode cX0_marks 22 = .ok (.invokevirtual 309, 3) := dk_182 1 53 (dk_at dksX0_marks_1 0 rfl rfl)
theorem dX0_marks_25 : decode cX0_marks 25 = .ok (.iload_n 3, 1) := dk_29 (dk_at dksX0_marks_1 3 rfl rfl)
theorem dX0_marks_26 : decode cX0_marks 26 = .ok (.invokestatic 312, 3) := dk_184 1 56 (dk_at dksX0_marks_1 4 rfl rfl)
theorem dX0_marks_29 : decode cX0_marks 29 = .ok (.iload 4, 2) := dk_21 4 (dk_at dksX0_marks_1 7 rfl rfl)
theorem dX0_marks_31 : decode cX0_marks 31 = .ok (.if_icmp .eq 7, 3) := dk_159 0 7 (dk_at dksX0_marks_1 9 rfl rfl)
theorem dX0_marks_34 : decode cX0_marks 34 = .ok (.iconst 1, 1) := dk_4 (dk_at dksX0_marks_1 12 rfl rfl)
theorem dX0_marks_35 : decode cX0_marks 35 = .ok (.goto 4, 3) := dk_167 0 4 (dk_at dksX0_marks_1 13 rfl rfl)
theorem dX0_marks_38 : decode cX0_marks 38 = .ok (.iconst 0, 1) := dk_3 (dk_at dksX0_marks_1 16 rfl rfl)
theorem dX0_marks_39 : decode cX0_marks 39 = .ok (.iadd, 1) := dk_96 (dk_at dksX0_marks_1 17 rfl rfl)
theorem dX0_marks_40 : decode cX0_marks 40 = .ok (.istore 5, 2) := dk_54 5 (dk_at dksX0_marks_1 18 rfl rfl)
theorem dX0_marks_42 : decode cX0_marks 42 = .ok (.iinc 6 1, 3) := dk_132 6 1 (dk_at dksX0_marks_1 20 rfl rfl)
theorem dX0_marks_45 : decode cX0_marks 45 = .ok (.goto (-39), 3) := dk_167 255 217 (dk_at dksX0_marks_2 0 rfl rfl)
theorem dX0_marks_48 : decode cX0_marks 48 = .ok (.aload_n 0, 1) := dk_42 (dk_at dksX0_marks_2 3 rfl rfl)
theorem dX0_marks_49 : decode cX0_marks 49 = .ok (.aload_n 0, 1) := dk_42 (dk_at dksX0_marks_2 4 rfl rfl)
theorem dX0_marks_50 : decode cX0_marks 50 = .ok (.getfield 250, 3) := dk_180 0 250 (dk_at dksX0_marks_2 5 rfl rfl)
theorem dX0_marks_53 : decode cX0_marks 53 = .ok (.iload_n 1, 1) := dk_27 (dk_at dksX0_marks_2 8 rfl rfl)
theorem dX0_marks_54 : decode cX0_marks 54 = .ok (.iload_n 2, 1) := dk_28 (dk_at dksX0_marks_2 9 rfl rfl)
theorem dX0_marks_55 : decode cX0_marks 55 = .ok (.iload 4, 2) := dk_21 4 (dk_at dksX0_marks_2 10 rfl rfl)
theorem dX0_marks_57 : decode cX0_marks 57 = .ok (.ifCond .eq 9, 3) := dk_153 0 9 (dk_at dksX0_marks_2 12 rfl rfl)
theorem dX0_marks_60 : decode cX0_marks 60 = .ok (.iconst 1, 1) := dk_4 (dk_at dksX0_marks_2 15 rfl rfl)
theorem dX0_marks_61 : decode cX0_marks 61 = .ok (.iload_n 3, 1) := dk_29 (dk_at dksX0_marks_2 16 rfl rfl)
theorem dX0_marks_62 : decode cX0_marks 62 = .ok (.ishl, 1) := dk_120 (dk_at dksX0_marks_2 17 rfl rfl)
theorem dX0_marks_63 : decode cX0_marks 63 = .ok (.goto 4, 3) := dk_167 0 4 (dk_at dksX0_marks_2 18 rfl rfl)
theorem dX0_marks_66 : decode cX0_marks 66 = .ok (.iconst 0, 1) := dk_3 (dk_at dksX0_marks_2 21 rfl rfl)
theorem dX0_marks_67 : decode cX0_marks 67 = .ok (.iload 4, 2) := dk_21 4 (dk_at dksX0_marks_2 22 rfl rfl)
theorem dX0_marks_69 : decode cX0_marks 69 = .ok (.ifCond .eq 7, 3) := dk_153 0 7 (dk_at dksX0_marks_3 0 rfl rfl)
theorem dX0_marks_72 : decode cX0_marks 72 = .ok (.iconst 0, 1) := dk_3 (dk_at dksX0_marks_3 3 rfl rfl)
theorem dX0_marks_73 : decode cX0_marks 73 = .ok (.goto 6, 3) := dk_167 0 6 (dk_at dksX0_marks_3 4 rfl rfl)
theorem dX0_marks_76 : decode cX0_marks 76 = .ok (.iconst 1, 1) := dk_4 (dk_at dksX0_marks_3 7 rfl rfl)
theorem dX0_marks_77 : decode cX0_marks 77 = .ok (.iload_n 3, 1) := dk_29 (dk_at dksX0_marks_3 8 rfl rfl)
theorem dX0_marks_78 : decode cX0_marks 78 = .ok (.ishl, 1) := dk_120 (dk_at dksX0_marks_3 9 rfl rfl)
theorem dX0_marks_79 : decode cX0_marks 79 = .ok (.invokestatic 316, 3) := dk_184 1 60 (dk_at dksX0_marks_3 10 rfl rfl)
theorem dX0_marks_82 : decode cX0_marks 82 = .ok (.invokevirtual 301, 3) := dk_182 1 45 (dk_at dksX0_marks_3 13 rfl rfl)
theorem dX0_marks_85 : decode cX0_marks 85 = .ok (.invokestatic 304, 3) := dk_184 1 48 (dk_at dksX0_marks_3 16 rfl rfl)
theorem dX0_marks_88 : decode cX0_marks 88 = .ok (.pop, 1) := dk_87 (dk_at dksX0_marks_3 19 rfl rfl)
theorem dX0_marks_89 : decode cX0_marks 89 = .ok (.iload 5, 2) := dk_21 5 (dk_at dksX0_marks_3 20 rfl rfl)
theorem dX0_marks_91 : decode cX0_marks 91 = .ok (.ireturn, 1) := dk_172 (dk_at dksX0_marks_3 22 rfl rfl)
abbrev cX0_has : ByteArray := prog_1_method_2_code
def yX0_has : MethodName := ⟨RX0, "has", "(II)Z"⟩
def dkwX0_has_0 : List UInt8 := [26, 27, 122, 4, 126, 4, 160, 0, 7, 4, 167, 0, 4, 3, 172]
abbrev dktX0_has_0 : List UInt8 := dkwX0_has_0 ++ []
theorem dksX0_has_0 : cX0_has.data.toList.drop 0 = dktX0_has_0 := by decide +kernel
theorem dX0_has_0 : decode cX0_has 0 = .ok (.iload_n 0, 1) := dk_26 (dk_at dksX0_has_0 0 rfl rfl)
theorem dX0_has_1 : decode cX0_has 1 = .ok (.iload_n 1, 1) := dk_27 (dk_at dksX0_has_0 1 rfl rfl)
theorem dX0_has_2 : decode cX0_has 2 = .ok (.ishr, 1) := dk_122 (dk_at dksX0_has_0 2 rfl rfl)
theorem dX0_has_3 : decode cX0_has 3 = .ok (.iconst 1, 1) := dk_4 (dk_at dksX0_has_0 3 rfl rfl)
theorem dX0_has_4 : decode cX0_has 4 = .ok (.iand, 1) := dk_126 (dk_at dksX0_has_0 4 rfl rfl)
theorem dX0_has_5 : decode cX0_has 5 = .ok (.iconst 1, 1) := dk_4 (dk_at dksX0_has_0 5 rfl rfl)
theorem dX0_has_6 : decode cX0_has 6 = .ok (.if_icmp .ne 7, 3) := dk_160 0 7 (dk_at dksX0_has_0 6 rfl rfl)
theorem dX0_has_9 : decode cX0_has 9 = .ok (.iconst 1, 1) := dk_4 (dk_at dksX0_has_0 9 rfl rfl)
theorem dX0_has_10 : decode cX0_has 10 = .ok (.goto 4, 3) := dk_167 0 4 (dk_at dksX0_has_0 10 rfl rfl)
theorem dX0_has_13 : decode cX0_has 13 = .ok (.iconst 0, 1) := dk_3 (dk_at dksX0_has_0 13 rfl rfl)
theorem dX0_has_14 : decode cX0_has 14 = .ok (.ireturn, 1) := dk_172 (dk_at dksX0_has_0 14 rfl rfl)
abbrev cX0_serve : ByteArray := prog_1_method_53_code
def yX0_serve : MethodName := ⟨RX0, "serve", "(I)I"⟩
def dkwX0_serve_0 : List UInt8 := [42, 42, 27, 186, 1, 87, 0, 0, 182, 0, 142, 172]
abbrev dktX0_serve_0 : List UInt8 := dkwX0_serve_0 ++ []
theorem dksX0_serve_0 : cX0_serve.data.toList.drop 0 = dktX0_serve_0 := by decide +kernel
theorem dX0_serve_0 : decode cX0_serve 0 = .ok (.aload_n 0, 1) := dk_42 (dk_at dksX0_serve_0 0 rfl rfl)
theorem dX0_serve_1 : decode cX0_serve 1 = .ok (.aload_n 0, 1) := dk_42 (dk_at dksX0_serve_0 1 rfl rfl)
theorem dX0_serve_2 : decode cX0_serve 2 = .ok (.iload_n 1, 1) := dk_27 (dk_at dksX0_serve_0 2 rfl rfl)
theorem dX0_serve_3 : decode cX0_serve 3 = .ok (.invokedynamic 343, 5) := by decide +kernel
theorem dX0_serve_8 : decode cX0_serve 8 = .ok (.invokevirtual 142, 3) := dk_182 0 142 (dk_at dksX0_serve_0 8 rfl rfl)
theorem dX0_serve_11 : decode cX0_serve 11 = .ok (.ireturn, 1) := dk_172 (dk_at dksX0_serve_0 11 rfl rfl)
abbrev cX0_lambda_serve_17 : ByteArray := prog_1_method_96_code
def yX0_lambda_serve_17 : MethodName := ⟨RX0, "lambda$serve$17", "(I)I"⟩
def dkwX0_lambda_serve_17_0 : List UInt8 := [42, 27, 182, 1, 176, 172]
abbrev dktX0_lambda_serve_17_0 : List UInt8 := dkwX0_lambda_serve_17_0 ++ []
theorem dksX0_lambda_serve_17_0 : cX0_lambda_serve_17.data.toList.drop 0 = dktX0_lambda_serve_17_0 := by decide +kernel
theorem dX0_lambda_serve_17_0 : decode cX0_lambda_serve_17 0 = .ok (.aload_n 0, 1) := dk_42 (dk_at dksX0_lambda_serve_17_0 0 rfl rfl)
theorem dX0_lambda_serve_17_1 : decode cX0_lambda_serve_17 1 = .ok (.iload_n 1, 1) := dk_27 (dk_at dksX0_lambda_serve_17_0 1 rfl rfl)
theorem dX0_lambda_serve_17_2 : decode cX0_lambda_serve_17 2 = .ok (.invokevirtual 432, 3) := dk_182 1 176 (dk_at dksX0_lambda_serve_17_0 2 rfl rfl)
theorem dX0_lambda_serve_17_5 : decode cX0_lambda_serve_17 5 = .ok (.ireturn, 1) := dk_172 (dk_at dksX0_lambda_serve_17_0 5 rfl rfl)
abbrev cX0_serves : ByteArray := prog_1_method_52_code
def yX0_serves : MethodName := ⟨RX0, "serves", "(I)I"⟩
def dkwX0_serves_2 : List UInt8 := [182, 1, 83, 172]
abbrev dktX0_serves_2 : List UInt8 := dkwX0_serves_2 ++ []
def dkwX0_serves_1 : List UInt8 := [167, 0, 4, 3, 16, 250, 184, 0, 196, 42, 180, 0, 16, 27, 182, 1, 76, 42, 180, 0, 16, 180, 1, 79]
abbrev dktX0_serves_1 : List UInt8 := dkwX0_serves_1 ++ dktX0_serves_2
def dkwX0_serves_0 : List UInt8 := [42, 27, 182, 1, 66, 182, 1, 69, 16, 251, 184, 0, 196, 42, 180, 0, 16, 182, 1, 73, 154, 0, 7, 4]
abbrev dktX0_serves_0 : List UInt8 := dkwX0_serves_0 ++ dktX0_serves_1
theorem dksX0_serves_0 : cX0_serves.data.toList.drop 0 = dktX0_serves_0 := by decide +kernel
theorem dksX0_serves_1 : cX0_serves.data.toList.drop 24 = dktX0_serves_1 := dk_seg dksX0_serves_0 24 rfl rfl
theorem dksX0_serves_2 : cX0_serves.data.toList.drop 48 = dktX0_serves_2 := dk_seg dksX0_serves_1 24 rfl rfl
theorem dX0_serves_0 : decode cX0_serves 0 = .ok (.aload_n 0, 1) := dk_42 (dk_at dksX0_serves_0 0 rfl rfl)
theorem dX0_serves_1 : decode cX0_serves 1 = .ok (.iload_n 1, 1) := dk_27 (dk_at dksX0_serves_0 1 rfl rfl)
theorem dX0_serves_2 : decode cX0_serves 2 = .ok (.invokevirtual 322, 3) := dk_182 1 66 (dk_at dksX0_serves_0 2 rfl rfl)
theorem dX0_serves_5 : decode cX0_serves 5 = .ok (.invokevirtual 325, 3) := dk_182 1 69 (dk_at dksX0_serves_0 5 rfl rfl)
theorem dX0_serves_8 : decode cX0_serves 8 = .ok (.bipush (-5), 2) := dk_16 251 (dk_at dksX0_serves_0 8 rfl rfl)
theorem dX0_serves_10 : decode cX0_serves 10 = .ok (.invokestatic 196, 3) := dk_184 0 196 (dk_at dksX0_serves_0 10 rfl rfl)
theorem dX0_serves_13 : decode cX0_serves 13 = .ok (.aload_n 0, 1) := dk_42 (dk_at dksX0_serves_0 13 rfl rfl)
theorem dX0_serves_14 : decode cX0_serves 14 = .ok (.getfield 16, 3) := dk_180 0 16 (dk_at dksX0_serves_0 14 rfl rfl)
theorem dX0_serves_17 : decode cX0_serves 17 = .ok (.invokevirtual 329, 3) := dk_182 1 73 (dk_at dksX0_serves_0 17 rfl rfl)
theorem dX0_serves_20 : decode cX0_serves 20 = .ok (.ifCond .ne 7, 3) := dk_154 0 7 (dk_at dksX0_serves_0 20 rfl rfl)
theorem dX0_serves_23 : decode cX0_serves 23 = .ok (.iconst 1, 1) := dk_4 (dk_at dksX0_serves_0 23 rfl rfl)
theorem dX0_serves_24 : decode cX0_serves 24 = .ok (.goto 4, 3) := dk_167 0 4 (dk_at dksX0_serves_1 0 rfl rfl)
theorem dX0_serves_27 : decode cX0_serves 27 = .ok (.iconst 0, 1) := dk_3 (dk_at dksX0_serves_1 3 rfl rfl)
theorem dX0_serves_28 : decode cX0_serves 28 = .ok (.bipush (-6), 2) := dk_16 250 (dk_at dksX0_serves_1 4 rfl rfl)
theorem dX0_serves_30 : decode cX0_serves 30 = .ok (.invokestatic 196, 3) := dk_184 0 196 (dk_at dksX0_serves_1 6 rfl rfl)
theorem dX0_serves_33 : decode cX0_serves 33 = .ok (.aload_n 0, 1) := dk_42 (dk_at dksX0_serves_1 9 rfl rfl)
theorem dX0_serves_34 : decode cX0_serves 34 = .ok (.getfield 16, 3) := dk_180 0 16 (dk_at dksX0_serves_1 10 rfl rfl)
theorem dX0_serves_37 : decode cX0_serves 37 = .ok (.iload_n 1, 1) := dk_27 (dk_at dksX0_serves_1 13 rfl rfl)
theorem dX0_serves_38 : decode cX0_serves 38 = .ok (.invokevirtual 332, 3) := dk_182 1 76 (dk_at dksX0_serves_1 14 rfl rfl)
theorem dX0_serves_41 : decode cX0_serves 41 = .ok (.aload_n 0, 1) := dk_42 (dk_at dksX0_serves_1 17 rfl rfl)
theorem dX0_serves_42 : decode cX0_serves 42 = .ok (.getfield 16, 3) := dk_180 0 16 (dk_at dksX0_serves_1 18 rfl rfl)
theorem dX0_serves_45 : decode cX0_serves 45 = .ok (.getfield 335, 3) := dk_180 1 79 (dk_at dksX0_serves_1 21 rfl rfl)
theorem dX0_serves_48 : decode cX0_serves 48 = .ok (.invokevirtual 339, 3) := dk_182 1 83 (dk_at dksX0_serves_2 0 rfl rfl)
theorem dX0_serves_51 : decode cX0_serves 51 = .ok (.ireturn, 1) := dk_172 (dk_at dksX0_serves_2 3 rfl rfl)
abbrev cX0_hear : ByteArray := prog_1_method_55_code
def yX0_hear : MethodName := ⟨RX0, "hear", "(I)I"⟩
def dkwX0_hear_0 : List UInt8 := [42, 42, 27, 186, 1, 99, 0, 0, 182, 0, 142, 172]
abbrev dktX0_hear_0 : List UInt8 := dkwX0_hear_0 ++ []
theorem dksX0_hear_0 : cX0_hear.data.toList.drop 0 = dktX0_hear_0 := by decide +kernel
theorem dX0_hear_0 : decode cX0_hear 0 = .ok (.aload_n 0, 1) := dk_42 (dk_at dksX0_hear_0 0 rfl rfl)
theorem dX0_hear_1 : decode cX0_hear 1 = .ok (.aload_n 0, 1) := dk_42 (dk_at dksX0_hear_0 1 rfl rfl)
theorem dX0_hear_2 : decode cX0_hear 2 = .ok (.iload_n 1, 1) := dk_27 (dk_at dksX0_hear_0 2 rfl rfl)
theorem dX0_hear_3 : decode cX0_hear 3 = .ok (.invokedynamic 355, 5) := by decide +kernel
theorem dX0_hear_8 : decode cX0_hear 8 = .ok (.invokevirtual 142, 3) := dk_182 0 142 (dk_at dksX0_hear_0 8 rfl rfl)
theorem dX0_hear_11 : decode cX0_hear 11 = .ok (.ireturn, 1) := dk_172 (dk_at dksX0_hear_0 11 rfl rfl)
abbrev cX0_lambda_hear_18 : ByteArray := prog_1_method_95_code
def yX0_lambda_hear_18 : MethodName := ⟨RX0, "lambda$hear$18", "(I)I"⟩
def dkwX0_lambda_hear_18_0 : List UInt8 := [42, 27, 182, 1, 178, 172]
abbrev dktX0_lambda_hear_18_0 : List UInt8 := dkwX0_lambda_hear_18_0 ++ []
theorem dksX0_lambda_hear_18_0 : cX0_lambda_hear_18.data.toList.drop 0 = dktX0_lambda_hear_18_0 := by decide +kernel
theorem dX0_lambda_hear_18_0 : decode cX0_lambda_hear_18 0 = .ok (.aload_n 0, 1) := dk_42 (dk_at dksX0_lambda_hear_18_0 0 rfl rfl)
theorem dX0_lambda_hear_18_1 : decode cX0_lambda_hear_18 1 = .ok (.iload_n 1, 1) := dk_27 (dk_at dksX0_lambda_hear_18_0 1 rfl rfl)
theorem dX0_lambda_hear_18_2 : decode cX0_lambda_hear_18 2 = .ok (.invokevirtual 434, 3) := dk_182 1 178 (dk_at dksX0_lambda_hear_18_0 2 rfl rfl)
theorem dX0_lambda_hear_18_5 : decode cX0_lambda_hear_18 5 = .ok (.ireturn, 1) := dk_172 (dk_at dksX0_lambda_hear_18_0 5 rfl rfl)
abbrev cX0_hears : ByteArray := prog_1_method_54_code
def yX0_hears : MethodName := ⟨RX0, "hears", "(I)I"⟩
def dkwX0_hears_1 : List UInt8 := [182, 1, 93, 44, 180, 1, 96, 172]
abbrev dktX0_hears_1 : List UInt8 := dkwX0_hears_1 ++ []
def dkwX0_hears_0 : List UInt8 := [42, 27, 182, 1, 66, 77, 42, 180, 0, 16, 27, 182, 1, 90, 16, 251, 184, 0, 196, 42, 180, 0, 16, 27]
abbrev dktX0_hears_0 : List UInt8 := dkwX0_hears_0 ++ dktX0_hears_1
theorem dksX0_hears_0 : cX0_hears.data.toList.drop 0 = dktX0_hears_0 := by decide +kernel
theorem dksX0_hears_1 : cX0_hears.data.toList.drop 24 = dktX0_hears_1 := dk_seg dksX0_hears_0 24 rfl rfl
theorem dX0_hears_0 : decode cX0_hears 0 = .ok (.aload_n 0, 1) := dk_42 (dk_at dksX0_hears_0 0 rfl rfl)
theorem dX0_hears_1 : decode cX0_hears 1 = .ok (.iload_n 1, 1) := dk_27 (dk_at dksX0_hears_0 1 rfl rfl)
theorem dX0_hears_2 : decode cX0_hears 2 = .ok (.invokevirtual 322, 3) := dk_182 1 66 (dk_at dksX0_hears_0 2 rfl rfl)
theorem dX0_hears_5 : decode cX0_hears 5 = .ok (.astore_n 2, 1) := dk_77 (dk_at dksX0_hears_0 5 rfl rfl)
theorem dX0_hears_6 : decode cX0_hears 6 = .ok (.aload_n 0, 1) := dk_42 (dk_at dksX0_hears_0 6 rfl rfl)
theorem dX0_hears_7 : decode cX0_hears 7 = .ok (.getfield 16, 3) := dk_180 0 16 (dk_at dksX0_hears_0 7 rfl rfl)
theorem dX0_hears_10 : decode cX0_hears 10 = .ok (.iload_n 1, 1) := dk_27 (dk_at dksX0_hears_0 10 rfl rfl)
theorem dX0_hears_11 : decode cX0_hears 11 = .ok (.invokevirtual 346, 3) := dk_182 1 90 (dk_at dksX0_hears_0 11 rfl rfl)
theorem dX0_hears_14 : decode cX0_hears 14 = .ok (.bipush (-5), 2) := dk_16 251 (dk_at dksX0_hears_0 14 rfl rfl)
theorem dX0_hears_16 : decode cX0_hears 16 = .ok (.invokestatic 196, 3) := dk_184 0 196 (dk_at dksX0_hears_0 16 rfl rfl)
theorem dX0_hears_19 : decode cX0_hears 19 = .ok (.aload_n 0, 1) := dk_42 (dk_at dksX0_hears_0 19 rfl rfl)
theorem dX0_hears_20 : decode cX0_hears 20 = .ok (.getfield 16, 3) := dk_180 0 16 (dk_at dksX0_hears_0 20 rfl rfl)
theorem dX0_hears_23 : decode cX0_hears 23 = .ok (.iload_n 1, 1) := dk_27 (dk_at dksX0_hears_0 23 rfl rfl)
theorem dX0_hears_24 : decode cX0_hears 24 = .ok (.invokevirtual 349, 3) := dk_182 1 93 (dk_at dksX0_hears_1 0 rfl rfl)
theorem dX0_hears_27 : decode cX0_hears 27 = .ok (.aload_n 2, 1) := dk_44 (dk_at dksX0_hears_1 3 rfl rfl)
theorem dX0_hears_28 : decode cX0_hears 28 = .ok (.getfield 352, 3) := dk_180 1 96 (dk_at dksX0_hears_1 4 rfl rfl)
theorem dX0_hears_31 : decode cX0_hears 31 = .ok (.ireturn, 1) := dk_172 (dk_at dksX0_hears_1 7 rfl rfl)
abbrev cX0_meet : ByteArray := prog_1_method_57_code
def yX0_meet : MethodName := ⟨RX0, "meet", "()I"⟩
def dkwX0_meet_0 : List UInt8 := [42, 42, 186, 1, 100, 0, 0, 182, 0, 142, 172]
abbrev dktX0_meet_0 : List UInt8 := dkwX0_meet_0 ++ []
theorem dksX0_meet_0 : cX0_meet.data.toList.drop 0 = dktX0_meet_0 := by decide +kernel
theorem dX0_meet_0 : decode cX0_meet 0 = .ok (.aload_n 0, 1) := dk_42 (dk_at dksX0_meet_0 0 rfl rfl)
theorem dX0_meet_1 : decode cX0_meet 1 = .ok (.aload_n 0, 1) := dk_42 (dk_at dksX0_meet_0 1 rfl rfl)
theorem dX0_meet_2 : decode cX0_meet 2 = .ok (.invokedynamic 356, 5) := by decide +kernel
theorem dX0_meet_7 : decode cX0_meet 7 = .ok (.invokevirtual 142, 3) := dk_182 0 142 (dk_at dksX0_meet_0 7 rfl rfl)
theorem dX0_meet_10 : decode cX0_meet 10 = .ok (.ireturn, 1) := dk_172 (dk_at dksX0_meet_0 10 rfl rfl)
abbrev cX0_lambda_meet_19 : ByteArray := prog_1_method_94_code
def yX0_lambda_meet_19 : MethodName := ⟨RX0, "lambda$meet$19", "()I"⟩
def dkwX0_lambda_meet_19_4 : List UInt8 := [167, 255, 237, 132, 1, 1, 167, 255, 226, 167, 255, 155, 42, 180, 0, 16, 180, 1, 79, 182, 1, 83, 172]
abbrev dktX0_lambda_meet_19_4 : List UInt8 := dkwX0_lambda_meet_19_4 ++ []
def dkwX0_lambda_meet_19_3 : List UInt8 := [162, 0, 31, 42, 180, 0, 16, 27, 182, 1, 90, 153, 0, 14, 42, 180, 0, 16, 27, 182, 1, 93]
abbrev dktX0_lambda_meet_19_3 : List UInt8 := dkwX0_lambda_meet_19_3 ++ dktX0_lambda_meet_19_4
def dkwX0_lambda_meet_19_2 : List UInt8 := [16, 250, 184, 0, 196, 42, 180, 0, 16, 27, 182, 1, 76, 132, 1, 1, 167, 255, 202, 3, 60, 27, 7]
abbrev dktX0_lambda_meet_19_2 : List UInt8 := dkwX0_lambda_meet_19_2 ++ dktX0_lambda_meet_19_3
def dkwX0_lambda_meet_19_1 : List UInt8 := [182, 1, 69, 154, 0, 6, 167, 0, 31, 42, 180, 0, 16, 182, 1, 73, 154, 0, 7, 4, 167, 0, 4, 3]
abbrev dktX0_lambda_meet_19_1 : List UInt8 := dkwX0_lambda_meet_19_1 ++ dktX0_lambda_meet_19_2
def dkwX0_lambda_meet_19_0 : List UInt8 := [42, 182, 1, 223, 154, 0, 100, 3, 60, 27, 7, 162, 0, 55, 42, 180, 0, 16, 180, 0, 65, 27, 50]
abbrev dktX0_lambda_meet_19_0 : List UInt8 := dkwX0_lambda_meet_19_0 ++ dktX0_lambda_meet_19_1
theorem dksX0_lambda_meet_19_0 : cX0_lambda_meet_19.data.toList.drop 0 = dktX0_lambda_meet_19_0 := by decide +kernel
theorem dksX0_lambda_meet_19_1 : cX0_lambda_meet_19.data.toList.drop 23 = dktX0_lambda_meet_19_1 := dk_seg dksX0_lambda_meet_19_0 23 rfl rfl
theorem dksX0_lambda_meet_19_2 : cX0_lambda_meet_19.data.toList.drop 47 = dktX0_lambda_meet_19_2 := dk_seg dksX0_lambda_meet_19_1 24 rfl rfl
theorem dksX0_lambda_meet_19_3 : cX0_lambda_meet_19.data.toList.drop 70 = dktX0_lambda_meet_19_3 := dk_seg dksX0_lambda_meet_19_2 23 rfl rfl
theorem dksX0_lambda_meet_19_4 : cX0_lambda_meet_19.data.toList.drop 92 = dktX0_lambda_meet_19_4 := dk_seg dksX0_lambda_meet_19_3 22 rfl rfl
theorem dX0_lambda_meet_19_0 : decode cX0_lambda_meet_19 0 = .ok (.aload_n 0, 1) := dk_42 (dk_at dksX0_lambda_meet_19_0 0 rfl rfl)
theorem dX0_lambda_meet_19_1 : decode cX0_lambda_meet_19 1 = .ok (.invokevirtual 479, 3) := dk_182 1 223 (dk_at dksX0_lambda_meet_19_0 1 rfl rfl)
theorem dX0_lambda_meet_19_4 : decode cX0_lambda_meet_19 4 = .ok (.ifCond .ne 100, 3) := dk_154 0 100 (dk_at dksX0_lambda_meet_19_0 4 rfl rfl)
theorem dX0_lambda_meet_19_7 : decode cX0_lambda_meet_19 7 = .ok (.iconst 0, 1) := dk_3 (dk_at dksX0_lambda_meet_19_0 7 rfl rfl)
theorem dX0_lambda_meet_19_8 : decode cX0_lambda_meet_19 8 = .ok (.istore_n 1, 1) := dk_60 (dk_at dksX0_lambda_meet_19_0 8 rfl rfl)
theorem dX0_lambda_meet_19_9 : decode cX0_lambda_meet_19 9 = .ok (.iload_n 1, 1) := dk_27 (dk_at dksX0_lambda_meet_19_0 9 rfl rfl)
theorem dX0_lambda_meet_19_10 : decode cX0_lambda_meet_19 10 = .ok (.iconst 4, 1) := dk_7 (dk_at dksX0_lambda_meet_19_0 10 rfl rfl)
theorem dX0_lambda_meet_19_11 : decode cX0_lambda_meet_19 11 = .ok (.if_icmp .ge 55, 3) := dk_162 0 55 (dk_at dksX0_lambda_meet_19_0 11 rfl rfl)
theorem dX0_lambda_meet_19_14 : decode cX0_lambda_meet_19 14 = .ok (.aload_n 0, 1) := dk_42 (dk_at dksX0_lambda_meet_19_0 14 rfl rfl)
theorem dX0_lambda_meet_19_15 : decode cX0_lambda_meet_19 15 = .ok (.getfield 16, 3) := dk_180 0 16 (dk_at dksX0_lambda_meet_19_0 15 rfl rfl)
theorem dX0_lambda_meet_19_18 : decode cX0_lambda_meet_19 18 = .ok (.getfield 65, 3) := dk_180 0 65 (dk_at dksX0_lambda_meet_19_0 18 rfl rfl)
theorem dX0_lambda_meet_19_21 : decode cX0_lambda_meet_19 21 = .ok (.iload_n 1, 1) := dk_27 (dk_at dksX0_lambda_meet_19_0 21 rfl rfl)
theorem dX0_lambda_meet_19_22 : decode cX0_lambda_meet_19 22 = .ok (.aaload, 1) := dk_50 (dk_at dksX0_lambda_meet_19_0 22 rfl rfl)
theorem dX0_lambda_meet_19_23 : decode cX0_lambda_meet_19 23 = .ok (.invokevirtual 325, 3) := dk_182 1 69 (dk_at dksX0_lambda_meet_19_1 0 rfl rfl)
theorem dX0_lambda_meet_19_26 : decode cX0_lambda_meet_19 26 = .ok (.ifCond .ne 6, 3) := dk_154 0 6 (dk_at dksX0_lambda_meet_19_1 3 rfl rfl)
theorem dX0_lambda_meet_19_29 : decode cX0_lambda_meet_19 29 = .ok (.goto 31, 3) := dk_167 0 31 (dk_at dksX0_lambda_meet_19_1 6 rfl rfl)
theorem dX0_lambda_meet_19_32 : decode cX0_lambda_meet_19 32 = .ok (.aload_n 0, 1) := dk_42 (dk_at dksX0_lambda_meet_19_1 9 rfl rfl)
theorem dX0_lambda_meet_19_33 : decode cX0_lambda_meet_19 33 = .ok (.getfield 16, 3) := dk_180 0 16 (dk_at dksX0_lambda_meet_19_1 10 rfl rfl)
theorem dX0_lambda_meet_19_36 : decode cX0_lambda_meet_19 36 = .ok (.invokevirtual 329, 3) := dk_182 1 73 (dk_at dksX0_lambda_meet_19_1 13 rfl rfl)
theorem dX0_lambda_meet_19_39 : decode cX0_lambda_meet_19 39 = .ok (.ifCond .ne 7, 3) := dk_154 0 7 (dk_at dksX0_lambda_meet_19_1 16 rfl rfl)
theorem dX0_lambda_meet_19_42 : decode cX0_lambda_meet_19 42 = .ok (.iconst 1, 1) := dk_4 (dk_at dksX0_lambda_meet_19_1 19 rfl rfl)
theorem dX0_lambda_meet_19_43 : decode cX0_lambda_meet_19 43 = .ok (.goto 4, 3) := dk_167 0 4 (dk_at dksX0_lambda_meet_19_1 20 rfl rfl)
theorem dX0_lambda_meet_19_46 : decode cX0_lambda_meet_19 46 = .ok (.iconst 0, 1) := dk_3 (dk_at dksX0_lambda_meet_19_1 23 rfl rfl)
theorem dX0_lambda_meet_19_47 : decode cX0_lambda_meet_19 47 = .ok (.bipush (-6), 2) := dk_16 250 (dk_at dksX0_lambda_meet_19_2 0 rfl rfl)
theorem dX0_lambda_meet_19_49 : decode cX0_lambda_meet_19 49 = .ok (.invokestatic 196, 3) := dk_184 0 196 (dk_at dksX0_lambda_meet_19_2 2 rfl rfl)
theorem dX0_lambda_meet_19_52 : decode cX0_lambda_meet_19 52 = .ok (.aload_n 0, 1) := dk_42 (dk_at dksX0_lambda_meet_19_2 5 rfl rfl)
theorem dX0_lambda_meet_19_53 : decode cX0_lambda_meet_19 53 = .ok (.getfield 16, 3) := dk_180 0 16 (dk_at dksX0_lambda_meet_19_2 6 rfl rfl)
theorem dX0_lambda_meet_19_56 : decode cX0_lambda_meet_19 56 = .ok (.iload_n 1, 1) := dk_27 (dk_at dksX0_lambda_meet_19_2 9 rfl rfl)
theorem dX0_lambda_meet_19_57 : decode cX0_lambda_meet_19 57 = .ok (.invokevirtual 332, 3) := dk_182 1 76 (dk_at dksX0_lambda_meet_19_2 10 rfl rfl)
theorem dX0_lambda_meet_19_60 : decode cX0_lambda_meet_19 60 = .ok (.iinc 1 1, 3) := dk_132 1 1 (dk_at dksX0_lambda_meet_19_2 13 rfl rfl)
theorem dX0_lambda_meet_19_63 : decode cX0_lambda_meet_19 63 = .ok (.goto (-54), 3) := dk_167 255 202 (dk_at dksX0_lambda_meet_19_2 16 rfl rfl)
theorem dX0_lambda_meet_19_66 : decode cX0_lambda_meet_19 66 = .ok (.iconst 0, 1) := dk_3 (dk_at dksX0_lambda_meet_19_2 19 rfl rfl)
theorem dX0_lambda_meet_19_67 : decode cX0_lambda_meet_19 67 = .ok (.istore_n 1, 1) := dk_60 (dk_at dksX0_lambda_meet_19_2 20 rfl rfl)
theorem dX0_lambda_meet_19_68 : decode cX0_lambda_meet_19 68 = .ok (.iload_n 1, 1) := dk_27 (dk_at dksX0_lambda_meet_19_2 21 rfl rfl)
theorem dX0_lambda_meet_19_69 : decode cX0_lambda_meet_19 69 = .ok (.iconst 4, 1) := dk_7 (dk_at dksX0_lambda_meet_19_2 22 rfl rfl)
theorem dX0_lambda_meet_19_70 : decode cX0_lambda_meet_19 70 = .ok (.if_icmp .ge 31, 3) := dk_162 0 31 (dk_at dksX0_lambda_meet_19_3 0 rfl rfl)
theorem dX0_lambda_meet_19_73 : decode cX0_lambda_meet_19 73 = .ok (.aload_n 0, 1) := dk_42 (dk_at dksX0_lambda_meet_19_3 3 rfl rfl)
theorem dX0_lambda_meet_19_74 : decode cX0_lambda_meet_19 74 = .ok (.getfield 16, 3) := dk_180 0 16 (dk_at dksX0_lambda_meet_19_3 4 rfl rfl)
theorem dX0_lambda_meet_19_77 : decode cX0_lambda_meet_19 77 = .ok (.iload_n 1, 1) := dk_27 (dk_at dksX0_lambda_meet_19_3 7 rfl rfl)
theorem dX0_lambda_meet_19_78 : decode cX0_lambda_meet_19 78 = .ok (.invokevirtual 346, 3) := dk_182 1 90 (dk_at dksX0_lambda_meet_19_3 8 rfl rfl)
theorem dX0_lambda_meet_19_81 : decode cX0_lambda_meet_19 81 = .ok (.ifCond .eq 14, 3) := dk_153 0 14 (dk_at dksX0_lambda_meet_19_3 11 rfl rfl)
theorem dX0_lambda_meet_19_84 : decode cX0_lambda_meet_19 84 = .ok (.aload_n 0, 1) := dk_42 (dk_at dksX0_lambda_meet_19_3 14 rfl rfl)
theorem dX0_lambda_meet_19_85 : decode cX0_lambda_meet_19 85 = .ok (.getfield 16, 3) := dk_180 0 16 (dk_at dksX0_lambda_meet_19_3 15 rfl rfl)
theorem dX0_lambda_meet_19_88 : decode cX0_lambda_meet_19 88 = .ok (.iload_n 1, 1) := dk_27 (dk_at dksX0_lambda_meet_19_3 18 rfl rfl)
theorem dX0_lambda_meet_19_89 : decode cX0_lambda_meet_19 89 = .ok (.invokevirtual 349, 3) := dk_182 1 93 (dk_at dksX0_lambda_meet_19_3 19 rfl rfl)
theorem dX0_lambda_meet_19_92 : decode cX0_lambda_meet_19 92 = .ok (.goto (-19), 3) := dk_167 255 237 (dk_at dksX0_lambda_meet_19_4 0 rfl rfl)
theorem dX0_lambda_meet_19_95 : decode cX0_lambda_meet_19 95 = .ok (.iinc 1 1, 3) := dk_132 1 1 (dk_at dksX0_lambda_meet_19_4 3 rfl rfl)
theorem dX0_lambda_meet_19_98 : decode cX0_lambda_meet_19 98 = .ok (.goto (-30), 3) := dk_167 255 226 (dk_at dksX0_lambda_meet_19_4 6 rfl rfl)
theorem dX0_lambda_meet_19_101 : decode cX0_lambda_meet_19 101 = .ok (.goto (-101), 3) := dk_167 255 155 (dk_at dksX0_lambda_meet_19_4 9 rfl rfl)
theorem dX0_lambda_meet_19_104 : decode cX0_lambda_meet_19 104 = .ok (.aload_n 0, 1) := dk_42 (dk_at dksX0_lambda_meet_19_4 12 rfl rfl)
theorem dX0_lambda_meet_19_105 : decode cX0_lambda_meet_19 105 = .ok (.getfield 16, 3) := dk_180 0 16 (dk_at dksX0_lambda_meet_19_4 13 rfl rfl)
theorem dX0_lambda_meet_19_108 : decode cX0_lambda_meet_19 108 = .ok (.getfield 335, 3) := dk_180 1 79 (dk_at dksX0_lambda_meet_19_4 16 rfl rfl)
theorem dX0_lambda_meet_19_111 : decode cX0_lambda_meet_19 111 = .ok (.invokevirtual 339, 3) := dk_182 1 83 (dk_at dksX0_lambda_meet_19_4 19 rfl rfl)
theorem dX0_lambda_meet_19_114 : decode cX0_lambda_meet_19 114 = .ok (.ireturn, 1) := dk_172 (dk_at dksX0_lambda_meet_19_4 22 rfl rfl)
abbrev cX0_met : ByteArray := prog_1_method_56_code
def yX0_met : MethodName := ⟨RX0, "met", "()Z"⟩
def dkwX0_met_1 : List UInt8 := [180, 0, 16, 27, 182, 1, 90, 153, 0, 5, 3, 172, 132, 1, 1, 167, 255, 220, 4, 172]
abbrev dktX0_met_1 : List UInt8 := dkwX0_met_1 ++ []
def dkwX0_met_0 : List UInt8 := [3, 60, 27, 7, 162, 0, 37, 42, 180, 0, 16, 180, 0, 65, 27, 50, 182, 1, 69, 154, 0, 14, 42]
abbrev dktX0_met_0 : List UInt8 := dkwX0_met_0 ++ dktX0_met_1
theorem dksX0_met_0 : cX0_met.data.toList.drop 0 = dktX0_met_0 := by decide +kernel
theorem dksX0_met_1 : cX0_met.data.toList.drop 23 = dktX0_met_1 := dk_seg dksX0_met_0 23 rfl rfl
theorem dX0_met_0 : decode cX0_met 0 = .ok (.iconst 0, 1) := dk_3 (dk_at dksX0_met_0 0 rfl rfl)
theorem dX0_met_1 : decode cX0_met 1 = .ok (.istore_n 1, 1) := dk_60 (dk_at dksX0_met_0 1 rfl rfl)
theorem dX0_met_2 : decode cX0_met 2 = .ok (.iload_n 1, 1) := dk_27 (dk_at dksX0_met_0 2 rfl rfl)
theorem dX0_met_3 : decode cX0_met 3 = .ok (.iconst 4, 1) := dk_7 (dk_at dksX0_met_0 3 rfl rfl)
theorem dX0_met_4 : decode cX0_met 4 = .ok (.if_icmp .ge 37, 3) := dk_162 0 37 (dk_at dksX0_met_0 4 rfl rfl)
theorem dX0_met_7 : decode cX0_met 7 = .ok (.aload_n 0, 1) := dk_42 (dk_at dksX0_met_0 7 rfl rfl)
theorem dX0_met_8 : decode cX0_met 8 = .ok (.getfield 16, 3) := dk_180 0 16 (dk_at dksX0_met_0 8 rfl rfl)
theorem dX0_met_11 : decode cX0_met 11 = .ok (.getfield 65, 3) := dk_180 0 65 (dk_at dksX0_met_0 11 rfl rfl)
theorem dX0_met_14 : decode cX0_met 14 = .ok (.iload_n 1, 1) := dk_27 (dk_at dksX0_met_0 14 rfl rfl)
theorem dX0_met_15 : decode cX0_met 15 = .ok (.aaload, 1) := dk_50 (dk_at dksX0_met_0 15 rfl rfl)
theorem dX0_met_16 : decode cX0_met 16 = .ok (.invokevirtual 325, 3) := dk_182 1 69 (dk_at dksX0_met_0 16 rfl rfl)
theorem dX0_met_19 : decode cX0_met 19 = .ok (.ifCond .ne 14, 3) := dk_154 0 14 (dk_at dksX0_met_0 19 rfl rfl)
theorem dX0_met_22 : decode cX0_met 22 = .ok (.aload_n 0, 1) := dk_42 (dk_at dksX0_met_0 22 rfl rfl)
theorem dX0_met_23 : decode cX0_met 23 = .ok (.getfield 16, 3) := dk_180 0 16 (dk_at dksX0_met_1 0 rfl rfl)
theorem dX0_met_26 : decode cX0_met 26 = .ok (.iload_n 1, 1) := dk_27 (dk_at dksX0_met_1 3 rfl rfl)
theorem dX0_met_27 : decode cX0_met 27 = .ok (.invokevirtual 346, 3) := dk_182 1 90 (dk_at dksX0_met_1 4 rfl rfl)
theorem dX0_met_30 : decode cX0_met 30 = .ok (.ifCond .eq 5, 3) := dk_153 0 5 (dk_at dksX0_met_1 7 rfl rfl)
theorem dX0_met_33 : decode cX0_met 33 = .ok (.iconst 0, 1) := dk_3 (dk_at dksX0_met_1 10 rfl rfl)
theorem dX0_met_34 : decode cX0_met 34 = .ok (.ireturn, 1) := dk_172 (dk_at dksX0_met_1 11 rfl rfl)
theorem dX0_met_35 : decode cX0_met 35 = .ok (.iinc 1 1, 3) := dk_132 1 1 (dk_at dksX0_met_1 12 rfl rfl)
theorem dX0_met_38 : decode cX0_met 38 = .ok (.goto (-36), 3) := dk_167 255 220 (dk_at dksX0_met_1 15 rfl rfl)
theorem dX0_met_41 : decode cX0_met 41 = .ok (.iconst 1, 1) := dk_4 (dk_at dksX0_met_1 18 rfl rfl)
theorem dX0_met_42 : decode cX0_met 42 = .ok (.ireturn, 1) := dk_172 (dk_at dksX0_met_1 19 rfl rfl)
abbrev cX0_undo : ByteArray := prog_1_method_60_code
def yX0_undo : MethodName := ⟨RX0, "undo", "(I)I"⟩
def dkwX0_undo_0 : List UInt8 := [42, 42, 27, 186, 1, 112, 0, 0, 182, 0, 142, 172]
abbrev dktX0_undo_0 : List UInt8 := dkwX0_undo_0 ++ []
theorem dksX0_undo_0 : cX0_undo.data.toList.drop 0 = dktX0_undo_0 := by decide +kernel
theorem dX0_undo_0 : decode cX0_undo 0 = .ok (.aload_n 0, 1) := dk_42 (dk_at dksX0_undo_0 0 rfl rfl)
theorem dX0_undo_1 : decode cX0_undo 1 = .ok (.aload_n 0, 1) := dk_42 (dk_at dksX0_undo_0 1 rfl rfl)
theorem dX0_undo_2 : decode cX0_undo 2 = .ok (.iload_n 1, 1) := dk_27 (dk_at dksX0_undo_0 2 rfl rfl)
theorem dX0_undo_3 : decode cX0_undo 3 = .ok (.invokedynamic 368, 5) := by decide +kernel
theorem dX0_undo_8 : decode cX0_undo 8 = .ok (.invokevirtual 142, 3) := dk_182 0 142 (dk_at dksX0_undo_0 8 rfl rfl)
theorem dX0_undo_11 : decode cX0_undo 11 = .ok (.ireturn, 1) := dk_172 (dk_at dksX0_undo_0 11 rfl rfl)
abbrev cX0_lambda_undo_20 : ByteArray := prog_1_method_93_code
def yX0_lambda_undo_20 : MethodName := ⟨RX0, "lambda$undo$20", "(I)I"⟩
def dkwX0_lambda_undo_20_0 : List UInt8 := [42, 27, 182, 1, 173, 172]
abbrev dktX0_lambda_undo_20_0 : List UInt8 := dkwX0_lambda_undo_20_0 ++ []
theorem dksX0_lambda_undo_20_0 : cX0_lambda_undo_20.data.toList.drop 0 = dktX0_lambda_undo_20_0 := by decide +kernel
theorem dX0_lambda_undo_20_0 : decode cX0_lambda_undo_20 0 = .ok (.aload_n 0, 1) := dk_42 (dk_at dksX0_lambda_undo_20_0 0 rfl rfl)
theorem dX0_lambda_undo_20_1 : decode cX0_lambda_undo_20 1 = .ok (.iload_n 1, 1) := dk_27 (dk_at dksX0_lambda_undo_20_0 1 rfl rfl)
theorem dX0_lambda_undo_20_2 : decode cX0_lambda_undo_20 2 = .ok (.invokevirtual 429, 3) := dk_182 1 173 (dk_at dksX0_lambda_undo_20_0 2 rfl rfl)
theorem dX0_lambda_undo_20_5 : decode cX0_lambda_undo_20 5 = .ok (.ireturn, 1) := dk_172 (dk_at dksX0_lambda_undo_20_0 5 rfl rfl)
abbrev cX0_undoes : ByteArray := prog_1_method_59_code
def yX0_undoes : MethodName := ⟨RX0, "undoes", "(I)I"⟩
def dkwX0_undoes_0 : List UInt8 := [42, 27, 182, 1, 66, 77, 44, 44, 180, 1, 13, 44, 180, 1, 4, 184, 1, 109, 172]
abbrev dktX0_undoes_0 : List UInt8 := dkwX0_undoes_0 ++ []
theorem dksX0_undoes_0 : cX0_undoes.data.toList.drop 0 = dktX0_undoes_0 := by decide +kernel
theorem dX0_undoes_0 : decode cX0_undoes 0 = .ok (.aload_n 0, 1) := dk_42 (dk_at dksX0_undoes_0 0 rfl rfl)
theorem dX0_undoes_1 : decode cX0_undoes 1 = .ok (.iload_n 1, 1) := dk_27 (dk_at dksX0_undoes_0 1 rfl rfl)
theorem dX0_undoes_2 : decode cX0_undoes 2 = .ok (.invokevirtual 322, 3) := dk_182 1 66 (dk_at dksX0_undoes_0 2 rfl rfl)
theorem dX0_undoes_5 : decode cX0_undoes 5 = .ok (.astore_n 2, 1) := dk_77 (dk_at dksX0_undoes_0 5 rfl rfl)
theorem dX0_undoes_6 : decode cX0_undoes 6 = .ok (.aload_n 2, 1) := dk_44 (dk_at dksX0_undoes_0 6 rfl rfl)
theorem dX0_undoes_7 : decode cX0_undoes 7 = .ok (.aload_n 2, 1) := dk_44 (dk_at dksX0_undoes_0 7 rfl rfl)
theorem dX0_undoes_8 : decode cX0_undoes 8 = .ok (.getfield 269, 3) := dk_180 1 13 (dk_at dksX0_undoes_0 8 rfl rfl)
theorem dX0_undoes_11 : decode cX0_undoes 11 = .ok (.aload_n 2, 1) := dk_44 (dk_at dksX0_undoes_0 11 rfl rfl)
theorem dX0_undoes_12 : decode cX0_undoes 12 = .ok (.getfield 260, 3) := dk_180 1 4 (dk_at dksX0_undoes_0 12 rfl rfl)
theorem dX0_undoes_15 : decode cX0_undoes 15 = .ok (.invokestatic 365, 3) := dk_184 1 109 (dk_at dksX0_undoes_0 15 rfl rfl)
theorem dX0_undoes_18 : decode cX0_undoes 18 = .ok (.ireturn, 1) := dk_172 (dk_at dksX0_undoes_0 18 rfl rfl)
abbrev cX0_turns : ByteArray := prog_1_method_58_code
def yX0_turns : MethodName := ⟨RX0, "turns", "(LEditsMeet$Client;LEditsMeet$Pile;LEditsMeet$Pile;)I"⟩
def dkwX0_turns_2 : List UInt8 := [44, 182, 1, 16, 43, 182, 1, 103, 172]
abbrev dktX0_turns_2 : List UInt8 := dkwX0_turns_2 ++ []
def dkwX0_turns_1 : List UInt8 := [182, 1, 104, 184, 1, 0, 154, 0, 7, 4, 167, 0, 4, 3, 16, 250, 184, 0, 196, 42, 43, 182, 1, 107]
abbrev dktX0_turns_1 : List UInt8 := dkwX0_turns_1 ++ dktX0_turns_2
def dkwX0_turns_0 : List UInt8 := [43, 182, 1, 103, 158, 0, 7, 4, 167, 0, 4, 3, 16, 251, 184, 0, 196, 42, 180, 0, 250, 43]
abbrev dktX0_turns_0 : List UInt8 := dkwX0_turns_0 ++ dktX0_turns_1
theorem dksX0_turns_0 : cX0_turns.data.toList.drop 0 = dktX0_turns_0 := by decide +kernel
theorem dksX0_turns_1 : cX0_turns.data.toList.drop 22 = dktX0_turns_1 := dk_seg dksX0_turns_0 22 rfl rfl
theorem dksX0_turns_2 : cX0_turns.data.toList.drop 46 = dktX0_turns_2 := dk_seg dksX0_turns_1 24 rfl rfl
theorem dX0_turns_0 : decode cX0_turns 0 = .ok (.aload_n 1, 1) := dk_43 (dk_at dksX0_turns_0 0 rfl rfl)
theorem dX0_turns_1 : decode cX0_turns 1 = .ok (.invokevirtual 359, 3) := dk_182 1 103 (dk_at dksX0_turns_0 1 rfl rfl)
theorem dX0_turns_4 : decode cX0_turns 4 = .ok (.ifCond .le 7, 3) := dk_158 0 7 (dk_at dksX0_turns_0 4 rfl rfl)
theorem dX0_turns_7 : decode cX0_turns 7 = .ok (.iconst 1, 1) := dk_4 (dk_at dksX0_turns_0 7 rfl rfl)
theorem dX0_turns_8 : decode cX0_turns 8 = .ok (.goto 4, 3) := dk_167 0 4 (dk_at dksX0_turns_0 8 rfl rfl)
theorem dX0_turns_11 : decode cX0_turns 11 = .ok (.iconst 0, 1) := dk_3 (dk_at dksX0_turns_0 11 rfl rfl)
theorem dX0_turns_12 : decode cX0_turns 12 = .ok (.bipush (-5), 2) := dk_16 251 (dk_at dksX0_turns_0 12 rfl rfl)
theorem dX0_turns_14 : decode cX0_turns 14 = .ok (.invokestatic 196, 3) := dk_184 0 196 (dk_at dksX0_turns_0 14 rfl rfl)
theorem dX0_turns_17 : decode cX0_turns 17 = .ok (.aload_n 0, 1) := dk_42 (dk_at dksX0_turns_0 17 rfl rfl)
theorem dX0_turns_18 : decode cX0_turns 18 = .ok (.getfield 250, 3) := dk_180 0 250 (dk_at dksX0_turns_0 18 rfl rfl)
theorem dX0_turns_21 : decode cX0_turns 21 = .ok (.aload_n 1, 1) := dk_43 (dk_at dksX0_turns_0 21 rfl rfl)
theorem dX0_turns_22 : decode cX0_turns 22 = .ok (.invokevirtual 360, 3) := dk_182 1 104 (dk_at dksX0_turns_1 0 rfl rfl)
theorem dX0_turns_25 : decode cX0_turns 25 = .ok (.invokestatic 256, 3) := dk_184 1 0 (dk_at dksX0_turns_1 3 rfl rfl)
theorem dX0_turns_28 : decode cX0_turns 28 = .ok (.ifCond .ne 7, 3) := dk_154 0 7 (dk_at dksX0_turns_1 6 rfl rfl)
theorem dX0_turns_31 : decode cX0_turns 31 = .ok (.iconst 1, 1) := dk_4 (dk_at dksX0_turns_1 9 rfl rfl)
theorem dX0_turns_32 : decode cX0_turns 32 = .ok (.goto 4, 3) := dk_167 0 4 (dk_at dksX0_turns_1 10 rfl rfl)
theorem dX0_turns_35 : decode cX0_turns 35 = .ok (.iconst 0, 1) := dk_3 (dk_at dksX0_turns_1 13 rfl rfl)
theorem dX0_turns_36 : decode cX0_turns 36 = .ok (.bipush (-6), 2) := dk_16 250 (dk_at dksX0_turns_1 14 rfl rfl)
theorem dX0_turns_38 : decode cX0_turns 38 = .ok (.invokestatic 196, 3) := dk_184 0 196 (dk_at dksX0_turns_1 16 rfl rfl)
theorem dX0_turns_41 : decode cX0_turns 41 = .ok (.aload_n 0, 1) := dk_42 (dk_at dksX0_turns_1 19 rfl rfl)
theorem dX0_turns_42 : decode cX0_turns 42 = .ok (.aload_n 1, 1) := dk_43 (dk_at dksX0_turns_1 20 rfl rfl)
theorem dX0_turns_43 : decode cX0_turns 43 = .ok (.invokevirtual 363, 3) := dk_182 1 107 (dk_at dksX0_turns_1 21 rfl rfl)
theorem dX0_turns_46 : decode cX0_turns 46 = .ok (.aload_n 2, 1) := dk_44 (dk_at dksX0_turns_2 0 rfl rfl)
theorem dX0_turns_47 : decode cX0_turns 47 = .ok (.invokevirtual 272, 3) := dk_182 1 16 (dk_at dksX0_turns_2 1 rfl rfl)
theorem dX0_turns_50 : decode cX0_turns 50 = .ok (.aload_n 1, 1) := dk_43 (dk_at dksX0_turns_2 4 rfl rfl)
theorem dX0_turns_51 : decode cX0_turns 51 = .ok (.invokevirtual 359, 3) := dk_182 1 103 (dk_at dksX0_turns_2 5 rfl rfl)
theorem dX0_turns_54 : decode cX0_turns 54 = .ok (.ireturn, 1) := dk_172 (dk_at dksX0_turns_2 8 rfl rfl)
abbrev cX0_redo : ByteArray := prog_1_method_61_code
def yX0_redo : MethodName := ⟨RX0, "redo", "(I)I"⟩
def dkwX0_redo_0 : List UInt8 := [42, 42, 27, 186, 1, 113, 0, 0, 182, 0, 142, 172]
abbrev dktX0_redo_0 : List UInt8 := dkwX0_redo_0 ++ []
theorem dksX0_redo_0 : cX0_redo.data.toList.drop 0 = dktX0_redo_0 := by decide +kernel
theorem dX0_redo_0 : decode cX0_redo 0 = .ok (.aload_n 0, 1) := dk_42 (dk_at dksX0_redo_0 0 rfl rfl)
theorem dX0_redo_1 : decode cX0_redo 1 = .ok (.aload_n 0, 1) := dk_42 (dk_at dksX0_redo_0 1 rfl rfl)
theorem dX0_redo_2 : decode cX0_redo 2 = .ok (.iload_n 1, 1) := dk_27 (dk_at dksX0_redo_0 2 rfl rfl)
theorem dX0_redo_3 : decode cX0_redo 3 = .ok (.invokedynamic 369, 5) := by decide +kernel
theorem dX0_redo_8 : decode cX0_redo 8 = .ok (.invokevirtual 142, 3) := dk_182 0 142 (dk_at dksX0_redo_0 8 rfl rfl)
theorem dX0_redo_11 : decode cX0_redo 11 = .ok (.ireturn, 1) := dk_172 (dk_at dksX0_redo_0 11 rfl rfl)
abbrev cX0_lambda_redo_21 : ByteArray := prog_1_method_92_code
def yX0_lambda_redo_21 : MethodName := ⟨RX0, "lambda$redo$21", "(I)I"⟩
def dkwX0_lambda_redo_21_0 : List UInt8 := [42, 27, 182, 1, 66, 77, 44, 44, 180, 1, 4, 44, 180, 1, 13, 184, 1, 109, 172]
abbrev dktX0_lambda_redo_21_0 : List UInt8 := dkwX0_lambda_redo_21_0 ++ []
theorem dksX0_lambda_redo_21_0 : cX0_lambda_redo_21.data.toList.drop 0 = dktX0_lambda_redo_21_0 := by decide +kernel
theorem dX0_lambda_redo_21_0 : decode cX0_lambda_redo_21 0 = .ok (.aload_n 0, 1) := dk_42 (dk_at dksX0_lambda_redo_21_0 0 rfl rfl)
theorem dX0_lambda_redo_21_1 : decode cX0_lambda_redo_21 1 = .ok (.iload_n 1, 1) := dk_27 (dk_at dksX0_lambda_redo_21_0 1 rfl rfl)
theorem dX0_lambda_redo_21_2 : decode cX0_lambda_redo_21 2 = .ok (.invokevirtual 322, 3) := dk_182 1 66 (dk_at dksX0_lambda_redo_21_0 2 rfl rfl)
theorem dX0_lambda_redo_21_5 : decode cX0_lambda_redo_21 5 = .ok (.astore_n 2, 1) := dk_77 (dk_at dksX0_lambda_redo_21_0 5 rfl rfl)
theorem dX0_lambda_redo_21_6 : decode cX0_lambda_redo_21 6 = .ok (.aload_n 2, 1) := dk_44 (dk_at dksX0_lambda_redo_21_0 6 rfl rfl)
theorem dX0_lambda_redo_21_7 : decode cX0_lambda_redo_21 7 = .ok (.aload_n 2, 1) := dk_44 (dk_at dksX0_lambda_redo_21_0 7 rfl rfl)
theorem dX0_lambda_redo_21_8 : decode cX0_lambda_redo_21 8 = .ok (.getfield 260, 3) := dk_180 1 4 (dk_at dksX0_lambda_redo_21_0 8 rfl rfl)
theorem dX0_lambda_redo_21_11 : decode cX0_lambda_redo_21 11 = .ok (.aload_n 2, 1) := dk_44 (dk_at dksX0_lambda_redo_21_0 11 rfl rfl)
theorem dX0_lambda_redo_21_12 : decode cX0_lambda_redo_21 12 = .ok (.getfield 269, 3) := dk_180 1 13 (dk_at dksX0_lambda_redo_21_0 12 rfl rfl)
theorem dX0_lambda_redo_21_15 : decode cX0_lambda_redo_21 15 = .ok (.invokestatic 365, 3) := dk_184 1 109 (dk_at dksX0_lambda_redo_21_0 15 rfl rfl)
theorem dX0_lambda_redo_21_18 : decode cX0_lambda_redo_21 18 = .ok (.ireturn, 1) := dk_172 (dk_at dksX0_lambda_redo_21_0 18 rfl rfl)
abbrev cX0_point : ByteArray := prog_1_method_62_code
def yX0_point : MethodName := ⟨RX0, "point", "(III)I"⟩
def dkwX0_point_0 : List UInt8 := [42, 42, 27, 28, 29, 186, 1, 114, 0, 0, 182, 0, 142, 172]
abbrev dktX0_point_0 : List UInt8 := dkwX0_point_0 ++ []
theorem dksX0_point_0 : cX0_point.data.toList.drop 0 = dktX0_point_0 := by decide +kernel
theorem dX0_point_0 : decode cX0_point 0 = .ok (.aload_n 0, 1) := dk_42 (dk_at dksX0_point_0 0 rfl rfl)
theorem dX0_point_1 : decode cX0_point 1 = .ok (.aload_n 0, 1) := dk_42 (dk_at dksX0_point_0 1 rfl rfl)
theorem dX0_point_2 : decode cX0_point 2 = .ok (.iload_n 1, 1) := dk_27 (dk_at dksX0_point_0 2 rfl rfl)
theorem dX0_point_3 : decode cX0_point 3 = .ok (.iload_n 2, 1) := dk_28 (dk_at dksX0_point_0 3 rfl rfl)
theorem dX0_point_4 : decode cX0_point 4 = .ok (.iload_n 3, 1) := dk_29 (dk_at dksX0_point_0 4 rfl rfl)
theorem dX0_point_5 : decode cX0_point 5 = .ok (.invokedynamic 370, 5) := by decide +kernel
theorem dX0_point_10 : decode cX0_point 10 = .ok (.invokevirtual 142, 3) := dk_182 0 142 (dk_at dksX0_point_0 10 rfl rfl)
theorem dX0_point_13 : decode cX0_point 13 = .ok (.ireturn, 1) := dk_172 (dk_at dksX0_point_0 13 rfl rfl)
abbrev cX0_lambda_point_22 : ByteArray := prog_1_method_91_code
def yX0_lambda_point_22 : MethodName := ⟨RX0, "lambda$point$22", "(III)I"⟩
def dkwX0_lambda_point_22_2 : List UInt8 := [184, 0, 196, 25, 4, 180, 1, 115, 3, 28, 79, 25, 4, 180, 1, 115, 4, 29, 79, 4, 172]
abbrev dktX0_lambda_point_22_2 : List UInt8 := dkwX0_lambda_point_22_2 ++ []
def dkwX0_lambda_point_22_1 : List UInt8 := [3, 25, 4, 180, 0, 250, 182, 0, 245, 184, 0, 45, 153, 0, 7, 4, 167, 0, 4, 3, 16, 254]
abbrev dktX0_lambda_point_22_1 : List UInt8 := dkwX0_lambda_point_22_1 ++ dktX0_lambda_point_22_2
def dkwX0_lambda_point_22_0 : List UInt8 := [42, 27, 182, 1, 66, 58, 4, 28, 3, 25, 4, 180, 0, 250, 182, 0, 245, 184, 0, 45, 153, 0, 23, 29]
abbrev dktX0_lambda_point_22_0 : List UInt8 := dkwX0_lambda_point_22_0 ++ dktX0_lambda_point_22_1
theorem dksX0_lambda_point_22_0 : cX0_lambda_point_22.data.toList.drop 0 = dktX0_lambda_point_22_0 := by decide +kernel
theorem dksX0_lambda_point_22_1 : cX0_lambda_point_22.data.toList.drop 24 = dktX0_lambda_point_22_1 := dk_seg dksX0_lambda_point_22_0 24 rfl rfl
theorem dksX0_lambda_point_22_2 : cX0_lambda_point_22.data.toList.drop 46 = dktX0_lambda_point_22_2 := dk_seg dksX0_lambda_point_22_1 22 rfl rfl
theorem dX0_lambda_point_22_0 : decode cX0_lambda_point_22 0 = .ok (.aload_n 0, 1) := dk_42 (dk_at dksX0_lambda_point_22_0 0 rfl rfl)
theorem dX0_lambda_point_22_1 : decode cX0_lambda_point_22 1 = .ok (.iload_n 1, 1) := dk_27 (dk_at dksX0_lambda_point_22_0 1 rfl rfl)
theorem dX0_lambda_point_22_2 : decode cX0_lambda_point_22 2 = .ok (.invokevirtual 322, 3) := dk_182 1 66 (dk_at dksX0_lambda_point_22_0 2 rfl rfl)
theorem dX0_lambda_point_22_5 : decode cX0_lambda_point_22 5 = .ok (.astore 4, 2) := dk_58 4 (dk_at dksX0_lambda_point_22_0 5 rfl rfl)
theorem dX0_lambda_point_22_7 : decode cX0_lambda_point_22 7 = .ok (.iload_n 2, 1) := dk_28 (dk_at dksX0_lambda_point_22_0 7 rfl rfl)
theorem dX0_lambda_point_22_8 : decode cX0_lambda_point_22 8 = .ok (.iconst 0, 1) := dk_3 (dk_at dksX0_lambda_point_22_0 8 rfl rfl)
theorem dX0_lambda_point_22_9 : decode cX0_lambda_point_22 9 = .ok (.aload 4, 2) := dk_25 4 (dk_at dksX0_lambda_point_22_0 9 rfl rfl)
theorem dX0_lambda_point_22_11 : decode cX0_lambda_point_22 11 = .ok (.getfield 250, 3) := dk_180 0 250 (dk_at dksX0_lambda_point_22_0 11 rfl rfl)
theorem dX0_lambda_point_22_14 : decode cX0_lambda_point_22 14 = .ok (.invokevirtual 245, 3) := dk_182 0 245 (dk_at dksX0_lambda_point_22_0 14 rfl rfl)
theorem dX0_lambda_point_22_17 : decode cX0_lambda_point_22 17 = .ok (.invokestatic 45, 3) := dk_184 0 45 (dk_at dksX0_lambda_point_22_0 17 rfl rfl)
theorem dX0_lambda_point_22_20 : decode cX0_lambda_point_22 20 = .ok (.ifCond .eq 23, 3) := dk_153 0 23 (dk_at dksX0_lambda_point_22_0 20 rfl rfl)
theorem dX0_lambda_point_22_23 : decode cX0_lambda_point_22 23 = .ok (.iload_n 3, 1) := dk_29 (dk_at dksX0_lambda_point_22_0 23 rfl rfl)
theorem dX0_lambda_point_22_24 : decode cX0_lambda_point_22 24 = .ok (.iconst 0, 1) := dk_3 (dk_at dksX0_lambda_point_22_1 0 rfl rfl)
theorem dX0_lambda_point_22_25 : decode cX0_lambda_point_22 25 = .ok (.aload 4, 2) := dk_25 4 (dk_at dksX0_lambda_point_22_1 1 rfl rfl)
theorem dX0_lambda_point_22_27 : decode cX0_lambda_point_22 27 = .ok (.getfield 250, 3) := dk_180 0 250 (dk_at dksX0_lambda_point_22_1 3 rfl rfl)
theorem dX0_lambda_point_22_30 : decode cX0_lambda_point_22 30 = .ok (.invokevirtual 245, 3) := dk_182 0 245 (dk_at dksX0_lambda_point_22_1 6 rfl rfl)
theorem dX0_lambda_point_22_33 : decode cX0_lambda_point_22 33 = .ok (.invokestatic 45, 3) := dk_184 0 45 (dk_at dksX0_lambda_point_22_1 9 rfl rfl)
theorem dX0_lambda_point_22_36 : decode cX0_lambda_point_22 36 = .ok (.ifCond .eq 7, 3) := dk_153 0 7 (dk_at dksX0_lambda_point_22_1 12 rfl rfl)
theorem dX0_lambda_point_22_39 : decode cX0_lambda_point_22 39 = .ok (.iconst 1, 1) := dk_4 (dk_at dksX0_lambda_point_22_1 15 rfl rfl)
theorem dX0_lambda_point_22_40 : decode cX0_lambda_point_22 40 = .ok (.goto 4, 3) := dk_167 0 4 (dk_at dksX0_lambda_point_22_1 16 rfl rfl)
theorem dX0_lambda_point_22_43 : decode cX0_lambda_point_22 43 = .ok (.iconst 0, 1) := dk_3 (dk_at dksX0_lambda_point_22_1 19 rfl rfl)
theorem dX0_lambda_point_22_44 : decode cX0_lambda_point_22 44 = .ok (.bipush (-2), 2) := dk_16 254 (dk_at dksX0_lambda_point_22_1 20 rfl rfl)
theorem dX0_lambda_point_22_46 : decode cX0_lambda_point_22 46 = .ok (.invokestatic 196, 3) := dk_184 0 196 (dk_at dksX0_lambda_point_22_2 0 rfl rfl)
theorem dX0_lambda_point_22_49 : decode cX0_lambda_point_22 49 = .ok (.aload 4, 2) := dk_25 4 (dk_at dksX0_lambda_point_22_2 3 rfl rfl)
theorem dX0_lambda_point_22_51 : decode cX0_lambda_point_22 51 = .ok (.getfield 371, 3) := dk_180 1 115 (dk_at dksX0_lambda_point_22_2 5 rfl rfl)
theorem dX0_lambda_point_22_54 : decode cX0_lambda_point_22 54 = .ok (.iconst 0, 1) := dk_3 (dk_at dksX0_lambda_point_22_2 8 rfl rfl)
theorem dX0_lambda_point_22_55 : decode cX0_lambda_point_22 55 = .ok (.iload_n 2, 1) := dk_28 (dk_at dksX0_lambda_point_22_2 9 rfl rfl)
theorem dX0_lambda_point_22_56 : decode cX0_lambda_point_22 56 = .ok (.iastore, 1) := dk_79 (dk_at dksX0_lambda_point_22_2 10 rfl rfl)
theorem dX0_lambda_point_22_57 : decode cX0_lambda_point_22 57 = .ok (.aload 4, 2) := dk_25 4 (dk_at dksX0_lambda_point_22_2 11 rfl rfl)
theorem dX0_lambda_point_22_59 : decode cX0_lambda_point_22 59 = .ok (.getfield 371, 3) := dk_180 1 115 (dk_at dksX0_lambda_point_22_2 13 rfl rfl)
theorem dX0_lambda_point_22_62 : decode cX0_lambda_point_22 62 = .ok (.iconst 1, 1) := dk_4 (dk_at dksX0_lambda_point_22_2 16 rfl rfl)
theorem dX0_lambda_point_22_63 : decode cX0_lambda_point_22 63 = .ok (.iload_n 3, 1) := dk_29 (dk_at dksX0_lambda_point_22_2 17 rfl rfl)
theorem dX0_lambda_point_22_64 : decode cX0_lambda_point_22 64 = .ok (.iastore, 1) := dk_79 (dk_at dksX0_lambda_point_22_2 18 rfl rfl)
theorem dX0_lambda_point_22_65 : decode cX0_lambda_point_22 65 = .ok (.iconst 1, 1) := dk_4 (dk_at dksX0_lambda_point_22_2 19 rfl rfl)
theorem dX0_lambda_point_22_66 : decode cX0_lambda_point_22 66 = .ok (.ireturn, 1) := dk_172 (dk_at dksX0_lambda_point_22_2 20 rfl rfl)
abbrev cX0_cursor : ByteArray := prog_1_method_63_code
def yX0_cursor : MethodName := ⟨RX0, "cursor", "(II)I"⟩
def dkwX0_cursor_1 : List UInt8 := [50, 180, 1, 115, 28, 46, 167, 0, 9, 42, 16, 254, 182, 0, 79, 172]
abbrev dktX0_cursor_1 : List UInt8 := dkwX0_cursor_1 ++ []
def dkwX0_cursor_0 : List UInt8 := [27, 184, 0, 62, 153, 0, 29, 28, 3, 4, 184, 0, 45, 153, 0, 20, 42, 180, 0, 16, 180, 0, 65, 27]
abbrev dktX0_cursor_0 : List UInt8 := dkwX0_cursor_0 ++ dktX0_cursor_1
theorem dksX0_cursor_0 : cX0_cursor.data.toList.drop 0 = dktX0_cursor_0 := by decide +kernel
theorem dksX0_cursor_1 : cX0_cursor.data.toList.drop 24 = dktX0_cursor_1 := dk_seg dksX0_cursor_0 24 rfl rfl
theorem dX0_cursor_0 : decode cX0_cursor 0 = .ok (.iload_n 1, 1) := dk_27 (dk_at dksX0_cursor_0 0 rfl rfl)
theorem dX0_cursor_1 : decode cX0_cursor 1 = .ok (.invokestatic 62, 3) := dk_184 0 62 (dk_at dksX0_cursor_0 1 rfl rfl)
theorem dX0_cursor_4 : decode cX0_cursor 4 = .ok (.ifCond .eq 29, 3) := dk_153 0 29 (dk_at dksX0_cursor_0 4 rfl rfl)
theorem dX0_cursor_7 : decode cX0_cursor 7 = .ok (.iload_n 2, 1) := dk_28 (dk_at dksX0_cursor_0 7 rfl rfl)
theorem dX0_cursor_8 : decode cX0_cursor 8 = .ok (.iconst 0, 1) := dk_3 (dk_at dksX0_cursor_0 8 rfl rfl)
theorem dX0_cursor_9 : decode cX0_cursor 9 = .ok (.iconst 1, 1) := dk_4 (dk_at dksX0_cursor_0 9 rfl rfl)
theorem dX0_cursor_10 : decode cX0_cursor 10 = .ok (.invokestatic 45, 3) := dk_184 0 45 (dk_at dksX0_cursor_0 10 rfl rfl)
theorem dX0_cursor_13 : decode cX0_cursor 13 = .ok (.ifCond .eq 20, 3) := dk_153 0 20 (dk_at dksX0_cursor_0 13 rfl rfl)
theorem dX0_cursor_16 : decode cX0_cursor 16 = .ok (.aload_n 0, 1) := dk_42 (dk_at dksX0_cursor_0 16 rfl rfl)
theorem dX0_cursor_17 : decode cX0_cursor 17 = .ok (.getfield 16, 3) := dk_180 0 16 (dk_at dksX0_cursor_0 17 rfl rfl)
theorem dX0_cursor_20 : decode cX0_cursor 20 = .ok (.getfield 65, 3) := dk_180 0 65 (dk_at dksX0_cursor_0 20 rfl rfl)
theorem dX0_cursor_23 : decode cX0_cursor 23 = .ok (.iload_n 1, 1) := dk_27 (dk_at dksX0_cursor_0 23 rfl rfl)
theorem dX0_cursor_24 : decode cX0_cursor 24 = .ok (.aaload, 1) := dk_50 (dk_at dksX0_cursor_1 0 rfl rfl)
theorem dX0_cursor_25 : decode cX0_cursor 25 = .ok (.getfield 371, 3) := dk_180 1 115 (dk_at dksX0_cursor_1 1 rfl rfl)
theorem dX0_cursor_28 : decode cX0_cursor 28 = .ok (.iload_n 2, 1) := dk_28 (dk_at dksX0_cursor_1 4 rfl rfl)
theorem dX0_cursor_29 : decode cX0_cursor 29 = .ok (.iaload, 1) := dk_46 (dk_at dksX0_cursor_1 5 rfl rfl)
theorem dX0_cursor_30 : decode cX0_cursor 30 = .ok (.goto 9, 3) := dk_167 0 9 (dk_at dksX0_cursor_1 6 rfl rfl)
theorem dX0_cursor_33 : decode cX0_cursor 33 = .ok (.aload_n 0, 1) := dk_42 (dk_at dksX0_cursor_1 9 rfl rfl)
theorem dX0_cursor_34 : decode cX0_cursor 34 = .ok (.bipush (-2), 2) := dk_16 254 (dk_at dksX0_cursor_1 10 rfl rfl)
theorem dX0_cursor_36 : decode cX0_cursor 36 = .ok (.invokevirtual 79, 3) := dk_182 0 79 (dk_at dksX0_cursor_1 12 rfl rfl)
theorem dX0_cursor_39 : decode cX0_cursor 39 = .ok (.ireturn, 1) := dk_172 (dk_at dksX0_cursor_1 15 rfl rfl)
abbrev cX0_clientOf : ByteArray := prog_1_method_65_code
def yX0_clientOf : MethodName := ⟨RX0, "clientOf", "(II)I"⟩
def dkwX0_clientOf_6 : List UInt8 := [180, 0, 16, 180, 1, 79, 182, 1, 83, 45, 180, 1, 96, 100, 172]
abbrev dktX0_clientOf_6 : List UInt8 := dkwX0_clientOf_6 ++ []
def dkwX0_clientOf_5 : List UInt8 := [167, 0, 38, 45, 180, 1, 13, 182, 1, 103, 167, 0, 28, 45, 180, 1, 4, 182, 1, 103, 167, 0, 18, 42]
abbrev dktX0_clientOf_5 : List UInt8 := dkwX0_clientOf_5 ++ dktX0_clientOf_6
def dkwX0_clientOf_4 : List UInt8 := [45, 180, 1, 129, 153, 0, 7, 4, 167, 0, 52, 3, 167, 0, 48, 45, 182, 1, 132, 184, 1, 121]
abbrev dktX0_clientOf_4 : List UInt8 := dkwX0_clientOf_4 ++ dktX0_clientOf_5
def dkwX0_clientOf_3 : List UInt8 := [45, 180, 1, 96, 167, 0, 80, 45, 182, 1, 118, 184, 1, 121, 167, 0, 70, 45, 180, 1, 125, 153, 0, 14]
abbrev dktX0_clientOf_3 : List UInt8 := dkwX0_clientOf_3 ++ dktX0_clientOf_4
def dkwX0_clientOf_2 : List UInt8 := [170, 0, 0, 0, 106, 0, 0, 0, 0, 0, 0, 0, 5, 0, 0, 0, 37, 0, 0, 0, 44, 0, 0, 0, 54, 0, 0, 0, 76, 0, 0, 0, 86, 0, 0, 0, 96]
abbrev dktX0_clientOf_2 : List UInt8 := dkwX0_clientOf_2 ++ dktX0_clientOf_3
def dkwX0_clientOf_1 : List UInt8 := [42, 180, 0, 16, 180, 0, 65, 27, 50, 78, 28]
abbrev dktX0_clientOf_1 : List UInt8 := dkwX0_clientOf_1 ++ dktX0_clientOf_2
def dkwX0_clientOf_0 : List UInt8 := [27, 184, 0, 62, 153, 0, 13, 28, 3, 16, 6, 184, 0, 45, 154, 0, 10, 42, 16, 254, 182, 0, 79, 172]
abbrev dktX0_clientOf_0 : List UInt8 := dkwX0_clientOf_0 ++ dktX0_clientOf_1
theorem dksX0_clientOf_0 : cX0_clientOf.data.toList.drop 0 = dktX0_clientOf_0 := by decide +kernel
theorem dksX0_clientOf_1 : cX0_clientOf.data.toList.drop 24 = dktX0_clientOf_1 := dk_seg dksX0_clientOf_0 24 rfl rfl
theorem dksX0_clientOf_2 : cX0_clientOf.data.toList.drop 35 = dktX0_clientOf_2 := dk_seg dksX0_clientOf_1 11 rfl rfl
theorem dksX0_clientOf_3 : cX0_clientOf.data.toList.drop 72 = dktX0_clientOf_3 := dk_seg dksX0_clientOf_2 37 rfl rfl
theorem dksX0_clientOf_4 : cX0_clientOf.data.toList.drop 96 = dktX0_clientOf_4 := dk_seg dksX0_clientOf_3 24 rfl rfl
theorem dksX0_clientOf_5 : cX0_clientOf.data.toList.drop 118 = dktX0_clientOf_5 := dk_seg dksX0_clientOf_4 22 rfl rfl
theorem dksX0_clientOf_6 : cX0_clientOf.data.toList.drop 142 = dktX0_clientOf_6 := dk_seg dksX0_clientOf_5 24 rfl rfl
theorem dX0_clientOf_0 : decode cX0_clientOf 0 = .ok (.iload_n 1, 1) := dk_27 (dk_at dksX0_clientOf_0 0 rfl rfl)
theorem dX0_clientOf_1 : decode cX0_clientOf 1 = .ok (.invokestatic 62, 3) := dk_184 0 62 (dk_at dksX0_clientOf_0 1 rfl rfl)
theorem dX0_clientOf_4 : decode cX0_clientOf 4 = .ok (.ifCond .eq 13, 3) := dk_153 0 13 (dk_at dksX0_clientOf_0 4 rfl rfl)
theorem dX0_clientOf_7 : decode cX0_clientOf 7 = .ok (.iload_n 2, 1) := dk_28 (dk_at dksX0_clientOf_0 7 rfl rfl)
theorem dX0_clientOf_8 : decode cX0_clientOf 8 = .ok (.iconst 0, 1) := dk_3 (dk_at dksX0_clientOf_0 8 rfl rfl)
theorem dX0_clientOf_9 : decode cX0_clientOf 9 = .ok (.bipush 6, 2) := dk_16 6 (dk_at dksX0_clientOf_0 9 rfl rfl)
theorem dX0_clientOf_11 : decode cX0_clientOf 11 = .ok (.invokestatic 45, 3) := dk_184 0 45 (dk_at dksX0_clientOf_0 11 rfl rfl)
theorem dX0_clientOf_14 : decode cX0_clientOf 14 = .ok (.ifCond .ne 10, 3) := dk_154 0 10 (dk_at dksX0_clientOf_0 14 rfl rfl)
theorem dX0_clientOf_17 : decode cX0_clientOf 17 = .ok (.aload_n 0, 1) := dk_42 (dk_at dksX0_clientOf_0 17 rfl rfl)
theorem dX0_clientOf_18 : decode cX0_clientOf 18 = .ok (.bipush (-2), 2) := dk_16 254 (dk_at dksX0_clientOf_0 18 rfl rfl)
theorem dX0_clientOf_20 : decode cX0_clientOf 20 = .ok (.invokevirtual 79, 3) := dk_182 0 79 (dk_at dksX0_clientOf_0 20 rfl rfl)
theorem dX0_clientOf_23 : decode cX0_clientOf 23 = .ok (.ireturn, 1) := dk_172 (dk_at dksX0_clientOf_0 23 rfl rfl)
theorem dX0_clientOf_24 : decode cX0_clientOf 24 = .ok (.aload_n 0, 1) := dk_42 (dk_at dksX0_clientOf_1 0 rfl rfl)
theorem dX0_clientOf_25 : decode cX0_clientOf 25 = .ok (.getfield 16, 3) := dk_180 0 16 (dk_at dksX0_clientOf_1 1 rfl rfl)
theorem dX0_clientOf_28 : decode cX0_clientOf 28 = .ok (.getfield 65, 3) := dk_180 0 65 (dk_at dksX0_clientOf_1 4 rfl rfl)
theorem dX0_clientOf_31 : decode cX0_clientOf 31 = .ok (.iload_n 1, 1) := dk_27 (dk_at dksX0_clientOf_1 7 rfl rfl)
theorem dX0_clientOf_32 : decode cX0_clientOf 32 = .ok (.aaload, 1) := dk_50 (dk_at dksX0_clientOf_1 8 rfl rfl)
theorem dX0_clientOf_33 : decode cX0_clientOf 33 = .ok (.astore_n 3, 1) := dk_78 (dk_at dksX0_clientOf_1 9 rfl rfl)
theorem dX0_clientOf_34 : decode cX0_clientOf 34 = .ok (.iload_n 2, 1) := dk_28 (dk_at dksX0_clientOf_1 10 rfl rfl)
theorem dX0_clientOf_35 : decode cX0_clientOf 35 = .ok (.tableswitch 106 0 5 #[37, 44, 54, 76, 86, 96], 37) := by decide +kernel
theorem dX0_clientOf_72 : decode cX0_clientOf 72 = .ok (.aload_n 3, 1) := dk_45 (dk_at dksX0_clientOf_3 0 rfl rfl)
theorem dX0_clientOf_73 : decode cX0_clientOf 73 = .ok (.getfield 352, 3) := dk_180 1 96 (dk_at dksX0_clientOf_3 1 rfl rfl)
theorem dX0_clientOf_76 : decode cX0_clientOf 76 = .ok (.goto 80, 3) := dk_167 0 80 (dk_at dksX0_clientOf_3 4 rfl rfl)
theorem dX0_clientOf_79 : decode cX0_clientOf 79 = .ok (.aload_n 3, 1) := dk_45 (dk_at dksX0_clientOf_3 7 rfl rfl)
theorem dX0_clientOf_80 : decode cX0_clientOf 80 = .ok (.invokevirtual 374, 3) := dk_182 1 118 (dk_at dksX0_clientOf_3 8 rfl rfl)
theorem dX0_clientOf_83 : decode cX0_clientOf 83 = .ok (.invokestatic 377, 3) := dk_184 1 121 (dk_at dksX0_clientOf_3 11 rfl rfl)
theorem dX0_clientOf_86 : decode cX0_clientOf 86 = .ok (.goto 70, 3) := dk_167 0 70 (dk_at dksX0_clientOf_3 14 rfl rfl)
theorem dX0_clientOf_89 : decode cX0_clientOf 89 = .ok (.aload_n 3, 1) := dk_45 (dk_at dksX0_clientOf_3 17 rfl rfl)
theorem dX0_clientOf_90 : decode cX0_clientOf 90 = .ok (.getfield 381, 3) := dk_180 1 125 (dk_at dksX0_clientOf_3 18 rfl rfl)
theorem dX0_clientOf_93 : decode cX0_clientOf 93 = .ok (.ifCond .eq 14, 3) := dk_153 0 14 (dk_at dksX0_clientOf_3 21 rfl rfl)
theorem dX0_clientOf_96 : decode cX0_clientOf 96 = .ok (.aload_n 3, 1) := dk_45 (dk_at dksX0_clientOf_4 0 rfl rfl)
theorem dX0_clientOf_97 : decode cX0_clientOf 97 = .ok (.getfield 385, 3) := dk_180 1 129 (dk_at dksX0_clientOf_4 1 rfl rfl)
theorem dX0_clientOf_100 : decode cX0_clientOf 100 = .ok (.ifCond .eq 7, 3) := dk_153 0 7 (dk_at dksX0_clientOf_4 4 rfl rfl)
theorem dX0_clientOf_103 : decode cX0_clientOf 103 = .ok (.iconst 1, 1) := dk_4 (dk_at dksX0_clientOf_4 7 rfl rfl)
theorem dX0_clientOf_104 : decode cX0_clientOf 104 = .ok (.goto 52, 3) := dk_167 0 52 (dk_at dksX0_clientOf_4 8 rfl rfl)
theorem dX0_clientOf_107 : decode cX0_clientOf 107 = .ok (.iconst 0, 1) := dk_3 (dk_at dksX0_clientOf_4 11 rfl rfl)
theorem dX0_clientOf_108 : decode cX0_clientOf 108 = .ok (.goto 48, 3) := dk_167 0 48 (dk_at dksX0_clientOf_4 12 rfl rfl)
theorem dX0_clientOf_111 : decode cX0_clientOf 111 = .ok (.aload_n 3, 1) := dk_45 (dk_at dksX0_clientOf_4 15 rfl rfl)
theorem dX0_clientOf_112 : decode cX0_clientOf 112 = .ok (.invokevirtual 388, 3) := dk_182 1 132 (dk_at dksX0_clientOf_4 16 rfl rfl)
theorem dX0_clientOf_115 : decode cX0_clientOf 115 = .ok (.invokestatic 377, 3) := dk_184 1 121 (dk_at dksX0_clientOf_4 19 rfl rfl)
theorem dX0_clientOf_118 : decode cX0_clientOf 118 = .ok (.goto 38, 3) := dk_167 0 38 (dk_at dksX0_clientOf_5 0 rfl rfl)
theorem dX0_clientOf_121 : decode cX0_clientOf 121 = .ok (.aload_n 3, 1) := dk_45 (dk_at dksX0_clientOf_5 3 rfl rfl)
theorem dX0_clientOf_122 : decode cX0_clientOf 122 = .ok (.getfield 269, 3) := dk_180 1 13 (dk_at dksX0_clientOf_5 4 rfl rfl)
theorem dX0_clientOf_125 : decode cX0_clientOf 125 = .ok (.invokevirtual 359, 3) := dk_182 1 103 (dk_at dksX0_clientOf_5 7 rfl rfl)
theorem dX0_clientOf_128 : decode cX0_clientOf 128 = .ok (.goto 28, 3) := dk_167 0 28 (dk_at dksX0_clientOf_5 10 rfl rfl)
theorem dX0_clientOf_131 : decode cX0_clientOf 131 = .ok (.aload_n 3, 1) := dk_45 (dk_at dksX0_clientOf_5 13 rfl rfl)
theorem dX0_clientOf_132 : decode cX0_clientOf 132 = .ok (.getfield 260, 3) := dk_180 1 4 (dk_at dksX0_clientOf_5 14 rfl rfl)
theorem dX0_clientOf_135 : decode cX0_clientOf 135 = .ok (.invokevirtual 359, 3) := dk_182 1 103 (dk_at dksX0_clientOf_5 17 rfl rfl)
theorem dX0_clientOf_138 : decode cX0_clientOf 138 = .ok (.goto 18, 3) := dk_167 0 18 (dk_at dksX0_clientOf_5 20 rfl rfl)
theorem dX0_clientOf_141 : decode cX0_clientOf 141 = .ok (.aload_n 0, 1) := dk_42 (dk_at dksX0_clientOf_5 23 rfl rfl)
theorem dX0_clientOf_142 : decode cX0_clientOf 142 = .ok (.getfield 16, 3) := dk_180 0 16 (dk_at dksX0_clientOf_6 0 rfl rfl)
theorem dX0_clientOf_145 : decode cX0_clientOf 145 = .ok (.getfield 335, 3) := dk_180 1 79 (dk_at dksX0_clientOf_6 3 rfl rfl)
theorem dX0_clientOf_148 : decode cX0_clientOf 148 = .ok (.invokevirtual 339, 3) := dk_182 1 83 (dk_at dksX0_clientOf_6 6 rfl rfl)
theorem dX0_clientOf_151 : decode cX0_clientOf 151 = .ok (.aload_n 3, 1) := dk_45 (dk_at dksX0_clientOf_6 9 rfl rfl)
theorem dX0_clientOf_152 : decode cX0_clientOf 152 = .ok (.getfield 352, 3) := dk_180 1 96 (dk_at dksX0_clientOf_6 10 rfl rfl)
theorem dX0_clientOf_155 : decode cX0_clientOf 155 = .ok (.isub, 1) := dk_100 (dk_at dksX0_clientOf_6 13 rfl rfl)
theorem dX0_clientOf_156 : decode cX0_clientOf 156 = .ok (.ireturn, 1) := dk_172 (dk_at dksX0_clientOf_6 14 rfl rfl)
abbrev cX0_partsOf : ByteArray := prog_1_method_64_code
def yX0_partsOf : MethodName := ⟨RX0, "partsOf", "(LEditsMeet$Edit;)I"⟩
def dkwX0_partsOf_0 : List UInt8 := [42, 199, 0, 7, 3, 167, 0, 7, 42, 182, 0, 179, 172]
abbrev dktX0_partsOf_0 : List UInt8 := dkwX0_partsOf_0 ++ []
theorem dksX0_partsOf_0 : cX0_partsOf.data.toList.drop 0 = dktX0_partsOf_0 := by decide +kernel
theorem dX0_partsOf_0 : decode cX0_partsOf 0 = .ok (.aload_n 0, 1) := dk_42 (dk_at dksX0_partsOf_0 0 rfl rfl)
theorem dX0_partsOf_1 : decode cX0_partsOf 1 = .ok (.ifnonnull 7, 3) := dk_199 0 7 (dk_at dksX0_partsOf_0 1 rfl rfl)
theorem dX0_partsOf_4 : decode cX0_partsOf 4 = .ok (.iconst 0, 1) := dk_3 (dk_at dksX0_partsOf_0 4 rfl rfl)
theorem dX0_partsOf_5 : decode cX0_partsOf 5 = .ok (.goto 7, 3) := dk_167 0 7 (dk_at dksX0_partsOf_0 5 rfl rfl)
theorem dX0_partsOf_8 : decode cX0_partsOf 8 = .ok (.aload_n 0, 1) := dk_42 (dk_at dksX0_partsOf_0 8 rfl rfl)
theorem dX0_partsOf_9 : decode cX0_partsOf 9 = .ok (.invokevirtual 179, 3) := dk_182 0 179 (dk_at dksX0_partsOf_0 9 rfl rfl)
theorem dX0_partsOf_12 : decode cX0_partsOf 12 = .ok (.ireturn, 1) := dk_172 (dk_at dksX0_partsOf_0 12 rfl rfl)
abbrev cX0_takes : ByteArray := prog_1_method_66_code
def yX0_takes : MethodName := ⟨RX0, "takes", "(III)I"⟩
def dkwX0_takes_0 : List UInt8 := [42, 42, 27, 28, 29, 186, 1, 135, 0, 0, 182, 0, 142, 172]
abbrev dktX0_takes_0 : List UInt8 := dkwX0_takes_0 ++ []
theorem dksX0_takes_0 : cX0_takes.data.toList.drop 0 = dktX0_takes_0 := by decide +kernel
theorem dX0_takes_0 : decode cX0_takes 0 = .ok (.aload_n 0, 1) := dk_42 (dk_at dksX0_takes_0 0 rfl rfl)
theorem dX0_takes_1 : decode cX0_takes 1 = .ok (.aload_n 0, 1) := dk_42 (dk_at dksX0_takes_0 1 rfl rfl)
theorem dX0_takes_2 : decode cX0_takes 2 = .ok (.iload_n 1, 1) := dk_27 (dk_at dksX0_takes_0 2 rfl rfl)
theorem dX0_takes_3 : decode cX0_takes 3 = .ok (.iload_n 2, 1) := dk_28 (dk_at dksX0_takes_0 3 rfl rfl)
theorem dX0_takes_4 : decode cX0_takes 4 = .ok (.iload_n 3, 1) := dk_29 (dk_at dksX0_takes_0 4 rfl rfl)
theorem dX0_takes_5 : decode cX0_takes 5 = .ok (.invokedynamic 391, 5) := by decide +kernel
theorem dX0_takes_10 : decode cX0_takes 10 = .ok (.invokevirtual 142, 3) := dk_182 0 142 (dk_at dksX0_takes_0 10 rfl rfl)
theorem dX0_takes_13 : decode cX0_takes 13 = .ok (.ireturn, 1) := dk_172 (dk_at dksX0_takes_0 13 rfl rfl)
abbrev cX0_lambda_takes_23 : ByteArray := prog_1_method_90_code
def yX0_lambda_takes_23 : MethodName := ⟨RX0, "lambda$takes$23", "(III)I"⟩
def dkwX0_lambda_takes_23_5 : List UInt8 := [16, 251, 184, 0, 196, 42, 27, 25, 5, 182, 1, 220, 182, 0, 200, 172]
abbrev dktX0_lambda_takes_23_5 : List UInt8 := dkwX0_lambda_takes_23_5 ++ []
def dkwX0_lambda_takes_23_4 : List UInt8 := [167, 0, 11, 25, 4, 180, 1, 4, 182, 1, 104, 58, 5, 25, 5, 198, 0, 7, 4, 167, 0, 4, 3]
abbrev dktX0_lambda_takes_23_4 : List UInt8 := dkwX0_lambda_takes_23_4 ++ dktX0_lambda_takes_23_5
def dkwX0_lambda_takes_23_3 : List UInt8 := [25, 4, 182, 1, 118, 167, 0, 30, 25, 4, 182, 1, 132, 167, 0, 22, 25, 4, 180, 1, 13, 182, 1, 104]
abbrev dktX0_lambda_takes_23_3 : List UInt8 := dkwX0_lambda_takes_23_3 ++ dktX0_lambda_takes_23_4
def dkwX0_lambda_takes_23_2 : List UInt8 := [170, 0, 0, 0, 0, 0, 54, 0, 0, 0, 0, 0, 0, 0, 2, 0, 0, 0, 27, 0, 0, 0, 35, 0, 0, 0, 43]
abbrev dktX0_lambda_takes_23_2 : List UInt8 := dkwX0_lambda_takes_23_2 ++ dktX0_lambda_takes_23_3
def dkwX0_lambda_takes_23_1 : List UInt8 := [167, 0, 4, 3, 16, 254, 184, 0, 196, 42, 180, 0, 16, 180, 0, 65, 28, 50, 58, 4, 29]
abbrev dktX0_lambda_takes_23_1 : List UInt8 := dkwX0_lambda_takes_23_1 ++ dktX0_lambda_takes_23_2
def dkwX0_lambda_takes_23_0 : List UInt8 := [27, 184, 0, 49, 153, 0, 23, 28, 184, 0, 62, 153, 0, 16, 29, 3, 6, 184, 0, 45, 153, 0, 7, 4]
abbrev dktX0_lambda_takes_23_0 : List UInt8 := dkwX0_lambda_takes_23_0 ++ dktX0_lambda_takes_23_1
theorem dksX0_lambda_takes_23_0 : cX0_lambda_takes_23.data.toList.drop 0 = dktX0_lambda_takes_23_0 := by decide +kernel
theorem dksX0_lambda_takes_23_1 : cX0_lambda_takes_23.data.toList.drop 24 = dktX0_lambda_takes_23_1 := dk_seg dksX0_lambda_takes_23_0 24 rfl rfl
theorem dksX0_lambda_takes_23_2 : cX0_lambda_takes_23.data.toList.drop 45 = dktX0_lambda_takes_23_2 := dk_seg dksX0_lambda_takes_23_1 21 rfl rfl
theorem dksX0_lambda_takes_23_3 : cX0_lambda_takes_23.data.toList.drop 72 = dktX0_lambda_takes_23_3 := dk_seg dksX0_lambda_takes_23_2 27 rfl rfl
theorem dksX0_lambda_takes_23_4 : cX0_lambda_takes_23.data.toList.drop 96 = dktX0_lambda_takes_23_4 := dk_seg dksX0_lambda_takes_23_3 24 rfl rfl
theorem dksX0_lambda_takes_23_5 : cX0_lambda_takes_23.data.toList.drop 119 = dktX0_lambda_takes_23_5 := dk_seg dksX0_lambda_takes_23_4 23 rfl rfl
theorem dX0_lambda_takes_23_0 : decode cX0_lambda_takes_23 0 = .ok (.iload_n 1, 1) := dk_27 (dk_at dksX0_lambda_takes_23_0 0 rfl rfl)
theorem dX0_lambda_takes_23_1 : decode cX0_lambda_takes_23 1 = .ok (.invokestatic 49, 3) := dk_184 0 49 (dk_at dksX0_lambda_takes_23_0 1 rfl rfl)
theorem dX0_lambda_takes_23_4 : decode cX0_lambda_takes_23 4 = .ok (.ifCond .eq 23, 3) := dk_153 0 23 (dk_at dksX0_lambda_takes_23_0 4 rfl rfl)
theorem dX0_lambda_takes_23_7 : decode cX0_lambda_takes_23 7 = .ok (.iload_n 2, 1) := dk_28 (dk_at dksX0_lambda_takes_23_0 7 rfl rfl)
theorem dX0_lambda_takes_23_8 : decode cX0_lambda_takes_23 8 = .ok (.invokestatic 62, 3) := dk_184 0 62 (dk_at dksX0_lambda_takes_23_0 8 rfl rfl)
theorem dX0_lambda_takes_23_11 : decode cX0_lambda_takes_23 11 = .ok (.ifCond .eq 16, 3) := dk_153 0 16 (dk_at dksX0_lambda_takes_23_0 11 rfl rfl)
theorem dX0_lambda_takes_23_14 : decode cX0_lambda_takes_23 14 = .ok (.iload_n 3, 1) := dk_29 (dk_at dksX0_lambda_takes_23_0 14 rfl rfl)
theorem dX0_lambda_takes_23_15 : decode cX0_lambda_takes_23 15 = .ok (.iconst 0, 1) := dk_3 (dk_at dksX0_lambda_takes_23_0 15 rfl rfl)
theorem dX0_lambda_takes_23_16 : decode cX0_lambda_takes_23 16 = .ok (.iconst 3, 1) := dk_6 (dk_at dksX0_lambda_takes_23_0 16 rfl rfl)
theorem dX0_lambda_takes_23_17 : decode cX0_lambda_takes_23 17 = .ok (.invokestatic 45, 3) := dk_184 0 45 (dk_at dksX0_lambda_takes_23_0 17 rfl rfl)
theorem dX0_lambda_takes_23_20 : decode cX0_lambda_takes_23 20 = .ok (.ifCond .eq 7, 3) := dk_153 0 7 (dk_at dksX0_lambda_takes_23_0 20 rfl rfl)
theorem dX0_lambda_takes_23_23 : decode cX0_lambda_takes_23 23 = .ok (.iconst 1, 1) := dk_4 (dk_at dksX0_lambda_takes_23_0 23 rfl rfl)
theorem dX0_lambda_takes_23_24 : decode cX0_lambda_takes_23 24 = .ok (.goto 4, 3) := dk_167 0 4 (dk_at dksX0_lambda_takes_23_1 0 rfl rfl)
theorem dX0_lambda_takes_23_27 : decode cX0_lambda_takes_23 27 = .ok (.iconst 0, 1) := dk_3 (dk_at dksX0_lambda_takes_23_1 3 rfl rfl)
theorem dX0_lambda_takes_23_28 : decode cX0_lambda_takes_23 28 = .ok (.bipush (-2), 2) := dk_16 254 (dk_at dksX0_lambda_takes_23_1 4 rfl rfl)
theorem dX0_lambda_takes_23_30 : decode cX0_lambda_takes_23 30 = .ok (.invokestatic 196, 3) := dk_184 0 196 (dk_at dksX0_lambda_takes_23_1 6 rfl rfl)
theorem dX0_lambda_takes_23_33 : decode cX0_lambda_takes_23 33 = .ok (.aload_n 0, 1) := dk_42 (dk_at dksX0_lambda_takes_23_1 9 rfl rfl)
theorem dX0_lambda_takes_23_34 : decode cX0_lambda_takes_23 34 = .ok (.getfield 16, 3) := dk_180 0 16 (dk_at dksX0_lambda_takes_23_1 10 rfl rfl)
theorem dX0_lambda_takes_23_37 : decode cX0_lambda_takes_23 37 = .ok (.getfield 65, 3) := dk_180 0 65 (dk_at dksX0_lambda_takes_23_1 13 rfl rfl)
theorem dX0_lambda_takes_23_40 : decode cX0_lambda_takes_23 40 = .ok (.iload_n 2, 1) := dk_28 (dk_at dksX0_lambda_takes_23_1 16 rfl rfl)
theorem dX0_lambda_takes_23_41 : decode cX0_lambda_takes_23 41 = .ok (.aaload, 1) := dk_50 (dk_at dksX0_lambda_takes_23_1 17 rfl rfl)
theorem dX0_lambda_takes_23_42 : decode cX0_lambda_takes_23 42 = .ok (.astore 4, 2) := dk_58 4 (dk_at dksX0_lambda_takes_23_1 18 rfl rfl)
theorem dX0_lambda_takes_23_44 : decode cX0_lambda_takes_23 44 = .ok (.iload_n 3, 1) := dk_29 (dk_at dksX0_lambda_takes_23_1 20 rfl rfl)
theorem dX0_lambda_takes_23_45 : decode cX0_lambda_takes_23 45 = .ok (.tableswitch 54 0 2 #[27, 35, 43], 27) := by decide +kernel
theorem dX0_lambda_takes_23_72 : decode cX0_lambda_takes_23 72 = .ok (.aload 4, 2) := dk_25 4 (dk_at dksX0_lambda_takes_23_3 0 rfl rfl)
theorem dX0_lambda_takes_23_74 : decode cX0_lambda_takes_23 74 = .ok (.invokevirtual 374, 3) := dk_182 1 118 (dk_at dksX0_lambda_takes_23_3 2 rfl rfl)
theorem dX0_lambda_takes_23_77 : decode cX0_lambda_takes_23 77 = .ok (.goto 30, 3) := dk_167 0 30 (dk_at dksX0_lambda_takes_23_3 5 rfl rfl)
theorem dX0_lambda_takes_23_80 : decode cX0_lambda_takes_23 80 = .ok (.aload 4, 2) := dk_25 4 (dk_at dksX0_lambda_takes_23_3 8 rfl rfl)
theorem dX0_lambda_takes_23_82 : decode cX0_lambda_takes_23 82 = .ok (.invokevirtual 388, 3) := dk_182 1 132 (dk_at dksX0_lambda_takes_23_3 10 rfl rfl)
theorem dX0_lambda_takes_23_85 : decode cX0_lambda_takes_23 85 = .ok (.goto 22, 3) := dk_167 0 22 (dk_at dksX0_lambda_takes_23_3 13 rfl rfl)
theorem dX0_lambda_takes_23_88 : decode cX0_lambda_takes_23 88 = .ok (.aload 4, 2) := dk_25 4 (dk_at dksX0_lambda_takes_23_3 16 rfl rfl)
theorem dX0_lambda_takes_23_90 : decode cX0_lambda_takes_23 90 = .ok (.getfield 269, 3) := dk_180 1 13 (dk_at dksX0_lambda_takes_23_3 18 rfl rfl)
theorem dX0_lambda_takes_23_93 : decode cX0_lambda_takes_23 93 = .ok (.invokevirtual 360, 3) := dk_182 1 104 (dk_at dksX0_lambda_takes_23_3 21 rfl rfl)
theorem dX0_lambda_takes_23_96 : decode cX0_lambda_takes_23 96 = .ok (.goto 11, 3) := dk_167 0 11 (dk_at dksX0_lambda_takes_23_4 0 rfl rfl)
theorem dX0_lambda_takes_23_99 : decode cX0_lambda_takes_23 99 = .ok (.aload 4, 2) := dk_25 4 (dk_at dksX0_lambda_takes_23_4 3 rfl rfl)
theorem dX0_lambda_takes_23_101 : decode cX0_lambda_takes_23 101 = .ok (.getfield 260, 3) := dk_180 1 4 (dk_at dksX0_lambda_takes_23_4 5 rfl rfl)
theorem dX0_lambda_takes_23_104 : decode cX0_lambda_takes_23 104 = .ok (.invokevirtual 360, 3) := dk_182 1 104 (dk_at dksX0_lambda_takes_23_4 8 rfl rfl)
theorem dX0_lambda_takes_23_107 : decode cX0_lambda_takes_23 107 = .ok (.astore 5, 2) := dk_58 5 (dk_at dksX0_lambda_takes_23_4 11 rfl rfl)
theorem dX0_lambda_takes_23_109 : decode cX0_lambda_takes_23 109 = .ok (.aload 5, 2) := dk_25 5 (dk_at dksX0_lambda_takes_23_4 13 rfl rfl)
theorem dX0_lambda_takes_23_111 : decode cX0_lambda_takes_23 111 = .ok (.ifnull 7, 3) := dk_198 0 7 (dk_at dksX0_lambda_takes_23_4 15 rfl rfl)
theorem dX0_lambda_takes_23_114 : decode cX0_lambda_takes_23 114 = .ok (.iconst 1, 1) := dk_4 (dk_at dksX0_lambda_takes_23_4 18 rfl rfl)
theorem dX0_lambda_takes_23_115 : decode cX0_lambda_takes_23 115 = .ok (.goto 4, 3) := dk_167 0 4 (dk_at dksX0_lambda_takes_23_4 19 rfl rfl)
theorem dX0_lambda_takes_23_118 : decode cX0_lambda_takes_23 118 = .ok (.iconst 0, 1) := dk_3 (dk_at dksX0_lambda_takes_23_4 22 rfl rfl)
theorem dX0_lambda_takes_23_119 : decode cX0_lambda_takes_23 119 = .ok (.bipush (-5), 2) := dk_16 251 (dk_at dksX0_lambda_takes_23_5 0 rfl rfl)
theorem dX0_lambda_takes_23_121 : decode cX0_lambda_takes_23 121 = .ok (.invokestatic 196, 3) := dk_184 0 196 (dk_at dksX0_lambda_takes_23_5 2 rfl rfl)
theorem dX0_lambda_takes_23_124 : decode cX0_lambda_takes_23 124 = .ok (.aload_n 0, 1) := dk_42 (dk_at dksX0_lambda_takes_23_5 5 rfl rfl)
theorem dX0_lambda_takes_23_125 : decode cX0_lambda_takes_23 125 = .ok (.iload_n 1, 1) := dk_27 (dk_at dksX0_lambda_takes_23_5 6 rfl rfl)
theorem dX0_lambda_takes_23_126 : decode cX0_lambda_takes_23 126 = .ok (.aload 5, 2) := dk_25 5 (dk_at dksX0_lambda_takes_23_5 7 rfl rfl)
theorem dX0_lambda_takes_23_128 : decode cX0_lambda_takes_23 128 = .ok (.invokevirtual 476, 3) := dk_182 1 220 (dk_at dksX0_lambda_takes_23_5 9 rfl rfl)
theorem dX0_lambda_takes_23_131 : decode cX0_lambda_takes_23 131 = .ok (.invokevirtual 200, 3) := dk_182 0 200 (dk_at dksX0_lambda_takes_23_5 12 rfl rfl)
theorem dX0_lambda_takes_23_134 : decode cX0_lambda_takes_23 134 = .ok (.ireturn, 1) := dk_172 (dk_at dksX0_lambda_takes_23_5 15 rfl rfl)
abbrev cX0_revision : ByteArray := prog_1_method_67_code
def yX0_revision : MethodName := ⟨RX0, "revision", "(II)I"⟩
def dkwX0_revision_0 : List UInt8 := [42, 42, 27, 28, 186, 1, 136, 0, 0, 182, 0, 142, 172]
abbrev dktX0_revision_0 : List UInt8 := dkwX0_revision_0 ++ []
theorem dksX0_revision_0 : cX0_revision.data.toList.drop 0 = dktX0_revision_0 := by decide +kernel
theorem dX0_revision_0 : decode cX0_revision 0 = .ok (.aload_n 0, 1) := dk_42 (dk_at dksX0_revision_0 0 rfl rfl)
theorem dX0_revision_1 : decode cX0_revision 1 = .ok (.aload_n 0, 1) := dk_42 (dk_at dksX0_revision_0 1 rfl rfl)
theorem dX0_revision_2 : decode cX0_revision 2 = .ok (.iload_n 1, 1) := dk_27 (dk_at dksX0_revision_0 2 rfl rfl)
theorem dX0_revision_3 : decode cX0_revision 3 = .ok (.iload_n 2, 1) := dk_28 (dk_at dksX0_revision_0 3 rfl rfl)
theorem dX0_revision_4 : decode cX0_revision 4 = .ok (.invokedynamic 392, 5) := by decide +kernel
theorem dX0_revision_9 : decode cX0_revision 9 = .ok (.invokevirtual 142, 3) := dk_182 0 142 (dk_at dksX0_revision_0 9 rfl rfl)
theorem dX0_revision_12 : decode cX0_revision 12 = .ok (.ireturn, 1) := dk_172 (dk_at dksX0_revision_0 12 rfl rfl)
abbrev cX0_lambda_revision_24 : ByteArray := prog_1_method_89_code
def yX0_lambda_revision_24 : MethodName := ⟨RX0, "lambda$revision$24", "(II)I"⟩
def dkwX0_lambda_revision_24_3 : List UInt8 := [182, 1, 211, 192, 1, 214, 180, 1, 219, 172]
abbrev dktX0_lambda_revision_24_3 : List UInt8 := dkwX0_lambda_revision_24_3 ++ []
def dkwX0_lambda_revision_24_2 : List UInt8 := [100, 182, 1, 211, 192, 1, 214, 180, 1, 216, 182, 0, 200, 87, 42, 180, 0, 16, 180, 1, 79, 28, 4, 100]
abbrev dktX0_lambda_revision_24_2 : List UInt8 := dkwX0_lambda_revision_24_2 ++ dktX0_lambda_revision_24_3
def dkwX0_lambda_revision_24_1 : List UInt8 := [153, 0, 7, 4, 167, 0, 4, 3, 16, 254, 184, 0, 196, 42, 27, 42, 180, 0, 16, 180, 1, 79, 28, 4]
abbrev dktX0_lambda_revision_24_1 : List UInt8 := dkwX0_lambda_revision_24_1 ++ dktX0_lambda_revision_24_2
def dkwX0_lambda_revision_24_0 : List UInt8 := [27, 184, 0, 49, 153, 0, 25, 28, 4, 42, 180, 0, 16, 180, 1, 79, 182, 1, 83, 184, 0, 45]
abbrev dktX0_lambda_revision_24_0 : List UInt8 := dkwX0_lambda_revision_24_0 ++ dktX0_lambda_revision_24_1
theorem dksX0_lambda_revision_24_0 : cX0_lambda_revision_24.data.toList.drop 0 = dktX0_lambda_revision_24_0 := by decide +kernel
theorem dksX0_lambda_revision_24_1 : cX0_lambda_revision_24.data.toList.drop 22 = dktX0_lambda_revision_24_1 := dk_seg dksX0_lambda_revision_24_0 22 rfl rfl
theorem dksX0_lambda_revision_24_2 : cX0_lambda_revision_24.data.toList.drop 46 = dktX0_lambda_revision_24_2 := dk_seg dksX0_lambda_revision_24_1 24 rfl rfl
theorem dksX0_lambda_revision_24_3 : cX0_lambda_revision_24.data.toList.drop 70 = dktX0_lambda_revision_24_3 := dk_seg dksX0_lambda_revision_24_2 24 rfl rfl
theorem dX0_lambda_revision_24_0 : decode cX0_lambda_revision_24 0 = .ok (.iload_n 1, 1) := dk_27 (dk_at dksX0_lambda_revision_24_0 0 rfl rfl)
theorem dX0_lambda_revision_24_1 : decode cX0_lambda_revision_24 1 = .ok (.invokestatic 49, 3) := dk_184 0 49 (dk_at dksX0_lambda_revision_24_0 1 rfl rfl)
theorem dX0_lambda_revision_24_4 : decode cX0_lambda_revision_24 4 = .ok (.ifCond .eq 25, 3) := dk_153 0 25 (dk_at dksX0_lambda_revision_24_0 4 rfl rfl)
theorem dX0_lambda_revision_24_7 : decode cX0_lambda_revision_24 7 = .ok (.iload_n 2, 1) := dk_28 (dk_at dksX0_lambda_revision_24_0 7 rfl rfl)
theorem dX0_lambda_revision_24_8 : decode cX0_lambda_revision_24 8 = .ok (.iconst 1, 1) := dk_4 (dk_at dksX0_lambda_revision_24_0 8 rfl rfl)
theorem dX0_lambda_revision_24_9 : decode cX0_lambda_revision_24 9 = .ok (.aload_n 0, 1) := dk_42 (dk_at dksX0_lambda_revision_24_0 9 rfl rfl)
theorem dX0_lambda_revision_24_10 : decode cX0_lambda_revision_24 10 = .ok (.getfield 16, 3) := dk_180 0 16 (dk_at dksX0_lambda_revision_24_0 10 rfl rfl)
theorem dX0_lambda_revision_24_13 : decode cX0_lambda_revision_24 13 = .ok (.getfield 335, 3) := dk_180 1 79 (dk_at dksX0_lambda_revision_24_0 13 rfl rfl)
theorem dX0_lambda_revision_24_16 : decode cX0_lambda_revision_24 16 = .ok (.invokevirtual 339, 3) := dk_182 1 83 (dk_at dksX0_lambda_revision_24_0 16 rfl rfl)
theorem dX0_lambda_revision_24_19 : decode cX0_lambda_revision_24 19 = .ok (.invokestatic 45, 3) := dk_184 0 45 (dk_at dksX0_lambda_revision_24_0 19 rfl rfl)
theorem dX0_lambda_revision_24_22 : decode cX0_lambda_revision_24 22 = .ok (.ifCond .eq 7, 3) := dk_153 0 7 (dk_at dksX0_lambda_revision_24_1 0 rfl rfl)
theorem dX0_lambda_revision_24_25 : decode cX0_lambda_revision_24 25 = .ok (.iconst 1, 1) := dk_4 (dk_at dksX0_lambda_revision_24_1 3 rfl rfl)
theorem dX0_lambda_revision_24_26 : decode cX0_lambda_revision_24 26 = .ok (.goto 4, 3) := dk_167 0 4 (dk_at dksX0_lambda_revision_24_1 4 rfl rfl)
theorem dX0_lambda_revision_24_29 : decode cX0_lambda_revision_24 29 = .ok (.iconst 0, 1) := dk_3 (dk_at dksX0_lambda_revision_24_1 7 rfl rfl)
theorem dX0_lambda_revision_24_30 : decode cX0_lambda_revision_24 30 = .ok (.bipush (-2), 2) := dk_16 254 (dk_at dksX0_lambda_revision_24_1 8 rfl rfl)
theorem dX0_lambda_revision_24_32 : decode cX0_lambda_revision_24 32 = .ok (.invokestatic 196, 3) := dk_184 0 196 (dk_at dksX0_lambda_revision_24_1 10 rfl rfl)
theorem dX0_lambda_revision_24_35 : decode cX0_lambda_revision_24 35 = .ok (.aload_n 0, 1) := dk_42 (dk_at dksX0_lambda_revision_24_1 13 rfl rfl)
theorem dX0_lambda_revision_24_36 : decode cX0_lambda_revision_24 36 = .ok (.iload_n 1, 1) := dk_27 (dk_at dksX0_lambda_revision_24_1 14 rfl rfl)
theorem dX0_lambda_revision_24_37 : decode cX0_lambda_revision_24 37 = .ok (.aload_n 0, 1) := dk_42 (dk_at dksX0_lambda_revision_24_1 15 rfl rfl)
theorem dX0_lambda_revision_24_38 : decode cX0_lambda_revision_24 38 = .ok (.getfield 16, 3) := dk_180 0 16 (dk_at dksX0_lambda_revision_24_1 16 rfl rfl)
theorem dX0_lambda_revision_24_41 : decode cX0_lambda_revision_24 41 = .ok (.getfield 335, 3) := dk_180 1 79 (dk_at dksX0_lambda_revision_24_1 19 rfl rfl)
theorem dX0_lambda_revision_24_44 : decode cX0_lambda_revision_24 44 = .ok (.iload_n 2, 1) := dk_28 (dk_at dksX0_lambda_revision_24_1 22 rfl rfl)
theorem dX0_lambda_revision_24_45 : decode cX0_lambda_revision_24 45 = .ok (.iconst 1, 1) := dk_4 (dk_at dksX0_lambda_revision_24_1 23 rfl rfl)
theorem dX0_lambda_revision_24_46 : decode cX0_lambda_revision_24 46 = .ok (.isub, 1) := dk_100 (dk_at dksX0_lambda_revision_24_2 0 rfl rfl)
theorem dX0_lambda_revision_24_47 : decode cX0_lambda_revision_24 47 = .ok (.invokevirtual 467, 3) := dk_182 1 211 (dk_at dksX0_lambda_revision_24_2 1 rfl rfl)
theorem dX0_lambda_revision_24_50 : decode cX0_lambda_revision_24 50 = .ok (.checkcast 470, 3) := dk_192 1 214 (dk_at dksX0_lambda_revision_24_2 4 rfl rfl)
theorem dX0_lambda_revision_24_53 : decode cX0_lambda_revision_24 53 = .ok (.getfield 472, 3) := dk_180 1 216 (dk_at dksX0_lambda_revision_24_2 7 rfl rfl)
theorem dX0_lambda_revision_24_56 : decode cX0_lambda_revision_24 56 = .ok (.invokevirtual 200, 3) := dk_182 0 200 (dk_at dksX0_lambda_revision_24_2 10 rfl rfl)
theorem dX0_lambda_revision_24_59 : decode cX0_lambda_revision_24 59 = .ok (.pop, 1) := dk_87 (dk_at dksX0_lambda_revision_24_2 13 rfl rfl)
theorem dX0_lambda_revision_24_60 : decode cX0_lambda_revision_24 60 = .ok (.aload_n 0, 1) := dk_42 (dk_at dksX0_lambda_revision_24_2 14 rfl rfl)
theorem dX0_lambda_revision_24_61 : decode cX0_lambda_revision_24 61 = .ok (.getfield 16, 3) := dk_180 0 16 (dk_at dksX0_lambda_revision_24_2 15 rfl rfl)
theorem dX0_lambda_revision_24_64 : decode cX0_lambda_revision_24 64 = .ok (.getfield 335, 3) := dk_180 1 79 (dk_at dksX0_lambda_revision_24_2 18 rfl rfl)
theorem dX0_lambda_revision_24_67 : decode cX0_lambda_revision_24 67 = .ok (.iload_n 2, 1) := dk_28 (dk_at dksX0_lambda_revision_24_2 21 rfl rfl)
theorem dX0_lambda_revision_24_68 : decode cX0_lambda_revision_24 68 = .ok (.iconst 1, 1) := dk_4 (dk_at dksX0_lambda_revision_24_2 22 rfl rfl)
theorem dX0_lambda_revision_24_69 : decode cX0_lambda_revision_24 69 = .ok (.isub, 1) := dk_100 (dk_at dksX0_lambda_revision_24_2 23 rfl rfl)
theorem dX0_lambda_revision_24_70 : decode cX0_lambda_revision_24 70 = .ok (.invokevirtual 467, 3) := dk_182 1 211 (dk_at dksX0_lambda_revision_24_3 0 rfl rfl)
theorem dX0_lambda_revision_24_73 : decode cX0_lambda_revision_24 73 = .ok (.checkcast 470, 3) := dk_192 1 214 (dk_at dksX0_lambda_revision_24_3 3 rfl rfl)
theorem dX0_lambda_revision_24_76 : decode cX0_lambda_revision_24 76 = .ok (.getfield 475, 3) := dk_180 1 219 (dk_at dksX0_lambda_revision_24_3 6 rfl rfl)
theorem dX0_lambda_revision_24_79 : decode cX0_lambda_revision_24 79 = .ok (.ireturn, 1) := dk_172 (dk_at dksX0_lambda_revision_24_3 9 rfl rfl)
abbrev cX0_length : ByteArray := prog_1_method_68_code
def yX0_length : MethodName := ⟨RX0, "length", "(I)I"⟩
def dkwX0_length_1 : List UInt8 := [182, 0, 79, 172]
abbrev dktX0_length_1 : List UInt8 := dkwX0_length_1 ++ []
def dkwX0_length_0 : List UInt8 := [27, 184, 1, 137, 153, 0, 17, 42, 180, 0, 16, 27, 182, 1, 140, 182, 0, 245, 167, 0, 9, 42, 16, 254]
abbrev dktX0_length_0 : List UInt8 := dkwX0_length_0 ++ dktX0_length_1
theorem dksX0_length_0 : cX0_length.data.toList.drop 0 = dktX0_length_0 := by decide +kernel
theorem dksX0_length_1 : cX0_length.data.toList.drop 24 = dktX0_length_1 := dk_seg dksX0_length_0 24 rfl rfl
theorem dX0_length_0 : decode cX0_length 0 = .ok (.iload_n 1, 1) := dk_27 (dk_at dksX0_length_0 0 rfl rfl)
theorem dX0_length_1 : decode cX0_length 1 = .ok (.invokestatic 393, 3) := dk_184 1 137 (dk_at dksX0_length_0 1 rfl rfl)
theorem dX0_length_4 : decode cX0_length 4 = .ok (.ifCond .eq 17, 3) := dk_153 0 17 (dk_at dksX0_length_0 4 rfl rfl)
theorem dX0_length_7 : decode cX0_length 7 = .ok (.aload_n 0, 1) := dk_42 (dk_at dksX0_length_0 7 rfl rfl)
theorem dX0_length_8 : decode cX0_length 8 = .ok (.getfield 16, 3) := dk_180 0 16 (dk_at dksX0_length_0 8 rfl rfl)
theorem dX0_length_11 : decode cX0_length 11 = .ok (.iload_n 1, 1) := dk_27 (dk_at dksX0_length_0 11 rfl rfl)
theorem dX0_length_12 : decode cX0_length 12 = .ok (.invokevirtual 396, 3) := dk_182 1 140 (dk_at dksX0_length_0 12 rfl rfl)
theorem dX0_length_15 : decode cX0_length 15 = .ok (.invokevirtual 245, 3) := dk_182 0 245 (dk_at dksX0_length_0 15 rfl rfl)
theorem dX0_length_18 : decode cX0_length 18 = .ok (.goto 9, 3) := dk_167 0 9 (dk_at dksX0_length_0 18 rfl rfl)
theorem dX0_length_21 : decode cX0_length 21 = .ok (.aload_n 0, 1) := dk_42 (dk_at dksX0_length_0 21 rfl rfl)
theorem dX0_length_22 : decode cX0_length 22 = .ok (.bipush (-2), 2) := dk_16 254 (dk_at dksX0_length_0 22 rfl rfl)
theorem dX0_length_24 : decode cX0_length 24 = .ok (.invokevirtual 79, 3) := dk_182 0 79 (dk_at dksX0_length_1 0 rfl rfl)
theorem dX0_length_27 : decode cX0_length 27 = .ok (.ireturn, 1) := dk_172 (dk_at dksX0_length_1 3 rfl rfl)
abbrev cX0_isText : ByteArray := prog_1_method_8_code
def yX0_isText : MethodName := ⟨RX0, "isText", "(I)Z"⟩
def dkwX0_isText_0 : List UInt8 := [26, 3, 7, 184, 0, 45, 172]
abbrev dktX0_isText_0 : List UInt8 := dkwX0_isText_0 ++ []
theorem dksX0_isText_0 : cX0_isText.data.toList.drop 0 = dktX0_isText_0 := by decide +kernel
theorem dX0_isText_0 : decode cX0_isText 0 = .ok (.iload_n 0, 1) := dk_26 (dk_at dksX0_isText_0 0 rfl rfl)
theorem dX0_isText_1 : decode cX0_isText 1 = .ok (.iconst 0, 1) := dk_3 (dk_at dksX0_isText_0 1 rfl rfl)
theorem dX0_isText_2 : decode cX0_isText 2 = .ok (.iconst 4, 1) := dk_7 (dk_at dksX0_isText_0 2 rfl rfl)
theorem dX0_isText_3 : decode cX0_isText 3 = .ok (.invokestatic 45, 3) := dk_184 0 45 (dk_at dksX0_isText_0 3 rfl rfl)
theorem dX0_isText_6 : decode cX0_isText 6 = .ok (.ireturn, 1) := dk_172 (dk_at dksX0_isText_0 6 rfl rfl)
abbrev cX0_text : ByteArray := prog_1_method_69_code
def yX0_text : MethodName := ⟨RX0, "text", "(III)I"⟩
def dkwX0_text_2 : List UInt8 := [182, 1, 140, 28, 182, 1, 146, 167, 0, 15, 42, 180, 0, 16, 27, 182, 1, 140, 28, 182, 1, 53, 172]
abbrev dktX0_text_2 : List UInt8 := dkwX0_text_2 ++ []
def dkwX0_text_1 : List UInt8 := [28, 182, 1, 143, 154, 0, 10, 42, 16, 254, 182, 0, 79, 172, 29, 154, 0, 18, 42, 180, 0, 16, 27]
abbrev dktX0_text_1 : List UInt8 := dkwX0_text_1 ++ dktX0_text_2
def dkwX0_text_0 : List UInt8 := [27, 184, 1, 137, 153, 0, 27, 29, 3, 4, 184, 0, 45, 153, 0, 18, 42, 180, 0, 16, 27, 182, 1, 140]
abbrev dktX0_text_0 : List UInt8 := dkwX0_text_0 ++ dktX0_text_1
theorem dksX0_text_0 : cX0_text.data.toList.drop 0 = dktX0_text_0 := by decide +kernel
theorem dksX0_text_1 : cX0_text.data.toList.drop 24 = dktX0_text_1 := dk_seg dksX0_text_0 24 rfl rfl
theorem dksX0_text_2 : cX0_text.data.toList.drop 47 = dktX0_text_2 := dk_seg dksX0_text_1 23 rfl rfl
theorem dX0_text_0 : decode cX0_text 0 = .ok (.iload_n 1, 1) := dk_27 (dk_at dksX0_text_0 0 rfl rfl)
theorem dX0_text_1 : decode cX0_text 1 = .ok (.invokestatic 393, 3) := dk_184 1 137 (dk_at dksX0_text_0 1 rfl rfl)
theorem dX0_text_4 : decode cX0_text 4 = .ok (.ifCond .eq 27, 3) := dk_153 0 27 (dk_at dksX0_text_0 4 rfl rfl)
theorem dX0_text_7 : decode cX0_text 7 = .ok (.iload_n 3, 1) := dk_29 (dk_at dksX0_text_0 7 rfl rfl)
theorem dX0_text_8 : decode cX0_text 8 = .ok (.iconst 0, 1) := dk_3 (dk_at dksX0_text_0 8 rfl rfl)
theorem dX0_text_9 : decode cX0_text 9 = .ok (.iconst 1, 1) := dk_4 (dk_at dksX0_text_0 9 rfl rfl)
theorem dX0_text_10 : decode cX0_text 10 = .ok (.invokestatic 45, 3) := dk_184 0 45 (dk_at dksX0_text_0 10 rfl rfl)
theorem dX0_text_13 : decode cX0_text 13 = .ok (.ifCond .eq 18, 3) := dk_153 0 18 (dk_at dksX0_text_0 13 rfl rfl)
theorem dX0_text_16 : decode cX0_text 16 = .ok (.aload_n 0, 1) := dk_42 (dk_at dksX0_text_0 16 rfl rfl)
theorem dX0_text_17 : decode cX0_text 17 = .ok (.getfield 16, 3) := dk_180 0 16 (dk_at dksX0_text_0 17 rfl rfl)
theorem dX0_text_20 : decode cX0_text 20 = .ok (.iload_n 1, 1) := dk_27 (dk_at dksX0_text_0 20 rfl rfl)
theorem dX0_text_21 : decode cX0_text 21 = .ok (.invokevirtual 396, 3) := dk_182 1 140 (dk_at dksX0_text_0 21 rfl rfl)
theorem dX0_text_24 : decode cX0_text 24 = .ok (.iload_n 2, 1) := dk_28 (dk_at dksX0_text_1 0 rfl rfl)
theorem dX0_text_25 : decode cX0_text 25 = .ok (.invokevirtual 399, 3) := dk_182 1 143 (dk_at dksX0_text_1 1 rfl rfl)
theorem dX0_text_28 : decode cX0_text 28 = .ok (.ifCond .ne 10, 3) := dk_154 0 10 (dk_at dksX0_text_1 4 rfl rfl)
theorem dX0_text_31 : decode cX0_text 31 = .ok (.aload_n 0, 1) := dk_42 (dk_at dksX0_text_1 7 rfl rfl)
theorem dX0_text_32 : decode cX0_text 32 = .ok (.bipush (-2), 2) := dk_16 254 (dk_at dksX0_text_1 8 rfl rfl)
theorem dX0_text_34 : decode cX0_text 34 = .ok (.invokevirtual 79, 3) := dk_182 0 79 (dk_at dksX0_text_1 10 rfl rfl)
theorem dX0_text_37 : decode cX0_text 37 = .ok (.ireturn, 1) := dk_172 (dk_at dksX0_text_1 13 rfl rfl)
theorem dX0_text_38 : decode cX0_text 38 = .ok (.iload_n 3, 1) := dk_29 (dk_at dksX0_text_1 14 rfl rfl)
theorem dX0_text_39 : decode cX0_text 39 = .ok (.ifCond .ne 18, 3) := dk_154 0 18 (dk_at dksX0_text_1 15 rfl rfl)
theorem dX0_text_42 : decode cX0_text 42 = .ok (.aload_n 0, 1) := dk_42 (dk_at dksX0_text_1 18 rfl rfl)
theorem dX0_text_43 : decode cX0_text 43 = .ok (.getfield 16, 3) := dk_180 0 16 (dk_at dksX0_text_1 19 rfl rfl)
theorem dX0_text_46 : decode cX0_text 46 = .ok (.iload_n 1, 1) := dk_27 (dk_at dksX0_text_1 22 rfl rfl)
theorem dX0_text_47 : decode cX0_text 47 = .ok (.invokevirtual 396, 3) := dk_182 1 140 (dk_at dksX0_text_2 0 rfl rfl)
theorem dX0_text_50 : decode cX0_text 50 = .ok (.iload_n 2, 1) := dk_28 (dk_at dksX0_text_2 3 rfl rfl)
theorem dX0_text_51 : decode cX0_text 51 = .ok (.invokevirtual 402, 3) := dk_182 1 146 (dk_at dksX0_text_2 4 rfl rfl)
theorem dX0_text_54 : decode cX0_text 54 = .ok (.goto 15, 3) := dk_167 0 15 (dk_at dksX0_text_2 7 rfl rfl)
theorem dX0_text_57 : decode cX0_text 57 = .ok (.aload_n 0, 1) := dk_42 (dk_at dksX0_text_2 10 rfl rfl)
theorem dX0_text_58 : decode cX0_text 58 = .ok (.getfield 16, 3) := dk_180 0 16 (dk_at dksX0_text_2 11 rfl rfl)
theorem dX0_text_61 : decode cX0_text 61 = .ok (.iload_n 1, 1) := dk_27 (dk_at dksX0_text_2 14 rfl rfl)
theorem dX0_text_62 : decode cX0_text 62 = .ok (.invokevirtual 396, 3) := dk_182 1 140 (dk_at dksX0_text_2 15 rfl rfl)
theorem dX0_text_65 : decode cX0_text 65 = .ok (.iload_n 2, 1) := dk_28 (dk_at dksX0_text_2 18 rfl rfl)
theorem dX0_text_66 : decode cX0_text 66 = .ok (.invokevirtual 309, 3) := dk_182 1 53 (dk_at dksX0_text_2 19 rfl rfl)
theorem dX0_text_69 : decode cX0_text 69 = .ok (.ireturn, 1) := dk_172 (dk_at dksX0_text_2 22 rfl rfl)
abbrev cX0_apart : ByteArray := prog_1_method_70_code
def yX0_apart : MethodName := ⟨RX0, "apart", "(II)I"⟩
def dkwX0_apart_1 : List UInt8 := [180, 0, 16, 28, 182, 1, 140, 182, 1, 147, 167, 0, 9, 42, 16, 254, 182, 0, 79, 172]
abbrev dktX0_apart_1 : List UInt8 := dkwX0_apart_1 ++ []
def dkwX0_apart_0 : List UInt8 := [27, 184, 1, 137, 153, 0, 32, 28, 184, 1, 137, 153, 0, 25, 42, 180, 0, 16, 27, 182, 1, 140, 42]
abbrev dktX0_apart_0 : List UInt8 := dkwX0_apart_0 ++ dktX0_apart_1
theorem dksX0_apart_0 : cX0_apart.data.toList.drop 0 = dktX0_apart_0 := by decide +kernel
theorem dksX0_apart_1 : cX0_apart.data.toList.drop 23 = dktX0_apart_1 := dk_seg dksX0_apart_0 23 rfl rfl
theorem dX0_apart_0 : decode cX0_apart 0 = .ok (.iload_n 1, 1) := dk_27 (dk_at dksX0_apart_0 0 rfl rfl)
theorem dX0_apart_1 : decode cX0_apart 1 = .ok (.invokestatic 393, 3) := dk_184 1 137 (dk_at dksX0_apart_0 1 rfl rfl)
theorem dX0_apart_4 : decode cX0_apart 4 = .ok (.ifCond .eq 32, 3) := dk_153 0 32 (dk_at dksX0_apart_0 4 rfl rfl)
theorem dX0_apart_7 : decode cX0_apart 7 = .ok (.iload_n 2, 1) := dk_28 (dk_at dksX0_apart_0 7 rfl rfl)
theorem dX0_apart_8 : decode cX0_apart 8 = .ok (.invokestatic 393, 3) := dk_184 1 137 (dk_at dksX0_apart_0 8 rfl rfl)
theorem dX0_apart_11 : decode cX0_apart 11 = .ok (.ifCond .eq 25, 3) := dk_153 0 25 (dk_at dksX0_apart_0 11 rfl rfl)
theorem dX0_apart_14 : decode cX0_apart 14 = .ok (.aload_n 0, 1) := dk_42 (dk_at dksX0_apart_0 14 rfl rfl)
theorem dX0_apart_15 : decode cX0_apart 15 = .ok (.getfield 16, 3) := dk_180 0 16 (dk_at dksX0_apart_0 15 rfl rfl)
theorem dX0_apart_18 : decode cX0_apart 18 = .ok (.iload_n 1, 1) := dk_27 (dk_at dksX0_apart_0 18 rfl rfl)
theorem dX0_apart_19 : decode cX0_apart 19 = .ok (.invokevirtual 396, 3) := dk_182 1 140 (dk_at dksX0_apart_0 19 rfl rfl)
theorem dX0_apart_22 : decode cX0_apart 22 = .ok (.aload_n 0, 1) := dk_42 (dk_at dksX0_apart_0 22 rfl rfl)
theorem dX0_apart_23 : decode cX0_apart 23 = .ok (.getfield 16, 3) := dk_180 0 16 (dk_at dksX0_apart_1 0 rfl rfl)
theorem dX0_apart_26 : decode cX0_apart 26 = .ok (.iload_n 2, 1) := dk_28 (dk_at dksX0_apart_1 3 rfl rfl)
theorem dX0_apart_27 : decode cX0_apart 27 = .ok (.invokevirtual 396, 3) := dk_182 1 140 (dk_at dksX0_apart_1 4 rfl rfl)
theorem dX0_apart_30 : decode cX0_apart 30 = .ok (.invokevirtual 403, 3) := dk_182 1 147 (dk_at dksX0_apart_1 7 rfl rfl)
theorem dX0_apart_33 : decode cX0_apart 33 = .ok (.goto 9, 3) := dk_167 0 9 (dk_at dksX0_apart_1 10 rfl rfl)
theorem dX0_apart_36 : decode cX0_apart 36 = .ok (.aload_n 0, 1) := dk_42 (dk_at dksX0_apart_1 13 rfl rfl)
theorem dX0_apart_37 : decode cX0_apart 37 = .ok (.bipush (-2), 2) := dk_16 254 (dk_at dksX0_apart_1 14 rfl rfl)
theorem dX0_apart_39 : decode cX0_apart 39 = .ok (.invokevirtual 79, 3) := dk_182 0 79 (dk_at dksX0_apart_1 16 rfl rfl)
theorem dX0_apart_42 : decode cX0_apart 42 = .ok (.ireturn, 1) := dk_172 (dk_at dksX0_apart_1 19 rfl rfl)
abbrev cX0_marked : ByteArray := prog_1_method_71_code
def yX0_marked : MethodName := ⟨RX0, "marked", "(II)I"⟩
def dkwX0_marked_4 : List UInt8 := [167, 0, 4, 3, 128, 54, 4, 132, 5, 1, 167, 255, 188, 21, 4, 172]
abbrev dktX0_marked_4 : List UInt8 := dkwX0_marked_4 ++ []
def dkwX0_marked_3 : List UInt8 := [182, 1, 53, 28, 184, 1, 56, 54, 6, 21, 4, 21, 6, 153, 0, 14, 4, 45, 21, 5, 182, 1, 146, 120]
abbrev dktX0_marked_3 : List UInt8 := dkwX0_marked_3 ++ dktX0_marked_4
def dkwX0_marked_2 : List UInt8 := [7, 160, 0, 20, 45, 21, 5, 182, 1, 53, 154, 0, 7, 4, 167, 0, 17, 3, 167, 0, 13, 45, 21, 5]
abbrev dktX0_marked_2 : List UInt8 := dkwX0_marked_2 ++ dktX0_marked_3
def dkwX0_marked_1 : List UInt8 := [180, 0, 16, 27, 182, 1, 140, 78, 3, 54, 4, 3, 54, 5, 21, 5, 45, 182, 0, 245, 162, 0, 65, 28]
abbrev dktX0_marked_1 : List UInt8 := dkwX0_marked_1 ++ dktX0_marked_2
def dkwX0_marked_0 : List UInt8 := [27, 184, 1, 137, 153, 0, 12, 28, 3, 7, 184, 0, 45, 154, 0, 10, 42, 16, 254, 182, 0, 79, 172, 42]
abbrev dktX0_marked_0 : List UInt8 := dkwX0_marked_0 ++ dktX0_marked_1
theorem dksX0_marked_0 : cX0_marked.data.toList.drop 0 = dktX0_marked_0 := by decide +kernel
theorem dksX0_marked_1 : cX0_marked.data.toList.drop 24 = dktX0_marked_1 := dk_seg dksX0_marked_0 24 rfl rfl
theorem dksX0_marked_2 : cX0_marked.data.toList.drop 48 = dktX0_marked_2 := dk_seg dksX0_marked_1 24 rfl rfl
theorem dksX0_marked_3 : cX0_marked.data.toList.drop 72 = dktX0_marked_3 := dk_seg dksX0_marked_2 24 rfl rfl
theorem dksX0_marked_4 : cX0_marked.data.toList.drop 96 = dktX0_marked_4 := dk_seg dksX0_marked_3 24 rfl rfl
theorem dX0_marked_0 : decode cX0_marked 0 = .ok (.iload_n 1, 1) := dk_27 (dk_at dksX0_marked_0 0 rfl rfl)
theorem dX0_marked_1 : decode cX0_marked 1 = .ok (.invokestatic 393, 3) := dk_184 1 137 (dk_at dksX0_marked_0 1 rfl rfl)
theorem dX0_marked_4 : decode cX0_marked 4 = .ok (.ifCond .eq 12, 3) := dk_153 0 12 (dk_at dksX0_marked_0 4 rfl rfl)
theorem dX0_marked_7 : decode cX0_marked 7 = .ok (.iload_n 2, 1) := dk_28 (dk_at dksX0_marked_0 7 rfl rfl)
theorem dX0_marked_8 : decode cX0_marked 8 = .ok (.iconst 0, 1) := dk_3 (dk_at dksX0_marked_0 8 rfl rfl)
theorem dX0_marked_9 : decode cX0_marked 9 = .ok (.iconst 4, 1) := dk_7 (dk_at dksX0_marked_0 9 rfl rfl)
theorem dX0_marked_10 : decode cX0_marked 10 = .ok (.invokestatic 45, 3) := dk_184 0 45 (dk_at dksX0_marked_0 10 rfl rfl)
theorem dX0_marked_13 : decode cX0_marked 13 = .ok (.ifCond .ne 10, 3) := dk_154 0 10 (dk_at dksX0_marked_0 13 rfl rfl)
theorem dX0_marked_16 : decode cX0_marked 16 = .ok (.aload_n 0, 1) := dk_42 (dk_at dksX0_marked_0 16 rfl rfl)
theorem dX0_marked_17 : decode cX0_marked 17 = .ok (.bipush (-2), 2) := dk_16 254 (dk_at dksX0_marked_0 17 rfl rfl)
theorem dX0_marked_19 : decode cX0_marked 19 = .ok (.invokevirtual 79, 3) := dk_182 0 79 (dk_at dksX0_marked_0 19 rfl rfl)
theorem dX0_marked_22 : decode cX0_marked 22 = .ok (.ireturn, 1) := dk_172 (dk_at dksX0_marked_0 22 rfl rfl)
theorem dX0_marked_23 : decode cX0_marked 23 = .ok (.aload_n 0, 1) := dk_42 (dk_at dksX0_marked_0 23 rfl rfl)
theorem dX0_marked_24 : decode cX0_marked 24 = .ok (.getfield 16, 3) := dk_180 0 16 (dk_at dksX0_marked_1 0 rfl rfl)
theorem dX0_marked_27 : decode cX0_marked 27 = .ok (.iload_n 1, 1) := dk_27 (dk_at dksX0_marked_1 3 rfl rfl)
theorem dX0_marked_28 : decode cX0_marked 28 = .ok (.invokevirtual 396, 3) := dk_182 1 140 (dk_at dksX0_marked_1 4 rfl rfl)
theorem dX0_marked_31 : decode cX0_marked 31 = .ok (.astore_n 3, 1) := dk_78 (dk_at dksX0_marked_1 7 rfl rfl)
theorem dX0_marked_32 : decode cX0_marked 32 = .ok (.iconst 0, 1) := dk_3 (dk_at dksX0_marked_1 8 rfl rfl)
theorem dX0_marked_33 : decode cX0_marked 33 = .ok (.istore 4, 2) := dk_54 4 (dk_at dksX0_marked_1 9 rfl rfl)
theorem dX0_marked_35 : decode cX0_marked 35 = .ok (.iconst 0, 1) := dk_3 (dk_at dksX0_marked_1 11 rfl rfl)
theorem dX0_marked_36 : decode cX0_marked 36 = .ok (.istore 5, 2) := dk_54 5 (dk_at dksX0_marked_1 12 rfl rfl)
theorem dX0_marked_38 : decode cX0_marked 38 = .ok (.iload 5, 2) := dk_21 5 (dk_at dksX0_marked_1 14 rfl rfl)
theorem dX0_marked_40 : decode cX0_marked 40 = .ok (.aload_n 3, 1) := dk_45 (dk_at dksX0_marked_1 16 rfl rfl)
theorem dX0_marked_41 : decode cX0_marked 41 = .ok (.invokevirtual 245, 3) := dk_182 0 245 (dk_at dksX0_marked_1 17 rfl rfl)
theorem dX0_marked_44 : decode cX0_marked 44 = .ok (.if_icmp .ge 65, 3) := dk_162 0 65 (dk_at dksX0_marked_1 20 rfl rfl)
theorem dX0_marked_47 : decode cX0_marked 47 = .ok (.iload_n 2, 1) := dk_28 (dk_at dksX0_marked_1 23 rfl rfl)
theorem dX0_marked_48 : decode cX0_marked 48 = .ok (.iconst 4, 1) := dk_7 (dk_at dksX0_marked_2 0 rfl rfl)
theorem dX0_marked_49 : decode cX0_marked 49 = .ok (.if_icmp .ne 20, 3) := dk_160 0 20 (dk_at dksX0_marked_2 1 rfl rfl)
theorem dX0_marked_52 : decode cX0_marked 52 = .ok (.aload_n 3, 1) := dk_45 (dk_at dksX0_marked_2 4 rfl rfl)
theorem dX0_marked_53 : decode cX0_marked 53 = .ok (.iload 5, 2) := dk_21 5 (dk_at dksX0_marked_2 5 rfl rfl)
theorem dX0_marked_55 : decode cX0_marked 55 = .ok (.invokevirtual 309, 3) := dk_182 1 53 (dk_at dksX0_marked_2 7 rfl rfl)
theorem dX0_marked_58 : decode cX0_marked 58 = .ok (.ifCond .ne 7, 3) := dk_154 0 7 (dk_at dksX0_marked_2 10 rfl rfl)
theorem dX0_marked_61 : decode cX0_marked 61 = .ok (.iconst 1, 1) := dk_4 (dk_at dksX0_marked_2 13 rfl rfl)
theorem dX0_marked_62 : decode cX0_marked 62 = .ok (.goto 17, 3) := dk_167 0 17 (dk_at dksX0_marked_2 14 rfl rfl)
theorem dX0_marked_65 : decode cX0_marked 65 = .ok (.iconst 0, 1) := dk_3 (dk_at dksX0_marked_2 17 rfl rfl)
theorem dX0_marked_66 : decode cX0_marked 66 = .ok (.goto 13, 3) := dk_167 0 13 (dk_at dksX0_marked_2 18 rfl rfl)
theorem dX0_marked_69 : decode cX0_marked 69 = .ok (.aload_n 3, 1) := dk_45 (dk_at dksX0_marked_2 21 rfl rfl)
theorem dX0_marked_70 : decode cX0_marked 70 = .ok (.iload 5, 2) := dk_21 5 (dk_at dksX0_marked_2 22 rfl rfl)
theorem dX0_marked_72 : decode cX0_marked 72 = .ok (.invokevirtual 309, 3) := dk_182 1 53 (dk_at dksX0_marked_3 0 rfl rfl)
theorem dX0_marked_75 : decode cX0_marked 75 = .ok (.iload_n 2, 1) := dk_28 (dk_at dksX0_marked_3 3 rfl rfl)
theorem dX0_marked_76 : decode cX0_marked 76 = .ok (.invokestatic 312, 3) := dk_184 1 56 (dk_at dksX0_marked_3 4 rfl rfl)
theorem dX0_marked_79 : decode cX0_marked 79 = .ok (.istore 6, 2) := dk_54 6 (dk_at dksX0_marked_3 7 rfl rfl)
theorem dX0_marked_81 : decode cX0_marked 81 = .ok (.iload 4, 2) := dk_21 4 (dk_at dksX0_marked_3 9 rfl rfl)
theorem dX0_marked_83 : decode cX0_marked 83 = .ok (.iload 6, 2) := dk_21 6 (dk_at dksX0_marked_3 11 rfl rfl)
theorem dX0_marked_85 : decode cX0_marked 85 = .ok (.ifCond .eq 14, 3) := dk_153 0 14 (dk_at dksX0_marked_3 13 rfl rfl)
theorem dX0_marked_88 : decode cX0_marked 88 = .ok (.iconst 1, 1) := dk_4 (dk_at dksX0_marked_3 16 rfl rfl)
theorem dX0_marked_89 : decode cX0_marked 89 = .ok (.aload_n 3, 1) := dk_45 (dk_at dksX0_marked_3 17 rfl rfl)
theorem dX0_marked_90 : decode cX0_marked 90 = .ok (.iload 5, 2) := dk_21 5 (dk_at dksX0_marked_3 18 rfl rfl)
theorem dX0_marked_92 : decode cX0_marked 92 = .ok (.invokevirtual 402, 3) := dk_182 1 146 (dk_at dksX0_marked_3 20 rfl rfl)
theorem dX0_marked_95 : decode cX0_marked 95 = .ok (.ishl, 1) := dk_120 (dk_at dksX0_marked_3 23 rfl rfl)
theorem dX0_marked_96 : decode cX0_marked 96 = .ok (.goto 4, 3) := dk_167 0 4 (dk_at dksX0_marked_4 0 rfl rfl)
theorem dX0_marked_99 : decode cX0_marked 99 = .ok (.iconst 0, 1) := dk_3 (dk_at dksX0_marked_4 3 rfl rfl)
theorem dX0_marked_100 : decode cX0_marked 100 = .ok (.ior, 1) := dk_128 (dk_at dksX0_marked_4 4 rfl rfl)
theorem dX0_marked_101 : decode cX0_marked 101 = .ok (.istore 4, 2) := dk_54 4 (dk_at dksX0_marked_4 5 rfl rfl)
theorem dX0_marked_103 : decode cX0_marked 103 = .ok (.iinc 5 1, 3) := dk_132 5 1 (dk_at dksX0_marked_4 7 rfl rfl)
theorem dX0_marked_106 : decode cX0_marked 106 = .ok (.goto (-68), 3) := dk_167 255 188 (dk_at dksX0_marked_4 10 rfl rfl)
theorem dX0_marked_109 : decode cX0_marked 109 = .ok (.iload 4, 2) := dk_21 4 (dk_at dksX0_marked_4 13 rfl rfl)
theorem dX0_marked_111 : decode cX0_marked 111 = .ok (.ireturn, 1) := dk_172 (dk_at dksX0_marked_4 15 rfl rfl)
abbrev cX0_judge : ByteArray := prog_1_method_74_code
def yX0_judge : MethodName := ⟨RX0, "judge", "(III)I"⟩
def dkwX0_judge_0 : List UInt8 := [42, 42, 27, 28, 29, 186, 1, 155, 0, 0, 182, 0, 142, 172]
abbrev dktX0_judge_0 : List UInt8 := dkwX0_judge_0 ++ []
theorem dksX0_judge_0 : cX0_judge.data.toList.drop 0 = dktX0_judge_0 := by decide +kernel
theorem dX0_judge_0 : decode cX0_judge 0 = .ok (.aload_n 0, 1) := dk_42 (dk_at dksX0_judge_0 0 rfl rfl)
theorem dX0_judge_1 : decode cX0_judge 1 = .ok (.aload_n 0, 1) := dk_42 (dk_at dksX0_judge_0 1 rfl rfl)
theorem dX0_judge_2 : decode cX0_judge 2 = .ok (.iload_n 1, 1) := dk_27 (dk_at dksX0_judge_0 2 rfl rfl)
theorem dX0_judge_3 : decode cX0_judge 3 = .ok (.iload_n 2, 1) := dk_28 (dk_at dksX0_judge_0 3 rfl rfl)
theorem dX0_judge_4 : decode cX0_judge 4 = .ok (.iload_n 3, 1) := dk_29 (dk_at dksX0_judge_0 4 rfl rfl)
theorem dX0_judge_5 : decode cX0_judge 5 = .ok (.invokedynamic 411, 5) := by decide +kernel
theorem dX0_judge_10 : decode cX0_judge 10 = .ok (.invokevirtual 142, 3) := dk_182 0 142 (dk_at dksX0_judge_0 10 rfl rfl)
theorem dX0_judge_13 : decode cX0_judge 13 = .ok (.ireturn, 1) := dk_172 (dk_at dksX0_judge_0 13 rfl rfl)
abbrev cX0_lambda_judge_25 : ByteArray := prog_1_method_88_code
def yX0_lambda_judge_25 : MethodName := ⟨RX0, "lambda$judge$25", "(III)I"⟩
def dkwX0_lambda_judge_25_4 : List UInt8 := [25, 5, 182, 0, 245, 29, 164, 0, 7, 29, 167, 0, 4, 2, 172]
abbrev dktX0_lambda_judge_25_4 : List UInt8 := dkwX0_lambda_judge_25_4 ++ []
def dkwX0_lambda_judge_25_3 : List UInt8 := [133, 25, 4, 5, 21, 6, 104, 4, 96, 47, 148, 153, 0, 6, 21, 6, 172, 132, 6, 1, 167, 255, 194]
abbrev dktX0_lambda_judge_25_3 : List UInt8 := dkwX0_lambda_judge_25_3 ++ dktX0_lambda_judge_25_4
def dkwX0_lambda_judge_25_2 : List UInt8 := [21, 6, 182, 1, 146, 133, 25, 4, 5, 21, 6, 104, 47, 148, 154, 0, 24, 25, 5, 21, 6, 182, 1, 53]
abbrev dktX0_lambda_judge_25_2 : List UInt8 := dkwX0_lambda_judge_25_2 ++ dktX0_lambda_judge_25_3
def dkwX0_lambda_judge_25_1 : List UInt8 := [58, 5, 3, 54, 6, 21, 6, 29, 162, 0, 62, 21, 6, 25, 5, 182, 0, 245, 162, 0, 43, 25, 5]
abbrev dktX0_lambda_judge_25_1 : List UInt8 := dkwX0_lambda_judge_25_1 ++ dktX0_lambda_judge_25_2
def dkwX0_lambda_judge_25_0 : List UInt8 := [42, 27, 184, 1, 137, 28, 29, 16, 20, 5, 182, 1, 207, 58, 4, 42, 180, 0, 16, 27, 182, 1, 140]
abbrev dktX0_lambda_judge_25_0 : List UInt8 := dkwX0_lambda_judge_25_0 ++ dktX0_lambda_judge_25_1
theorem dksX0_lambda_judge_25_0 : cX0_lambda_judge_25.data.toList.drop 0 = dktX0_lambda_judge_25_0 := by decide +kernel
theorem dksX0_lambda_judge_25_1 : cX0_lambda_judge_25.data.toList.drop 23 = dktX0_lambda_judge_25_1 := dk_seg dksX0_lambda_judge_25_0 23 rfl rfl
theorem dksX0_lambda_judge_25_2 : cX0_lambda_judge_25.data.toList.drop 46 = dktX0_lambda_judge_25_2 := dk_seg dksX0_lambda_judge_25_1 23 rfl rfl
theorem dksX0_lambda_judge_25_3 : cX0_lambda_judge_25.data.toList.drop 70 = dktX0_lambda_judge_25_3 := dk_seg dksX0_lambda_judge_25_2 24 rfl rfl
theorem dksX0_lambda_judge_25_4 : cX0_lambda_judge_25.data.toList.drop 93 = dktX0_lambda_judge_25_4 := dk_seg dksX0_lambda_judge_25_3 23 rfl rfl
theorem dX0_lambda_judge_25_0 : decode cX0_lambda_judge_25 0 = .ok (.aload_n 0, 1) := dk_42 (dk_at dksX0_lambda_judge_25_0 0 rfl rfl)
theorem dX0_lambda_judge_25_1 : decode cX0_lambda_judge_25 1 = .ok (.iload_n 1, 1) := dk_27 (dk_at dksX0_lambda_judge_25_0 1 rfl rfl)
theorem dX0_lambda_judge_25_2 : decode cX0_lambda_judge_25 2 = .ok (.invokestatic 393, 3) := dk_184 1 137 (dk_at dksX0_lambda_judge_25_0 2 rfl rfl)
theorem dX0_lambda_judge_25_5 : decode cX0_lambda_judge_25 5 = .ok (.iload_n 2, 1) := dk_28 (dk_at dksX0_lambda_judge_25_0 5 rfl rfl)
theorem dX0_lambda_judge_25_6 : decode cX0_lambda_judge_25 6 = .ok (.iload_n 3, 1) := dk_29 (dk_at dksX0_lambda_judge_25_0 6 rfl rfl)
theorem dX0_lambda_judge_25_7 : decode cX0_lambda_judge_25 7 = .ok (.bipush 20, 2) := dk_16 20 (dk_at dksX0_lambda_judge_25_0 7 rfl rfl)
theorem dX0_lambda_judge_25_9 : decode cX0_lambda_judge_25 9 = .ok (.iconst 2, 1) := dk_5 (dk_at dksX0_lambda_judge_25_0 9 rfl rfl)
theorem dX0_lambda_judge_25_10 : decode cX0_lambda_judge_25 10 = .ok (.invokevirtual 463, 3) := dk_182 1 207 (dk_at dksX0_lambda_judge_25_0 10 rfl rfl)
theorem dX0_lambda_judge_25_13 : decode cX0_lambda_judge_25 13 = .ok (.astore 4, 2) := dk_58 4 (dk_at dksX0_lambda_judge_25_0 13 rfl rfl)
theorem dX0_lambda_judge_25_15 : decode cX0_lambda_judge_25 15 = .ok (.aload_n 0, 1) := dk_42 (dk_at dksX0_lambda_judge_25_0 15 rfl rfl)
theorem dX0_lambda_judge_25_16 : decode cX0_lambda_judge_25 16 = .ok (.getfield 16, 3) := dk_180 0 16 (dk_at dksX0_lambda_judge_25_0 16 rfl rfl)
theorem dX0_lambda_judge_25_19 : decode cX0_lambda_judge_25 19 = .ok (.iload_n 1, 1) := dk_27 (dk_at dksX0_lambda_judge_25_0 19 rfl rfl)
theorem dX0_lambda_judge_25_20 : decode cX0_lambda_judge_25 20 = .ok (.invokevirtual 396, 3) := dk_182 1 140 (dk_at dksX0_lambda_judge_25_0 20 rfl rfl)
theorem dX0_lambda_judge_25_23 : decode cX0_lambda_judge_25 23 = .ok (.astore 5, 2) := dk_58 5 (dk_at dksX0_lambda_judge_25_1 0 rfl rfl)
theorem dX0_lambda_judge_25_25 : decode cX0_lambda_judge_25 25 = .ok (.iconst 0, 1) := dk_3 (dk_at dksX0_lambda_judge_25_1 2 rfl rfl)
theorem dX0_lambda_judge_25_26 : decode cX0_lambda_judge_25 26 = .ok (.istore 6, 2) := dk_54 6 (dk_at dksX0_lambda_judge_25_1 3 rfl rfl)
theorem dX0_lambda_judge_25_28 : decode cX0_lambda_judge_25 28 = .ok (.iload 6, 2) := dk_21 6 (dk_at dksX0_lambda_judge_25_1 5 rfl rfl)
theorem dX0_lambda_judge_25_30 : decode cX0_lambda_judge_25 30 = .ok (.iload_n 3, 1) := dk_29 (dk_at dksX0_lambda_judge_25_1 7 rfl rfl)
theorem dX0_lambda_judge_25_31 : decode cX0_lambda_judge_25 31 = .ok (.if_icmp .ge 62, 3) := dk_162 0 62 (dk_at dksX0_lambda_judge_25_1 8 rfl rfl)
theorem dX0_lambda_judge_25_34 : decode cX0_lambda_judge_25 34 = .ok (.iload 6, 2) := dk_21 6 (dk_at dksX0_lambda_judge_25_1 11 rfl rfl)
theorem dX0_lambda_judge_25_36 : decode cX0_lambda_judge_25 36 = .ok (.aload 5, 2) := dk_25 5 (dk_at dksX0_lambda_judge_25_1 13 rfl rfl)
theorem dX0_lambda_judge_25_38 : decode cX0_lambda_judge_25 38 = .ok (.invokevirtual 245, 3) := dk_182 0 245 (dk_at dksX0_lambda_judge_25_1 15 rfl rfl)
theorem dX0_lambda_judge_25_41 : decode cX0_lambda_judge_25 41 = .ok (.if_icmp .ge 43, 3) := dk_162 0 43 (dk_at dksX0_lambda_judge_25_1 18 rfl rfl)
theorem dX0_lambda_judge_25_44 : decode cX0_lambda_judge_25 44 = .ok (.aload 5, 2) := dk_25 5 (dk_at dksX0_lambda_judge_25_1 21 rfl rfl)
theorem dX0_lambda_judge_25_46 : decode cX0_lambda_judge_25 46 = .ok (.iload 6, 2) := dk_21 6 (dk_at dksX0_lambda_judge_25_2 0 rfl rfl)
theorem dX0_lambda_judge_25_48 : decode cX0_lambda_judge_25 48 = .ok (.invokevirtual 402, 3) := dk_182 1 146 (dk_at dksX0_lambda_judge_25_2 2 rfl rfl)
theorem dX0_lambda_judge_25_51 : decode cX0_lambda_judge_25 51 = .ok (.i2l, 1) := dk_133 (dk_at dksX0_lambda_judge_25_2 5 rfl rfl)
theorem dX0_lambda_judge_25_52 : decode cX0_lambda_judge_25 52 = .ok (.aload 4, 2) := dk_25 4 (dk_at dksX0_lambda_judge_25_2 6 rfl rfl)
theorem dX0_lambda_judge_25_54 : decode cX0_lambda_judge_25 54 = .ok (.iconst 2, 1) := dk_5 (dk_at dksX0_lambda_judge_25_2 8 rfl rfl)
theorem dX0_lambda_judge_25_55 : decode cX0_lambda_judge_25 55 = .ok (.iload 6, 2) := dk_21 6 (dk_at dksX0_lambda_judge_25_2 9 rfl rfl)
theorem dX0_lambda_judge_25_57 : decode cX0_lambda_judge_25 57 = .ok (.imul, 1) := dk_104 (dk_at dksX0_lambda_judge_25_2 11 rfl rfl)
theorem dX0_lambda_judge_25_58 : decode cX0_lambda_judge_25 58 = .ok (.laload, 1) := dk_47 (dk_at dksX0_lambda_judge_25_2 12 rfl rfl)
theorem dX0_lambda_judge_25_59 : decode cX0_lambda_judge_25 59 = .ok (.lcmp, 1) := dk_148 (dk_at dksX0_lambda_judge_25_2 13 rfl rfl)
theorem dX0_lambda_judge_25_60 : decode cX0_lambda_judge_25 60 = .ok (.ifCond .ne 24, 3) := dk_154 0 24 (dk_at dksX0_lambda_judge_25_2 14 rfl rfl)
theorem dX0_lambda_judge_25_63 : decode cX0_lambda_judge_25 63 = .ok (.aload 5, 2) := dk_25 5 (dk_at dksX0_lambda_judge_25_2 17 rfl rfl)
theorem dX0_lambda_judge_25_65 : decode cX0_lambda_judge_25 65 = .ok (.iload 6, 2) := dk_21 6 (dk_at dksX0_lambda_judge_25_2 19 rfl rfl)
theorem dX0_lambda_judge_25_67 : decode cX0_lambda_judge_25 67 = .ok (.invokevirtual 309, 3) := dk_182 1 53 (dk_at dksX0_lambda_judge_25_2 21 rfl rfl)
theorem dX0_lambda_judge_25_70 : decode cX0_lambda_judge_25 70 = .ok (.i2l, 1) := dk_133 (dk_at dksX0_lambda_judge_25_3 0 rfl rfl)
theorem dX0_lambda_judge_25_71 : decode cX0_lambda_judge_25 71 = .ok (.aload 4, 2) := dk_25 4 (dk_at dksX0_lambda_judge_25_3 1 rfl rfl)
theorem dX0_lambda_judge_25_73 : decode cX0_lambda_judge_25 73 = .ok (.iconst 2, 1) := dk_5 (dk_at dksX0_lambda_judge_25_3 3 rfl rfl)
theorem dX0_lambda_judge_25_74 : decode cX0_lambda_judge_25 74 = .ok (.iload 6, 2) := dk_21 6 (dk_at dksX0_lambda_judge_25_3 4 rfl rfl)
theorem dX0_lambda_judge_25_76 : decode cX0_lambda_judge_25 76 = .ok (.imul, 1) := dk_104 (dk_at dksX0_lambda_judge_25_3 6 rfl rfl)
theorem dX0_lambda_judge_25_77 : decode cX0_lambda_judge_25 77 = .ok (.iconst 1, 1) := dk_4 (dk_at dksX0_lambda_judge_25_3 7 rfl rfl)
theorem dX0_lambda_judge_25_78 : decode cX0_lambda_judge_25 78 = .ok (.iadd, 1) := dk_96 (dk_at dksX0_lambda_judge_25_3 8 rfl rfl)
theorem dX0_lambda_judge_25_79 : decode cX0_lambda_judge_25 79 = .ok (.laload, 1) := dk_47 (dk_at dksX0_lambda_judge_25_3 9 rfl rfl)
theorem dX0_lambda_judge_25_80 : decode cX0_lambda_judge_25 80 = .ok (.lcmp, 1) := dk_148 (dk_at dksX0_lambda_judge_25_3 10 rfl rfl)
theorem dX0_lambda_judge_25_81 : decode cX0_lambda_judge_25 81 = .ok (.ifCond .eq 6, 3) := dk_153 0 6 (dk_at dksX0_lambda_judge_25_3 11 rfl rfl)
theorem dX0_lambda_judge_25_84 : decode cX0_lambda_judge_25 84 = .ok (.iload 6, 2) := dk_21 6 (dk_at dksX0_lambda_judge_25_3 14 rfl rfl)
theorem dX0_lambda_judge_25_86 : decode cX0_lambda_judge_25 86 = .ok (.ireturn, 1) := dk_172 (dk_at dksX0_lambda_judge_25_3 16 rfl rfl)
theorem dX0_lambda_judge_25_87 : decode cX0_lambda_judge_25 87 = .ok (.iinc 6 1, 3) := dk_132 6 1 (dk_at dksX0_lambda_judge_25_3 17 rfl rfl)
theorem dX0_lambda_judge_25_90 : decode cX0_lambda_judge_25 90 = .ok (.goto (-62), 3) := dk_167 255 194 (dk_at dksX0_lambda_judge_25_3 20 rfl rfl)
theorem dX0_lambda_judge_25_93 : decode cX0_lambda_judge_25 93 = .ok (.aload 5, 2) := dk_25 5 (dk_at dksX0_lambda_judge_25_4 0 rfl rfl)
theorem dX0_lambda_judge_25_95 : decode cX0_lambda_judge_25 95 = .ok (.invokevirtual 245, 3) := dk_182 0 245 (dk_at dksX0_lambda_judge_25_4 2 rfl rfl)
theorem dX0_lambda_judge_25_98 : decode cX0_lambda_judge_25 98 = .ok (.iload_n 3, 1) := dk_29 (dk_at dksX0_lambda_judge_25_4 5 rfl rfl)
theorem dX0_lambda_judge_25_99 : decode cX0_lambda_judge_25 99 = .ok (.if_icmp .le 7, 3) := dk_164 0 7 (dk_at dksX0_lambda_judge_25_4 6 rfl rfl)
theorem dX0_lambda_judge_25_102 : decode cX0_lambda_judge_25 102 = .ok (.iload_n 3, 1) := dk_29 (dk_at dksX0_lambda_judge_25_4 9 rfl rfl)
theorem dX0_lambda_judge_25_103 : decode cX0_lambda_judge_25 103 = .ok (.goto 4, 3) := dk_167 0 4 (dk_at dksX0_lambda_judge_25_4 10 rfl rfl)
theorem dX0_lambda_judge_25_106 : decode cX0_lambda_judge_25 106 = .ok (.iconst (-1), 1) := dk_2 (dk_at dksX0_lambda_judge_25_4 13 rfl rfl)
theorem dX0_lambda_judge_25_107 : decode cX0_lambda_judge_25 107 = .ok (.ireturn, 1) := dk_172 (dk_at dksX0_lambda_judge_25_4 14 rfl rfl)
abbrev cX0_toldIn : ByteArray := prog_1_method_73_code
def yX0_toldIn : MethodName := ⟨RX0, "toldIn", "(ZIIII)[J"⟩
def dkwX0_toldIn_1 : List UInt8 := [89, 16, 254, 183, 0, 55, 191, 42, 28, 182, 0, 110, 21, 5, 29, 104, 184, 1, 151, 176]
abbrev dktX0_toldIn_1 : List UInt8 := dkwX0_toldIn_1 ++ []
def dkwX0_toldIn_0 : List UInt8 := [27, 153, 0, 20, 28, 184, 0, 95, 153, 0, 13, 29, 3, 21, 4, 184, 0, 45, 154, 0, 13, 187, 0, 53]
abbrev dktX0_toldIn_0 : List UInt8 := dkwX0_toldIn_0 ++ dktX0_toldIn_1
theorem dksX0_toldIn_0 : cX0_toldIn.data.toList.drop 0 = dktX0_toldIn_0 := by decide +kernel
theorem dksX0_toldIn_1 : cX0_toldIn.data.toList.drop 24 = dktX0_toldIn_1 := dk_seg dksX0_toldIn_0 24 rfl rfl
theorem dX0_toldIn_0 : decode cX0_toldIn 0 = .ok (.iload_n 1, 1) := dk_27 (dk_at dksX0_toldIn_0 0 rfl rfl)
theorem dX0_toldIn_1 : decode cX0_toldIn 1 = .ok (.ifCond .eq 20, 3) := dk_153 0 20 (dk_at dksX0_toldIn_0 1 rfl rfl)
theorem dX0_toldIn_4 : decode cX0_toldIn 4 = .ok (.iload_n 2, 1) := dk_28 (dk_at dksX0_toldIn_0 4 rfl rfl)
theorem dX0_toldIn_5 : decode cX0_toldIn 5 = .ok (.invokestatic 95, 3) := dk_184 0 95 (dk_at dksX0_toldIn_0 5 rfl rfl)
theorem dX0_toldIn_8 : decode cX0_toldIn 8 = .ok (.ifCond .eq 13, 3) := dk_153 0 13 (dk_at dksX0_toldIn_0 8 rfl rfl)
theorem dX0_toldIn_11 : decode cX0_toldIn 11 = .ok (.iload_n 3, 1) := dk_29 (dk_at dksX0_toldIn_0 11 rfl rfl)
theorem dX0_toldIn_12 : decode cX0_toldIn 12 = .ok (.iconst 0, 1) := dk_3 (dk_at dksX0_toldIn_0 12 rfl rfl)
theorem dX0_toldIn_13 : decode cX0_toldIn 13 = .ok (.iload 4, 2) := dk_21 4 (dk_at dksX0_toldIn_0 13 rfl rfl)
theorem dX0_toldIn_15 : decode cX0_toldIn 15 = .ok (.invokestatic 45, 3) := dk_184 0 45 (dk_at dksX0_toldIn_0 15 rfl rfl)
theorem dX0_toldIn_18 : decode cX0_toldIn 18 = .ok (.ifCond .ne 13, 3) := dk_154 0 13 (dk_at dksX0_toldIn_0 18 rfl rfl)
theorem dX0_toldIn_21 : decode cX0_toldIn 21 = .ok (.new 53, 3) := dk_187 0 53 (dk_at dksX0_toldIn_0 21 rfl rfl)
theorem dX0_toldIn_24 : decode cX0_toldIn 24 = .ok (.dup, 1) := dk_89 (dk_at dksX0_toldIn_1 0 rfl rfl)
theorem dX0_toldIn_25 : decode cX0_toldIn 25 = .ok (.bipush (-2), 2) := dk_16 254 (dk_at dksX0_toldIn_1 1 rfl rfl)
theorem dX0_toldIn_27 : decode cX0_toldIn 27 = .ok (.invokespecial 55, 3) := dk_183 0 55 (dk_at dksX0_toldIn_1 3 rfl rfl)
theorem dX0_toldIn_30 : decode cX0_toldIn 30 = .ok (.athrow, 1) := dk_191 (dk_at dksX0_toldIn_1 6 rfl rfl)
theorem dX0_toldIn_31 : decode cX0_toldIn 31 = .ok (.aload_n 0, 1) := dk_42 (dk_at dksX0_toldIn_1 7 rfl rfl)
theorem dX0_toldIn_32 : decode cX0_toldIn 32 = .ok (.iload_n 2, 1) := dk_28 (dk_at dksX0_toldIn_1 8 rfl rfl)
theorem dX0_toldIn_33 : decode cX0_toldIn 33 = .ok (.invokevirtual 110, 3) := dk_182 0 110 (dk_at dksX0_toldIn_1 9 rfl rfl)
theorem dX0_toldIn_36 : decode cX0_toldIn 36 = .ok (.iload 5, 2) := dk_21 5 (dk_at dksX0_toldIn_1 12 rfl rfl)
theorem dX0_toldIn_38 : decode cX0_toldIn 38 = .ok (.iload_n 3, 1) := dk_29 (dk_at dksX0_toldIn_1 14 rfl rfl)
theorem dX0_toldIn_39 : decode cX0_toldIn 39 = .ok (.imul, 1) := dk_104 (dk_at dksX0_toldIn_1 15 rfl rfl)
theorem dX0_toldIn_40 : decode cX0_toldIn 40 = .ok (.invokestatic 407, 3) := dk_184 1 151 (dk_at dksX0_toldIn_1 16 rfl rfl)
theorem dX0_toldIn_43 : decode cX0_toldIn 43 = .ok (.areturn, 1) := dk_176 (dk_at dksX0_toldIn_1 19 rfl rfl)
abbrev cX0_elementsIn : ByteArray := prog_1_method_72_code
def yX0_elementsIn : MethodName := ⟨RX0, "elementsIn", "(Ljava/lang/Object;I)[J"⟩
def dkwX0_elementsIn_1 : List UInt8 := [167, 255, 240, 167, 0, 14, 78, 187, 0, 53, 89, 16, 254, 183, 0, 55, 191, 44, 176]
abbrev dktX0_elementsIn_1 : List UInt8 := dkwX0_elementsIn_1 ++ []
def dkwX0_elementsIn_0 : List UInt8 := [27, 188, 11, 77, 3, 62, 29, 27, 162, 0, 17, 44, 29, 42, 29, 184, 0, 132, 80, 132, 3, 1]
abbrev dktX0_elementsIn_0 : List UInt8 := dkwX0_elementsIn_0 ++ dktX0_elementsIn_1
theorem dksX0_elementsIn_0 : cX0_elementsIn.data.toList.drop 0 = dktX0_elementsIn_0 := by decide +kernel
theorem dksX0_elementsIn_1 : cX0_elementsIn.data.toList.drop 22 = dktX0_elementsIn_1 := dk_seg dksX0_elementsIn_0 22 rfl rfl
theorem dX0_elementsIn_0 : decode cX0_elementsIn 0 = .ok (.iload_n 1, 1) := dk_27 (dk_at dksX0_elementsIn_0 0 rfl rfl)
theorem dX0_elementsIn_1 : decode cX0_elementsIn 1 = .ok (.newarray .long, 2) := dk_188_11 (dk_at dksX0_elementsIn_0 1 rfl rfl)
theorem dX0_elementsIn_3 : decode cX0_elementsIn 3 = .ok (.astore_n 2, 1) := dk_77 (dk_at dksX0_elementsIn_0 3 rfl rfl)
theorem dX0_elementsIn_4 : decode cX0_elementsIn 4 = .ok (.iconst 0, 1) := dk_3 (dk_at dksX0_elementsIn_0 4 rfl rfl)
theorem dX0_elementsIn_5 : decode cX0_elementsIn 5 = .ok (.istore_n 3, 1) := dk_62 (dk_at dksX0_elementsIn_0 5 rfl rfl)
theorem dX0_elementsIn_6 : decode cX0_elementsIn 6 = .ok (.iload_n 3, 1) := dk_29 (dk_at dksX0_elementsIn_0 6 rfl rfl)
theorem dX0_elementsIn_7 : decode cX0_elementsIn 7 = .ok (.iload_n 1, 1) := dk_27 (dk_at dksX0_elementsIn_0 7 rfl rfl)
theorem dX0_elementsIn_8 : decode cX0_elementsIn 8 = .ok (.if_icmp .ge 17, 3) := dk_162 0 17 (dk_at dksX0_elementsIn_0 8 rfl rfl)
theorem dX0_elementsIn_11 : decode cX0_elementsIn 11 = .ok (.aload_n 2, 1) := dk_44 (dk_at dksX0_elementsIn_0 11 rfl rfl)
theorem dX0_elementsIn_12 : decode cX0_elementsIn 12 = .ok (.iload_n 3, 1) := dk_29 (dk_at dksX0_elementsIn_0 12 rfl rfl)
theorem dX0_elementsIn_13 : decode cX0_elementsIn 13 = .ok (.aload_n 0, 1) := dk_42 (dk_at dksX0_elementsIn_0 13 rfl rfl)
theorem dX0_elementsIn_14 : decode cX0_elementsIn 14 = .ok (.iload_n 3, 1) := dk_29 (dk_at dksX0_elementsIn_0 14 rfl rfl)
theorem dX0_elementsIn_15 : decode cX0_elementsIn 15 = .ok (.invokestatic 132, 3) := dk_184 0 132 (dk_at dksX0_elementsIn_0 15 rfl rfl)
theorem dX0_elementsIn_18 : decode cX0_elementsIn 18 = .ok (.lastore, 1) := dk_80 (dk_at dksX0_elementsIn_0 18 rfl rfl)
theorem dX0_elementsIn_19 : decode cX0_elementsIn 19 = .ok (.iinc 3 1, 3) := dk_132 3 1 (dk_at dksX0_elementsIn_0 19 rfl rfl)
theorem dX0_elementsIn_22 : decode cX0_elementsIn 22 = .ok (.goto (-16), 3) := dk_167 255 240 (dk_at dksX0_elementsIn_1 0 rfl rfl)
theorem dX0_elementsIn_25 : decode cX0_elementsIn 25 = .ok (.goto 14, 3) := dk_167 0 14 (dk_at dksX0_elementsIn_1 3 rfl rfl)
theorem dX0_elementsIn_28 : decode cX0_elementsIn 28 = .ok (.astore_n 3, 1) := dk_78 (dk_at dksX0_elementsIn_1 6 rfl rfl)
theorem dX0_elementsIn_29 : decode cX0_elementsIn 29 = .ok (.new 53, 3) := dk_187 0 53 (dk_at dksX0_elementsIn_1 7 rfl rfl)
theorem dX0_elementsIn_32 : decode cX0_elementsIn 32 = .ok (.dup, 1) := dk_89 (dk_at dksX0_elementsIn_1 10 rfl rfl)
theorem dX0_elementsIn_33 : decode cX0_elementsIn 33 = .ok (.bipush (-2), 2) := dk_16 254 (dk_at dksX0_elementsIn_1 11 rfl rfl)
theorem dX0_elementsIn_35 : decode cX0_elementsIn 35 = .ok (.invokespecial 55, 3) := dk_183 0 55 (dk_at dksX0_elementsIn_1 13 rfl rfl)
theorem dX0_elementsIn_38 : decode cX0_elementsIn 38 = .ok (.athrow, 1) := dk_191 (dk_at dksX0_elementsIn_1 16 rfl rfl)
theorem dX0_elementsIn_39 : decode cX0_elementsIn 39 = .ok (.aload_n 2, 1) := dk_44 (dk_at dksX0_elementsIn_1 17 rfl rfl)
theorem dX0_elementsIn_40 : decode cX0_elementsIn 40 = .ok (.areturn, 1) := dk_176 (dk_at dksX0_elementsIn_1 18 rfl rfl)
abbrev cX0_days : ByteArray := prog_1_method_77_code
def yX0_days : MethodName := ⟨RX0, "days", "(I)I"⟩
def dkwX0_days_2 : List UInt8 := [28, 172]
abbrev dktX0_days_2 : List UInt8 := dkwX0_days_2 ++ []
def dkwX0_days_1 : List UInt8 := [162, 0, 24, 28, 42, 182, 1, 180, 153, 0, 7, 4, 167, 0, 4, 3, 96, 61, 132, 3, 1, 167, 255, 233]
abbrev dktX0_days_1 : List UInt8 := dkwX0_days_1 ++ dktX0_days_2
def dkwX0_days_0 : List UInt8 := [27, 4, 16, 60, 184, 0, 45, 154, 0, 10, 42, 16, 254, 182, 0, 79, 172, 3, 61, 3, 62, 29, 27]
abbrev dktX0_days_0 : List UInt8 := dkwX0_days_0 ++ dktX0_days_1
theorem dksX0_days_0 : cX0_days.data.toList.drop 0 = dktX0_days_0 := by decide +kernel
theorem dksX0_days_1 : cX0_days.data.toList.drop 23 = dktX0_days_1 := dk_seg dksX0_days_0 23 rfl rfl
theorem dksX0_days_2 : cX0_days.data.toList.drop 47 = dktX0_days_2 := dk_seg dksX0_days_1 24 rfl rfl
theorem dX0_days_0 : decode cX0_days 0 = .ok (.iload_n 1, 1) := dk_27 (dk_at dksX0_days_0 0 rfl rfl)
theorem dX0_days_1 : decode cX0_days 1 = .ok (.iconst 1, 1) := dk_4 (dk_at dksX0_days_0 1 rfl rfl)
theorem dX0_days_2 : decode cX0_days 2 = .ok (.bipush 60, 2) := dk_16 60 (dk_at dksX0_days_0 2 rfl rfl)
theorem dX0_days_4 : decode cX0_days 4 = .ok (.invokestatic 45, 3) := dk_184 0 45 (dk_at dksX0_days_0 4 rfl rfl)
theorem dX0_days_7 : decode cX0_days 7 = .ok (.ifCond .ne 10, 3) := dk_154 0 10 (dk_at dksX0_days_0 7 rfl rfl)
theorem dX0_days_10 : decode cX0_days 10 = .ok (.aload_n 0, 1) := dk_42 (dk_at dksX0_days_0 10 rfl rfl)
theorem dX0_days_11 : decode cX0_days 11 = .ok (.bipush (-2), 2) := dk_16 254 (dk_at dksX0_days_0 11 rfl rfl)
theorem dX0_days_13 : decode cX0_days 13 = .ok (.invokevirtual 79, 3) := dk_182 0 79 (dk_at dksX0_days_0 13 rfl rfl)
theorem dX0_days_16 : decode cX0_days 16 = .ok (.ireturn, 1) := dk_172 (dk_at dksX0_days_0 16 rfl rfl)
theorem dX0_days_17 : decode cX0_days 17 = .ok (.iconst 0, 1) := dk_3 (dk_at dksX0_days_0 17 rfl rfl)
theorem dX0_days_18 : decode cX0_days 18 = .ok (.istore_n 2, 1) := dk_61 (dk_at dksX0_days_0 18 rfl rfl)
theorem dX0_days_19 : decode cX0_days 19 = .ok (.iconst 0, 1) := dk_3 (dk_at dksX0_days_0 19 rfl rfl)
theorem dX0_days_20 : decode cX0_days 20 = .ok (.istore_n 3, 1) := dk_62 (dk_at dksX0_days_0 20 rfl rfl)
theorem dX0_days_21 : decode cX0_days 21 = .ok (.iload_n 3, 1) := dk_29 (dk_at dksX0_days_0 21 rfl rfl)
theorem dX0_days_22 : decode cX0_days 22 = .ok (.iload_n 1, 1) := dk_27 (dk_at dksX0_days_0 22 rfl rfl)
theorem dX0_days_23 : decode cX0_days 23 = .ok (.if_icmp .ge 24, 3) := dk_162 0 24 (dk_at dksX0_days_1 0 rfl rfl)
theorem dX0_days_26 : decode cX0_days 26 = .ok (.iload_n 2, 1) := dk_28 (dk_at dksX0_days_1 3 rfl rfl)
theorem dX0_days_27 : decode cX0_days 27 = .ok (.aload_n 0, 1) := dk_42 (dk_at dksX0_days_1 4 rfl rfl)
theorem dX0_days_28 : decode cX0_days 28 = .ok (.invokevirtual 436, 3) := dk_182 1 180 (dk_at dksX0_days_1 5 rfl rfl)
theorem dX0_days_31 : decode cX0_days 31 = .ok (.ifCond .eq 7, 3) := dk_153 0 7 (dk_at dksX0_days_1 8 rfl rfl)
theorem dX0_days_34 : decode cX0_days 34 = .ok (.iconst 1, 1) := dk_4 (dk_at dksX0_days_1 11 rfl rfl)
theorem dX0_days_35 : decode cX0_days 35 = .ok (.goto 4, 3) := dk_167 0 4 (dk_at dksX0_days_1 12 rfl rfl)
theorem dX0_days_38 : decode cX0_days 38 = .ok (.iconst 0, 1) := dk_3 (dk_at dksX0_days_1 15 rfl rfl)
theorem dX0_days_39 : decode cX0_days 39 = .ok (.iadd, 1) := dk_96 (dk_at dksX0_days_1 16 rfl rfl)
theorem dX0_days_40 : decode cX0_days 40 = .ok (.istore_n 2, 1) := dk_61 (dk_at dksX0_days_1 17 rfl rfl)
theorem dX0_days_41 : decode cX0_days 41 = .ok (.iinc 3 1, 3) := dk_132 3 1 (dk_at dksX0_days_1 18 rfl rfl)
theorem dX0_days_44 : decode cX0_days 44 = .ok (.goto (-23), 3) := dk_167 255 233 (dk_at dksX0_days_1 21 rfl rfl)
theorem dX0_days_47 : decode cX0_days 47 = .ok (.iload_n 2, 1) := dk_28 (dk_at dksX0_days_2 0 rfl rfl)
theorem dX0_days_48 : decode cX0_days 48 = .ok (.ireturn, 1) := dk_172 (dk_at dksX0_days_2 1 rfl rfl)
abbrev cX0_day : ByteArray := prog_1_method_75_code
def yX0_day : MethodName := ⟨RX0, "day", "()Z"⟩
def dkwX0_day_7 : List UInt8 := [42, 180, 0, 16, 7, 182, 1, 156, 4, 184, 1, 167, 87, 4, 172, 3, 172, 42, 27, 28, 182, 1, 170, 172]
abbrev dktX0_day_7 : List UInt8 := dkwX0_day_7 ++ []
def dkwX0_day_6 : List UInt8 := [4, 172, 3, 172, 21, 4, 158, 0, 33, 42, 180, 0, 16, 21, 4, 182, 1, 156, 54, 5, 45, 21, 5, 4]
abbrev dktX0_day_6 : List UInt8 := dkwX0_day_6 ++ dktX0_day_7
def dkwX0_day_5 : List UInt8 := [45, 180, 0, 250, 42, 180, 0, 16, 21, 4, 182, 1, 156, 4, 184, 1, 163, 182, 1, 45, 184, 1, 48, 87]
abbrev dktX0_day_5 : List UInt8 := dkwX0_day_5 ++ dktX0_day_6
def dkwX0_day_4 : List UInt8 := [21, 4, 4, 96, 182, 1, 156, 21, 5, 3, 184, 1, 159, 87, 4, 172, 3, 172, 21, 4, 158, 0, 30, 45]
abbrev dktX0_day_4 : List UInt8 := dkwX0_day_4 ++ dktX0_day_5
def dkwX0_day_3 : List UInt8 := [21, 4, 16, 60, 162, 0, 35, 42, 180, 0, 16, 16, 26, 182, 1, 156, 54, 5, 45, 42, 180, 0, 16]
abbrev dktX0_day_3 : List UInt8 := dkwX0_day_3 ++ dktX0_day_4
def dkwX0_day_2 : List UInt8 := [170, 0, 0, 0, 145, 0, 0, 0, 0, 0, 0, 0, 4, 0, 0, 0, 33, 0, 0, 0, 33, 0, 0, 0, 33, 0, 0, 0, 74, 0, 0, 0, 108]
abbrev dktX0_day_2 : List UInt8 := dkwX0_day_2 ++ dktX0_day_3
def dkwX0_day_1 : List UInt8 := [180, 0, 65, 27, 50, 78, 45, 180, 0, 250, 182, 0, 245, 54, 4, 28]
abbrev dktX0_day_1 : List UInt8 := dkwX0_day_1 ++ dktX0_day_2
def dkwX0_day_0 : List UInt8 := [42, 180, 0, 16, 7, 182, 1, 156, 60, 42, 180, 0, 16, 16, 8, 182, 1, 156, 61, 42, 180, 0, 16]
abbrev dktX0_day_0 : List UInt8 := dkwX0_day_0 ++ dktX0_day_1
theorem dksX0_day_0 : cX0_day.data.toList.drop 0 = dktX0_day_0 := by decide +kernel
theorem dksX0_day_1 : cX0_day.data.toList.drop 23 = dktX0_day_1 := dk_seg dksX0_day_0 23 rfl rfl
theorem dksX0_day_2 : cX0_day.data.toList.drop 39 = dktX0_day_2 := dk_seg dksX0_day_1 16 rfl rfl
theorem dksX0_day_3 : cX0_day.data.toList.drop 72 = dktX0_day_3 := dk_seg dksX0_day_2 33 rfl rfl
theorem dksX0_day_4 : cX0_day.data.toList.drop 95 = dktX0_day_4 := dk_seg dksX0_day_3 23 rfl rfl
theorem dksX0_day_5 : cX0_day.data.toList.drop 119 = dktX0_day_5 := dk_seg dksX0_day_4 24 rfl rfl
theorem dksX0_day_6 : cX0_day.data.toList.drop 143 = dktX0_day_6 := dk_seg dksX0_day_5 24 rfl rfl
theorem dksX0_day_7 : cX0_day.data.toList.drop 167 = dktX0_day_7 := dk_seg dksX0_day_6 24 rfl rfl
theorem dX0_day_0 : decode cX0_day 0 = .ok (.aload_n 0, 1) := dk_42 (dk_at dksX0_day_0 0 rfl rfl)
theorem dX0_day_1 : decode cX0_day 1 = .ok (.getfield 16, 3) := dk_180 0 16 (dk_at dksX0_day_0 1 rfl rfl)
theorem dX0_day_4 : decode cX0_day 4 = .ok (.iconst 4, 1) := dk_7 (dk_at dksX0_day_0 4 rfl rfl)
theorem dX0_day_5 : decode cX0_day 5 = .ok (.invokevirtual 412, 3) := dk_182 1 156 (dk_at dksX0_day_0 5 rfl rfl)
theorem dX0_day_8 : decode cX0_day 8 = .ok (.istore_n 1, 1) := dk_60 (dk_at dksX0_day_0 8 rfl rfl)
theorem dX0_day_9 : decode cX0_day 9 = .ok (.aload_n 0, 1) := dk_42 (dk_at dksX0_day_0 9 rfl rfl)
theorem dX0_day_10 : decode cX0_day 10 = .ok (.getfield 16, 3) := dk_180 0 16 (dk_at dksX0_day_0 10 rfl rfl)
theorem dX0_day_13 : decode cX0_day 13 = .ok (.bipush 8, 2) := dk_16 8 (dk_at dksX0_day_0 13 rfl rfl)
theorem dX0_day_15 : decode cX0_day 15 = .ok (.invokevirtual 412, 3) := dk_182 1 156 (dk_at dksX0_day_0 15 rfl rfl)
theorem dX0_day_18 : decode cX0_day 18 = .ok (.istore_n 2, 1) := dk_61 (dk_at dksX0_day_0 18 rfl rfl)
theorem dX0_day_19 : decode cX0_day 19 = .ok (.aload_n 0, 1) := dk_42 (dk_at dksX0_day_0 19 rfl rfl)
theorem dX0_day_20 : decode cX0_day 20 = .ok (.getfield 16, 3) := dk_180 0 16 (dk_at dksX0_day_0 20 rfl rfl)
theorem dX0_day_23 : decode cX0_day 23 = .ok (.getfield 65, 3) := dk_180 0 65 (dk_at dksX0_day_1 0 rfl rfl)
theorem dX0_day_26 : decode cX0_day 26 = .ok (.iload_n 1, 1) := dk_27 (dk_at dksX0_day_1 3 rfl rfl)
theorem dX0_day_27 : decode cX0_day 27 = .ok (.aaload, 1) := dk_50 (dk_at dksX0_day_1 4 rfl rfl)
theorem dX0_day_28 : decode cX0_day 28 = .ok (.astore_n 3, 1) := dk_78 (dk_at dksX0_day_1 5 rfl rfl)
theorem dX0_day_29 : decode cX0_day 29 = .ok (.aload_n 3, 1) := dk_45 (dk_at dksX0_day_1 6 rfl rfl)
theorem dX0_day_30 : decode cX0_day 30 = .ok (.getfield 250, 3) := dk_180 0 250 (dk_at dksX0_day_1 7 rfl rfl)
theorem dX0_day_33 : decode cX0_day 33 = .ok (.invokevirtual 245, 3) := dk_182 0 245 (dk_at dksX0_day_1 10 rfl rfl)
theorem dX0_day_36 : decode cX0_day 36 = .ok (.istore 4, 2) := dk_54 4 (dk_at dksX0_day_1 13 rfl rfl)
theorem dX0_day_38 : decode cX0_day 38 = .ok (.iload_n 2, 1) := dk_28 (dk_at dksX0_day_1 15 rfl rfl)
theorem dX0_day_39 : decode cX0_day 39 = .ok (.tableswitch 145 0 4 #[33, 33, 33, 74, 108], 33) := by decide +kernel
theorem dX0_day_72 : decode cX0_day 72 = .ok (.iload 4, 2) := dk_21 4 (dk_at dksX0_day_3 0 rfl rfl)
theorem dX0_day_74 : decode cX0_day 74 = .ok (.bipush 60, 2) := dk_16 60 (dk_at dksX0_day_3 2 rfl rfl)
theorem dX0_day_76 : decode cX0_day 76 = .ok (.if_icmp .ge 35, 3) := dk_162 0 35 (dk_at dksX0_day_3 4 rfl rfl)
theorem dX0_day_79 : decode cX0_day 79 = .ok (.aload_n 0, 1) := dk_42 (dk_at dksX0_day_3 7 rfl rfl)
theorem dX0_day_80 : decode cX0_day 80 = .ok (.getfield 16, 3) := dk_180 0 16 (dk_at dksX0_day_3 8 rfl rfl)
theorem dX0_day_83 : decode cX0_day 83 = .ok (.bipush 26, 2) := dk_16 26 (dk_at dksX0_day_3 11 rfl rfl)
theorem dX0_day_85 : decode cX0_day 85 = .ok (.invokevirtual 412, 3) := dk_182 1 156 (dk_at dksX0_day_3 13 rfl rfl)
theorem dX0_day_88 : decode cX0_day 88 = .ok (.istore 5, 2) := dk_54 5 (dk_at dksX0_day_3 16 rfl rfl)
theorem dX0_day_90 : decode cX0_day 90 = .ok (.aload_n 3, 1) := dk_45 (dk_at dksX0_day_3 18 rfl rfl)
theorem dX0_day_91 : decode cX0_day 91 = .ok (.aload_n 0, 1) := dk_42 (dk_at dksX0_day_3 19 rfl rfl)
theorem dX0_day_92 : decode cX0_day 92 = .ok (.getfield 16, 3) := dk_180 0 16 (dk_at dksX0_day_3 20 rfl rfl)
theorem dX0_day_95 : decode cX0_day 95 = .ok (.iload 4, 2) := dk_21 4 (dk_at dksX0_day_4 0 rfl rfl)
theorem dX0_day_97 : decode cX0_day 97 = .ok (.iconst 1, 1) := dk_4 (dk_at dksX0_day_4 2 rfl rfl)
theorem dX0_day_98 : decode cX0_day 98 = .ok (.iadd, 1) := dk_96 (dk_at dksX0_day_4 3 rfl rfl)
theorem dX0_day_99 : decode cX0_day 99 = .ok (.invokevirtual 412, 3) := dk_182 1 156 (dk_at dksX0_day_4 4 rfl rfl)
theorem dX0_day_102 : decode cX0_day 102 = .ok (.iload 5, 2) := dk_21 5 (dk_at dksX0_day_4 7 rfl rfl)
theorem dX0_day_104 : decode cX0_day 104 = .ok (.iconst 0, 1) := dk_3 (dk_at dksX0_day_4 9 rfl rfl)
theorem dX0_day_105 : decode cX0_day 105 = .ok (.invokestatic 415, 3) := dk_184 1 159 (dk_at dksX0_day_4 10 rfl rfl)
theorem dX0_day_108 : decode cX0_day 108 = .ok (.pop, 1) := dk_87 (dk_at dksX0_day_4 13 rfl rfl)
theorem dX0_day_109 : decode cX0_day 109 = .ok (.iconst 1, 1) := dk_4 (dk_at dksX0_day_4 14 rfl rfl)
theorem dX0_day_110 : decode cX0_day 110 = .ok (.ireturn, 1) := dk_172 (dk_at dksX0_day_4 15 rfl rfl)
theorem dX0_day_111 : decode cX0_day 111 = .ok (.iconst 0, 1) := dk_3 (dk_at dksX0_day_4 16 rfl rfl)
theorem dX0_day_112 : decode cX0_day 112 = .ok (.ireturn, 1) := dk_172 (dk_at dksX0_day_4 17 rfl rfl)
theorem dX0_day_113 : decode cX0_day 113 = .ok (.iload 4, 2) := dk_21 4 (dk_at dksX0_day_4 18 rfl rfl)
theorem dX0_day_115 : decode cX0_day 115 = .ok (.ifCond .le 30, 3) := dk_158 0 30 (dk_at dksX0_day_4 20 rfl rfl)
theorem dX0_day_118 : decode cX0_day 118 = .ok (.aload_n 3, 1) := dk_45 (dk_at dksX0_day_4 23 rfl rfl)
theorem dX0_day_119 : decode cX0_day 119 = .ok (.aload_n 3, 1) := dk_45 (dk_at dksX0_day_5 0 rfl rfl)
theorem dX0_day_120 : decode cX0_day 120 = .ok (.getfield 250, 3) := dk_180 0 250 (dk_at dksX0_day_5 1 rfl rfl)
theorem dX0_day_123 : decode cX0_day 123 = .ok (.aload_n 0, 1) := dk_42 (dk_at dksX0_day_5 4 rfl rfl)
theorem dX0_day_124 : decode cX0_day 124 = .ok (.getfield 16, 3) := dk_180 0 16 (dk_at dksX0_day_5 5 rfl rfl)
theorem dX0_day_127 : decode cX0_day 127 = .ok (.iload 4, 2) := dk_21 4 (dk_at dksX0_day_5 8 rfl rfl)
theorem dX0_day_129 : decode cX0_day 129 = .ok (.invokevirtual 412, 3) := dk_182 1 156 (dk_at dksX0_day_5 10 rfl rfl)
theorem dX0_day_132 : decode cX0_day 132 = .ok (.iconst 1, 1) := dk_4 (dk_at dksX0_day_5 13 rfl rfl)
theorem dX0_day_133 : decode cX0_day 133 = .ok (.invokestatic 419, 3) := dk_184 1 163 (dk_at dksX0_day_5 14 rfl rfl)
theorem dX0_day_136 : decode cX0_day 136 = .ok (.invokevirtual 301, 3) := dk_182 1 45 (dk_at dksX0_day_5 17 rfl rfl)
theorem dX0_day_139 : decode cX0_day 139 = .ok (.invokestatic 304, 3) := dk_184 1 48 (dk_at dksX0_day_5 20 rfl rfl)
theorem dX0_day_142 : decode cX0_day 142 = .ok (.pop, 1) := dk_87 (dk_at dksX0_day_5 23 rfl rfl)
theorem dX0_day_143 : decode cX0_day 143 = .ok (.iconst 1, 1) := dk_4 (dk_at dksX0_day_6 0 rfl rfl)
theorem dX0_day_144 : decode cX0_day 144 = .ok (.ireturn, 1) := dk_172 (dk_at dksX0_day_6 1 rfl rfl)
theorem dX0_day_145 : decode cX0_day 145 = .ok (.iconst 0, 1) := dk_3 (dk_at dksX0_day_6 2 rfl rfl)
theorem dX0_day_146 : decode cX0_day 146 = .ok (.ireturn, 1) := dk_172 (dk_at dksX0_day_6 3 rfl rfl)
theorem dX0_day_147 : decode cX0_day 147 = .ok (.iload 4, 2) := dk_21 4 (dk_at dksX0_day_6 4 rfl rfl)
theorem dX0_day_149 : decode cX0_day 149 = .ok (.ifCond .le 33, 3) := dk_158 0 33 (dk_at dksX0_day_6 6 rfl rfl)
theorem dX0_day_152 : decode cX0_day 152 = .ok (.aload_n 0, 1) := dk_42 (dk_at dksX0_day_6 9 rfl rfl)
theorem dX0_day_153 : decode cX0_day 153 = .ok (.getfield 16, 3) := dk_180 0 16 (dk_at dksX0_day_6 10 rfl rfl)
theorem dX0_day_156 : decode cX0_day 156 = .ok (.iload 4, 2) := dk_21 4 (dk_at dksX0_day_6 13 rfl rfl)
theorem dX0_day_158 : decode cX0_day 158 = .ok (.invokevirtual 412, 3) := dk_182 1 156 (dk_at dksX0_day_6 15 rfl rfl)
theorem dX0_day_161 : decode cX0_day 161 = .ok (.istore 5, 2) := dk_54 5 (dk_at dksX0_day_6 18 rfl rfl)
theorem dX0_day_163 : decode cX0_day 163 = .ok (.aload_n 3, 1) := dk_45 (dk_at dksX0_day_6 20 rfl rfl)
theorem dX0_day_164 : decode cX0_day 164 = .ok (.iload 5, 2) := dk_21 5 (dk_at dksX0_day_6 21 rfl rfl)
theorem dX0_day_166 : decode cX0_day 166 = .ok (.iconst 1, 1) := dk_4 (dk_at dksX0_day_6 23 rfl rfl)
theorem dX0_day_167 : decode cX0_day 167 = .ok (.aload_n 0, 1) := dk_42 (dk_at dksX0_day_7 0 rfl rfl)
theorem dX0_day_168 : decode cX0_day 168 = .ok (.getfield 16, 3) := dk_180 0 16 (dk_at dksX0_day_7 1 rfl rfl)
theorem dX0_day_171 : decode cX0_day 171 = .ok (.iconst 4, 1) := dk_7 (dk_at dksX0_day_7 4 rfl rfl)
theorem dX0_day_172 : decode cX0_day 172 = .ok (.invokevirtual 412, 3) := dk_182 1 156 (dk_at dksX0_day_7 5 rfl rfl)
theorem dX0_day_175 : decode cX0_day 175 = .ok (.iconst 1, 1) := dk_4 (dk_at dksX0_day_7 8 rfl rfl)
theorem dX0_day_176 : decode cX0_day 176 = .ok (.invokestatic 423, 3) := dk_184 1 167 (dk_at dksX0_day_7 9 rfl rfl)
theorem dX0_day_179 : decode cX0_day 179 = .ok (.pop, 1) := dk_87 (dk_at dksX0_day_7 12 rfl rfl)
theorem dX0_day_180 : decode cX0_day 180 = .ok (.iconst 1, 1) := dk_4 (dk_at dksX0_day_7 13 rfl rfl)
theorem dX0_day_181 : decode cX0_day 181 = .ok (.ireturn, 1) := dk_172 (dk_at dksX0_day_7 14 rfl rfl)
theorem dX0_day_182 : decode cX0_day 182 = .ok (.iconst 0, 1) := dk_3 (dk_at dksX0_day_7 15 rfl rfl)
theorem dX0_day_183 : decode cX0_day 183 = .ok (.ireturn, 1) := dk_172 (dk_at dksX0_day_7 16 rfl rfl)
theorem dX0_day_184 : decode cX0_day 184 = .ok (.aload_n 0, 1) := dk_42 (dk_at dksX0_day_7 17 rfl rfl)
theorem dX0_day_185 : decode cX0_day 185 = .ok (.iload_n 1, 1) := dk_27 (dk_at dksX0_day_7 18 rfl rfl)
theorem dX0_day_186 : decode cX0_day 186 = .ok (.iload_n 2, 1) := dk_28 (dk_at dksX0_day_7 19 rfl rfl)
theorem dX0_day_187 : decode cX0_day 187 = .ok (.invokevirtual 426, 3) := dk_182 1 170 (dk_at dksX0_day_7 20 rfl rfl)
theorem dX0_day_190 : decode cX0_day 190 = .ok (.ireturn, 1) := dk_172 (dk_at dksX0_day_7 23 rfl rfl)
abbrev cX0_acts : ByteArray := prog_1_method_76_code
def yX0_acts : MethodName := ⟨RX0, "acts", "(II)Z"⟩
def dkwX0_acts_1 : List UInt8 := [167, 0, 8, 42, 27, 182, 1, 178, 62, 29, 155, 0, 7, 4, 167, 0, 4, 3, 172, 78, 3, 172]
abbrev dktX0_acts_1 : List UInt8 := dkwX0_acts_1 ++ []
def dkwX0_acts_0 : List UInt8 := [28, 8, 160, 0, 11, 42, 27, 182, 1, 173, 167, 0, 22, 28, 16, 6, 160, 0, 11, 42, 27, 182, 1, 176]
abbrev dktX0_acts_0 : List UInt8 := dkwX0_acts_0 ++ dktX0_acts_1
theorem dksX0_acts_0 : cX0_acts.data.toList.drop 0 = dktX0_acts_0 := by decide +kernel
theorem dksX0_acts_1 : cX0_acts.data.toList.drop 24 = dktX0_acts_1 := dk_seg dksX0_acts_0 24 rfl rfl
theorem dX0_acts_0 : decode cX0_acts 0 = .ok (.iload_n 2, 1) := dk_28 (dk_at dksX0_acts_0 0 rfl rfl)
theorem dX0_acts_1 : decode cX0_acts 1 = .ok (.iconst 5, 1) := dk_8 (dk_at dksX0_acts_0 1 rfl rfl)
theorem dX0_acts_2 : decode cX0_acts 2 = .ok (.if_icmp .ne 11, 3) := dk_160 0 11 (dk_at dksX0_acts_0 2 rfl rfl)
theorem dX0_acts_5 : decode cX0_acts 5 = .ok (.aload_n 0, 1) := dk_42 (dk_at dksX0_acts_0 5 rfl rfl)
theorem dX0_acts_6 : decode cX0_acts 6 = .ok (.iload_n 1, 1) := dk_27 (dk_at dksX0_acts_0 6 rfl rfl)
theorem dX0_acts_7 : decode cX0_acts 7 = .ok (.invokevirtual 429, 3) := dk_182 1 173 (dk_at dksX0_acts_0 7 rfl rfl)
theorem dX0_acts_10 : decode cX0_acts 10 = .ok (.goto 22, 3) := dk_167 0 22 (dk_at dksX0_acts_0 10 rfl rfl)
theorem dX0_acts_13 : decode cX0_acts 13 = .ok (.iload_n 2, 1) := dk_28 (dk_at dksX0_acts_0 13 rfl rfl)
theorem dX0_acts_14 : decode cX0_acts 14 = .ok (.bipush 6, 2) := dk_16 6 (dk_at dksX0_acts_0 14 rfl rfl)
theorem dX0_acts_16 : decode cX0_acts 16 = .ok (.if_icmp .ne 11, 3) := dk_160 0 11 (dk_at dksX0_acts_0 16 rfl rfl)
theorem dX0_acts_19 : decode cX0_acts 19 = .ok (.aload_n 0, 1) := dk_42 (dk_at dksX0_acts_0 19 rfl rfl)
theorem dX0_acts_20 : decode cX0_acts 20 = .ok (.iload_n 1, 1) := dk_27 (dk_at dksX0_acts_0 20 rfl rfl)
theorem dX0_acts_21 : decode cX0_acts 21 = .ok (.invokevirtual 432, 3) := dk_182 1 176 (dk_at dksX0_acts_0 21 rfl rfl)
theorem dX0_acts_24 : decode cX0_acts 24 = .ok (.goto 8, 3) := dk_167 0 8 (dk_at dksX0_acts_1 0 rfl rfl)
theorem dX0_acts_27 : decode cX0_acts 27 = .ok (.aload_n 0, 1) := dk_42 (dk_at dksX0_acts_1 3 rfl rfl)
theorem dX0_acts_28 : decode cX0_acts 28 = .ok (.iload_n 1, 1) := dk_27 (dk_at dksX0_acts_1 4 rfl rfl)
theorem dX0_acts_29 : decode cX0_acts 29 = .ok (.invokevirtual 434, 3) := dk_182 1 178 (dk_at dksX0_acts_1 5 rfl rfl)
theorem dX0_acts_32 : decode cX0_acts 32 = .ok (.istore_n 3, 1) := dk_62 (dk_at dksX0_acts_1 8 rfl rfl)
theorem dX0_acts_33 : decode cX0_acts 33 = .ok (.iload_n 3, 1) := dk_29 (dk_at dksX0_acts_1 9 rfl rfl)
theorem dX0_acts_34 : decode cX0_acts 34 = .ok (.ifCond .lt 7, 3) := dk_155 0 7 (dk_at dksX0_acts_1 10 rfl rfl)
theorem dX0_acts_37 : decode cX0_acts 37 = .ok (.iconst 1, 1) := dk_4 (dk_at dksX0_acts_1 13 rfl rfl)
theorem dX0_acts_38 : decode cX0_acts 38 = .ok (.goto 4, 3) := dk_167 0 4 (dk_at dksX0_acts_1 14 rfl rfl)
theorem dX0_acts_41 : decode cX0_acts 41 = .ok (.iconst 0, 1) := dk_3 (dk_at dksX0_acts_1 17 rfl rfl)
theorem dX0_acts_42 : decode cX0_acts 42 = .ok (.ireturn, 1) := dk_172 (dk_at dksX0_acts_1 18 rfl rfl)
theorem dX0_acts_43 : decode cX0_acts 43 = .ok (.astore_n 3, 1) := dk_78 (dk_at dksX0_acts_1 19 rfl rfl)
theorem dX0_acts_44 : decode cX0_acts 44 = .ok (.iconst 0, 1) := dk_3 (dk_at dksX0_acts_1 20 rfl rfl)
theorem dX0_acts_45 : decode cX0_acts 45 = .ok (.ireturn, 1) := dk_172 (dk_at dksX0_acts_1 21 rfl rfl)
abbrev cX0_seed : ByteArray := prog_1_method_78_code
def yX0_seed : MethodName := ⟨RX0, "seed", "(I)I"⟩
def dkwX0_seed_0 : List UInt8 := [42, 180, 0, 16, 180, 1, 183, 61, 42, 180, 0, 16, 27, 181, 1, 183, 28, 172]
abbrev dktX0_seed_0 : List UInt8 := dkwX0_seed_0 ++ []
theorem dksX0_seed_0 : cX0_seed.data.toList.drop 0 = dktX0_seed_0 := by decide +kernel
theorem dX0_seed_0 : decode cX0_seed 0 = .ok (.aload_n 0, 1) := dk_42 (dk_at dksX0_seed_0 0 rfl rfl)
theorem dX0_seed_1 : decode cX0_seed 1 = .ok (.getfield 16, 3) := dk_180 0 16 (dk_at dksX0_seed_0 1 rfl rfl)
theorem dX0_seed_4 : decode cX0_seed 4 = .ok (.getfield 439, 3) := dk_180 1 183 (dk_at dksX0_seed_0 4 rfl rfl)
theorem dX0_seed_7 : decode cX0_seed 7 = .ok (.istore_n 2, 1) := dk_61 (dk_at dksX0_seed_0 7 rfl rfl)
theorem dX0_seed_8 : decode cX0_seed 8 = .ok (.aload_n 0, 1) := dk_42 (dk_at dksX0_seed_0 8 rfl rfl)
theorem dX0_seed_9 : decode cX0_seed 9 = .ok (.getfield 16, 3) := dk_180 0 16 (dk_at dksX0_seed_0 9 rfl rfl)
theorem dX0_seed_12 : decode cX0_seed 12 = .ok (.iload_n 1, 1) := dk_27 (dk_at dksX0_seed_0 12 rfl rfl)
theorem dX0_seed_13 : decode cX0_seed 13 = .ok (.putfield 439, 3) := dk_181 1 183 (dk_at dksX0_seed_0 13 rfl rfl)
theorem dX0_seed_16 : decode cX0_seed 16 = .ok (.iload_n 2, 1) := dk_28 (dk_at dksX0_seed_0 16 rfl rfl)
theorem dX0_seed_17 : decode cX0_seed 17 = .ok (.ireturn, 1) := dk_172 (dk_at dksX0_seed_0 17 rfl rfl)
abbrev cX0_image : ByteArray := prog_1_method_79_code
def yX0_image : MethodName := ⟨RX0, "image", "()I"⟩
def dkwX0_image_0 : List UInt8 := [42, 180, 0, 22, 42, 180, 0, 16, 182, 1, 186, 87, 42, 4, 181, 1, 189, 4, 172]
abbrev dktX0_image_0 : List UInt8 := dkwX0_image_0 ++ []
theorem dksX0_image_0 : cX0_image.data.toList.drop 0 = dktX0_image_0 := by decide +kernel
theorem dX0_image_0 : decode cX0_image 0 = .ok (.aload_n 0, 1) := dk_42 (dk_at dksX0_image_0 0 rfl rfl)
theorem dX0_image_1 : decode cX0_image 1 = .ok (.getfield 22, 3) := dk_180 0 22 (dk_at dksX0_image_0 1 rfl rfl)
theorem dX0_image_4 : decode cX0_image 4 = .ok (.aload_n 0, 1) := dk_42 (dk_at dksX0_image_0 4 rfl rfl)
theorem dX0_image_5 : decode cX0_image 5 = .ok (.getfield 16, 3) := dk_180 0 16 (dk_at dksX0_image_0 5 rfl rfl)
theorem dX0_image_8 : decode cX0_image 8 = .ok (.invokevirtual 442, 3) := dk_182 1 186 (dk_at dksX0_image_0 8 rfl rfl)
theorem dX0_image_11 : decode cX0_image 11 = .ok (.pop, 1) := dk_87 (dk_at dksX0_image_0 11 rfl rfl)
theorem dX0_image_12 : decode cX0_image 12 = .ok (.aload_n 0, 1) := dk_42 (dk_at dksX0_image_0 12 rfl rfl)
theorem dX0_image_13 : decode cX0_image 13 = .ok (.iconst 1, 1) := dk_4 (dk_at dksX0_image_0 13 rfl rfl)
theorem dX0_image_14 : decode cX0_image 14 = .ok (.putfield 445, 3) := dk_181 1 189 (dk_at dksX0_image_0 14 rfl rfl)
theorem dX0_image_17 : decode cX0_image 17 = .ok (.iconst 1, 1) := dk_4 (dk_at dksX0_image_0 17 rfl rfl)
theorem dX0_image_18 : decode cX0_image 18 = .ok (.ireturn, 1) := dk_172 (dk_at dksX0_image_0 18 rfl rfl)
abbrev cX0_back : ByteArray := prog_1_method_80_code
def yX0_back : MethodName := ⟨RX0, "back", "()I"⟩
def dkwX0_back_1 : List UInt8 := [182, 1, 186, 87, 4, 172]
abbrev dktX0_back_1 : List UInt8 := dkwX0_back_1 ++ []
def dkwX0_back_0 : List UInt8 := [42, 180, 1, 189, 154, 0, 10, 42, 16, 251, 182, 0, 79, 172, 42, 180, 0, 16, 42, 180, 0, 22]
abbrev dktX0_back_0 : List UInt8 := dkwX0_back_0 ++ dktX0_back_1
theorem dksX0_back_0 : cX0_back.data.toList.drop 0 = dktX0_back_0 := by decide +kernel
theorem dksX0_back_1 : cX0_back.data.toList.drop 22 = dktX0_back_1 := dk_seg dksX0_back_0 22 rfl rfl
theorem dX0_back_0 : decode cX0_back 0 = .ok (.aload_n 0, 1) := dk_42 (dk_at dksX0_back_0 0 rfl rfl)
theorem dX0_back_1 : decode cX0_back 1 = .ok (.getfield 445, 3) := dk_180 1 189 (dk_at dksX0_back_0 1 rfl rfl)
theorem dX0_back_4 : decode cX0_back 4 = .ok (.ifCond .ne 10, 3) := dk_154 0 10 (dk_at dksX0_back_0 4 rfl rfl)
theorem dX0_back_7 : decode cX0_back 7 = .ok (.aload_n 0, 1) := dk_42 (dk_at dksX0_back_0 7 rfl rfl)
theorem dX0_back_8 : decode cX0_back 8 = .ok (.bipush (-5), 2) := dk_16 251 (dk_at dksX0_back_0 8 rfl rfl)
theorem dX0_back_10 : decode cX0_back 10 = .ok (.invokevirtual 79, 3) := dk_182 0 79 (dk_at dksX0_back_0 10 rfl rfl)
theorem dX0_back_13 : decode cX0_back 13 = .ok (.ireturn, 1) := dk_172 (dk_at dksX0_back_0 13 rfl rfl)
theorem dX0_back_14 : decode cX0_back 14 = .ok (.aload_n 0, 1) := dk_42 (dk_at dksX0_back_0 14 rfl rfl)
theorem dX0_back_15 : decode cX0_back 15 = .ok (.getfield 16, 3) := dk_180 0 16 (dk_at dksX0_back_0 15 rfl rfl)
theorem dX0_back_18 : decode cX0_back 18 = .ok (.aload_n 0, 1) := dk_42 (dk_at dksX0_back_0 18 rfl rfl)
theorem dX0_back_19 : decode cX0_back 19 = .ok (.getfield 22, 3) := dk_180 0 22 (dk_at dksX0_back_0 19 rfl rfl)
theorem dX0_back_22 : decode cX0_back 22 = .ok (.invokevirtual 442, 3) := dk_182 1 186 (dk_at dksX0_back_1 0 rfl rfl)
theorem dX0_back_25 : decode cX0_back 25 = .ok (.pop, 1) := dk_87 (dk_at dksX0_back_1 3 rfl rfl)
theorem dX0_back_26 : decode cX0_back 26 = .ok (.iconst 1, 1) := dk_4 (dk_at dksX0_back_1 4 rfl rfl)
theorem dX0_back_27 : decode cX0_back 27 = .ok (.ireturn, 1) := dk_172 (dk_at dksX0_back_1 5 rfl rfl)
abbrev cX0_status : ByteArray := prog_1_method_82_code
def yX0_status : MethodName := ⟨RX0, "status", "(I)I"⟩
def dkwX0_status_6 : List UInt8 := [167, 0, 4, 2, 172]
abbrev dktX0_status_6 : List UInt8 := dkwX0_status_6 ++ []
def dkwX0_status_5 : List UInt8 := [167, 0, 28, 42, 180, 0, 16, 180, 1, 183, 167, 0, 18, 16, 8, 42, 186, 1, 205, 0, 0, 184, 1, 199]
abbrev dktX0_status_5 : List UInt8 := dkwX0_status_5 ++ dktX0_status_6
def dkwX0_status_4 : List UInt8 := [184, 1, 199, 167, 0, 48, 7, 42, 186, 1, 204, 0, 0, 184, 1, 199, 167, 0, 35, 42, 180, 0, 176]
abbrev dktX0_status_4 : List UInt8 := dkwX0_status_4 ++ dktX0_status_5
def dkwX0_status_3 : List UInt8 := [167, 0, 75, 16, 12, 42, 186, 1, 202, 0, 0, 184, 1, 199, 167, 0, 61, 8, 42, 186, 1, 203, 0, 0]
abbrev dktX0_status_3 : List UInt8 := dkwX0_status_3 ++ dktX0_status_4
def dkwX0_status_2 : List UInt8 := [42, 180, 0, 16, 180, 1, 79, 182, 1, 83, 167, 0, 88, 7, 42, 186, 1, 196, 0, 0, 184, 1, 199]
abbrev dktX0_status_2 : List UInt8 := dkwX0_status_2 ++ dktX0_status_3
def dkwX0_status_1 : List UInt8 := [170, 0, 0, 0, 0, 143, 0, 0, 0, 0, 0, 0, 0, 7, 0, 0, 0, 46, 0, 0, 0, 59, 0, 0, 0, 72, 0, 0, 0, 86, 0, 0, 0, 99, 0, 0, 0, 112, 0, 0, 0, 119, 0, 0, 0, 129]
abbrev dktX0_status_1 : List UInt8 := dkwX0_status_1 ++ dktX0_status_2
def dkwX0_status_0 : List UInt8 := [27, 16, 12, 16, 16, 184, 0, 45, 153, 0, 13, 42, 180, 0, 41, 27, 16, 10, 100, 46, 172, 27]
abbrev dktX0_status_0 : List UInt8 := dkwX0_status_0 ++ dktX0_status_1
theorem dksX0_status_0 : cX0_status.data.toList.drop 0 = dktX0_status_0 := by decide +kernel
theorem dksX0_status_1 : cX0_status.data.toList.drop 22 = dktX0_status_1 := dk_seg dksX0_status_0 22 rfl rfl
theorem dksX0_status_2 : cX0_status.data.toList.drop 68 = dktX0_status_2 := dk_seg dksX0_status_1 46 rfl rfl
theorem dksX0_status_3 : cX0_status.data.toList.drop 91 = dktX0_status_3 := dk_seg dksX0_status_2 23 rfl rfl
theorem dksX0_status_4 : cX0_status.data.toList.drop 115 = dktX0_status_4 := dk_seg dksX0_status_3 24 rfl rfl
theorem dksX0_status_5 : cX0_status.data.toList.drop 138 = dktX0_status_5 := dk_seg dksX0_status_4 23 rfl rfl
theorem dksX0_status_6 : cX0_status.data.toList.drop 162 = dktX0_status_6 := dk_seg dksX0_status_5 24 rfl rfl
theorem dX0_status_0 : decode cX0_status 0 = .ok (.iload_n 1, 1) := dk_27 (dk_at dksX0_status_0 0 rfl rfl)
theorem dX0_status_1 : decode cX0_status 1 = .ok (.bipush 12, 2) := dk_16 12 (dk_at dksX0_status_0 1 rfl rfl)
theorem dX0_status_3 : decode cX0_status 3 = .ok (.bipush 16, 2) := dk_16 16 (dk_at dksX0_status_0 3 rfl rfl)
theorem dX0_status_5 : decode cX0_status 5 = .ok (.invokestatic 45, 3) := dk_184 0 45 (dk_at dksX0_status_0 5 rfl rfl)
theorem dX0_status_8 : decode cX0_status 8 = .ok (.ifCond .eq 13, 3) := dk_153 0 13 (dk_at dksX0_status_0 8 rfl rfl)
theorem dX0_status_11 : decode cX0_status 11 = .ok (.aload_n 0, 1) := dk_42 (dk_at dksX0_status_0 11 rfl rfl)
theorem dX0_status_12 : decode cX0_status 12 = .ok (.getfield 41, 3) := dk_180 0 41 (dk_at dksX0_status_0 12 rfl rfl)
theorem dX0_status_15 : decode cX0_status 15 = .ok (.iload_n 1, 1) := dk_27 (dk_at dksX0_status_0 15 rfl rfl)
theorem dX0_status_16 : decode cX0_status 16 = .ok (.bipush 10, 2) := dk_16 10 (dk_at dksX0_status_0 16 rfl rfl)
theorem dX0_status_18 : decode cX0_status 18 = .ok (.isub, 1) := dk_100 (dk_at dksX0_status_0 18 rfl rfl)
theorem dX0_status_19 : decode cX0_status 19 = .ok (.iaload, 1) := dk_46 (dk_at dksX0_status_0 19 rfl rfl)
theorem dX0_status_20 : decode cX0_status 20 = .ok (.ireturn, 1) := dk_172 (dk_at dksX0_status_0 20 rfl rfl)
theorem dX0_status_21 : decode cX0_status 21 = .ok (.iload_n 1, 1) := dk_27 (dk_at dksX0_status_0 21 rfl rfl)
theorem dX0_status_22 : decode cX0_status 22 = .ok (.tableswitch 143 0 7 #[46, 59, 72, 86, 99, 112, 119, 129], 46) := by decide +kernel
theorem dX0_status_68 : decode cX0_status 68 = .ok (.aload_n 0, 1) := dk_42 (dk_at dksX0_status_2 0 rfl rfl)
theorem dX0_status_69 : decode cX0_status 69 = .ok (.getfield 16, 3) := dk_180 0 16 (dk_at dksX0_status_2 1 rfl rfl)
theorem dX0_status_72 : decode cX0_status 72 = .ok (.getfield 335, 3) := dk_180 1 79 (dk_at dksX0_status_2 4 rfl rfl)
theorem dX0_status_75 : decode cX0_status 75 = .ok (.invokevirtual 339, 3) := dk_182 1 83 (dk_at dksX0_status_2 7 rfl rfl)
theorem dX0_status_78 : decode cX0_status 78 = .ok (.goto 88, 3) := dk_167 0 88 (dk_at dksX0_status_2 10 rfl rfl)
theorem dX0_status_81 : decode cX0_status 81 = .ok (.iconst 4, 1) := dk_7 (dk_at dksX0_status_2 13 rfl rfl)
theorem dX0_status_82 : decode cX0_status 82 = .ok (.aload_n 0, 1) := dk_42 (dk_at dksX0_status_2 14 rfl rfl)
theorem dX0_status_83 : decode cX0_status 83 = .ok (.invokedynamic 452, 5) := by decide +kernel
theorem dX0_status_88 : decode cX0_status 88 = .ok (.invokestatic 455, 3) := dk_184 1 199 (dk_at dksX0_status_2 20 rfl rfl)
theorem dX0_status_91 : decode cX0_status 91 = .ok (.goto 75, 3) := dk_167 0 75 (dk_at dksX0_status_3 0 rfl rfl)
theorem dX0_status_94 : decode cX0_status 94 = .ok (.bipush 12, 2) := dk_16 12 (dk_at dksX0_status_3 3 rfl rfl)
theorem dX0_status_96 : decode cX0_status 96 = .ok (.aload_n 0, 1) := dk_42 (dk_at dksX0_status_3 5 rfl rfl)
theorem dX0_status_97 : decode cX0_status 97 = .ok (.invokedynamic 458, 5) := by decide +kernel
theorem dX0_status_102 : decode cX0_status 102 = .ok (.invokestatic 455, 3) := dk_184 1 199 (dk_at dksX0_status_3 11 rfl rfl)
theorem dX0_status_105 : decode cX0_status 105 = .ok (.goto 61, 3) := dk_167 0 61 (dk_at dksX0_status_3 14 rfl rfl)
theorem dX0_status_108 : decode cX0_status 108 = .ok (.iconst 5, 1) := dk_8 (dk_at dksX0_status_3 17 rfl rfl)
theorem dX0_status_109 : decode cX0_status 109 = .ok (.aload_n 0, 1) := dk_42 (dk_at dksX0_status_3 18 rfl rfl)
theorem dX0_status_110 : decode cX0_status 110 = .ok (.invokedynamic 459, 5) := by decide +kernel
theorem dX0_status_115 : decode cX0_status 115 = .ok (.invokestatic 455, 3) := dk_184 1 199 (dk_at dksX0_status_4 0 rfl rfl)
theorem dX0_status_118 : decode cX0_status 118 = .ok (.goto 48, 3) := dk_167 0 48 (dk_at dksX0_status_4 3 rfl rfl)
theorem dX0_status_121 : decode cX0_status 121 = .ok (.iconst 4, 1) := dk_7 (dk_at dksX0_status_4 6 rfl rfl)
theorem dX0_status_122 : decode cX0_status 122 = .ok (.aload_n 0, 1) := dk_42 (dk_at dksX0_status_4 7 rfl rfl)
theorem dX0_status_123 : decode cX0_status 123 = .ok (.invokedynamic 460, 5) := by decide +kernel
theorem dX0_status_128 : decode cX0_status 128 = .ok (.invokestatic 455, 3) := dk_184 1 199 (dk_at dksX0_status_4 13 rfl rfl)
theorem dX0_status_131 : decode cX0_status 131 = .ok (.goto 35, 3) := dk_167 0 35 (dk_at dksX0_status_4 16 rfl rfl)
theorem dX0_status_134 : decode cX0_status 134 = .ok (.aload_n 0, 1) := dk_42 (dk_at dksX0_status_4 19 rfl rfl)
theorem dX0_status_135 : decode cX0_status 135 = .ok (.getfield 176, 3) := dk_180 0 176 (dk_at dksX0_status_4 20 rfl rfl)
theorem dX0_status_138 : decode cX0_status 138 = .ok (.goto 28, 3) := dk_167 0 28 (dk_at dksX0_status_5 0 rfl rfl)
theorem dX0_status_141 : decode cX0_status 141 = .ok (.aload_n 0, 1) := dk_42 (dk_at dksX0_status_5 3 rfl rfl)
theorem dX0_status_142 : decode cX0_status 142 = .ok (.getfield 16, 3) := dk_180 0 16 (dk_at dksX0_status_5 4 rfl rfl)
theorem dX0_status_145 : decode cX0_status 145 = .ok (.getfield 439, 3) := dk_180 1 183 (dk_at dksX0_status_5 7 rfl rfl)
theorem dX0_status_148 : decode cX0_status 148 = .ok (.goto 18, 3) := dk_167 0 18 (dk_at dksX0_status_5 10 rfl rfl)
theorem dX0_status_151 : decode cX0_status 151 = .ok (.bipush 8, 2) := dk_16 8 (dk_at dksX0_status_5 13 rfl rfl)
theorem dX0_status_153 : decode cX0_status 153 = .ok (.aload_n 0, 1) := dk_42 (dk_at dksX0_status_5 15 rfl rfl)
theorem dX0_status_154 : decode cX0_status 154 = .ok (.invokedynamic 461, 5) := by decide +kernel
theorem dX0_status_159 : decode cX0_status 159 = .ok (.invokestatic 455, 3) := dk_184 1 199 (dk_at dksX0_status_5 21 rfl rfl)
theorem dX0_status_162 : decode cX0_status 162 = .ok (.goto 4, 3) := dk_167 0 4 (dk_at dksX0_status_6 0 rfl rfl)
theorem dX0_status_165 : decode cX0_status 165 = .ok (.iconst (-1), 1) := dk_2 (dk_at dksX0_status_6 3 rfl rfl)
theorem dX0_status_166 : decode cX0_status 166 = .ok (.ireturn, 1) := dk_172 (dk_at dksX0_status_6 4 rfl rfl)
abbrev cX0_lambda_status_26 : ByteArray := prog_1_method_87_code
def yX0_lambda_status_26 : MethodName := ⟨RX0, "lambda$status$26", "(I)I"⟩
def dkwX0_lambda_status_26_1 : List UInt8 := [167, 0, 4, 3, 172]
abbrev dktX0_lambda_status_26_1 : List UInt8 := dkwX0_lambda_status_26_1 ++ []
def dkwX0_lambda_status_26_0 : List UInt8 := [42, 180, 0, 16, 27, 182, 1, 140, 42, 180, 0, 16, 180, 1, 206, 182, 1, 147, 2, 160, 0, 7, 4]
abbrev dktX0_lambda_status_26_0 : List UInt8 := dkwX0_lambda_status_26_0 ++ dktX0_lambda_status_26_1
theorem dksX0_lambda_status_26_0 : cX0_lambda_status_26.data.toList.drop 0 = dktX0_lambda_status_26_0 := by decide +kernel
theorem dksX0_lambda_status_26_1 : cX0_lambda_status_26.data.toList.drop 23 = dktX0_lambda_status_26_1 := dk_seg dksX0_lambda_status_26_0 23 rfl rfl
theorem dX0_lambda_status_26_0 : decode cX0_lambda_status_26 0 = .ok (.aload_n 0, 1) := dk_42 (dk_at dksX0_lambda_status_26_0 0 rfl rfl)
theorem dX0_lambda_status_26_1 : decode cX0_lambda_status_26 1 = .ok (.getfield 16, 3) := dk_180 0 16 (dk_at dksX0_lambda_status_26_0 1 rfl rfl)
theorem dX0_lambda_status_26_4 : decode cX0_lambda_status_26 4 = .ok (.iload_n 1, 1) := dk_27 (dk_at dksX0_lambda_status_26_0 4 rfl rfl)
theorem dX0_lambda_status_26_5 : decode cX0_lambda_status_26 5 = .ok (.invokevirtual 396, 3) := dk_182 1 140 (dk_at dksX0_lambda_status_26_0 5 rfl rfl)
theorem dX0_lambda_status_26_8 : decode cX0_lambda_status_26 8 = .ok (.aload_n 0, 1) := dk_42 (dk_at dksX0_lambda_status_26_0 8 rfl rfl)
theorem dX0_lambda_status_26_9 : decode cX0_lambda_status_26 9 = .ok (.getfield 16, 3) := dk_180 0 16 (dk_at dksX0_lambda_status_26_0 9 rfl rfl)
theorem dX0_lambda_status_26_12 : decode cX0_lambda_status_26 12 = .ok (.getfield 462, 3) := dk_180 1 206 (dk_at dksX0_lambda_status_26_0 12 rfl rfl)
theorem dX0_lambda_status_26_15 : decode cX0_lambda_status_26 15 = .ok (.invokevirtual 403, 3) := dk_182 1 147 (dk_at dksX0_lambda_status_26_0 15 rfl rfl)
theorem dX0_lambda_status_26_18 : decode cX0_lambda_status_26 18 = .ok (.iconst (-1), 1) := dk_2 (dk_at dksX0_lambda_status_26_0 18 rfl rfl)
theorem dX0_lambda_status_26_19 : decode cX0_lambda_status_26 19 = .ok (.if_icmp .ne 7, 3) := dk_160 0 7 (dk_at dksX0_lambda_status_26_0 19 rfl rfl)
theorem dX0_lambda_status_26_22 : decode cX0_lambda_status_26 22 = .ok (.iconst 1, 1) := dk_4 (dk_at dksX0_lambda_status_26_0 22 rfl rfl)
theorem dX0_lambda_status_26_23 : decode cX0_lambda_status_26 23 = .ok (.goto 4, 3) := dk_167 0 4 (dk_at dksX0_lambda_status_26_1 0 rfl rfl)
theorem dX0_lambda_status_26_26 : decode cX0_lambda_status_26 26 = .ok (.iconst 0, 1) := dk_3 (dk_at dksX0_lambda_status_26_1 3 rfl rfl)
theorem dX0_lambda_status_26_27 : decode cX0_lambda_status_26 27 = .ok (.ireturn, 1) := dk_172 (dk_at dksX0_lambda_status_26_1 4 rfl rfl)
abbrev cX0_sum : ByteArray := prog_1_method_81_code
def yX0_sum : MethodName := ⟨RX0, "sum", "(ILEditsMeet$Tally;)I"⟩
def dkwX0_sum_1 : List UInt8 := [167, 255, 238, 28, 172]
abbrev dktX0_sum_1 : List UInt8 := dkwX0_sum_1 ++ []
def dkwX0_sum_0 : List UInt8 := [3, 61, 3, 62, 29, 26, 162, 0, 19, 28, 43, 29, 185, 1, 192, 2, 0, 96, 61, 132, 3, 1]
abbrev dktX0_sum_0 : List UInt8 := dkwX0_sum_0 ++ dktX0_sum_1
theorem dksX0_sum_0 : cX0_sum.data.toList.drop 0 = dktX0_sum_0 := by decide +kernel
theorem dksX0_sum_1 : cX0_sum.data.toList.drop 22 = dktX0_sum_1 := dk_seg dksX0_sum_0 22 rfl rfl
theorem dX0_sum_0 : decode cX0_sum 0 = .ok (.iconst 0, 1) := dk_3 (dk_at dksX0_sum_0 0 rfl rfl)
theorem dX0_sum_1 : decode cX0_sum 1 = .ok (.istore_n 2, 1) := dk_61 (dk_at dksX0_sum_0 1 rfl rfl)
theorem dX0_sum_2 : decode cX0_sum 2 = .ok (.iconst 0, 1) := dk_3 (dk_at dksX0_sum_0 2 rfl rfl)
theorem dX0_sum_3 : decode cX0_sum 3 = .ok (.istore_n 3, 1) := dk_62 (dk_at dksX0_sum_0 3 rfl rfl)
theorem dX0_sum_4 : decode cX0_sum 4 = .ok (.iload_n 3, 1) := dk_29 (dk_at dksX0_sum_0 4 rfl rfl)
theorem dX0_sum_5 : decode cX0_sum 5 = .ok (.iload_n 0, 1) := dk_26 (dk_at dksX0_sum_0 5 rfl rfl)
theorem dX0_sum_6 : decode cX0_sum 6 = .ok (.if_icmp .ge 19, 3) := dk_162 0 19 (dk_at dksX0_sum_0 6 rfl rfl)
theorem dX0_sum_9 : decode cX0_sum 9 = .ok (.iload_n 2, 1) := dk_28 (dk_at dksX0_sum_0 9 rfl rfl)
theorem dX0_sum_10 : decode cX0_sum 10 = .ok (.aload_n 1, 1) := dk_43 (dk_at dksX0_sum_0 10 rfl rfl)
theorem dX0_sum_11 : decode cX0_sum 11 = .ok (.iload_n 3, 1) := dk_29 (dk_at dksX0_sum_0 11 rfl rfl)
theorem dX0_sum_12 : decode cX0_sum 12 = .ok (.invokeinterface 448 2, 5) := by decide +kernel
theorem dX0_sum_17 : decode cX0_sum 17 = .ok (.iadd, 1) := dk_96 (dk_at dksX0_sum_0 17 rfl rfl)
theorem dX0_sum_18 : decode cX0_sum 18 = .ok (.istore_n 2, 1) := dk_61 (dk_at dksX0_sum_0 18 rfl rfl)
theorem dX0_sum_19 : decode cX0_sum 19 = .ok (.iinc 3 1, 3) := dk_132 3 1 (dk_at dksX0_sum_0 19 rfl rfl)
theorem dX0_sum_22 : decode cX0_sum 22 = .ok (.goto (-18), 3) := dk_167 255 238 (dk_at dksX0_sum_1 0 rfl rfl)
theorem dX0_sum_25 : decode cX0_sum 25 = .ok (.iload_n 2, 1) := dk_28 (dk_at dksX0_sum_1 3 rfl rfl)
theorem dX0_sum_26 : decode cX0_sum 26 = .ok (.ireturn, 1) := dk_172 (dk_at dksX0_sum_1 4 rfl rfl)
abbrev cX0_lambda_status_27 : ByteArray := prog_1_method_86_code
def yX0_lambda_status_27 : MethodName := ⟨RX0, "lambda$status$27", "(I)I"⟩
def dkwX0_lambda_status_27_0 : List UInt8 := [42, 180, 0, 27, 27, 50, 198, 0, 7, 4, 167, 0, 4, 3, 172]
abbrev dktX0_lambda_status_27_0 : List UInt8 := dkwX0_lambda_status_27_0 ++ []
theorem dksX0_lambda_status_27_0 : cX0_lambda_status_27.data.toList.drop 0 = dktX0_lambda_status_27_0 := by decide +kernel
theorem dX0_lambda_status_27_0 : decode cX0_lambda_status_27 0 = .ok (.aload_n 0, 1) := dk_42 (dk_at dksX0_lambda_status_27_0 0 rfl rfl)
theorem dX0_lambda_status_27_1 : decode cX0_lambda_status_27 1 = .ok (.getfield 27, 3) := dk_180 0 27 (dk_at dksX0_lambda_status_27_0 1 rfl rfl)
theorem dX0_lambda_status_27_4 : decode cX0_lambda_status_27 4 = .ok (.iload_n 1, 1) := dk_27 (dk_at dksX0_lambda_status_27_0 4 rfl rfl)
theorem dX0_lambda_status_27_5 : decode cX0_lambda_status_27 5 = .ok (.aaload, 1) := dk_50 (dk_at dksX0_lambda_status_27_0 5 rfl rfl)
theorem dX0_lambda_status_27_6 : decode cX0_lambda_status_27 6 = .ok (.ifnull 7, 3) := dk_198 0 7 (dk_at dksX0_lambda_status_27_0 6 rfl rfl)
theorem dX0_lambda_status_27_9 : decode cX0_lambda_status_27 9 = .ok (.iconst 1, 1) := dk_4 (dk_at dksX0_lambda_status_27_0 9 rfl rfl)
theorem dX0_lambda_status_27_10 : decode cX0_lambda_status_27 10 = .ok (.goto 4, 3) := dk_167 0 4 (dk_at dksX0_lambda_status_27_0 10 rfl rfl)
theorem dX0_lambda_status_27_13 : decode cX0_lambda_status_27 13 = .ok (.iconst 0, 1) := dk_3 (dk_at dksX0_lambda_status_27_0 13 rfl rfl)
theorem dX0_lambda_status_27_14 : decode cX0_lambda_status_27 14 = .ok (.ireturn, 1) := dk_172 (dk_at dksX0_lambda_status_27_0 14 rfl rfl)
abbrev cX0_lambda_status_28 : ByteArray := prog_1_method_85_code
def yX0_lambda_status_28 : MethodName := ⟨RX0, "lambda$status$28", "(I)I"⟩
def dkwX0_lambda_status_28_0 : List UInt8 := [42, 180, 0, 16, 27, 182, 1, 140, 182, 0, 245, 172]
abbrev dktX0_lambda_status_28_0 : List UInt8 := dkwX0_lambda_status_28_0 ++ []
theorem dksX0_lambda_status_28_0 : cX0_lambda_status_28.data.toList.drop 0 = dktX0_lambda_status_28_0 := by decide +kernel
theorem dX0_lambda_status_28_0 : decode cX0_lambda_status_28 0 = .ok (.aload_n 0, 1) := dk_42 (dk_at dksX0_lambda_status_28_0 0 rfl rfl)
theorem dX0_lambda_status_28_1 : decode cX0_lambda_status_28 1 = .ok (.getfield 16, 3) := dk_180 0 16 (dk_at dksX0_lambda_status_28_0 1 rfl rfl)
theorem dX0_lambda_status_28_4 : decode cX0_lambda_status_28 4 = .ok (.iload_n 1, 1) := dk_27 (dk_at dksX0_lambda_status_28_0 4 rfl rfl)
theorem dX0_lambda_status_28_5 : decode cX0_lambda_status_28 5 = .ok (.invokevirtual 396, 3) := dk_182 1 140 (dk_at dksX0_lambda_status_28_0 5 rfl rfl)
theorem dX0_lambda_status_28_8 : decode cX0_lambda_status_28 8 = .ok (.invokevirtual 245, 3) := dk_182 0 245 (dk_at dksX0_lambda_status_28_0 8 rfl rfl)
theorem dX0_lambda_status_28_11 : decode cX0_lambda_status_28 11 = .ok (.ireturn, 1) := dk_172 (dk_at dksX0_lambda_status_28_0 11 rfl rfl)
abbrev cX0_lambda_status_29 : ByteArray := prog_1_method_84_code
def yX0_lambda_status_29 : MethodName := ⟨RX0, "lambda$status$29", "(I)I"⟩
def dkwX0_lambda_status_29_0 : List UInt8 := [42, 180, 0, 16, 180, 0, 65, 27, 50, 182, 1, 118, 198, 0, 7, 4, 167, 0, 4, 3, 172]
abbrev dktX0_lambda_status_29_0 : List UInt8 := dkwX0_lambda_status_29_0 ++ []
theorem dksX0_lambda_status_29_0 : cX0_lambda_status_29.data.toList.drop 0 = dktX0_lambda_status_29_0 := by decide +kernel
theorem dX0_lambda_status_29_0 : decode cX0_lambda_status_29 0 = .ok (.aload_n 0, 1) := dk_42 (dk_at dksX0_lambda_status_29_0 0 rfl rfl)
theorem dX0_lambda_status_29_1 : decode cX0_lambda_status_29 1 = .ok (.getfield 16, 3) := dk_180 0 16 (dk_at dksX0_lambda_status_29_0 1 rfl rfl)
theorem dX0_lambda_status_29_4 : decode cX0_lambda_status_29 4 = .ok (.getfield 65, 3) := dk_180 0 65 (dk_at dksX0_lambda_status_29_0 4 rfl rfl)
theorem dX0_lambda_status_29_7 : decode cX0_lambda_status_29 7 = .ok (.iload_n 1, 1) := dk_27 (dk_at dksX0_lambda_status_29_0 7 rfl rfl)
theorem dX0_lambda_status_29_8 : decode cX0_lambda_status_29 8 = .ok (.aaload, 1) := dk_50 (dk_at dksX0_lambda_status_29_0 8 rfl rfl)
theorem dX0_lambda_status_29_9 : decode cX0_lambda_status_29 9 = .ok (.invokevirtual 374, 3) := dk_182 1 118 (dk_at dksX0_lambda_status_29_0 9 rfl rfl)
theorem dX0_lambda_status_29_12 : decode cX0_lambda_status_29 12 = .ok (.ifnull 7, 3) := dk_198 0 7 (dk_at dksX0_lambda_status_29_0 12 rfl rfl)
theorem dX0_lambda_status_29_15 : decode cX0_lambda_status_29 15 = .ok (.iconst 1, 1) := dk_4 (dk_at dksX0_lambda_status_29_0 15 rfl rfl)
theorem dX0_lambda_status_29_16 : decode cX0_lambda_status_29 16 = .ok (.goto 4, 3) := dk_167 0 4 (dk_at dksX0_lambda_status_29_0 16 rfl rfl)
theorem dX0_lambda_status_29_19 : decode cX0_lambda_status_29 19 = .ok (.iconst 0, 1) := dk_3 (dk_at dksX0_lambda_status_29_0 19 rfl rfl)
theorem dX0_lambda_status_29_20 : decode cX0_lambda_status_29 20 = .ok (.ireturn, 1) := dk_172 (dk_at dksX0_lambda_status_29_0 20 rfl rfl)
abbrev cX0_lambda_status_30 : ByteArray := prog_1_method_83_code
def yX0_lambda_status_30 : MethodName := ⟨RX0, "lambda$status$30", "(I)I"⟩
def dkwX0_lambda_status_30_0 : List UInt8 := [42, 180, 0, 33, 27, 50, 180, 0, 102, 198, 0, 7, 4, 167, 0, 4, 3, 172]
abbrev dktX0_lambda_status_30_0 : List UInt8 := dkwX0_lambda_status_30_0 ++ []
theorem dksX0_lambda_status_30_0 : cX0_lambda_status_30.data.toList.drop 0 = dktX0_lambda_status_30_0 := by decide +kernel
theorem dX0_lambda_status_30_0 : decode cX0_lambda_status_30 0 = .ok (.aload_n 0, 1) := dk_42 (dk_at dksX0_lambda_status_30_0 0 rfl rfl)
theorem dX0_lambda_status_30_1 : decode cX0_lambda_status_30 1 = .ok (.getfield 33, 3) := dk_180 0 33 (dk_at dksX0_lambda_status_30_0 1 rfl rfl)
theorem dX0_lambda_status_30_4 : decode cX0_lambda_status_30 4 = .ok (.iload_n 1, 1) := dk_27 (dk_at dksX0_lambda_status_30_0 4 rfl rfl)
theorem dX0_lambda_status_30_5 : decode cX0_lambda_status_30 5 = .ok (.aaload, 1) := dk_50 (dk_at dksX0_lambda_status_30_0 5 rfl rfl)
theorem dX0_lambda_status_30_6 : decode cX0_lambda_status_30 6 = .ok (.getfield 102, 3) := dk_180 0 102 (dk_at dksX0_lambda_status_30_0 6 rfl rfl)
theorem dX0_lambda_status_30_9 : decode cX0_lambda_status_30 9 = .ok (.ifnull 7, 3) := dk_198 0 7 (dk_at dksX0_lambda_status_30_0 9 rfl rfl)
theorem dX0_lambda_status_30_12 : decode cX0_lambda_status_30 12 = .ok (.iconst 1, 1) := dk_4 (dk_at dksX0_lambda_status_30_0 12 rfl rfl)
theorem dX0_lambda_status_30_13 : decode cX0_lambda_status_30 13 = .ok (.goto 4, 3) := dk_167 0 4 (dk_at dksX0_lambda_status_30_0 13 rfl rfl)
theorem dX0_lambda_status_30_16 : decode cX0_lambda_status_30 16 = .ok (.iconst 0, 1) := dk_3 (dk_at dksX0_lambda_status_30_0 16 rfl rfl)
theorem dX0_lambda_status_30_17 : decode cX0_lambda_status_30 17 = .ok (.ireturn, 1) := dk_172 (dk_at dksX0_lambda_status_30_0 17 rfl rfl)
theorem q121 : (Jvm.Cond.initialized "EditsMeet") ∈ lw_all := lw_g (lw_at lw_m1 1 rfl) rfl
theorem q178 : (Jvm.Cond.instantiable "EditsMeet" (8 : Nat)) ∈ lw_all := lw_g (lw_at lw_m1 58 rfl) rfl
theorem q180 : (Jvm.Cond.instanceMethod ({ cls := "EditsMeet", name := "<init>", desc := "()V" } : Jvm.MethodName)) ∈ lw_all := lw_g (lw_at lw_m1 60 rfl) rfl
theorem q181 : (Jvm.Cond.code ({ cls := "EditsMeet", name := "<init>", desc := "()V" } : Jvm.MethodName) prog_1_method_4_code (2 : Nat) (Option.none : Option Jvm.ClassFile.FieldType)) ∈ lw_all := lw_g (lw_at lw_m1 61 rfl) rfl
theorem q182 : (Jvm.Cond.methodLink "EditsMeet" (7 : Nat) ({ cls := "java/lang/Object", name := "<init>", desc := "()V" } : Jvm.MethodName)) ∈ lw_all := lw_g (lw_at lw_m1 62 rfl) rfl
theorem q185 : (Jvm.Cond.classLink "EditsMeet" (13 : Nat) "EditsMeet$World") ∈ lw_all := lw_g (lw_at lw_m1 65 rfl) rfl
theorem q187 : (Jvm.Cond.methodLink "EditsMeet" (15 : Nat) ({ cls := "EditsMeet$World", name := "<init>", desc := "()V" } : Jvm.MethodName)) ∈ lw_all := lw_g (lw_at lw_m1 67 rfl) rfl
theorem q486 : (Jvm.Cond.fieldLink "EditsMeet" (250 : Nat) "EditsMeet$Client" "text" "LEditsMeet$Text;") ∈ lw_all := lw_g (lw_at lw_m2 126 rfl) rfl
theorem q488 : (Jvm.Cond.fieldLink "EditsMeet" (371 : Nat) "EditsMeet$Client" "cursor" "[I") ∈ lw_all := lw_g (lw_at lw_m2 128 rfl) rfl
theorem q490 : (Jvm.Cond.fieldLink "EditsMeet" (269 : Nat) "EditsMeet$Client" "undo" "LEditsMeet$Pile;") ∈ lw_all := lw_g (lw_at lw_m2 130 rfl) rfl
theorem q492 : (Jvm.Cond.fieldLink "EditsMeet" (260 : Nat) "EditsMeet$Client" "redo" "LEditsMeet$Pile;") ∈ lw_all := lw_g (lw_at lw_m2 132 rfl) rfl
theorem q496 : (Jvm.Cond.fieldLink "EditsMeet" (352 : Nat) "EditsMeet$Client" "revision" "I") ∈ lw_all := lw_g (lw_at lw_m2 136 rfl) rfl
theorem q499 : (Jvm.Cond.fieldLinkNest "EditsMeet" (381 : Nat) "EditsMeet$Client" "isSent" "Z" "EditsMeet") ∈ lw_tbl := lw_at lw_m2 139 rfl
theorem q506 : (Jvm.Cond.fieldLink "EditsMeet" (385 : Nat) "EditsMeet$Client" "isServed" "Z") ∈ lw_all := lw_g (lw_at lw_m2 146 rfl) rfl
theorem q540 : (Jvm.Cond.fieldLink "EditsMeet" (65 : Nat) "EditsMeet$World" "client" "[LEditsMeet$Client;") ∈ lw_all := lw_g (lw_at lw_m2 180 rfl) rfl
theorem q542 : (Jvm.Cond.fieldLink "EditsMeet" (462 : Nat) "EditsMeet$World" "text" "LEditsMeet$Text;") ∈ lw_all := lw_g (lw_at lw_m2 182 rfl) rfl
theorem q544 : (Jvm.Cond.fieldLink "EditsMeet" (335 : Nat) "EditsMeet$World" "revisions" "Ljava/util/ArrayList;") ∈ lw_all := lw_g (lw_at lw_m2 184 rfl) rfl
theorem q546 : (Jvm.Cond.fieldLinkNest "EditsMeet" (506 : Nat) "EditsMeet$World" "weaver" "LEditsMeet$Weaver;" "EditsMeet") ∈ lw_tbl := lw_at lw_m2 186 rfl
theorem q548 : (Jvm.Cond.fieldLink "EditsMeet" (439 : Nat) "EditsMeet$World" "seed" "I") ∈ lw_all := lw_g (lw_at lw_m2 188 rfl) rfl
theorem q560 : (Jvm.Cond.classLink "EditsMeet" (25 : Nat) "EditsMeet$Edit") ∈ lw_all := lw_g (lw_at lw_m2 200 rfl) rfl
theorem q562 : (Jvm.Cond.classLink "EditsMeet" (31 : Nat) "EditsMeet$Sheet") ∈ lw_all := lw_g (lw_at lw_m2 202 rfl) rfl
theorem q565 : (Jvm.Cond.methodLinkNest "EditsMeet" (44 : Nat) ({ cls := "EditsMeet$Sheet", name := "<init>", desc := "()V" } : Jvm.MethodName) "EditsMeet") ∈ lw_tbl := lw_at lw_m2 205 rfl
theorem q569 : (Jvm.Cond.fieldLink "EditsMeet" (102 : Nat) "EditsMeet$Sheet" "held" "Ljava/lang/Object;") ∈ lw_all := lw_g (lw_at lw_m2 209 rfl) rfl
theorem q573 : (Jvm.Cond.fieldLink "EditsMeet" (16 : Nat) "EditsMeet" "now" "LEditsMeet$World;") ∈ lw_all := lw_g (lw_at lw_m2 213 rfl) rfl
theorem q574 : (Jvm.Cond.fieldLink "EditsMeet" (22 : Nat) "EditsMeet" "kept" "LEditsMeet$World;") ∈ lw_all := lw_g (lw_at lw_m2 214 rfl) rfl
theorem q575 : (Jvm.Cond.fieldLink "EditsMeet" (445 : Nat) "EditsMeet" "isKept" "Z") ∈ lw_all := lw_g (lw_at lw_m2 215 rfl) rfl
theorem q576 : (Jvm.Cond.fieldLink "EditsMeet" (27 : Nat) "EditsMeet" "edits" "[LEditsMeet$Edit;") ∈ lw_all := lw_g (lw_at lw_m2 216 rfl) rfl
theorem q577 : (Jvm.Cond.fieldLink "EditsMeet" (33 : Nat) "EditsMeet" "shelves" "[LEditsMeet$Sheet;") ∈ lw_all := lw_g (lw_at lw_m2 217 rfl) rfl
theorem q579 : (Jvm.Cond.fieldLink "EditsMeet" (37 : Nat) "EditsMeet" "tape" "[I") ∈ lw_all := lw_g (lw_at lw_m2 219 rfl) rfl
theorem q581 : (Jvm.Cond.fieldLink "EditsMeet" (176 : Nat) "EditsMeet" "size" "I") ∈ lw_all := lw_g (lw_at lw_m2 221 rfl) rfl
theorem q582 : (Jvm.Cond.fieldLink "EditsMeet" (41 : Nat) "EditsMeet" "refused" "[I") ∈ lw_all := lw_g (lw_at lw_m2 222 rfl) rfl
theorem q583 : (Jvm.Cond.laysFinal "EditsMeet" "EditsMeet" "now" "LEditsMeet$World;") ∈ lw_all := lw_g (lw_at lw_m2 223 rfl) rfl
theorem q584 : (Jvm.Cond.soleField "EditsMeet" "now") ∈ lw_all := lw_g (lw_at lw_m2 224 rfl) rfl
theorem q585 : (Jvm.Cond.laysFinal "EditsMeet" "EditsMeet" "kept" "LEditsMeet$World;") ∈ lw_all := lw_g (lw_at lw_m2 225 rfl) rfl
theorem q586 : (Jvm.Cond.soleField "EditsMeet" "kept") ∈ lw_all := lw_g (lw_at lw_m2 226 rfl) rfl
theorem q587 : (Jvm.Cond.lays "EditsMeet" "EditsMeet" "isKept" "Z") ∈ lw_all := lw_g (lw_at lw_m2 227 rfl) rfl
theorem q588 : (Jvm.Cond.soleField "EditsMeet" "isKept") ∈ lw_all := lw_g (lw_at lw_m2 228 rfl) rfl
theorem q589 : (Jvm.Cond.laysFinal "EditsMeet" "EditsMeet" "edits" "[LEditsMeet$Edit;") ∈ lw_all := lw_g (lw_at lw_m2 229 rfl) rfl
theorem q590 : (Jvm.Cond.soleField "EditsMeet" "edits") ∈ lw_all := lw_g (lw_at lw_m2 230 rfl) rfl
theorem q591 : (Jvm.Cond.laysFinal "EditsMeet" "EditsMeet" "shelves" "[LEditsMeet$Sheet;") ∈ lw_all := lw_g (lw_at lw_m2 231 rfl) rfl
theorem q592 : (Jvm.Cond.soleField "EditsMeet" "shelves") ∈ lw_all := lw_g (lw_at lw_m2 232 rfl) rfl
theorem q593 : (Jvm.Cond.laysFinal "EditsMeet" "EditsMeet" "tape" "[I") ∈ lw_all := lw_g (lw_at lw_m2 233 rfl) rfl
theorem q594 : (Jvm.Cond.soleField "EditsMeet" "tape") ∈ lw_all := lw_g (lw_at lw_m2 234 rfl) rfl
theorem q595 : (Jvm.Cond.lays "EditsMeet" "EditsMeet" "size" "I") ∈ lw_all := lw_g (lw_at lw_m2 235 rfl) rfl
theorem q596 : (Jvm.Cond.soleField "EditsMeet" "size") ∈ lw_all := lw_g (lw_at lw_m2 236 rfl) rfl
theorem q597 : (Jvm.Cond.laysFinal "EditsMeet" "EditsMeet" "refused" "[I") ∈ lw_all := lw_g (lw_at lw_m2 237 rfl) rfl
theorem q598 : (Jvm.Cond.soleField "EditsMeet" "refused") ∈ lw_all := lw_g (lw_at lw_m2 238 rfl) rfl
theorem q599 : (Jvm.Cond.superclass "EditsMeet" "java/lang/Object") ∈ lw_all := lw_g (lw_at lw_m2 239 rfl) rfl
theorem q601 : (Jvm.Cond.instanceMethod ({ cls := "EditsMeet", name := "row", desc := "(III)I" } : Jvm.MethodName)) ∈ lw_all := lw_g (lw_at lw_m3 1 rfl) rfl
theorem q602 : (Jvm.Cond.selects "EditsMeet" ({ cls := "EditsMeet", name := "row", desc := "(III)I" } : Jvm.MethodName) ({ cls := "EditsMeet", name := "row", desc := "(III)I" } : Jvm.MethodName)) ∈ lw_all := lw_g (lw_at lw_m3 2 rfl) rfl
theorem q603 : (Jvm.Cond.codeWith ({ cls := "EditsMeet", name := "row", desc := "(III)I" } : Jvm.MethodName) prog_1_method_19_code (5 : Nat) (Option.some Jvm.ClassFile.FieldType.int) [((29 : Nat), (43 : Nat), (46 : Nat), (106 : Nat))]) ∈ lw_all := lw_g (lw_at lw_m3 3 rfl) rfl
theorem q604 : (Jvm.Cond.classLink "EditsMeet" (106 : Nat) "java/lang/NegativeArraySizeException") ∈ lw_all := lw_g (lw_at lw_m3 4 rfl) rfl
theorem q621 : (Jvm.Cond.methodLink "EditsMeet" (95 : Nat) ({ cls := "EditsMeet", name := "isShelf", desc := "(I)Z" } : Jvm.MethodName)) ∈ lw_all := lw_g (lw_at lw_m3 21 rfl) rfl
theorem q622 : (Jvm.Cond.static ({ cls := "EditsMeet", name := "isShelf", desc := "(I)Z" } : Jvm.MethodName)) ∈ lw_all := lw_g (lw_at lw_m3 22 rfl) rfl
theorem q623 : (Jvm.Cond.code ({ cls := "EditsMeet", name := "isShelf", desc := "(I)Z" } : Jvm.MethodName) prog_1_method_6_code (1 : Nat) (Option.some Jvm.ClassFile.FieldType.boolean)) ∈ lw_all := lw_g (lw_at lw_m3 23 rfl) rfl
theorem q624 : (Jvm.Cond.methodLink "EditsMeet" (45 : Nat) ({ cls := "EditsMeet", name := "isIn", desc := "(III)Z" } : Jvm.MethodName)) ∈ lw_all := lw_g (lw_at lw_m3 24 rfl) rfl
theorem q625 : (Jvm.Cond.static ({ cls := "EditsMeet", name := "isIn", desc := "(III)Z" } : Jvm.MethodName)) ∈ lw_all := lw_g (lw_at lw_m3 25 rfl) rfl
theorem q626 : (Jvm.Cond.code ({ cls := "EditsMeet", name := "isIn", desc := "(III)Z" } : Jvm.MethodName) prog_1_method_1_code (3 : Nat) (Option.some Jvm.ClassFile.FieldType.boolean)) ∈ lw_all := lw_g (lw_at lw_m3 26 rfl) rfl
theorem q627 : (Jvm.Cond.methodLink "EditsMeet" (79 : Nat) ({ cls := "EditsMeet", name := "no", desc := "(I)I" } : Jvm.MethodName)) ∈ lw_all := lw_g (lw_at lw_m3 27 rfl) rfl
theorem q628 : (Jvm.Cond.privateMethod ({ cls := "EditsMeet", name := "no", desc := "(I)I" } : Jvm.MethodName)) ∈ lw_tbl := lw_at lw_m3 28 rfl
theorem q629 : (Jvm.Cond.instanceMethod ({ cls := "EditsMeet", name := "no", desc := "(I)I" } : Jvm.MethodName)) ∈ lw_all := lw_g (lw_at lw_m3 29 rfl) rfl
theorem q630 : (Jvm.Cond.code ({ cls := "EditsMeet", name := "no", desc := "(I)I" } : Jvm.MethodName) prog_1_method_5_code (2 : Nat) (Option.some Jvm.ClassFile.FieldType.int)) ∈ lw_all := lw_g (lw_at lw_m3 30 rfl) rfl
theorem q631 : (Jvm.Cond.methodLink "EditsMeet" (98 : Nat) ({ cls := "EditsMeet", name := "rowOf", desc := "(II)Ljava/lang/Object;" } : Jvm.MethodName)) ∈ lw_all := lw_g (lw_at lw_m3 31 rfl) rfl
theorem q632 : (Jvm.Cond.static ({ cls := "EditsMeet", name := "rowOf", desc := "(II)Ljava/lang/Object;" } : Jvm.MethodName)) ∈ lw_all := lw_g (lw_at lw_m3 32 rfl) rfl
theorem q633 : (Jvm.Cond.code ({ cls := "EditsMeet", name := "rowOf", desc := "(II)Ljava/lang/Object;" } : Jvm.MethodName) prog_1_method_15_code (2 : Nat) (Option.some (Jvm.ClassFile.FieldType.object "java/lang/Object"))) ∈ lw_all := lw_g (lw_at lw_m3 33 rfl) rfl
theorem q638 : (Jvm.Cond.instanceMethod ({ cls := "EditsMeet", name := "set", desc := "(IIJ)I" } : Jvm.MethodName)) ∈ lw_all := lw_g (lw_at lw_m3 38 rfl) rfl
theorem q639 : (Jvm.Cond.selects "EditsMeet" ({ cls := "EditsMeet", name := "set", desc := "(IIJ)I" } : Jvm.MethodName) ({ cls := "EditsMeet", name := "set", desc := "(IIJ)I" } : Jvm.MethodName)) ∈ lw_all := lw_g (lw_at lw_m3 39 rfl) rfl
theorem q640 : (Jvm.Cond.codeWith ({ cls := "EditsMeet", name := "set", desc := "(IIJ)I" } : Jvm.MethodName) prog_1_method_21_code (6 : Nat) (Option.some Jvm.ClassFile.FieldType.int) [((14 : Nat), (25 : Nat), (26 : Nat), (53 : Nat)), ((14 : Nat), (25 : Nat), (38 : Nat), (118 : Nat))]) ∈ lw_all := lw_g (lw_at lw_m3 40 rfl) rfl
theorem q641 : (Jvm.Cond.classLink "EditsMeet" (53 : Nat) "EditsMeet$Refused") ∈ lw_all := lw_g (lw_at lw_m3 41 rfl) rfl
theorem q642 : (Jvm.Cond.classLink "EditsMeet" (118 : Nat) "java/lang/ArrayIndexOutOfBoundsException") ∈ lw_all := lw_g (lw_at lw_m3 42 rfl) rfl
theorem q661 : (Jvm.Cond.methodLink "EditsMeet" (110 : Nat) ({ cls := "EditsMeet", name := "rowIn", desc := "(I)Ljava/lang/Object;" } : Jvm.MethodName)) ∈ lw_all := lw_g (lw_at lw_m3 61 rfl) rfl
theorem q662 : (Jvm.Cond.privateMethod ({ cls := "EditsMeet", name := "rowIn", desc := "(I)Ljava/lang/Object;" } : Jvm.MethodName)) ∈ lw_tbl := lw_at lw_m3 62 rfl
theorem q663 : (Jvm.Cond.instanceMethod ({ cls := "EditsMeet", name := "rowIn", desc := "(I)Ljava/lang/Object;" } : Jvm.MethodName)) ∈ lw_all := lw_g (lw_at lw_m3 63 rfl) rfl
theorem q664 : (Jvm.Cond.code ({ cls := "EditsMeet", name := "rowIn", desc := "(I)Ljava/lang/Object;" } : Jvm.MethodName) prog_1_method_20_code (3 : Nat) (Option.some (Jvm.ClassFile.FieldType.object "java/lang/Object"))) ∈ lw_all := lw_g (lw_at lw_m3 64 rfl) rfl
theorem q665 : (Jvm.Cond.classLink "EditsMeet" (108 : Nat) "EditsMeet$Part") ∈ lw_all := lw_g (lw_at lw_m3 65 rfl) rfl
theorem q674 : (Jvm.Cond.methodLink "EditsMeet" (55 : Nat) ({ cls := "EditsMeet$Refused", name := "<init>", desc := "(I)V" } : Jvm.MethodName)) ∈ lw_all := lw_g (lw_at lw_m3 74 rfl) rfl
theorem q687 : (Jvm.Cond.fieldLink "EditsMeet" (75 : Nat) "EditsMeet$Refused" "by" "I") ∈ lw_all := lw_g (lw_at lw_m3 87 rfl) rfl
theorem q692 : (Jvm.Cond.methodLink "EditsMeet" (114 : Nat) ({ cls := "EditsMeet", name := "puts", desc := "(Ljava/lang/Object;IJ)V" } : Jvm.MethodName)) ∈ lw_all := lw_g (lw_at lw_m3 92 rfl) rfl
theorem q693 : (Jvm.Cond.static ({ cls := "EditsMeet", name := "puts", desc := "(Ljava/lang/Object;IJ)V" } : Jvm.MethodName)) ∈ lw_all := lw_g (lw_at lw_m3 93 rfl) rfl
theorem q694 : (Jvm.Cond.code ({ cls := "EditsMeet", name := "puts", desc := "(Ljava/lang/Object;IJ)V" } : Jvm.MethodName) prog_1_method_18_code (4 : Nat) (Option.none : Option Jvm.ClassFile.FieldType)) ∈ lw_all := lw_g (lw_at lw_m3 94 rfl) rfl
theorem q695 : (Jvm.Cond.methodLink "EditsMeet" (89 : Nat) ({ cls := "EditsMeet", name := "sortOf", desc := "(Ljava/lang/Object;)I" } : Jvm.MethodName)) ∈ lw_all := lw_g (lw_at lw_m3 95 rfl) rfl
theorem q696 : (Jvm.Cond.static ({ cls := "EditsMeet", name := "sortOf", desc := "(Ljava/lang/Object;)I" } : Jvm.MethodName)) ∈ lw_all := lw_g (lw_at lw_m3 96 rfl) rfl
theorem q697 : (Jvm.Cond.code ({ cls := "EditsMeet", name := "sortOf", desc := "(Ljava/lang/Object;)I" } : Jvm.MethodName) prog_1_method_16_code (1 : Nat) (Option.some Jvm.ClassFile.FieldType.int)) ∈ lw_all := lw_g (lw_at lw_m3 97 rfl) rfl
theorem q698 : (Jvm.Cond.classLink "EditsMeet" (82 : Nat) "[B") ∈ lw_all := lw_g (lw_at lw_m3 98 rfl) rfl
theorem q699 : (Jvm.Cond.classLink "EditsMeet" (84 : Nat) "[S") ∈ lw_all := lw_g (lw_at lw_m3 99 rfl) rfl
theorem q700 : (Jvm.Cond.classLink "EditsMeet" (86 : Nat) "[I") ∈ lw_all := lw_g (lw_at lw_m3 100 rfl) rfl
theorem q701 : (Jvm.Cond.classLink "EditsMeet" (87 : Nat) "[J") ∈ lw_all := lw_g (lw_at lw_m3 101 rfl) rfl
theorem q702 : (Jvm.Cond.classLink "EditsMeet" (93 : Nat) "[Z") ∈ lw_all := lw_g (lw_at lw_m3 102 rfl) rfl
theorem q704 : (Jvm.Cond.instanceMethod ({ cls := "EditsMeet", name := "copy", desc := "(IIIII)I" } : Jvm.MethodName)) ∈ lw_all := lw_g (lw_at lw_m3 104 rfl) rfl
theorem q705 : (Jvm.Cond.selects "EditsMeet" ({ cls := "EditsMeet", name := "copy", desc := "(IIIII)I" } : Jvm.MethodName) ({ cls := "EditsMeet", name := "copy", desc := "(IIIII)I" } : Jvm.MethodName)) ∈ lw_all := lw_g (lw_at lw_m3 105 rfl) rfl
theorem q706 : (Jvm.Cond.codeWith ({ cls := "EditsMeet", name := "copy", desc := "(IIIII)I" } : Jvm.MethodName) prog_1_method_22_code (9 : Nat) (Option.some Jvm.ClassFile.FieldType.int) [((66 : Nat), (80 : Nat), (81 : Nat), (126 : Nat)), ((66 : Nat), (80 : Nat), (90 : Nat), (128 : Nat)), ((66 : Nat), (80 : Nat), (99 : Nat), (130 : Nat))]) ∈ lw_all := lw_g (lw_at lw_m3 106 rfl) rfl
theorem q707 : (Jvm.Cond.classLink "EditsMeet" (126 : Nat) "java/lang/NullPointerException") ∈ lw_all := lw_g (lw_at lw_m3 107 rfl) rfl
theorem q726 : (Jvm.Cond.classLink "EditsMeet" (128 : Nat) "java/lang/ArrayStoreException") ∈ lw_all := lw_g (lw_at lw_m3 126 rfl) rfl
theorem q740 : (Jvm.Cond.classLink "EditsMeet" (130 : Nat) "java/lang/IndexOutOfBoundsException") ∈ lw_all := lw_g (lw_at lw_m3 140 rfl) rfl
theorem q741 : (Jvm.Cond.methodLink "EditsMeet" (120 : Nat) ({ cls := "java/lang/System", name := "arraycopy", desc := "(Ljava/lang/Object;ILjava/lang/Object;II)V" } : Jvm.MethodName)) ∈ lw_all := lw_g (lw_at lw_m3 141 rfl) rfl
theorem q745 : (Jvm.Cond.instanceMethod ({ cls := "EditsMeet", name := "element", desc := "(II)J" } : Jvm.MethodName)) ∈ lw_all := lw_g (lw_at lw_m3 145 rfl) rfl
theorem q746 : (Jvm.Cond.selects "EditsMeet" ({ cls := "EditsMeet", name := "element", desc := "(II)J" } : Jvm.MethodName) ({ cls := "EditsMeet", name := "element", desc := "(II)J" } : Jvm.MethodName)) ∈ lw_all := lw_g (lw_at lw_m3 146 rfl) rfl
theorem q747 : (Jvm.Cond.codeWith ({ cls := "EditsMeet", name := "element", desc := "(II)J" } : Jvm.MethodName) prog_1_method_23_code (4 : Nat) (Option.some Jvm.ClassFile.FieldType.long) [((9 : Nat), (18 : Nat), (19 : Nat), (53 : Nat)), ((9 : Nat), (18 : Nat), (22 : Nat), (118 : Nat))]) ∈ lw_all := lw_g (lw_at lw_m3 147 rfl) rfl
theorem q748 : (Jvm.Cond.methodLink "EditsMeet" (132 : Nat) ({ cls := "EditsMeet", name := "elementOf", desc := "(Ljava/lang/Object;I)J" } : Jvm.MethodName)) ∈ lw_all := lw_g (lw_at lw_m3 148 rfl) rfl
theorem q749 : (Jvm.Cond.static ({ cls := "EditsMeet", name := "elementOf", desc := "(Ljava/lang/Object;I)J" } : Jvm.MethodName)) ∈ lw_all := lw_g (lw_at lw_m3 149 rfl) rfl
theorem q750 : (Jvm.Cond.code ({ cls := "EditsMeet", name := "elementOf", desc := "(Ljava/lang/Object;I)J" } : Jvm.MethodName) prog_1_method_17_code (2 : Nat) (Option.some Jvm.ClassFile.FieldType.long)) ∈ lw_all := lw_g (lw_at lw_m3 150 rfl) rfl
theorem q752 : (Jvm.Cond.instanceMethod ({ cls := "EditsMeet", name := "holds", desc := "(I)I" } : Jvm.MethodName)) ∈ lw_all := lw_g (lw_at lw_m3 152 rfl) rfl
theorem q753 : (Jvm.Cond.selects "EditsMeet" ({ cls := "EditsMeet", name := "holds", desc := "(I)I" } : Jvm.MethodName) ({ cls := "EditsMeet", name := "holds", desc := "(I)I" } : Jvm.MethodName)) ∈ lw_all := lw_g (lw_at lw_m3 153 rfl) rfl
theorem q754 : (Jvm.Cond.code ({ cls := "EditsMeet", name := "holds", desc := "(I)I" } : Jvm.MethodName) prog_1_method_24_code (3 : Nat) (Option.some Jvm.ClassFile.FieldType.int)) ∈ lw_all := lw_g (lw_at lw_m3 154 rfl) rfl
theorem q755 : (Jvm.Cond.interfaceEntry "EditsMeet" (136 : Nat)) ∈ lw_tbl := lw_at lw_m3 155 rfl
theorem q756 : (Jvm.Cond.methodLink "EditsMeet" (136 : Nat) ({ cls := "EditsMeet$Part", name := "kind", desc := "()I" } : Jvm.MethodName)) ∈ lw_all := lw_g (lw_at lw_m3 156 rfl) rfl
theorem q790 : (Jvm.Cond.instanceMethod ({ cls := "EditsMeet", name := "show", desc := "(III)I" } : Jvm.MethodName)) ∈ lw_all := lw_g (lw_at lw_m3 190 rfl) rfl
theorem q791 : (Jvm.Cond.selects "EditsMeet" ({ cls := "EditsMeet", name := "show", desc := "(III)I" } : Jvm.MethodName) ({ cls := "EditsMeet", name := "show", desc := "(III)I" } : Jvm.MethodName)) ∈ lw_all := lw_g (lw_at lw_m3 191 rfl) rfl
theorem q792 : (Jvm.Cond.code ({ cls := "EditsMeet", name := "show", desc := "(III)I" } : Jvm.MethodName) prog_1_method_25_code (4 : Nat) (Option.some Jvm.ClassFile.FieldType.int)) ∈ lw_all := lw_g (lw_at lw_m3 192 rfl) rfl
theorem q793 : (Jvm.Cond.privateMethod ({ cls := "EditsMeet", name := "lambda$show$0", desc := "(III)I" } : Jvm.MethodName)) ∈ lw_tbl := lw_at lw_m3 193 rfl
theorem q794 : (Jvm.Cond.instanceMethod ({ cls := "EditsMeet", name := "lambda$show$0", desc := "(III)I" } : Jvm.MethodName)) ∈ lw_all := lw_g (lw_at lw_m3 194 rfl) rfl
theorem q795 : (Jvm.Cond.code ({ cls := "EditsMeet", name := "lambda$show$0", desc := "(III)I" } : Jvm.MethodName) prog_1_method_113_code (4 : Nat) (Option.some Jvm.ClassFile.FieldType.int)) ∈ lw_all := lw_g (lw_at lw_m3 195 rfl) rfl
theorem q796 : (Jvm.Cond.methodLink "EditsMeet" (49 : Nat) ({ cls := "EditsMeet", name := "isEdit", desc := "(I)Z" } : Jvm.MethodName)) ∈ lw_all := lw_g (lw_at lw_m3 196 rfl) rfl
theorem q797 : (Jvm.Cond.static ({ cls := "EditsMeet", name := "isEdit", desc := "(I)Z" } : Jvm.MethodName)) ∈ lw_all := lw_g (lw_at lw_m3 197 rfl) rfl
theorem q798 : (Jvm.Cond.code ({ cls := "EditsMeet", name := "isEdit", desc := "(I)Z" } : Jvm.MethodName) prog_1_method_9_code (1 : Nat) (Option.some Jvm.ClassFile.FieldType.boolean)) ∈ lw_all := lw_g (lw_at lw_m3 198 rfl) rfl
theorem q799 : (Jvm.Cond.methodLink "EditsMeet" (196 : Nat) ({ cls := "EditsMeet", name := "may", desc := "(ZI)V" } : Jvm.MethodName)) ∈ lw_all := lw_g (lw_at lw_m3 199 rfl) rfl
theorem q800 : (Jvm.Cond.static ({ cls := "EditsMeet", name := "may", desc := "(ZI)V" } : Jvm.MethodName)) ∈ lw_all := lw_g (lw_at lw_m3 200 rfl) rfl
theorem q801 : (Jvm.Cond.code ({ cls := "EditsMeet", name := "may", desc := "(ZI)V" } : Jvm.MethodName) prog_1_method_13_code (2 : Nat) (Option.none : Option Jvm.ClassFile.FieldType)) ∈ lw_all := lw_g (lw_at lw_m3 201 rfl) rfl
theorem q802 : (Jvm.Cond.methodLink "EditsMeet" (58 : Nat) ({ cls := "EditsMeet", name := "present", desc := "(I)LEditsMeet$Edit;" } : Jvm.MethodName)) ∈ lw_all := lw_g (lw_at lw_m3 202 rfl) rfl
theorem q803 : (Jvm.Cond.privateMethod ({ cls := "EditsMeet", name := "present", desc := "(I)LEditsMeet$Edit;" } : Jvm.MethodName)) ∈ lw_tbl := lw_at lw_m3 203 rfl
theorem q804 : (Jvm.Cond.instanceMethod ({ cls := "EditsMeet", name := "present", desc := "(I)LEditsMeet$Edit;" } : Jvm.MethodName)) ∈ lw_all := lw_g (lw_at lw_m3 204 rfl) rfl
theorem q805 : (Jvm.Cond.code ({ cls := "EditsMeet", name := "present", desc := "(I)LEditsMeet$Edit;" } : Jvm.MethodName) prog_1_method_11_code (2 : Nat) (Option.some (Jvm.ClassFile.FieldType.object "EditsMeet$Edit"))) ∈ lw_all := lw_g (lw_at lw_m3 205 rfl) rfl
theorem q806 : (Jvm.Cond.methodLink "EditsMeet" (179 : Nat) ({ cls := "EditsMeet$Edit", name := "many", desc := "()I" } : Jvm.MethodName)) ∈ lw_all := lw_g (lw_at lw_m3 206 rfl) rfl
theorem q814 : (Jvm.Cond.methodLink "EditsMeet" (492 : Nat) ({ cls := "EditsMeet$Edit", name := "get", desc := "(I)LEditsMeet$Part;" } : Jvm.MethodName)) ∈ lw_all := lw_g (lw_at lw_m3 214 rfl) rfl
theorem q833 : (Jvm.Cond.methodLink "EditsMeet" (142 : Nat) ({ cls := "EditsMeet", name := "told", desc := "(LEditsMeet$Asked;)I" } : Jvm.MethodName)) ∈ lw_all := lw_g (lw_at lw_m3 233 rfl) rfl
theorem q834 : (Jvm.Cond.privateMethod ({ cls := "EditsMeet", name := "told", desc := "(LEditsMeet$Asked;)I" } : Jvm.MethodName)) ∈ lw_tbl := lw_at lw_m3 234 rfl
theorem q835 : (Jvm.Cond.instanceMethod ({ cls := "EditsMeet", name := "told", desc := "(LEditsMeet$Asked;)I" } : Jvm.MethodName)) ∈ lw_all := lw_g (lw_at lw_m3 235 rfl) rfl
theorem q836 : (Jvm.Cond.codeWith ({ cls := "EditsMeet", name := "told", desc := "(LEditsMeet$Asked;)I" } : Jvm.MethodName) prog_1_method_14_code (3 : Nat) (Option.some Jvm.ClassFile.FieldType.int) [((0 : Nat), (6 : Nat), (7 : Nat), (53 : Nat))]) ∈ lw_all := lw_g (lw_at lw_m3 236 rfl) rfl
theorem q837 : (Jvm.Cond.interfaceEntry "EditsMeet" (69 : Nat)) ∈ lw_tbl := lw_at lw_m3 237 rfl
theorem q838 : (Jvm.Cond.methodLink "EditsMeet" (69 : Nat) ({ cls := "EditsMeet$Asked", name := "told", desc := "()I" } : Jvm.MethodName)) ∈ lw_all := lw_g (lw_at lw_m3 238 rfl) rfl
theorem q842 : (Jvm.Cond.instanceMethod ({ cls := "EditsMeet", name := "says", desc := "(II)I" } : Jvm.MethodName)) ∈ lw_all := lw_g (lw_at lw_m4 2 rfl) rfl
theorem q843 : (Jvm.Cond.selects "EditsMeet" ({ cls := "EditsMeet", name := "says", desc := "(II)I" } : Jvm.MethodName) ({ cls := "EditsMeet", name := "says", desc := "(II)I" } : Jvm.MethodName)) ∈ lw_all := lw_g (lw_at lw_m4 3 rfl) rfl
theorem q844 : (Jvm.Cond.codeWith ({ cls := "EditsMeet", name := "says", desc := "(II)I" } : Jvm.MethodName) prog_1_method_26_code (5 : Nat) (Option.some Jvm.ClassFile.FieldType.int) [((44 : Nat), (154 : Nat), (155 : Nat), (174 : Nat))]) ∈ lw_all := lw_g (lw_at lw_m4 4 rfl) rfl
theorem q845 : (Jvm.Cond.classLink "EditsMeet" (174 : Nat) "java/lang/ClassCastException") ∈ lw_all := lw_g (lw_at lw_m4 5 rfl) rfl
theorem q859 : (Jvm.Cond.interfaceEntry "EditsMeet" (145 : Nat)) ∈ lw_tbl := lw_at lw_m4 19 rfl
theorem q860 : (Jvm.Cond.methodLink "EditsMeet" (145 : Nat) ({ cls := "EditsMeet$Part", name := "n", desc := "()I" } : Jvm.MethodName)) ∈ lw_all := lw_g (lw_at lw_m4 20 rfl) rfl
theorem q886 : (Jvm.Cond.classLink "EditsMeet" (148 : Nat) "EditsMeet$Insert") ∈ lw_all := lw_g (lw_at lw_m4 46 rfl) rfl
theorem q887 : (Jvm.Cond.methodLink "EditsMeet" (150 : Nat) ({ cls := "EditsMeet$Insert", name := "letter", desc := "(I)I" } : Jvm.MethodName)) ∈ lw_all := lw_g (lw_at lw_m4 47 rfl) rfl
theorem q927 : (Jvm.Cond.classLink "EditsMeet" (153 : Nat) "EditsMeet$Over") ∈ lw_all := lw_g (lw_at lw_m4 87 rfl) rfl
theorem q928 : (Jvm.Cond.methodLink "EditsMeet" (155 : Nat) ({ cls := "EditsMeet$Over", name := "takes", desc := "()I" } : Jvm.MethodName)) ∈ lw_all := lw_g (lw_at lw_m4 88 rfl) rfl
theorem q935 : (Jvm.Cond.classLink "EditsMeet" (158 : Nat) "EditsMeet$Keep") ∈ lw_all := lw_g (lw_at lw_m4 95 rfl) rfl
theorem q936 : (Jvm.Cond.methodLink "EditsMeet" (160 : Nat) ({ cls := "EditsMeet$Keep", name := "turns", desc := "()I" } : Jvm.MethodName)) ∈ lw_all := lw_g (lw_at lw_m4 96 rfl) rfl
theorem q951 : (Jvm.Cond.static ({ cls := "EditsMeet", name := "bits", desc := "(I)I" } : Jvm.MethodName)) ∈ lw_all := lw_g (lw_at lw_m4 111 rfl) rfl
theorem q952 : (Jvm.Cond.code ({ cls := "EditsMeet", name := "bits", desc := "(I)I" } : Jvm.MethodName) prog_1_method_3_code (1 : Nat) (Option.some Jvm.ClassFile.FieldType.int)) ∈ lw_all := lw_g (lw_at lw_m4 112 rfl) rfl
theorem q953 : (Jvm.Cond.methodLink "EditsMeet" (1 : Nat) ({ cls := "java/lang/Integer", name := "bitCount", desc := "(I)I" } : Jvm.MethodName)) ∈ lw_all := lw_g (lw_at lw_m4 113 rfl) rfl
theorem q967 : (Jvm.Cond.classLink "EditsMeet" (163 : Nat) "EditsMeet$Delete") ∈ lw_all := lw_g (lw_at lw_m4 127 rfl) rfl
theorem q968 : (Jvm.Cond.methodLink "EditsMeet" (165 : Nat) ({ cls := "EditsMeet$Delete", name := "n", desc := "()I" } : Jvm.MethodName)) ∈ lw_all := lw_g (lw_at lw_m4 128 rfl) rfl
theorem q972 : (Jvm.Cond.classLink "EditsMeet" (166 : Nat) "EditsMeet$Mark") ∈ lw_all := lw_g (lw_at lw_m4 132 rfl) rfl
theorem q973 : (Jvm.Cond.methodLink "EditsMeet" (168 : Nat) ({ cls := "EditsMeet$Mark", name := "on", desc := "()I" } : Jvm.MethodName)) ∈ lw_all := lw_g (lw_at lw_m4 133 rfl) rfl
theorem q974 : (Jvm.Cond.methodLink "EditsMeet" (171 : Nat) ({ cls := "EditsMeet$Mark", name := "off", desc := "()I" } : Jvm.MethodName)) ∈ lw_all := lw_g (lw_at lw_m4 134 rfl) rfl
theorem q976 : (Jvm.Cond.instanceMethod ({ cls := "EditsMeet", name := "feed", desc := "(I)I" } : Jvm.MethodName)) ∈ lw_all := lw_g (lw_at lw_m4 136 rfl) rfl
theorem q977 : (Jvm.Cond.selects "EditsMeet" ({ cls := "EditsMeet", name := "feed", desc := "(I)I" } : Jvm.MethodName) ({ cls := "EditsMeet", name := "feed", desc := "(I)I" } : Jvm.MethodName)) ∈ lw_all := lw_g (lw_at lw_m4 137 rfl) rfl
theorem q978 : (Jvm.Cond.code ({ cls := "EditsMeet", name := "feed", desc := "(I)I" } : Jvm.MethodName) prog_1_method_27_code (2 : Nat) (Option.some Jvm.ClassFile.FieldType.int)) ∈ lw_all := lw_g (lw_at lw_m4 138 rfl) rfl
theorem q980 : (Jvm.Cond.instanceMethod ({ cls := "EditsMeet", name := "wipe", desc := "()I" } : Jvm.MethodName)) ∈ lw_all := lw_g (lw_at lw_m4 140 rfl) rfl
theorem q981 : (Jvm.Cond.selects "EditsMeet" ({ cls := "EditsMeet", name := "wipe", desc := "()I" } : Jvm.MethodName) ({ cls := "EditsMeet", name := "wipe", desc := "()I" } : Jvm.MethodName)) ∈ lw_all := lw_g (lw_at lw_m4 141 rfl) rfl
theorem q982 : (Jvm.Cond.code ({ cls := "EditsMeet", name := "wipe", desc := "()I" } : Jvm.MethodName) prog_1_method_28_code (2 : Nat) (Option.some Jvm.ClassFile.FieldType.int)) ∈ lw_all := lw_g (lw_at lw_m4 142 rfl) rfl
theorem q984 : (Jvm.Cond.instanceMethod ({ cls := "EditsMeet", name := "edit", desc := "(I)I" } : Jvm.MethodName)) ∈ lw_all := lw_g (lw_at lw_m4 144 rfl) rfl
theorem q985 : (Jvm.Cond.selects "EditsMeet" ({ cls := "EditsMeet", name := "edit", desc := "(I)I" } : Jvm.MethodName) ({ cls := "EditsMeet", name := "edit", desc := "(I)I" } : Jvm.MethodName)) ∈ lw_all := lw_g (lw_at lw_m4 145 rfl) rfl
theorem q986 : (Jvm.Cond.codeWith ({ cls := "EditsMeet", name := "edit", desc := "(I)I" } : Jvm.MethodName) prog_1_method_31_code (5 : Nat) (Option.some Jvm.ClassFile.FieldType.int) [((0 : Nat), (14 : Nat), (45 : Nat), (213 : Nat)), ((21 : Nat), (38 : Nat), (45 : Nat), (213 : Nat)), ((0 : Nat), (14 : Nat), (69 : Nat), (0 : Nat)), ((21 : Nat), (38 : Nat), (69 : Nat), (0 : Nat)), ((45 : Nat), (62 : Nat), (69 : Nat), (0 : Nat)), ((69 : Nat), (71 : Nat), (69 : Nat), (0 : Nat))]) ∈ lw_all := lw_g (lw_at lw_m4 146 rfl) rfl
theorem q987 : (Jvm.Cond.classLink "EditsMeet" (213 : Nat) "EditsMeet$Fault") ∈ lw_all := lw_g (lw_at lw_m4 147 rfl) rfl
theorem q988 : (Jvm.Cond.classLink "EditsMeet" (204 : Nat) "EditsMeet$Reader") ∈ lw_all := lw_g (lw_at lw_m4 148 rfl) rfl
theorem q990 : (Jvm.Cond.methodLinkNest "EditsMeet" (206 : Nat) ({ cls := "EditsMeet$Reader", name := "<init>", desc := "(LEditsMeet;)V" } : Jvm.MethodName) "EditsMeet") ∈ lw_tbl := lw_at lw_m4 150 rfl
theorem q1001 : (Jvm.Cond.methodLink "EditsMeet" (209 : Nat) ({ cls := "EditsMeet$Reader", name := "edit", desc := "()LEditsMeet$Edit;" } : Jvm.MethodName)) ∈ lw_all := lw_g (lw_at lw_m4 161 rfl) rfl
theorem q1269 : (Jvm.Cond.fieldLink "EditsMeet" (215 : Nat) "EditsMeet$Fault" "place" "I") ∈ lw_all := lw_g (lw_at lw_m5 189 rfl) rfl
theorem q1319 : (Jvm.Cond.fieldLinkNest "EditsMeet" (231 : Nat) "EditsMeet$Insert" "letters" "Ljava/lang/String;" "EditsMeet") ∈ lw_tbl := lw_at lw_m5 239 rfl
theorem q1322 : (Jvm.Cond.fieldLinkNest "EditsMeet" (241 : Nat) "EditsMeet$Insert" "marks" "Ljava/lang/String;" "EditsMeet") ∈ lw_tbl := lw_at lw_m6 2 rfl
theorem q1442 : (Jvm.Cond.selects "EditsMeet" ({ cls := "java/lang/Object", name := "getClass", desc := "()Ljava/lang/Class;" } : Jvm.MethodName) ({ cls := "java/lang/Object", name := "getClass", desc := "()Ljava/lang/Class;" } : Jvm.MethodName)) ∈ lw_all := lw_g (lw_at lw_m6 122 rfl) rfl
theorem q1546 : (Jvm.Cond.methodLink "EditsMeet" (200 : Nat) ({ cls := "EditsMeet", name := "becomes", desc := "(ILEditsMeet$Edit;)I" } : Jvm.MethodName)) ∈ lw_all := lw_g (lw_at lw_m6 226 rfl) rfl
theorem q1547 : (Jvm.Cond.privateMethod ({ cls := "EditsMeet", name := "becomes", desc := "(ILEditsMeet$Edit;)I" } : Jvm.MethodName)) ∈ lw_tbl := lw_at lw_m6 227 rfl
theorem q1548 : (Jvm.Cond.instanceMethod ({ cls := "EditsMeet", name := "becomes", desc := "(ILEditsMeet$Edit;)I" } : Jvm.MethodName)) ∈ lw_all := lw_g (lw_at lw_m6 228 rfl) rfl
theorem q1549 : (Jvm.Cond.code ({ cls := "EditsMeet", name := "becomes", desc := "(ILEditsMeet$Edit;)I" } : Jvm.MethodName) prog_1_method_29_code (3 : Nat) (Option.some Jvm.ClassFile.FieldType.int)) ∈ lw_all := lw_g (lw_at lw_m6 229 rfl) rfl
theorem q1551 : (Jvm.Cond.instanceMethod ({ cls := "EditsMeet", name := "of", desc := "(II)I" } : Jvm.MethodName)) ∈ lw_all := lw_g (lw_at lw_m6 231 rfl) rfl
theorem q1552 : (Jvm.Cond.selects "EditsMeet" ({ cls := "EditsMeet", name := "of", desc := "(II)I" } : Jvm.MethodName) ({ cls := "EditsMeet", name := "of", desc := "(II)I" } : Jvm.MethodName)) ∈ lw_all := lw_g (lw_at lw_m6 232 rfl) rfl
theorem q1553 : (Jvm.Cond.code ({ cls := "EditsMeet", name := "of", desc := "(II)I" } : Jvm.MethodName) prog_1_method_33_code (3 : Nat) (Option.some Jvm.ClassFile.FieldType.int)) ∈ lw_all := lw_g (lw_at lw_m6 233 rfl) rfl
theorem q1554 : (Jvm.Cond.privateMethod ({ cls := "EditsMeet", name := "lambda$of$5", desc := "(II)I" } : Jvm.MethodName)) ∈ lw_tbl := lw_at lw_m6 234 rfl
theorem q1555 : (Jvm.Cond.instanceMethod ({ cls := "EditsMeet", name := "lambda$of$5", desc := "(II)I" } : Jvm.MethodName)) ∈ lw_all := lw_g (lw_at lw_m6 235 rfl) rfl
theorem q1556 : (Jvm.Cond.code ({ cls := "EditsMeet", name := "lambda$of$5", desc := "(II)I" } : Jvm.MethodName) prog_1_method_108_code (4 : Nat) (Option.some Jvm.ClassFile.FieldType.int)) ∈ lw_all := lw_g (lw_at lw_m6 236 rfl) rfl
theorem q1557 : (Jvm.Cond.methodLink "EditsMeet" (520 : Nat) ({ cls := "EditsMeet", name := "edit", desc := "(ZI)LEditsMeet$Edit;" } : Jvm.MethodName)) ∈ lw_all := lw_g (lw_at lw_m6 237 rfl) rfl
theorem q1558 : (Jvm.Cond.privateMethod ({ cls := "EditsMeet", name := "edit", desc := "(ZI)LEditsMeet$Edit;" } : Jvm.MethodName)) ∈ lw_tbl := lw_at lw_m6 238 rfl
theorem q1559 : (Jvm.Cond.instanceMethod ({ cls := "EditsMeet", name := "edit", desc := "(ZI)LEditsMeet$Edit;" } : Jvm.MethodName)) ∈ lw_all := lw_g (lw_at lw_m6 239 rfl) rfl
theorem q1560 : (Jvm.Cond.code ({ cls := "EditsMeet", name := "edit", desc := "(ZI)LEditsMeet$Edit;" } : Jvm.MethodName) prog_1_method_10_code (3 : Nat) (Option.some (Jvm.ClassFile.FieldType.object "EditsMeet$Edit"))) ∈ lw_all := lw_g (lw_at lw_m7 0 rfl) rfl
theorem q1561 : (Jvm.Cond.methodLink "EditsMeet" (182 : Nat) ({ cls := "EditsMeet$Edit", name := "from", desc := "()I" } : Jvm.MethodName)) ∈ lw_all := lw_g (lw_at lw_m7 1 rfl) rfl
theorem q1590 : (Jvm.Cond.methodLink "EditsMeet" (185 : Nat) ({ cls := "EditsMeet$Edit", name := "to", desc := "()I" } : Jvm.MethodName)) ∈ lw_all := lw_g (lw_at lw_m7 30 rfl) rfl
theorem q1598 : (Jvm.Cond.static ({ cls := "EditsMeet", name := "lambda$of$2", desc := "(LEditsMeet$Part;)I" } : Jvm.MethodName)) ∈ lw_all := lw_g (lw_at lw_m7 38 rfl) rfl
theorem q1599 : (Jvm.Cond.code ({ cls := "EditsMeet", name := "lambda$of$2", desc := "(LEditsMeet$Part;)I" } : Jvm.MethodName) prog_1_method_111_code (1 : Nat) (Option.some Jvm.ClassFile.FieldType.int)) ∈ lw_all := lw_g (lw_at lw_m7 39 rfl) rfl
theorem q1600 : (Jvm.Cond.interfaceEntry "EditsMeet" (533 : Nat)) ∈ lw_tbl := lw_at lw_m7 40 rfl
theorem q1601 : (Jvm.Cond.methodLink "EditsMeet" (533 : Nat) ({ cls := "EditsMeet$Part", name := "inserts", desc := "()Z" } : Jvm.MethodName)) ∈ lw_all := lw_g (lw_at lw_m7 41 rfl) rfl
theorem q1613 : (Jvm.Cond.methodLink "EditsMeet" (540 : Nat) ({ cls := "EditsMeet", name := "lettersOf", desc := "(LEditsMeet$Part;Z)I" } : Jvm.MethodName)) ∈ lw_all := lw_g (lw_at lw_m7 53 rfl) rfl
theorem q1614 : (Jvm.Cond.static ({ cls := "EditsMeet", name := "lettersOf", desc := "(LEditsMeet$Part;Z)I" } : Jvm.MethodName)) ∈ lw_all := lw_g (lw_at lw_m7 54 rfl) rfl
theorem q1615 : (Jvm.Cond.code ({ cls := "EditsMeet", name := "lettersOf", desc := "(LEditsMeet$Part;Z)I" } : Jvm.MethodName) prog_1_method_32_code (2 : Nat) (Option.some Jvm.ClassFile.FieldType.int)) ∈ lw_all := lw_g (lw_at lw_m7 55 rfl) rfl
theorem q1616 : (Jvm.Cond.methodLink "EditsMeet" (192 : Nat) ({ cls := "EditsMeet$Edit", name := "sum", desc := "(LEditsMeet$Counted;)I" } : Jvm.MethodName)) ∈ lw_all := lw_g (lw_at lw_m7 56 rfl) rfl
theorem q1617 : (Jvm.Cond.static ({ cls := "EditsMeet", name := "lambda$of$3", desc := "(LEditsMeet$Part;)I" } : Jvm.MethodName)) ∈ lw_all := lw_g (lw_at lw_m7 57 rfl) rfl
theorem q1618 : (Jvm.Cond.code ({ cls := "EditsMeet", name := "lambda$of$3", desc := "(LEditsMeet$Part;)I" } : Jvm.MethodName) prog_1_method_110_code (1 : Nat) (Option.some Jvm.ClassFile.FieldType.int)) ∈ lw_all := lw_g (lw_at lw_m7 58 rfl) rfl
theorem q1619 : (Jvm.Cond.interfaceEntry "EditsMeet" (544 : Nat)) ∈ lw_tbl := lw_at lw_m7 59 rfl
theorem q1620 : (Jvm.Cond.methodLink "EditsMeet" (544 : Nat) ({ cls := "EditsMeet$Part", name := "deletes", desc := "()Z" } : Jvm.MethodName)) ∈ lw_all := lw_g (lw_at lw_m7 60 rfl) rfl
theorem q1623 : (Jvm.Cond.static ({ cls := "EditsMeet", name := "lambda$of$4", desc := "(LEditsMeet$Part;)I" } : Jvm.MethodName)) ∈ lw_all := lw_g (lw_at lw_m7 63 rfl) rfl
theorem q1624 : (Jvm.Cond.code ({ cls := "EditsMeet", name := "lambda$of$4", desc := "(LEditsMeet$Part;)I" } : Jvm.MethodName) prog_1_method_109_code (1 : Nat) (Option.some Jvm.ClassFile.FieldType.int)) ∈ lw_all := lw_g (lw_at lw_m7 64 rfl) rfl
theorem q1626 : (Jvm.Cond.instanceMethod ({ cls := "EditsMeet", name := "part", desc := "(III)I" } : Jvm.MethodName)) ∈ lw_all := lw_g (lw_at lw_m7 66 rfl) rfl
theorem q1627 : (Jvm.Cond.selects "EditsMeet" ({ cls := "EditsMeet", name := "part", desc := "(III)I" } : Jvm.MethodName) ({ cls := "EditsMeet", name := "part", desc := "(III)I" } : Jvm.MethodName)) ∈ lw_all := lw_g (lw_at lw_m7 67 rfl) rfl
theorem q1628 : (Jvm.Cond.code ({ cls := "EditsMeet", name := "part", desc := "(III)I" } : Jvm.MethodName) prog_1_method_34_code (4 : Nat) (Option.some Jvm.ClassFile.FieldType.int)) ∈ lw_all := lw_g (lw_at lw_m7 68 rfl) rfl
theorem q1629 : (Jvm.Cond.privateMethod ({ cls := "EditsMeet", name := "lambda$part$6", desc := "(III)I" } : Jvm.MethodName)) ∈ lw_tbl := lw_at lw_m7 69 rfl
theorem q1630 : (Jvm.Cond.instanceMethod ({ cls := "EditsMeet", name := "lambda$part$6", desc := "(III)I" } : Jvm.MethodName)) ∈ lw_all := lw_g (lw_at lw_m7 70 rfl) rfl
theorem q1631 : (Jvm.Cond.code ({ cls := "EditsMeet", name := "lambda$part$6", desc := "(III)I" } : Jvm.MethodName) prog_1_method_107_code (6 : Nat) (Option.some Jvm.ClassFile.FieldType.int)) ∈ lw_all := lw_g (lw_at lw_m7 71 rfl) rfl
theorem q1632 : (Jvm.Cond.interfaceEntry "EditsMeet" (229 : Nat)) ∈ lw_tbl := lw_at lw_m7 72 rfl
theorem q1633 : (Jvm.Cond.methodLink "EditsMeet" (229 : Nat) ({ cls := "EditsMeet$Part", name := "on", desc := "()I" } : Jvm.MethodName)) ∈ lw_all := lw_g (lw_at lw_m7 73 rfl) rfl
theorem q1634 : (Jvm.Cond.interfaceEntry "EditsMeet" (230 : Nat)) ∈ lw_tbl := lw_at lw_m7 74 rfl
theorem q1635 : (Jvm.Cond.methodLink "EditsMeet" (230 : Nat) ({ cls := "EditsMeet$Part", name := "off", desc := "()I" } : Jvm.MethodName)) ∈ lw_all := lw_g (lw_at lw_m7 75 rfl) rfl
theorem q1637 : (Jvm.Cond.instanceMethod ({ cls := "EditsMeet", name := "letter", desc := "(III)I" } : Jvm.MethodName)) ∈ lw_all := lw_g (lw_at lw_m7 77 rfl) rfl
theorem q1638 : (Jvm.Cond.selects "EditsMeet" ({ cls := "EditsMeet", name := "letter", desc := "(III)I" } : Jvm.MethodName) ({ cls := "EditsMeet", name := "letter", desc := "(III)I" } : Jvm.MethodName)) ∈ lw_all := lw_g (lw_at lw_m7 78 rfl) rfl
theorem q1639 : (Jvm.Cond.code ({ cls := "EditsMeet", name := "letter", desc := "(III)I" } : Jvm.MethodName) prog_1_method_35_code (4 : Nat) (Option.some Jvm.ClassFile.FieldType.int)) ∈ lw_all := lw_g (lw_at lw_m7 79 rfl) rfl
theorem q1640 : (Jvm.Cond.privateMethod ({ cls := "EditsMeet", name := "lambda$letter$7", desc := "(III)I" } : Jvm.MethodName)) ∈ lw_tbl := lw_at lw_m7 80 rfl
theorem q1641 : (Jvm.Cond.instanceMethod ({ cls := "EditsMeet", name := "lambda$letter$7", desc := "(III)I" } : Jvm.MethodName)) ∈ lw_all := lw_g (lw_at lw_m7 81 rfl) rfl
theorem q1642 : (Jvm.Cond.code ({ cls := "EditsMeet", name := "lambda$letter$7", desc := "(III)I" } : Jvm.MethodName) prog_1_method_106_code (6 : Nat) (Option.some Jvm.ClassFile.FieldType.int)) ∈ lw_all := lw_g (lw_at lw_m7 82 rfl) rfl
theorem q1643 : (Jvm.Cond.methodLink "EditsMeet" (535 : Nat) ({ cls := "EditsMeet$Insert", name := "n", desc := "()I" } : Jvm.MethodName)) ∈ lw_all := lw_g (lw_at lw_m7 83 rfl) rfl
theorem q1644 : (Jvm.Cond.methodLink "EditsMeet" (536 : Nat) ({ cls := "EditsMeet$Insert", name := "mark", desc := "(I)I" } : Jvm.MethodName)) ∈ lw_all := lw_g (lw_at lw_m7 84 rfl) rfl
theorem q1649 : (Jvm.Cond.instanceMethod ({ cls := "EditsMeet", name := "spelled", desc := "(II)I" } : Jvm.MethodName)) ∈ lw_all := lw_g (lw_at lw_m7 89 rfl) rfl
theorem q1650 : (Jvm.Cond.selects "EditsMeet" ({ cls := "EditsMeet", name := "spelled", desc := "(II)I" } : Jvm.MethodName) ({ cls := "EditsMeet", name := "spelled", desc := "(II)I" } : Jvm.MethodName)) ∈ lw_all := lw_g (lw_at lw_m7 90 rfl) rfl
theorem q1651 : (Jvm.Cond.code ({ cls := "EditsMeet", name := "spelled", desc := "(II)I" } : Jvm.MethodName) prog_1_method_36_code (3 : Nat) (Option.some Jvm.ClassFile.FieldType.int)) ∈ lw_all := lw_g (lw_at lw_m7 91 rfl) rfl
theorem q1652 : (Jvm.Cond.privateMethod ({ cls := "EditsMeet", name := "lambda$spelled$8", desc := "(II)I" } : Jvm.MethodName)) ∈ lw_tbl := lw_at lw_m7 92 rfl
theorem q1653 : (Jvm.Cond.instanceMethod ({ cls := "EditsMeet", name := "lambda$spelled$8", desc := "(II)I" } : Jvm.MethodName)) ∈ lw_all := lw_g (lw_at lw_m7 93 rfl) rfl
theorem q1654 : (Jvm.Cond.code ({ cls := "EditsMeet", name := "lambda$spelled$8", desc := "(II)I" } : Jvm.MethodName) prog_1_method_105_code (4 : Nat) (Option.some Jvm.ClassFile.FieldType.int)) ∈ lw_all := lw_g (lw_at lw_m7 94 rfl) rfl
theorem q1655 : (Jvm.Cond.methodLink "EditsMeet" (523 : Nat) ({ cls := "EditsMeet$Edit", name := "spelled", desc := "()Ljava/lang/String;" } : Jvm.MethodName)) ∈ lw_all := lw_g (lw_at lw_m7 95 rfl) rfl
theorem q2015 : (Jvm.Cond.interfaceEntry "EditsMeet" (526 : Nat)) ∈ lw_tbl := lw_at lw_m8 215 rfl
theorem q2016 : (Jvm.Cond.methodLink "EditsMeet" (526 : Nat) ({ cls := "java/lang/CharSequence", name := "length", desc := "()I" } : Jvm.MethodName)) ∈ lw_all := lw_g (lw_at lw_m8 216 rfl) rfl
theorem q2025 : (Jvm.Cond.interfaceEntry "EditsMeet" (529 : Nat)) ∈ lw_tbl := lw_at lw_m8 225 rfl
theorem q2026 : (Jvm.Cond.methodLink "EditsMeet" (529 : Nat) ({ cls := "java/lang/CharSequence", name := "charAt", desc := "(I)C" } : Jvm.MethodName)) ∈ lw_all := lw_g (lw_at lw_m8 226 rfl) rfl
theorem q2044 : (Jvm.Cond.instanceMethod ({ cls := "EditsMeet", name := "behind", desc := "(III)I" } : Jvm.MethodName)) ∈ lw_all := lw_g (lw_at lw_m9 4 rfl) rfl
theorem q2045 : (Jvm.Cond.selects "EditsMeet" ({ cls := "EditsMeet", name := "behind", desc := "(III)I" } : Jvm.MethodName) ({ cls := "EditsMeet", name := "behind", desc := "(III)I" } : Jvm.MethodName)) ∈ lw_all := lw_g (lw_at lw_m9 5 rfl) rfl
theorem q2046 : (Jvm.Cond.code ({ cls := "EditsMeet", name := "behind", desc := "(III)I" } : Jvm.MethodName) prog_1_method_37_code (4 : Nat) (Option.some Jvm.ClassFile.FieldType.int)) ∈ lw_all := lw_g (lw_at lw_m9 6 rfl) rfl
theorem q2047 : (Jvm.Cond.privateMethod ({ cls := "EditsMeet", name := "lambda$behind$9", desc := "(III)I" } : Jvm.MethodName)) ∈ lw_tbl := lw_at lw_m9 7 rfl
theorem q2048 : (Jvm.Cond.instanceMethod ({ cls := "EditsMeet", name := "lambda$behind$9", desc := "(III)I" } : Jvm.MethodName)) ∈ lw_all := lw_g (lw_at lw_m9 8 rfl) rfl
theorem q2049 : (Jvm.Cond.code ({ cls := "EditsMeet", name := "lambda$behind$9", desc := "(III)I" } : Jvm.MethodName) prog_1_method_104_code (6 : Nat) (Option.some Jvm.ClassFile.FieldType.int)) ∈ lw_all := lw_g (lw_at lw_m9 9 rfl) rfl
theorem q2050 : (Jvm.Cond.methodLinkNest "EditsMeet" (498 : Nat) ({ cls := "EditsMeet$Edit", name := "<init>", desc := "()V" } : Jvm.MethodName) "EditsMeet") ∈ lw_tbl := lw_at lw_m9 10 rfl
theorem q2051 : (Jvm.Cond.methodLink "EditsMeet" (516 : Nat) ({ cls := "EditsMeet$Weaver", name := "behind", desc := "(LEditsMeet$Edit;LEditsMeet$Edit;LEditsMeet$Edit;)LEditsMeet$Edit;" } : Jvm.MethodName)) ∈ lw_all := lw_g (lw_at lw_m9 11 rfl) rfl
theorem q2128 : (Jvm.Cond.methodLink "EditsMeet" (503 : Nat) ({ cls := "EditsMeet", name := "fits", desc := "(ILEditsMeet$Edit;)I" } : Jvm.MethodName)) ∈ lw_all := lw_g (lw_at lw_m9 88 rfl) rfl
theorem q2129 : (Jvm.Cond.privateMethod ({ cls := "EditsMeet", name := "fits", desc := "(ILEditsMeet$Edit;)I" } : Jvm.MethodName)) ∈ lw_tbl := lw_at lw_m9 89 rfl
theorem q2130 : (Jvm.Cond.instanceMethod ({ cls := "EditsMeet", name := "fits", desc := "(ILEditsMeet$Edit;)I" } : Jvm.MethodName)) ∈ lw_all := lw_g (lw_at lw_m9 90 rfl) rfl
theorem q2131 : (Jvm.Cond.code ({ cls := "EditsMeet", name := "fits", desc := "(ILEditsMeet$Edit;)I" } : Jvm.MethodName) prog_1_method_30_code (3 : Nat) (Option.some Jvm.ClassFile.FieldType.int)) ∈ lw_all := lw_g (lw_at lw_m9 91 rfl) rfl
theorem q2132 : (Jvm.Cond.static ({ cls := "EditsMeet", name := "lambda$fits$1", desc := "(LEditsMeet$Part;)I" } : Jvm.MethodName)) ∈ lw_all := lw_g (lw_at lw_m9 92 rfl) rfl
theorem q2133 : (Jvm.Cond.code ({ cls := "EditsMeet", name := "lambda$fits$1", desc := "(LEditsMeet$Part;)I" } : Jvm.MethodName) prog_1_method_112_code (1 : Nat) (Option.some Jvm.ClassFile.FieldType.int)) ∈ lw_all := lw_g (lw_at lw_m9 93 rfl) rfl
theorem q2135 : (Jvm.Cond.instanceMethod ({ cls := "EditsMeet", name := "over", desc := "(IIII)I" } : Jvm.MethodName)) ∈ lw_all := lw_g (lw_at lw_m9 95 rfl) rfl
theorem q2136 : (Jvm.Cond.selects "EditsMeet" ({ cls := "EditsMeet", name := "over", desc := "(IIII)I" } : Jvm.MethodName) ({ cls := "EditsMeet", name := "over", desc := "(IIII)I" } : Jvm.MethodName)) ∈ lw_all := lw_g (lw_at lw_m9 96 rfl) rfl
theorem q2137 : (Jvm.Cond.code ({ cls := "EditsMeet", name := "over", desc := "(IIII)I" } : Jvm.MethodName) prog_1_method_38_code (5 : Nat) (Option.some Jvm.ClassFile.FieldType.int)) ∈ lw_all := lw_g (lw_at lw_m9 97 rfl) rfl
theorem q2138 : (Jvm.Cond.privateMethod ({ cls := "EditsMeet", name := "lambda$over$10", desc := "(IIII)I" } : Jvm.MethodName)) ∈ lw_tbl := lw_at lw_m9 98 rfl
theorem q2139 : (Jvm.Cond.instanceMethod ({ cls := "EditsMeet", name := "lambda$over$10", desc := "(IIII)I" } : Jvm.MethodName)) ∈ lw_all := lw_g (lw_at lw_m9 99 rfl) rfl
theorem q2140 : (Jvm.Cond.code ({ cls := "EditsMeet", name := "lambda$over$10", desc := "(IIII)I" } : Jvm.MethodName) prog_1_method_103_code (7 : Nat) (Option.some Jvm.ClassFile.FieldType.int)) ∈ lw_all := lw_g (lw_at lw_m9 100 rfl) rfl
theorem q2141 : (Jvm.Cond.methodLink "EditsMeet" (510 : Nat) ({ cls := "EditsMeet$Weaver", name := "over", desc := "(LEditsMeet$Edit;LEditsMeet$Edit;LEditsMeet$Edit;Z)LEditsMeet$Edit;" } : Jvm.MethodName)) ∈ lw_all := lw_g (lw_at lw_m9 101 rfl) rfl
theorem q2153 : (Jvm.Cond.instanceMethod ({ cls := "EditsMeet", name := "turned", desc := "(III)I" } : Jvm.MethodName)) ∈ lw_all := lw_g (lw_at lw_m9 113 rfl) rfl
theorem q2154 : (Jvm.Cond.selects "EditsMeet" ({ cls := "EditsMeet", name := "turned", desc := "(III)I" } : Jvm.MethodName) ({ cls := "EditsMeet", name := "turned", desc := "(III)I" } : Jvm.MethodName)) ∈ lw_all := lw_g (lw_at lw_m9 114 rfl) rfl
theorem q2155 : (Jvm.Cond.code ({ cls := "EditsMeet", name := "turned", desc := "(III)I" } : Jvm.MethodName) prog_1_method_39_code (4 : Nat) (Option.some Jvm.ClassFile.FieldType.int)) ∈ lw_all := lw_g (lw_at lw_m9 115 rfl) rfl
theorem q2156 : (Jvm.Cond.privateMethod ({ cls := "EditsMeet", name := "lambda$turned$11", desc := "(III)I" } : Jvm.MethodName)) ∈ lw_tbl := lw_at lw_m9 116 rfl
theorem q2157 : (Jvm.Cond.instanceMethod ({ cls := "EditsMeet", name := "lambda$turned$11", desc := "(III)I" } : Jvm.MethodName)) ∈ lw_all := lw_g (lw_at lw_m9 117 rfl) rfl
theorem q2158 : (Jvm.Cond.code ({ cls := "EditsMeet", name := "lambda$turned$11", desc := "(III)I" } : Jvm.MethodName) prog_1_method_102_code (6 : Nat) (Option.some Jvm.ClassFile.FieldType.int)) ∈ lw_all := lw_g (lw_at lw_m9 118 rfl) rfl
theorem q2159 : (Jvm.Cond.methodLink "EditsMeet" (62 : Nat) ({ cls := "EditsMeet", name := "isClient", desc := "(I)Z" } : Jvm.MethodName)) ∈ lw_all := lw_g (lw_at lw_m9 119 rfl) rfl
theorem q2160 : (Jvm.Cond.static ({ cls := "EditsMeet", name := "isClient", desc := "(I)Z" } : Jvm.MethodName)) ∈ lw_all := lw_g (lw_at lw_m9 120 rfl) rfl
theorem q2161 : (Jvm.Cond.code ({ cls := "EditsMeet", name := "isClient", desc := "(I)Z" } : Jvm.MethodName) prog_1_method_7_code (1 : Nat) (Option.some Jvm.ClassFile.FieldType.boolean)) ∈ lw_all := lw_g (lw_at lw_m9 121 rfl) rfl
theorem q2162 : (Jvm.Cond.methodLink "EditsMeet" (396 : Nat) ({ cls := "EditsMeet$World", name := "text", desc := "(I)LEditsMeet$Text;" } : Jvm.MethodName)) ∈ lw_all := lw_g (lw_at lw_m9 122 rfl) rfl
theorem q2166 : (Jvm.Cond.methodLink "EditsMeet" (245 : Nat) ({ cls := "EditsMeet$Text", name := "length", desc := "()I" } : Jvm.MethodName)) ∈ lw_all := lw_g (lw_at lw_m9 126 rfl) rfl
theorem q2171 : (Jvm.Cond.methodLink "EditsMeet" (499 : Nat) ({ cls := "EditsMeet$Text", name := "turned", desc := "(LEditsMeet$Edit;LEditsMeet$Edit;)LEditsMeet$Edit;" } : Jvm.MethodName)) ∈ lw_all := lw_g (lw_at lw_m9 131 rfl) rfl
theorem q2222 : (Jvm.Cond.instanceMethod ({ cls := "EditsMeet", name := "differ", desc := "(II)I" } : Jvm.MethodName)) ∈ lw_all := lw_g (lw_at lw_m9 182 rfl) rfl
theorem q2223 : (Jvm.Cond.selects "EditsMeet" ({ cls := "EditsMeet", name := "differ", desc := "(II)I" } : Jvm.MethodName) ({ cls := "EditsMeet", name := "differ", desc := "(II)I" } : Jvm.MethodName)) ∈ lw_all := lw_g (lw_at lw_m9 183 rfl) rfl
theorem q2224 : (Jvm.Cond.code ({ cls := "EditsMeet", name := "differ", desc := "(II)I" } : Jvm.MethodName) prog_1_method_41_code (3 : Nat) (Option.some Jvm.ClassFile.FieldType.int)) ∈ lw_all := lw_g (lw_at lw_m9 184 rfl) rfl
theorem q2225 : (Jvm.Cond.privateMethod ({ cls := "EditsMeet", name := "lambda$differ$12", desc := "(II)I" } : Jvm.MethodName)) ∈ lw_tbl := lw_at lw_m9 185 rfl
theorem q2226 : (Jvm.Cond.instanceMethod ({ cls := "EditsMeet", name := "lambda$differ$12", desc := "(II)I" } : Jvm.MethodName)) ∈ lw_all := lw_g (lw_at lw_m9 186 rfl) rfl
theorem q2227 : (Jvm.Cond.code ({ cls := "EditsMeet", name := "lambda$differ$12", desc := "(II)I" } : Jvm.MethodName) prog_1_method_101_code (7 : Nat) (Option.some Jvm.ClassFile.FieldType.int)) ∈ lw_all := lw_g (lw_at lw_m9 187 rfl) rfl
theorem q2228 : (Jvm.Cond.methodLink "EditsMeet" (486 : Nat) ({ cls := "java/lang/Math", name := "min", desc := "(II)I" } : Jvm.MethodName)) ∈ lw_all := lw_g (lw_at lw_m9 188 rfl) rfl
theorem q2229 : (Jvm.Cond.methodLink "EditsMeet" (494 : Nat) ({ cls := "EditsMeet", name := "areLike", desc := "(LEditsMeet$Part;LEditsMeet$Part;)Z" } : Jvm.MethodName)) ∈ lw_all := lw_g (lw_at lw_m9 189 rfl) rfl
theorem q2230 : (Jvm.Cond.static ({ cls := "EditsMeet", name := "areLike", desc := "(LEditsMeet$Part;LEditsMeet$Part;)Z" } : Jvm.MethodName)) ∈ lw_all := lw_g (lw_at lw_m9 190 rfl) rfl
theorem q2231 : (Jvm.Cond.code ({ cls := "EditsMeet", name := "areLike", desc := "(LEditsMeet$Part;LEditsMeet$Part;)Z" } : Jvm.MethodName) prog_1_method_40_code (4 : Nat) (Option.some Jvm.ClassFile.FieldType.boolean)) ∈ lw_all := lw_g (lw_at lw_m9 191 rfl) rfl
theorem q2232 : (Jvm.Cond.methodLink "EditsMeet" (235 : Nat) ({ cls := "java/lang/String", name := "equals", desc := "(Ljava/lang/Object;)Z" } : Jvm.MethodName)) ∈ lw_all := lw_g (lw_at lw_m9 192 rfl) rfl
theorem q2234 : (Jvm.Cond.instanceMethod ({ cls := "EditsMeet", name := "does", desc := "(II)I" } : Jvm.MethodName)) ∈ lw_all := lw_g (lw_at lw_m9 194 rfl) rfl
theorem q2235 : (Jvm.Cond.selects "EditsMeet" ({ cls := "EditsMeet", name := "does", desc := "(II)I" } : Jvm.MethodName) ({ cls := "EditsMeet", name := "does", desc := "(II)I" } : Jvm.MethodName)) ∈ lw_all := lw_g (lw_at lw_m9 195 rfl) rfl
theorem q2236 : (Jvm.Cond.code ({ cls := "EditsMeet", name := "does", desc := "(II)I" } : Jvm.MethodName) prog_1_method_44_code (3 : Nat) (Option.some Jvm.ClassFile.FieldType.int)) ∈ lw_all := lw_g (lw_at lw_m9 196 rfl) rfl
theorem q2237 : (Jvm.Cond.privateMethod ({ cls := "EditsMeet", name := "lambda$does$13", desc := "(II)I" } : Jvm.MethodName)) ∈ lw_tbl := lw_at lw_m9 197 rfl
theorem q2238 : (Jvm.Cond.instanceMethod ({ cls := "EditsMeet", name := "lambda$does$13", desc := "(II)I" } : Jvm.MethodName)) ∈ lw_all := lw_g (lw_at lw_m9 198 rfl) rfl
theorem q2239 : (Jvm.Cond.code ({ cls := "EditsMeet", name := "lambda$does$13", desc := "(II)I" } : Jvm.MethodName) prog_1_method_100_code (4 : Nat) (Option.some Jvm.ClassFile.FieldType.int)) ∈ lw_all := lw_g (lw_at lw_m9 199 rfl) rfl
theorem q2240 : (Jvm.Cond.methodLink "EditsMeet" (304 : Nat) ({ cls := "EditsMeet", name := "does", desc := "(LEditsMeet$Client;LEditsMeet$Edit;)I" } : Jvm.MethodName)) ∈ lw_all := lw_g (lw_at lw_m9 200 rfl) rfl
theorem q2241 : (Jvm.Cond.static ({ cls := "EditsMeet", name := "does", desc := "(LEditsMeet$Client;LEditsMeet$Edit;)I" } : Jvm.MethodName)) ∈ lw_all := lw_g (lw_at lw_m9 201 rfl) rfl
theorem q2242 : (Jvm.Cond.code ({ cls := "EditsMeet", name := "does", desc := "(LEditsMeet$Client;LEditsMeet$Edit;)I" } : Jvm.MethodName) prog_1_method_43_code (2 : Nat) (Option.some Jvm.ClassFile.FieldType.int)) ∈ lw_all := lw_g (lw_at lw_m9 202 rfl) rfl
theorem q2243 : (Jvm.Cond.methodLink "EditsMeet" (256 : Nat) ({ cls := "EditsMeet", name := "isTooLong", desc := "(LEditsMeet$Text;LEditsMeet$Edit;)Z" } : Jvm.MethodName)) ∈ lw_all := lw_g (lw_at lw_m9 203 rfl) rfl
theorem q2244 : (Jvm.Cond.static ({ cls := "EditsMeet", name := "isTooLong", desc := "(LEditsMeet$Text;LEditsMeet$Edit;)Z" } : Jvm.MethodName)) ∈ lw_all := lw_g (lw_at lw_m9 204 rfl) rfl
theorem q2245 : (Jvm.Cond.code ({ cls := "EditsMeet", name := "isTooLong", desc := "(LEditsMeet$Text;LEditsMeet$Edit;)Z" } : Jvm.MethodName) prog_1_method_42_code (2 : Nat) (Option.some Jvm.ClassFile.FieldType.boolean)) ∈ lw_all := lw_g (lw_at lw_m9 205 rfl) rfl
theorem q2246 : (Jvm.Cond.methodLink "EditsMeet" (264 : Nat) ({ cls := "EditsMeet$Pile", name := "empties", desc := "()V" } : Jvm.MethodName)) ∈ lw_all := lw_g (lw_at lw_m9 206 rfl) rfl
theorem q2276 : (Jvm.Cond.methodLink "EditsMeet" (272 : Nat) ({ cls := "EditsMeet$Client", name := "does", desc := "(LEditsMeet$Edit;LEditsMeet$Pile;)V" } : Jvm.MethodName)) ∈ lw_all := lw_g (lw_at lw_m9 236 rfl) rfl
theorem q2415 : (Jvm.Cond.instanceMethod ({ cls := "EditsMeet", name := "insert", desc := "(IIII)I" } : Jvm.MethodName)) ∈ lw_all := lw_g (lw_at lw_m10 135 rfl) rfl
theorem q2416 : (Jvm.Cond.selects "EditsMeet" ({ cls := "EditsMeet", name := "insert", desc := "(IIII)I" } : Jvm.MethodName) ({ cls := "EditsMeet", name := "insert", desc := "(IIII)I" } : Jvm.MethodName)) ∈ lw_all := lw_g (lw_at lw_m10 136 rfl) rfl
theorem q2417 : (Jvm.Cond.code ({ cls := "EditsMeet", name := "insert", desc := "(IIII)I" } : Jvm.MethodName) prog_1_method_47_code (5 : Nat) (Option.some Jvm.ClassFile.FieldType.int)) ∈ lw_all := lw_g (lw_at lw_m10 137 rfl) rfl
theorem q2418 : (Jvm.Cond.privateMethod ({ cls := "EditsMeet", name := "lambda$insert$14", desc := "(IIII)I" } : Jvm.MethodName)) ∈ lw_tbl := lw_at lw_m10 138 rfl
theorem q2419 : (Jvm.Cond.instanceMethod ({ cls := "EditsMeet", name := "lambda$insert$14", desc := "(IIII)I" } : Jvm.MethodName)) ∈ lw_all := lw_g (lw_at lw_m10 139 rfl) rfl
theorem q2420 : (Jvm.Cond.code ({ cls := "EditsMeet", name := "lambda$insert$14", desc := "(IIII)I" } : Jvm.MethodName) prog_1_method_99_code (6 : Nat) (Option.some Jvm.ClassFile.FieldType.int)) ∈ lw_all := lw_g (lw_at lw_m10 140 rfl) rfl
theorem q2421 : (Jvm.Cond.methodLink "EditsMeet" (322 : Nat) ({ cls := "EditsMeet", name := "client", desc := "(I)LEditsMeet$Client;" } : Jvm.MethodName)) ∈ lw_all := lw_g (lw_at lw_m10 141 rfl) rfl
theorem q2422 : (Jvm.Cond.privateMethod ({ cls := "EditsMeet", name := "client", desc := "(I)LEditsMeet$Client;" } : Jvm.MethodName)) ∈ lw_tbl := lw_at lw_m10 142 rfl
theorem q2423 : (Jvm.Cond.instanceMethod ({ cls := "EditsMeet", name := "client", desc := "(I)LEditsMeet$Client;" } : Jvm.MethodName)) ∈ lw_all := lw_g (lw_at lw_m10 143 rfl) rfl
theorem q2424 : (Jvm.Cond.code ({ cls := "EditsMeet", name := "client", desc := "(I)LEditsMeet$Client;" } : Jvm.MethodName) prog_1_method_12_code (2 : Nat) (Option.some (Jvm.ClassFile.FieldType.object "EditsMeet$Client"))) ∈ lw_all := lw_g (lw_at lw_m10 144 rfl) rfl
theorem q2425 : (Jvm.Cond.methodLink "EditsMeet" (415 : Nat) ({ cls := "EditsMeet", name := "inserts", desc := "(LEditsMeet$Client;III)I" } : Jvm.MethodName)) ∈ lw_all := lw_g (lw_at lw_m10 145 rfl) rfl
theorem q2426 : (Jvm.Cond.static ({ cls := "EditsMeet", name := "inserts", desc := "(LEditsMeet$Client;III)I" } : Jvm.MethodName)) ∈ lw_all := lw_g (lw_at lw_m10 146 rfl) rfl
theorem q2427 : (Jvm.Cond.code ({ cls := "EditsMeet", name := "inserts", desc := "(LEditsMeet$Client;III)I" } : Jvm.MethodName) prog_1_method_46_code (4 : Nat) (Option.some Jvm.ClassFile.FieldType.int)) ∈ lw_all := lw_g (lw_at lw_m10 147 rfl) rfl
theorem q2428 : (Jvm.Cond.methodLink "EditsMeet" (293 : Nat) ({ cls := "EditsMeet", name := "one", desc := "(I)Ljava/lang/String;" } : Jvm.MethodName)) ∈ lw_all := lw_g (lw_at lw_m10 148 rfl) rfl
theorem q2429 : (Jvm.Cond.static ({ cls := "EditsMeet", name := "one", desc := "(I)Ljava/lang/String;" } : Jvm.MethodName)) ∈ lw_all := lw_g (lw_at lw_m10 149 rfl) rfl
theorem q2430 : (Jvm.Cond.code ({ cls := "EditsMeet", name := "one", desc := "(I)Ljava/lang/String;" } : Jvm.MethodName) prog_1_method_45_code (1 : Nat) (Option.some (Jvm.ClassFile.FieldType.object "java/lang/String"))) ∈ lw_all := lw_g (lw_at lw_m10 150 rfl) rfl
theorem q2431 : (Jvm.Cond.classLink "EditsMeet" (277 : Nat) "java/lang/StringBuilder") ∈ lw_all := lw_g (lw_at lw_m10 151 rfl) rfl
theorem q2432 : (Jvm.Cond.methodLink "EditsMeet" (279 : Nat) ({ cls := "java/lang/StringBuilder", name := "<init>", desc := "()V" } : Jvm.MethodName)) ∈ lw_all := lw_g (lw_at lw_m10 152 rfl) rfl
theorem q2433 : (Jvm.Cond.stringRef "EditsMeet" (280 : Nat) "") ∈ lw_tbl := lw_at lw_m10 153 rfl
theorem q2434 : (Jvm.Cond.methodLink "EditsMeet" (282 : Nat) ({ cls := "java/lang/StringBuilder", name := "append", desc := "(Ljava/lang/String;)Ljava/lang/StringBuilder;" } : Jvm.MethodName)) ∈ lw_all := lw_g (lw_at lw_m10 154 rfl) rfl
theorem q2435 : (Jvm.Cond.methodLink "EditsMeet" (286 : Nat) ({ cls := "java/lang/StringBuilder", name := "append", desc := "(C)Ljava/lang/StringBuilder;" } : Jvm.MethodName)) ∈ lw_all := lw_g (lw_at lw_m10 155 rfl) rfl
theorem q2436 : (Jvm.Cond.methodLink "EditsMeet" (289 : Nat) ({ cls := "java/lang/StringBuilder", name := "toString", desc := "()Ljava/lang/String;" } : Jvm.MethodName)) ∈ lw_all := lw_g (lw_at lw_m10 156 rfl) rfl
theorem q2437 : (Jvm.Cond.methodLink "EditsMeet" (297 : Nat) ({ cls := "EditsMeet$Part", name := "insert", desc := "(Ljava/lang/CharSequence;Ljava/lang/CharSequence;)LEditsMeet$Part;" } : Jvm.MethodName)) ∈ lw_all := lw_g (lw_at lw_m10 157 rfl) rfl
theorem q2438 : (Jvm.Cond.methodLink "EditsMeet" (301 : Nat) ({ cls := "EditsMeet$Text", name := "edit", desc := "(ILEditsMeet$Part;)LEditsMeet$Edit;" } : Jvm.MethodName)) ∈ lw_all := lw_g (lw_at lw_m10 158 rfl) rfl
theorem q2447 : (Jvm.Cond.instanceMethod ({ cls := "EditsMeet", name := "cut", desc := "(III)I" } : Jvm.MethodName)) ∈ lw_all := lw_g (lw_at lw_m10 167 rfl) rfl
theorem q2448 : (Jvm.Cond.selects "EditsMeet" ({ cls := "EditsMeet", name := "cut", desc := "(III)I" } : Jvm.MethodName) ({ cls := "EditsMeet", name := "cut", desc := "(III)I" } : Jvm.MethodName)) ∈ lw_all := lw_g (lw_at lw_m10 168 rfl) rfl
theorem q2449 : (Jvm.Cond.code ({ cls := "EditsMeet", name := "cut", desc := "(III)I" } : Jvm.MethodName) prog_1_method_49_code (4 : Nat) (Option.some Jvm.ClassFile.FieldType.int)) ∈ lw_all := lw_g (lw_at lw_m10 169 rfl) rfl
theorem q2450 : (Jvm.Cond.privateMethod ({ cls := "EditsMeet", name := "lambda$cut$15", desc := "(III)I" } : Jvm.MethodName)) ∈ lw_tbl := lw_at lw_m10 170 rfl
theorem q2451 : (Jvm.Cond.instanceMethod ({ cls := "EditsMeet", name := "lambda$cut$15", desc := "(III)I" } : Jvm.MethodName)) ∈ lw_all := lw_g (lw_at lw_m10 171 rfl) rfl
theorem q2452 : (Jvm.Cond.code ({ cls := "EditsMeet", name := "lambda$cut$15", desc := "(III)I" } : Jvm.MethodName) prog_1_method_98_code (5 : Nat) (Option.some Jvm.ClassFile.FieldType.int)) ∈ lw_all := lw_g (lw_at lw_m10 172 rfl) rfl
theorem q2453 : (Jvm.Cond.methodLink "EditsMeet" (482 : Nat) ({ cls := "EditsMeet", name := "areThere", desc := "(LEditsMeet$Text;II)Z" } : Jvm.MethodName)) ∈ lw_all := lw_g (lw_at lw_m10 173 rfl) rfl
theorem q2454 : (Jvm.Cond.static ({ cls := "EditsMeet", name := "areThere", desc := "(LEditsMeet$Text;II)Z" } : Jvm.MethodName)) ∈ lw_all := lw_g (lw_at lw_m10 174 rfl) rfl
theorem q2455 : (Jvm.Cond.code ({ cls := "EditsMeet", name := "areThere", desc := "(LEditsMeet$Text;II)Z" } : Jvm.MethodName) prog_1_method_48_code (3 : Nat) (Option.some Jvm.ClassFile.FieldType.boolean)) ∈ lw_all := lw_g (lw_at lw_m10 175 rfl) rfl
theorem q2456 : (Jvm.Cond.methodLink "EditsMeet" (419 : Nat) ({ cls := "EditsMeet$Part", name := "delete", desc := "(I)LEditsMeet$Part;" } : Jvm.MethodName)) ∈ lw_all := lw_g (lw_at lw_m10 176 rfl) rfl
theorem q2458 : (Jvm.Cond.instanceMethod ({ cls := "EditsMeet", name := "mark", desc := "(IIIII)I" } : Jvm.MethodName)) ∈ lw_all := lw_g (lw_at lw_m10 178 rfl) rfl
theorem q2459 : (Jvm.Cond.selects "EditsMeet" ({ cls := "EditsMeet", name := "mark", desc := "(IIIII)I" } : Jvm.MethodName) ({ cls := "EditsMeet", name := "mark", desc := "(IIIII)I" } : Jvm.MethodName)) ∈ lw_all := lw_g (lw_at lw_m10 179 rfl) rfl
theorem q2460 : (Jvm.Cond.code ({ cls := "EditsMeet", name := "mark", desc := "(IIIII)I" } : Jvm.MethodName) prog_1_method_51_code (6 : Nat) (Option.some Jvm.ClassFile.FieldType.int)) ∈ lw_all := lw_g (lw_at lw_m10 180 rfl) rfl
theorem q2461 : (Jvm.Cond.privateMethod ({ cls := "EditsMeet", name := "lambda$mark$16", desc := "(IIIII)I" } : Jvm.MethodName)) ∈ lw_tbl := lw_at lw_m10 181 rfl
theorem q2462 : (Jvm.Cond.instanceMethod ({ cls := "EditsMeet", name := "lambda$mark$16", desc := "(IIIII)I" } : Jvm.MethodName)) ∈ lw_all := lw_g (lw_at lw_m10 182 rfl) rfl
theorem q2463 : (Jvm.Cond.code ({ cls := "EditsMeet", name := "lambda$mark$16", desc := "(IIIII)I" } : Jvm.MethodName) prog_1_method_97_code (7 : Nat) (Option.some Jvm.ClassFile.FieldType.int)) ∈ lw_all := lw_g (lw_at lw_m10 183 rfl) rfl
theorem q2464 : (Jvm.Cond.methodLink "EditsMeet" (423 : Nat) ({ cls := "EditsMeet", name := "marks", desc := "(LEditsMeet$Client;IIIZ)I" } : Jvm.MethodName)) ∈ lw_all := lw_g (lw_at lw_m10 184 rfl) rfl
theorem q2465 : (Jvm.Cond.static ({ cls := "EditsMeet", name := "marks", desc := "(LEditsMeet$Client;IIIZ)I" } : Jvm.MethodName)) ∈ lw_all := lw_g (lw_at lw_m10 185 rfl) rfl
theorem q2466 : (Jvm.Cond.code ({ cls := "EditsMeet", name := "marks", desc := "(LEditsMeet$Client;IIIZ)I" } : Jvm.MethodName) prog_1_method_50_code (7 : Nat) (Option.some Jvm.ClassFile.FieldType.int)) ∈ lw_all := lw_g (lw_at lw_m10 186 rfl) rfl
theorem q2467 : (Jvm.Cond.methodLink "EditsMeet" (309 : Nat) ({ cls := "EditsMeet$Text", name := "mark", desc := "(I)I" } : Jvm.MethodName)) ∈ lw_all := lw_g (lw_at lw_m10 187 rfl) rfl
theorem q2468 : (Jvm.Cond.methodLink "EditsMeet" (312 : Nat) ({ cls := "EditsMeet", name := "has", desc := "(II)Z" } : Jvm.MethodName)) ∈ lw_all := lw_g (lw_at lw_m10 188 rfl) rfl
theorem q2469 : (Jvm.Cond.static ({ cls := "EditsMeet", name := "has", desc := "(II)Z" } : Jvm.MethodName)) ∈ lw_all := lw_g (lw_at lw_m10 189 rfl) rfl
theorem q2470 : (Jvm.Cond.code ({ cls := "EditsMeet", name := "has", desc := "(II)Z" } : Jvm.MethodName) prog_1_method_2_code (2 : Nat) (Option.some Jvm.ClassFile.FieldType.boolean)) ∈ lw_all := lw_g (lw_at lw_m10 190 rfl) rfl
theorem q2471 : (Jvm.Cond.methodLink "EditsMeet" (316 : Nat) ({ cls := "EditsMeet$Part", name := "mark", desc := "(III)LEditsMeet$Part;" } : Jvm.MethodName)) ∈ lw_all := lw_g (lw_at lw_m10 191 rfl) rfl
theorem q2473 : (Jvm.Cond.instanceMethod ({ cls := "EditsMeet", name := "serve", desc := "(I)I" } : Jvm.MethodName)) ∈ lw_all := lw_g (lw_at lw_m10 193 rfl) rfl
theorem q2474 : (Jvm.Cond.selects "EditsMeet" ({ cls := "EditsMeet", name := "serve", desc := "(I)I" } : Jvm.MethodName) ({ cls := "EditsMeet", name := "serve", desc := "(I)I" } : Jvm.MethodName)) ∈ lw_all := lw_g (lw_at lw_m10 194 rfl) rfl
theorem q2475 : (Jvm.Cond.code ({ cls := "EditsMeet", name := "serve", desc := "(I)I" } : Jvm.MethodName) prog_1_method_53_code (2 : Nat) (Option.some Jvm.ClassFile.FieldType.int)) ∈ lw_all := lw_g (lw_at lw_m10 195 rfl) rfl
theorem q2476 : (Jvm.Cond.privateMethod ({ cls := "EditsMeet", name := "lambda$serve$17", desc := "(I)I" } : Jvm.MethodName)) ∈ lw_tbl := lw_at lw_m10 196 rfl
theorem q2477 : (Jvm.Cond.instanceMethod ({ cls := "EditsMeet", name := "lambda$serve$17", desc := "(I)I" } : Jvm.MethodName)) ∈ lw_all := lw_g (lw_at lw_m10 197 rfl) rfl
theorem q2478 : (Jvm.Cond.code ({ cls := "EditsMeet", name := "lambda$serve$17", desc := "(I)I" } : Jvm.MethodName) prog_1_method_96_code (2 : Nat) (Option.some Jvm.ClassFile.FieldType.int)) ∈ lw_all := lw_g (lw_at lw_m10 198 rfl) rfl
theorem q2479 : (Jvm.Cond.methodLink "EditsMeet" (432 : Nat) ({ cls := "EditsMeet", name := "serves", desc := "(I)I" } : Jvm.MethodName)) ∈ lw_all := lw_g (lw_at lw_m10 199 rfl) rfl
theorem q2480 : (Jvm.Cond.privateMethod ({ cls := "EditsMeet", name := "serves", desc := "(I)I" } : Jvm.MethodName)) ∈ lw_tbl := lw_at lw_m10 200 rfl
theorem q2481 : (Jvm.Cond.instanceMethod ({ cls := "EditsMeet", name := "serves", desc := "(I)I" } : Jvm.MethodName)) ∈ lw_all := lw_g (lw_at lw_m10 201 rfl) rfl
theorem q2482 : (Jvm.Cond.code ({ cls := "EditsMeet", name := "serves", desc := "(I)I" } : Jvm.MethodName) prog_1_method_52_code (2 : Nat) (Option.some Jvm.ClassFile.FieldType.int)) ∈ lw_all := lw_g (lw_at lw_m10 202 rfl) rfl
theorem q2483 : (Jvm.Cond.methodLink "EditsMeet" (325 : Nat) ({ cls := "EditsMeet$Client", name := "isDue", desc := "()Z" } : Jvm.MethodName)) ∈ lw_all := lw_g (lw_at lw_m10 203 rfl) rfl
theorem q2487 : (Jvm.Cond.methodLink "EditsMeet" (329 : Nat) ({ cls := "EditsMeet$World", name := "isFull", desc := "()Z" } : Jvm.MethodName)) ∈ lw_all := lw_g (lw_at lw_m10 207 rfl) rfl
theorem q2492 : (Jvm.Cond.methodLink "EditsMeet" (332 : Nat) ({ cls := "EditsMeet$World", name := "serves", desc := "(I)V" } : Jvm.MethodName)) ∈ lw_all := lw_g (lw_at lw_m10 212 rfl) rfl
theorem q2521 : (Jvm.Cond.fieldLink "EditsMeet" (472 : Nat) "EditsMeet$Revision" "edit" "LEditsMeet$Edit;") ∈ lw_all := lw_g (lw_at lw_m11 1 rfl) rfl
theorem q2524 : (Jvm.Cond.fieldLink "EditsMeet" (475 : Nat) "EditsMeet$Revision" "by" "I") ∈ lw_all := lw_g (lw_at lw_m11 4 rfl) rfl
theorem q2531 : (Jvm.Cond.methodLink "EditsMeet" (339 : Nat) ({ cls := "java/util/ArrayList", name := "size", desc := "()I" } : Jvm.MethodName)) ∈ lw_all := lw_g (lw_at lw_m11 11 rfl) rfl
theorem q2533 : (Jvm.Cond.instanceMethod ({ cls := "EditsMeet", name := "hear", desc := "(I)I" } : Jvm.MethodName)) ∈ lw_all := lw_g (lw_at lw_m11 13 rfl) rfl
theorem q2534 : (Jvm.Cond.selects "EditsMeet" ({ cls := "EditsMeet", name := "hear", desc := "(I)I" } : Jvm.MethodName) ({ cls := "EditsMeet", name := "hear", desc := "(I)I" } : Jvm.MethodName)) ∈ lw_all := lw_g (lw_at lw_m11 14 rfl) rfl
theorem q2535 : (Jvm.Cond.code ({ cls := "EditsMeet", name := "hear", desc := "(I)I" } : Jvm.MethodName) prog_1_method_55_code (2 : Nat) (Option.some Jvm.ClassFile.FieldType.int)) ∈ lw_all := lw_g (lw_at lw_m11 15 rfl) rfl
theorem q2536 : (Jvm.Cond.privateMethod ({ cls := "EditsMeet", name := "lambda$hear$18", desc := "(I)I" } : Jvm.MethodName)) ∈ lw_tbl := lw_at lw_m11 16 rfl
theorem q2537 : (Jvm.Cond.instanceMethod ({ cls := "EditsMeet", name := "lambda$hear$18", desc := "(I)I" } : Jvm.MethodName)) ∈ lw_all := lw_g (lw_at lw_m11 17 rfl) rfl
theorem q2538 : (Jvm.Cond.code ({ cls := "EditsMeet", name := "lambda$hear$18", desc := "(I)I" } : Jvm.MethodName) prog_1_method_95_code (2 : Nat) (Option.some Jvm.ClassFile.FieldType.int)) ∈ lw_all := lw_g (lw_at lw_m11 18 rfl) rfl
theorem q2539 : (Jvm.Cond.methodLink "EditsMeet" (434 : Nat) ({ cls := "EditsMeet", name := "hears", desc := "(I)I" } : Jvm.MethodName)) ∈ lw_all := lw_g (lw_at lw_m11 19 rfl) rfl
theorem q2540 : (Jvm.Cond.privateMethod ({ cls := "EditsMeet", name := "hears", desc := "(I)I" } : Jvm.MethodName)) ∈ lw_tbl := lw_at lw_m11 20 rfl
theorem q2541 : (Jvm.Cond.instanceMethod ({ cls := "EditsMeet", name := "hears", desc := "(I)I" } : Jvm.MethodName)) ∈ lw_all := lw_g (lw_at lw_m11 21 rfl) rfl
theorem q2542 : (Jvm.Cond.code ({ cls := "EditsMeet", name := "hears", desc := "(I)I" } : Jvm.MethodName) prog_1_method_54_code (3 : Nat) (Option.some Jvm.ClassFile.FieldType.int)) ∈ lw_all := lw_g (lw_at lw_m11 22 rfl) rfl
theorem q2543 : (Jvm.Cond.methodLink "EditsMeet" (346 : Nat) ({ cls := "EditsMeet$World", name := "mayHear", desc := "(I)Z" } : Jvm.MethodName)) ∈ lw_all := lw_g (lw_at lw_m11 23 rfl) rfl
theorem q2547 : (Jvm.Cond.methodLink "EditsMeet" (349 : Nat) ({ cls := "EditsMeet$World", name := "hears", desc := "(I)V" } : Jvm.MethodName)) ∈ lw_all := lw_g (lw_at lw_m11 27 rfl) rfl
theorem q2617 : (Jvm.Cond.instanceMethod ({ cls := "EditsMeet", name := "meet", desc := "()I" } : Jvm.MethodName)) ∈ lw_all := lw_g (lw_at lw_m11 97 rfl) rfl
theorem q2618 : (Jvm.Cond.selects "EditsMeet" ({ cls := "EditsMeet", name := "meet", desc := "()I" } : Jvm.MethodName) ({ cls := "EditsMeet", name := "meet", desc := "()I" } : Jvm.MethodName)) ∈ lw_all := lw_g (lw_at lw_m11 98 rfl) rfl
theorem q2619 : (Jvm.Cond.code ({ cls := "EditsMeet", name := "meet", desc := "()I" } : Jvm.MethodName) prog_1_method_57_code (1 : Nat) (Option.some Jvm.ClassFile.FieldType.int)) ∈ lw_all := lw_g (lw_at lw_m11 99 rfl) rfl
theorem q2620 : (Jvm.Cond.privateMethod ({ cls := "EditsMeet", name := "lambda$meet$19", desc := "()I" } : Jvm.MethodName)) ∈ lw_tbl := lw_at lw_m11 100 rfl
theorem q2621 : (Jvm.Cond.instanceMethod ({ cls := "EditsMeet", name := "lambda$meet$19", desc := "()I" } : Jvm.MethodName)) ∈ lw_all := lw_g (lw_at lw_m11 101 rfl) rfl
theorem q2622 : (Jvm.Cond.code ({ cls := "EditsMeet", name := "lambda$meet$19", desc := "()I" } : Jvm.MethodName) prog_1_method_94_code (2 : Nat) (Option.some Jvm.ClassFile.FieldType.int)) ∈ lw_all := lw_g (lw_at lw_m11 102 rfl) rfl
theorem q2623 : (Jvm.Cond.methodLink "EditsMeet" (479 : Nat) ({ cls := "EditsMeet", name := "met", desc := "()Z" } : Jvm.MethodName)) ∈ lw_all := lw_g (lw_at lw_m11 103 rfl) rfl
theorem q2624 : (Jvm.Cond.privateMethod ({ cls := "EditsMeet", name := "met", desc := "()Z" } : Jvm.MethodName)) ∈ lw_tbl := lw_at lw_m11 104 rfl
theorem q2625 : (Jvm.Cond.instanceMethod ({ cls := "EditsMeet", name := "met", desc := "()Z" } : Jvm.MethodName)) ∈ lw_all := lw_g (lw_at lw_m11 105 rfl) rfl
theorem q2626 : (Jvm.Cond.code ({ cls := "EditsMeet", name := "met", desc := "()Z" } : Jvm.MethodName) prog_1_method_56_code (2 : Nat) (Option.some Jvm.ClassFile.FieldType.boolean)) ∈ lw_all := lw_g (lw_at lw_m11 106 rfl) rfl
theorem q2628 : (Jvm.Cond.instanceMethod ({ cls := "EditsMeet", name := "undo", desc := "(I)I" } : Jvm.MethodName)) ∈ lw_all := lw_g (lw_at lw_m11 108 rfl) rfl
theorem q2629 : (Jvm.Cond.selects "EditsMeet" ({ cls := "EditsMeet", name := "undo", desc := "(I)I" } : Jvm.MethodName) ({ cls := "EditsMeet", name := "undo", desc := "(I)I" } : Jvm.MethodName)) ∈ lw_all := lw_g (lw_at lw_m11 109 rfl) rfl
theorem q2630 : (Jvm.Cond.code ({ cls := "EditsMeet", name := "undo", desc := "(I)I" } : Jvm.MethodName) prog_1_method_60_code (2 : Nat) (Option.some Jvm.ClassFile.FieldType.int)) ∈ lw_all := lw_g (lw_at lw_m11 110 rfl) rfl
theorem q2631 : (Jvm.Cond.privateMethod ({ cls := "EditsMeet", name := "lambda$undo$20", desc := "(I)I" } : Jvm.MethodName)) ∈ lw_tbl := lw_at lw_m11 111 rfl
theorem q2632 : (Jvm.Cond.instanceMethod ({ cls := "EditsMeet", name := "lambda$undo$20", desc := "(I)I" } : Jvm.MethodName)) ∈ lw_all := lw_g (lw_at lw_m11 112 rfl) rfl
theorem q2633 : (Jvm.Cond.code ({ cls := "EditsMeet", name := "lambda$undo$20", desc := "(I)I" } : Jvm.MethodName) prog_1_method_93_code (2 : Nat) (Option.some Jvm.ClassFile.FieldType.int)) ∈ lw_all := lw_g (lw_at lw_m11 113 rfl) rfl
theorem q2634 : (Jvm.Cond.methodLink "EditsMeet" (429 : Nat) ({ cls := "EditsMeet", name := "undoes", desc := "(I)I" } : Jvm.MethodName)) ∈ lw_all := lw_g (lw_at lw_m11 114 rfl) rfl
theorem q2635 : (Jvm.Cond.privateMethod ({ cls := "EditsMeet", name := "undoes", desc := "(I)I" } : Jvm.MethodName)) ∈ lw_tbl := lw_at lw_m11 115 rfl
theorem q2636 : (Jvm.Cond.instanceMethod ({ cls := "EditsMeet", name := "undoes", desc := "(I)I" } : Jvm.MethodName)) ∈ lw_all := lw_g (lw_at lw_m11 116 rfl) rfl
theorem q2637 : (Jvm.Cond.code ({ cls := "EditsMeet", name := "undoes", desc := "(I)I" } : Jvm.MethodName) prog_1_method_59_code (3 : Nat) (Option.some Jvm.ClassFile.FieldType.int)) ∈ lw_all := lw_g (lw_at lw_m11 117 rfl) rfl
theorem q2638 : (Jvm.Cond.methodLink "EditsMeet" (365 : Nat) ({ cls := "EditsMeet", name := "turns", desc := "(LEditsMeet$Client;LEditsMeet$Pile;LEditsMeet$Pile;)I" } : Jvm.MethodName)) ∈ lw_all := lw_g (lw_at lw_m11 118 rfl) rfl
theorem q2639 : (Jvm.Cond.static ({ cls := "EditsMeet", name := "turns", desc := "(LEditsMeet$Client;LEditsMeet$Pile;LEditsMeet$Pile;)I" } : Jvm.MethodName)) ∈ lw_all := lw_g (lw_at lw_m11 119 rfl) rfl
theorem q2640 : (Jvm.Cond.code ({ cls := "EditsMeet", name := "turns", desc := "(LEditsMeet$Client;LEditsMeet$Pile;LEditsMeet$Pile;)I" } : Jvm.MethodName) prog_1_method_58_code (3 : Nat) (Option.some Jvm.ClassFile.FieldType.int)) ∈ lw_all := lw_g (lw_at lw_m11 120 rfl) rfl
theorem q2641 : (Jvm.Cond.methodLink "EditsMeet" (359 : Nat) ({ cls := "EditsMeet$Pile", name := "size", desc := "()I" } : Jvm.MethodName)) ∈ lw_all := lw_g (lw_at lw_m11 121 rfl) rfl
theorem q2645 : (Jvm.Cond.methodLink "EditsMeet" (360 : Nat) ({ cls := "EditsMeet$Pile", name := "latest", desc := "()LEditsMeet$Edit;" } : Jvm.MethodName)) ∈ lw_all := lw_g (lw_at lw_m11 125 rfl) rfl
theorem q2660 : (Jvm.Cond.methodLink "EditsMeet" (363 : Nat) ({ cls := "EditsMeet$Pile", name := "takes", desc := "()LEditsMeet$Edit;" } : Jvm.MethodName)) ∈ lw_all := lw_g (lw_at lw_m11 140 rfl) rfl
theorem q2675 : (Jvm.Cond.instanceMethod ({ cls := "EditsMeet", name := "redo", desc := "(I)I" } : Jvm.MethodName)) ∈ lw_all := lw_g (lw_at lw_m11 155 rfl) rfl
theorem q2676 : (Jvm.Cond.selects "EditsMeet" ({ cls := "EditsMeet", name := "redo", desc := "(I)I" } : Jvm.MethodName) ({ cls := "EditsMeet", name := "redo", desc := "(I)I" } : Jvm.MethodName)) ∈ lw_all := lw_g (lw_at lw_m11 156 rfl) rfl
theorem q2677 : (Jvm.Cond.code ({ cls := "EditsMeet", name := "redo", desc := "(I)I" } : Jvm.MethodName) prog_1_method_61_code (2 : Nat) (Option.some Jvm.ClassFile.FieldType.int)) ∈ lw_all := lw_g (lw_at lw_m11 157 rfl) rfl
theorem q2678 : (Jvm.Cond.privateMethod ({ cls := "EditsMeet", name := "lambda$redo$21", desc := "(I)I" } : Jvm.MethodName)) ∈ lw_tbl := lw_at lw_m11 158 rfl
theorem q2679 : (Jvm.Cond.instanceMethod ({ cls := "EditsMeet", name := "lambda$redo$21", desc := "(I)I" } : Jvm.MethodName)) ∈ lw_all := lw_g (lw_at lw_m11 159 rfl) rfl
theorem q2680 : (Jvm.Cond.code ({ cls := "EditsMeet", name := "lambda$redo$21", desc := "(I)I" } : Jvm.MethodName) prog_1_method_92_code (3 : Nat) (Option.some Jvm.ClassFile.FieldType.int)) ∈ lw_all := lw_g (lw_at lw_m11 160 rfl) rfl
theorem q2682 : (Jvm.Cond.instanceMethod ({ cls := "EditsMeet", name := "point", desc := "(III)I" } : Jvm.MethodName)) ∈ lw_all := lw_g (lw_at lw_m11 162 rfl) rfl
theorem q2683 : (Jvm.Cond.selects "EditsMeet" ({ cls := "EditsMeet", name := "point", desc := "(III)I" } : Jvm.MethodName) ({ cls := "EditsMeet", name := "point", desc := "(III)I" } : Jvm.MethodName)) ∈ lw_all := lw_g (lw_at lw_m11 163 rfl) rfl
theorem q2684 : (Jvm.Cond.code ({ cls := "EditsMeet", name := "point", desc := "(III)I" } : Jvm.MethodName) prog_1_method_62_code (4 : Nat) (Option.some Jvm.ClassFile.FieldType.int)) ∈ lw_all := lw_g (lw_at lw_m11 164 rfl) rfl
theorem q2685 : (Jvm.Cond.privateMethod ({ cls := "EditsMeet", name := "lambda$point$22", desc := "(III)I" } : Jvm.MethodName)) ∈ lw_tbl := lw_at lw_m11 165 rfl
theorem q2686 : (Jvm.Cond.instanceMethod ({ cls := "EditsMeet", name := "lambda$point$22", desc := "(III)I" } : Jvm.MethodName)) ∈ lw_all := lw_g (lw_at lw_m11 166 rfl) rfl
theorem q2687 : (Jvm.Cond.code ({ cls := "EditsMeet", name := "lambda$point$22", desc := "(III)I" } : Jvm.MethodName) prog_1_method_91_code (5 : Nat) (Option.some Jvm.ClassFile.FieldType.int)) ∈ lw_all := lw_g (lw_at lw_m11 167 rfl) rfl
theorem q2689 : (Jvm.Cond.instanceMethod ({ cls := "EditsMeet", name := "cursor", desc := "(II)I" } : Jvm.MethodName)) ∈ lw_all := lw_g (lw_at lw_m11 169 rfl) rfl
theorem q2690 : (Jvm.Cond.selects "EditsMeet" ({ cls := "EditsMeet", name := "cursor", desc := "(II)I" } : Jvm.MethodName) ({ cls := "EditsMeet", name := "cursor", desc := "(II)I" } : Jvm.MethodName)) ∈ lw_all := lw_g (lw_at lw_m11 170 rfl) rfl
theorem q2691 : (Jvm.Cond.code ({ cls := "EditsMeet", name := "cursor", desc := "(II)I" } : Jvm.MethodName) prog_1_method_63_code (3 : Nat) (Option.some Jvm.ClassFile.FieldType.int)) ∈ lw_all := lw_g (lw_at lw_m11 171 rfl) rfl
theorem q2693 : (Jvm.Cond.instanceMethod ({ cls := "EditsMeet", name := "clientOf", desc := "(II)I" } : Jvm.MethodName)) ∈ lw_all := lw_g (lw_at lw_m11 173 rfl) rfl
theorem q2694 : (Jvm.Cond.selects "EditsMeet" ({ cls := "EditsMeet", name := "clientOf", desc := "(II)I" } : Jvm.MethodName) ({ cls := "EditsMeet", name := "clientOf", desc := "(II)I" } : Jvm.MethodName)) ∈ lw_all := lw_g (lw_at lw_m11 174 rfl) rfl
theorem q2695 : (Jvm.Cond.code ({ cls := "EditsMeet", name := "clientOf", desc := "(II)I" } : Jvm.MethodName) prog_1_method_65_code (4 : Nat) (Option.some Jvm.ClassFile.FieldType.int)) ∈ lw_all := lw_g (lw_at lw_m11 175 rfl) rfl
theorem q2696 : (Jvm.Cond.methodLink "EditsMeet" (374 : Nat) ({ cls := "EditsMeet$Client", name := "sent", desc := "()LEditsMeet$Edit;" } : Jvm.MethodName)) ∈ lw_all := lw_g (lw_at lw_m11 176 rfl) rfl
theorem q2700 : (Jvm.Cond.methodLink "EditsMeet" (377 : Nat) ({ cls := "EditsMeet", name := "partsOf", desc := "(LEditsMeet$Edit;)I" } : Jvm.MethodName)) ∈ lw_all := lw_g (lw_at lw_m11 180 rfl) rfl
theorem q2701 : (Jvm.Cond.static ({ cls := "EditsMeet", name := "partsOf", desc := "(LEditsMeet$Edit;)I" } : Jvm.MethodName)) ∈ lw_all := lw_g (lw_at lw_m11 181 rfl) rfl
theorem q2702 : (Jvm.Cond.code ({ cls := "EditsMeet", name := "partsOf", desc := "(LEditsMeet$Edit;)I" } : Jvm.MethodName) prog_1_method_64_code (1 : Nat) (Option.some Jvm.ClassFile.FieldType.int)) ∈ lw_all := lw_g (lw_at lw_m11 182 rfl) rfl
theorem q2703 : (Jvm.Cond.methodLink "EditsMeet" (388 : Nat) ({ cls := "EditsMeet$Client", name := "waits", desc := "()LEditsMeet$Edit;" } : Jvm.MethodName)) ∈ lw_all := lw_g (lw_at lw_m11 183 rfl) rfl
theorem q2708 : (Jvm.Cond.instanceMethod ({ cls := "EditsMeet", name := "takes", desc := "(III)I" } : Jvm.MethodName)) ∈ lw_all := lw_g (lw_at lw_m11 188 rfl) rfl
theorem q2709 : (Jvm.Cond.selects "EditsMeet" ({ cls := "EditsMeet", name := "takes", desc := "(III)I" } : Jvm.MethodName) ({ cls := "EditsMeet", name := "takes", desc := "(III)I" } : Jvm.MethodName)) ∈ lw_all := lw_g (lw_at lw_m11 189 rfl) rfl
theorem q2710 : (Jvm.Cond.code ({ cls := "EditsMeet", name := "takes", desc := "(III)I" } : Jvm.MethodName) prog_1_method_66_code (4 : Nat) (Option.some Jvm.ClassFile.FieldType.int)) ∈ lw_all := lw_g (lw_at lw_m11 190 rfl) rfl
theorem q2711 : (Jvm.Cond.privateMethod ({ cls := "EditsMeet", name := "lambda$takes$23", desc := "(III)I" } : Jvm.MethodName)) ∈ lw_tbl := lw_at lw_m11 191 rfl
theorem q2712 : (Jvm.Cond.instanceMethod ({ cls := "EditsMeet", name := "lambda$takes$23", desc := "(III)I" } : Jvm.MethodName)) ∈ lw_all := lw_g (lw_at lw_m11 192 rfl) rfl
theorem q2713 : (Jvm.Cond.code ({ cls := "EditsMeet", name := "lambda$takes$23", desc := "(III)I" } : Jvm.MethodName) prog_1_method_90_code (6 : Nat) (Option.some Jvm.ClassFile.FieldType.int)) ∈ lw_all := lw_g (lw_at lw_m11 193 rfl) rfl
theorem q2714 : (Jvm.Cond.methodLink "EditsMeet" (476 : Nat) ({ cls := "EditsMeet$Edit", name := "copied", desc := "()LEditsMeet$Edit;" } : Jvm.MethodName)) ∈ lw_all := lw_g (lw_at lw_m11 194 rfl) rfl
theorem q2716 : (Jvm.Cond.instanceMethod ({ cls := "EditsMeet", name := "revision", desc := "(II)I" } : Jvm.MethodName)) ∈ lw_all := lw_g (lw_at lw_m11 196 rfl) rfl
theorem q2717 : (Jvm.Cond.selects "EditsMeet" ({ cls := "EditsMeet", name := "revision", desc := "(II)I" } : Jvm.MethodName) ({ cls := "EditsMeet", name := "revision", desc := "(II)I" } : Jvm.MethodName)) ∈ lw_all := lw_g (lw_at lw_m11 197 rfl) rfl
theorem q2718 : (Jvm.Cond.code ({ cls := "EditsMeet", name := "revision", desc := "(II)I" } : Jvm.MethodName) prog_1_method_67_code (3 : Nat) (Option.some Jvm.ClassFile.FieldType.int)) ∈ lw_all := lw_g (lw_at lw_m11 198 rfl) rfl
theorem q2719 : (Jvm.Cond.privateMethod ({ cls := "EditsMeet", name := "lambda$revision$24", desc := "(II)I" } : Jvm.MethodName)) ∈ lw_tbl := lw_at lw_m11 199 rfl
theorem q2720 : (Jvm.Cond.instanceMethod ({ cls := "EditsMeet", name := "lambda$revision$24", desc := "(II)I" } : Jvm.MethodName)) ∈ lw_all := lw_g (lw_at lw_m11 200 rfl) rfl
theorem q2721 : (Jvm.Cond.code ({ cls := "EditsMeet", name := "lambda$revision$24", desc := "(II)I" } : Jvm.MethodName) prog_1_method_89_code (3 : Nat) (Option.some Jvm.ClassFile.FieldType.int)) ∈ lw_all := lw_g (lw_at lw_m11 201 rfl) rfl
theorem q2722 : (Jvm.Cond.methodLink "EditsMeet" (467 : Nat) ({ cls := "java/util/ArrayList", name := "get", desc := "(I)Ljava/lang/Object;" } : Jvm.MethodName)) ∈ lw_all := lw_g (lw_at lw_m11 202 rfl) rfl
theorem q2723 : (Jvm.Cond.classLink "EditsMeet" (470 : Nat) "EditsMeet$Revision") ∈ lw_all := lw_g (lw_at lw_m11 203 rfl) rfl
theorem q2725 : (Jvm.Cond.instanceMethod ({ cls := "EditsMeet", name := "length", desc := "(I)I" } : Jvm.MethodName)) ∈ lw_all := lw_g (lw_at lw_m11 205 rfl) rfl
theorem q2726 : (Jvm.Cond.selects "EditsMeet" ({ cls := "EditsMeet", name := "length", desc := "(I)I" } : Jvm.MethodName) ({ cls := "EditsMeet", name := "length", desc := "(I)I" } : Jvm.MethodName)) ∈ lw_all := lw_g (lw_at lw_m11 206 rfl) rfl
theorem q2727 : (Jvm.Cond.code ({ cls := "EditsMeet", name := "length", desc := "(I)I" } : Jvm.MethodName) prog_1_method_68_code (2 : Nat) (Option.some Jvm.ClassFile.FieldType.int)) ∈ lw_all := lw_g (lw_at lw_m11 207 rfl) rfl
theorem q2728 : (Jvm.Cond.methodLink "EditsMeet" (393 : Nat) ({ cls := "EditsMeet", name := "isText", desc := "(I)Z" } : Jvm.MethodName)) ∈ lw_all := lw_g (lw_at lw_m11 208 rfl) rfl
theorem q2729 : (Jvm.Cond.static ({ cls := "EditsMeet", name := "isText", desc := "(I)Z" } : Jvm.MethodName)) ∈ lw_all := lw_g (lw_at lw_m11 209 rfl) rfl
theorem q2730 : (Jvm.Cond.code ({ cls := "EditsMeet", name := "isText", desc := "(I)Z" } : Jvm.MethodName) prog_1_method_8_code (1 : Nat) (Option.some Jvm.ClassFile.FieldType.boolean)) ∈ lw_all := lw_g (lw_at lw_m11 210 rfl) rfl
theorem q2732 : (Jvm.Cond.instanceMethod ({ cls := "EditsMeet", name := "text", desc := "(III)I" } : Jvm.MethodName)) ∈ lw_all := lw_g (lw_at lw_m11 212 rfl) rfl
theorem q2733 : (Jvm.Cond.selects "EditsMeet" ({ cls := "EditsMeet", name := "text", desc := "(III)I" } : Jvm.MethodName) ({ cls := "EditsMeet", name := "text", desc := "(III)I" } : Jvm.MethodName)) ∈ lw_all := lw_g (lw_at lw_m11 213 rfl) rfl
theorem q2734 : (Jvm.Cond.code ({ cls := "EditsMeet", name := "text", desc := "(III)I" } : Jvm.MethodName) prog_1_method_69_code (4 : Nat) (Option.some Jvm.ClassFile.FieldType.int)) ∈ lw_all := lw_g (lw_at lw_m11 214 rfl) rfl
theorem q2735 : (Jvm.Cond.methodLink "EditsMeet" (399 : Nat) ({ cls := "EditsMeet$Text", name := "isPlace", desc := "(I)Z" } : Jvm.MethodName)) ∈ lw_all := lw_g (lw_at lw_m11 215 rfl) rfl
theorem q2740 : (Jvm.Cond.methodLink "EditsMeet" (402 : Nat) ({ cls := "EditsMeet$Text", name := "letter", desc := "(I)I" } : Jvm.MethodName)) ∈ lw_all := lw_g (lw_at lw_m11 220 rfl) rfl
theorem q2745 : (Jvm.Cond.instanceMethod ({ cls := "EditsMeet", name := "apart", desc := "(II)I" } : Jvm.MethodName)) ∈ lw_all := lw_g (lw_at lw_m11 225 rfl) rfl
theorem q2746 : (Jvm.Cond.selects "EditsMeet" ({ cls := "EditsMeet", name := "apart", desc := "(II)I" } : Jvm.MethodName) ({ cls := "EditsMeet", name := "apart", desc := "(II)I" } : Jvm.MethodName)) ∈ lw_all := lw_g (lw_at lw_m11 226 rfl) rfl
theorem q2747 : (Jvm.Cond.code ({ cls := "EditsMeet", name := "apart", desc := "(II)I" } : Jvm.MethodName) prog_1_method_70_code (3 : Nat) (Option.some Jvm.ClassFile.FieldType.int)) ∈ lw_all := lw_g (lw_at lw_m11 227 rfl) rfl
theorem q2748 : (Jvm.Cond.methodLink "EditsMeet" (403 : Nat) ({ cls := "EditsMeet$Text", name := "differs", desc := "(LEditsMeet$Text;)I" } : Jvm.MethodName)) ∈ lw_all := lw_g (lw_at lw_m11 228 rfl) rfl
theorem q2755 : (Jvm.Cond.instanceMethod ({ cls := "EditsMeet", name := "marked", desc := "(II)I" } : Jvm.MethodName)) ∈ lw_all := lw_g (lw_at lw_m11 235 rfl) rfl
theorem q2756 : (Jvm.Cond.selects "EditsMeet" ({ cls := "EditsMeet", name := "marked", desc := "(II)I" } : Jvm.MethodName) ({ cls := "EditsMeet", name := "marked", desc := "(II)I" } : Jvm.MethodName)) ∈ lw_all := lw_g (lw_at lw_m11 236 rfl) rfl
theorem q2757 : (Jvm.Cond.code ({ cls := "EditsMeet", name := "marked", desc := "(II)I" } : Jvm.MethodName) prog_1_method_71_code (7 : Nat) (Option.some Jvm.ClassFile.FieldType.int)) ∈ lw_all := lw_g (lw_at lw_m11 237 rfl) rfl
theorem q2759 : (Jvm.Cond.instanceMethod ({ cls := "EditsMeet", name := "judge", desc := "(III)I" } : Jvm.MethodName)) ∈ lw_all := lw_g (lw_at lw_m11 239 rfl) rfl
theorem q2760 : (Jvm.Cond.selects "EditsMeet" ({ cls := "EditsMeet", name := "judge", desc := "(III)I" } : Jvm.MethodName) ({ cls := "EditsMeet", name := "judge", desc := "(III)I" } : Jvm.MethodName)) ∈ lw_all := lw_g (lw_at lw_m12 0 rfl) rfl
theorem q2761 : (Jvm.Cond.code ({ cls := "EditsMeet", name := "judge", desc := "(III)I" } : Jvm.MethodName) prog_1_method_74_code (4 : Nat) (Option.some Jvm.ClassFile.FieldType.int)) ∈ lw_all := lw_g (lw_at lw_m12 1 rfl) rfl
theorem q2762 : (Jvm.Cond.privateMethod ({ cls := "EditsMeet", name := "lambda$judge$25", desc := "(III)I" } : Jvm.MethodName)) ∈ lw_tbl := lw_at lw_m12 2 rfl
theorem q2763 : (Jvm.Cond.instanceMethod ({ cls := "EditsMeet", name := "lambda$judge$25", desc := "(III)I" } : Jvm.MethodName)) ∈ lw_all := lw_g (lw_at lw_m12 3 rfl) rfl
theorem q2764 : (Jvm.Cond.code ({ cls := "EditsMeet", name := "lambda$judge$25", desc := "(III)I" } : Jvm.MethodName) prog_1_method_88_code (7 : Nat) (Option.some Jvm.ClassFile.FieldType.int)) ∈ lw_all := lw_g (lw_at lw_m12 4 rfl) rfl
theorem q2765 : (Jvm.Cond.methodLink "EditsMeet" (463 : Nat) ({ cls := "EditsMeet", name := "toldIn", desc := "(ZIIII)[J" } : Jvm.MethodName)) ∈ lw_all := lw_g (lw_at lw_m12 5 rfl) rfl
theorem q2766 : (Jvm.Cond.privateMethod ({ cls := "EditsMeet", name := "toldIn", desc := "(ZIIII)[J" } : Jvm.MethodName)) ∈ lw_tbl := lw_at lw_m12 6 rfl
theorem q2767 : (Jvm.Cond.instanceMethod ({ cls := "EditsMeet", name := "toldIn", desc := "(ZIIII)[J" } : Jvm.MethodName)) ∈ lw_all := lw_g (lw_at lw_m12 7 rfl) rfl
theorem q2768 : (Jvm.Cond.code ({ cls := "EditsMeet", name := "toldIn", desc := "(ZIIII)[J" } : Jvm.MethodName) prog_1_method_73_code (6 : Nat) (Option.some (Jvm.ClassFile.FieldType.array Jvm.ClassFile.FieldType.long))) ∈ lw_all := lw_g (lw_at lw_m12 8 rfl) rfl
theorem q2769 : (Jvm.Cond.methodLink "EditsMeet" (407 : Nat) ({ cls := "EditsMeet", name := "elementsIn", desc := "(Ljava/lang/Object;I)[J" } : Jvm.MethodName)) ∈ lw_all := lw_g (lw_at lw_m12 9 rfl) rfl
theorem q2770 : (Jvm.Cond.static ({ cls := "EditsMeet", name := "elementsIn", desc := "(Ljava/lang/Object;I)[J" } : Jvm.MethodName)) ∈ lw_all := lw_g (lw_at lw_m12 10 rfl) rfl
theorem q2771 : (Jvm.Cond.codeWith ({ cls := "EditsMeet", name := "elementsIn", desc := "(Ljava/lang/Object;I)[J" } : Jvm.MethodName) prog_1_method_72_code (4 : Nat) (Option.some (Jvm.ClassFile.FieldType.array Jvm.ClassFile.FieldType.long)) [((4 : Nat), (25 : Nat), (28 : Nat), (118 : Nat))]) ∈ lw_all := lw_g (lw_at lw_m12 11 rfl) rfl
theorem q2773 : (Jvm.Cond.instanceMethod ({ cls := "EditsMeet", name := "days", desc := "(I)I" } : Jvm.MethodName)) ∈ lw_all := lw_g (lw_at lw_m12 13 rfl) rfl
theorem q2774 : (Jvm.Cond.selects "EditsMeet" ({ cls := "EditsMeet", name := "days", desc := "(I)I" } : Jvm.MethodName) ({ cls := "EditsMeet", name := "days", desc := "(I)I" } : Jvm.MethodName)) ∈ lw_all := lw_g (lw_at lw_m12 14 rfl) rfl
theorem q2775 : (Jvm.Cond.code ({ cls := "EditsMeet", name := "days", desc := "(I)I" } : Jvm.MethodName) prog_1_method_77_code (4 : Nat) (Option.some Jvm.ClassFile.FieldType.int)) ∈ lw_all := lw_g (lw_at lw_m12 15 rfl) rfl
theorem q2776 : (Jvm.Cond.methodLink "EditsMeet" (436 : Nat) ({ cls := "EditsMeet", name := "day", desc := "()Z" } : Jvm.MethodName)) ∈ lw_all := lw_g (lw_at lw_m12 16 rfl) rfl
theorem q2777 : (Jvm.Cond.privateMethod ({ cls := "EditsMeet", name := "day", desc := "()Z" } : Jvm.MethodName)) ∈ lw_tbl := lw_at lw_m12 17 rfl
theorem q2778 : (Jvm.Cond.instanceMethod ({ cls := "EditsMeet", name := "day", desc := "()Z" } : Jvm.MethodName)) ∈ lw_all := lw_g (lw_at lw_m12 18 rfl) rfl
theorem q2779 : (Jvm.Cond.code ({ cls := "EditsMeet", name := "day", desc := "()Z" } : Jvm.MethodName) prog_1_method_75_code (6 : Nat) (Option.some Jvm.ClassFile.FieldType.boolean)) ∈ lw_all := lw_g (lw_at lw_m12 19 rfl) rfl
theorem q2780 : (Jvm.Cond.methodLink "EditsMeet" (412 : Nat) ({ cls := "EditsMeet$World", name := "draw", desc := "(I)I" } : Jvm.MethodName)) ∈ lw_all := lw_g (lw_at lw_m12 20 rfl) rfl
theorem q2785 : (Jvm.Cond.methodLink "EditsMeet" (426 : Nat) ({ cls := "EditsMeet", name := "acts", desc := "(II)Z" } : Jvm.MethodName)) ∈ lw_all := lw_g (lw_at lw_m12 25 rfl) rfl
theorem q2786 : (Jvm.Cond.privateMethod ({ cls := "EditsMeet", name := "acts", desc := "(II)Z" } : Jvm.MethodName)) ∈ lw_tbl := lw_at lw_m12 26 rfl
theorem q2787 : (Jvm.Cond.instanceMethod ({ cls := "EditsMeet", name := "acts", desc := "(II)Z" } : Jvm.MethodName)) ∈ lw_all := lw_g (lw_at lw_m12 27 rfl) rfl
theorem q2788 : (Jvm.Cond.codeWith ({ cls := "EditsMeet", name := "acts", desc := "(II)Z" } : Jvm.MethodName) prog_1_method_76_code (4 : Nat) (Option.some Jvm.ClassFile.FieldType.boolean) [((0 : Nat), (42 : Nat), (43 : Nat), (53 : Nat))]) ∈ lw_all := lw_g (lw_at lw_m12 28 rfl) rfl
theorem q2790 : (Jvm.Cond.instanceMethod ({ cls := "EditsMeet", name := "seed", desc := "(I)I" } : Jvm.MethodName)) ∈ lw_all := lw_g (lw_at lw_m12 30 rfl) rfl
theorem q2791 : (Jvm.Cond.selects "EditsMeet" ({ cls := "EditsMeet", name := "seed", desc := "(I)I" } : Jvm.MethodName) ({ cls := "EditsMeet", name := "seed", desc := "(I)I" } : Jvm.MethodName)) ∈ lw_all := lw_g (lw_at lw_m12 31 rfl) rfl
theorem q2792 : (Jvm.Cond.code ({ cls := "EditsMeet", name := "seed", desc := "(I)I" } : Jvm.MethodName) prog_1_method_78_code (3 : Nat) (Option.some Jvm.ClassFile.FieldType.int)) ∈ lw_all := lw_g (lw_at lw_m12 32 rfl) rfl
theorem q2794 : (Jvm.Cond.instanceMethod ({ cls := "EditsMeet", name := "image", desc := "()I" } : Jvm.MethodName)) ∈ lw_all := lw_g (lw_at lw_m12 34 rfl) rfl
theorem q2795 : (Jvm.Cond.selects "EditsMeet" ({ cls := "EditsMeet", name := "image", desc := "()I" } : Jvm.MethodName) ({ cls := "EditsMeet", name := "image", desc := "()I" } : Jvm.MethodName)) ∈ lw_all := lw_g (lw_at lw_m12 35 rfl) rfl
theorem q2796 : (Jvm.Cond.code ({ cls := "EditsMeet", name := "image", desc := "()I" } : Jvm.MethodName) prog_1_method_79_code (1 : Nat) (Option.some Jvm.ClassFile.FieldType.int)) ∈ lw_all := lw_g (lw_at lw_m12 36 rfl) rfl
theorem q2797 : (Jvm.Cond.methodLink "EditsMeet" (442 : Nat) ({ cls := "EditsMeet$World", name := "becomes", desc := "(LEditsMeet$World;)LEditsMeet$World;" } : Jvm.MethodName)) ∈ lw_all := lw_g (lw_at lw_m12 37 rfl) rfl
theorem q3014 : (Jvm.Cond.instanceMethod ({ cls := "EditsMeet", name := "back", desc := "()I" } : Jvm.MethodName)) ∈ lw_all := lw_g (lw_at lw_m13 14 rfl) rfl
theorem q3015 : (Jvm.Cond.selects "EditsMeet" ({ cls := "EditsMeet", name := "back", desc := "()I" } : Jvm.MethodName) ({ cls := "EditsMeet", name := "back", desc := "()I" } : Jvm.MethodName)) ∈ lw_all := lw_g (lw_at lw_m13 15 rfl) rfl
theorem q3016 : (Jvm.Cond.code ({ cls := "EditsMeet", name := "back", desc := "()I" } : Jvm.MethodName) prog_1_method_80_code (1 : Nat) (Option.some Jvm.ClassFile.FieldType.int)) ∈ lw_all := lw_g (lw_at lw_m13 16 rfl) rfl
theorem q3018 : (Jvm.Cond.instanceMethod ({ cls := "EditsMeet", name := "status", desc := "(I)I" } : Jvm.MethodName)) ∈ lw_all := lw_g (lw_at lw_m13 18 rfl) rfl
theorem q3019 : (Jvm.Cond.selects "EditsMeet" ({ cls := "EditsMeet", name := "status", desc := "(I)I" } : Jvm.MethodName) ({ cls := "EditsMeet", name := "status", desc := "(I)I" } : Jvm.MethodName)) ∈ lw_all := lw_g (lw_at lw_m13 19 rfl) rfl
theorem q3020 : (Jvm.Cond.code ({ cls := "EditsMeet", name := "status", desc := "(I)I" } : Jvm.MethodName) prog_1_method_82_code (2 : Nat) (Option.some Jvm.ClassFile.FieldType.int)) ∈ lw_all := lw_g (lw_at lw_m13 20 rfl) rfl
theorem q3021 : (Jvm.Cond.privateMethod ({ cls := "EditsMeet", name := "lambda$status$26", desc := "(I)I" } : Jvm.MethodName)) ∈ lw_tbl := lw_at lw_m13 21 rfl
theorem q3022 : (Jvm.Cond.instanceMethod ({ cls := "EditsMeet", name := "lambda$status$26", desc := "(I)I" } : Jvm.MethodName)) ∈ lw_all := lw_g (lw_at lw_m13 22 rfl) rfl
theorem q3023 : (Jvm.Cond.code ({ cls := "EditsMeet", name := "lambda$status$26", desc := "(I)I" } : Jvm.MethodName) prog_1_method_87_code (2 : Nat) (Option.some Jvm.ClassFile.FieldType.int)) ∈ lw_all := lw_g (lw_at lw_m13 23 rfl) rfl
theorem q3024 : (Jvm.Cond.methodLink "EditsMeet" (455 : Nat) ({ cls := "EditsMeet", name := "sum", desc := "(ILEditsMeet$Tally;)I" } : Jvm.MethodName)) ∈ lw_all := lw_g (lw_at lw_m13 24 rfl) rfl
theorem q3025 : (Jvm.Cond.static ({ cls := "EditsMeet", name := "sum", desc := "(ILEditsMeet$Tally;)I" } : Jvm.MethodName)) ∈ lw_all := lw_g (lw_at lw_m13 25 rfl) rfl
theorem q3026 : (Jvm.Cond.code ({ cls := "EditsMeet", name := "sum", desc := "(ILEditsMeet$Tally;)I" } : Jvm.MethodName) prog_1_method_81_code (4 : Nat) (Option.some Jvm.ClassFile.FieldType.int)) ∈ lw_all := lw_g (lw_at lw_m13 26 rfl) rfl
theorem q3027 : (Jvm.Cond.interfaceEntry "EditsMeet" (448 : Nat)) ∈ lw_tbl := lw_at lw_m13 27 rfl
theorem q3028 : (Jvm.Cond.methodLink "EditsMeet" (448 : Nat) ({ cls := "EditsMeet$Tally", name := "of", desc := "(I)I" } : Jvm.MethodName)) ∈ lw_all := lw_g (lw_at lw_m13 28 rfl) rfl
theorem q3031 : (Jvm.Cond.privateMethod ({ cls := "EditsMeet", name := "lambda$status$27", desc := "(I)I" } : Jvm.MethodName)) ∈ lw_tbl := lw_at lw_m13 31 rfl
theorem q3032 : (Jvm.Cond.instanceMethod ({ cls := "EditsMeet", name := "lambda$status$27", desc := "(I)I" } : Jvm.MethodName)) ∈ lw_all := lw_g (lw_at lw_m13 32 rfl) rfl
theorem q3033 : (Jvm.Cond.code ({ cls := "EditsMeet", name := "lambda$status$27", desc := "(I)I" } : Jvm.MethodName) prog_1_method_86_code (2 : Nat) (Option.some Jvm.ClassFile.FieldType.int)) ∈ lw_all := lw_g (lw_at lw_m13 33 rfl) rfl
theorem q3034 : (Jvm.Cond.privateMethod ({ cls := "EditsMeet", name := "lambda$status$28", desc := "(I)I" } : Jvm.MethodName)) ∈ lw_tbl := lw_at lw_m13 34 rfl
theorem q3035 : (Jvm.Cond.instanceMethod ({ cls := "EditsMeet", name := "lambda$status$28", desc := "(I)I" } : Jvm.MethodName)) ∈ lw_all := lw_g (lw_at lw_m13 35 rfl) rfl
theorem q3036 : (Jvm.Cond.code ({ cls := "EditsMeet", name := "lambda$status$28", desc := "(I)I" } : Jvm.MethodName) prog_1_method_85_code (2 : Nat) (Option.some Jvm.ClassFile.FieldType.int)) ∈ lw_all := lw_g (lw_at lw_m13 36 rfl) rfl
theorem q3037 : (Jvm.Cond.privateMethod ({ cls := "EditsMeet", name := "lambda$status$29", desc := "(I)I" } : Jvm.MethodName)) ∈ lw_tbl := lw_at lw_m13 37 rfl
theorem q3038 : (Jvm.Cond.instanceMethod ({ cls := "EditsMeet", name := "lambda$status$29", desc := "(I)I" } : Jvm.MethodName)) ∈ lw_all := lw_g (lw_at lw_m13 38 rfl) rfl
theorem q3039 : (Jvm.Cond.code ({ cls := "EditsMeet", name := "lambda$status$29", desc := "(I)I" } : Jvm.MethodName) prog_1_method_84_code (2 : Nat) (Option.some Jvm.ClassFile.FieldType.int)) ∈ lw_all := lw_g (lw_at lw_m13 39 rfl) rfl
theorem q3040 : (Jvm.Cond.privateMethod ({ cls := "EditsMeet", name := "lambda$status$30", desc := "(I)I" } : Jvm.MethodName)) ∈ lw_tbl := lw_at lw_m13 40 rfl
theorem q3041 : (Jvm.Cond.instanceMethod ({ cls := "EditsMeet", name := "lambda$status$30", desc := "(I)I" } : Jvm.MethodName)) ∈ lw_all := lw_g (lw_at lw_m13 41 rfl) rfl
theorem q3042 : (Jvm.Cond.code ({ cls := "EditsMeet", name := "lambda$status$30", desc := "(I)I" } : Jvm.MethodName) prog_1_method_83_code (2 : Nat) (Option.some Jvm.ClassFile.FieldType.int)) ∈ lw_all := lw_g (lw_at lw_m13 42 rfl) rfl
theorem q3628 : (Jvm.Cond.castable "EditsMeet" "java/lang/Object") ∈ lw_tbl := lw_at lw_m15 148 rfl
theorem in_X0 : ∀ w ∈ wsX00, w ∈ lw_all := lw_in wsX00 [583, 585, 587, 589, 591, 593, 595, 597] (by decide +kernel) (by decide +kernel)
