/-! EditsMeet$World -/
set_option maxRecDepth 100000
def RX1 : String := "EditsMeet$World"
def TX1 : u_T := fun k => match k with
  | 0 => ("EditsMeet$World", "client", "[LEditsMeet$Client;", true)
  | 1 => ("EditsMeet$World", "text", "LEditsMeet$Text;", true)
  | 2 => ("EditsMeet$World", "revisions", "Ljava/util/ArrayList;", true)
  | 3 => ("EditsMeet$World", "weaver", "LEditsMeet$Weaver;", true)
  | _ => ("EditsMeet$World", "seed", "I", false)
def tyX1 : Nat → FieldType := fun k => match k with
  | 0 => .array (.object "EditsMeet$Client")
  | 1 => .object "EditsMeet$Text"
  | 2 => .object "java/util/ArrayList"
  | 3 => .object "EditsMeet$Weaver"
  | _ => .int
abbrev wsX10 : List Cond := u_ws RX1 TX1 5
theorem nmX1 : ∀ a, a < 5 → ∀ b, b < 5 → a ≠ b → (TX1 a).2.1 ≠ (TX1 b).2.1 := by decide +kernel
theorem tyX1_ok : ∀ k, k < 5 → parseFieldDescriptor (TX1 k).2.2.1 = some (tyX1 k) := by decide +kernel
abbrev cX1_init : ByteArray := prog_22_method_1_code
def yX1_init : MethodName := ⟨RX1, "<init>", "()V"⟩
def dkwX1_init_3 : List UInt8 := [183, 0, 42, 83, 132, 1, 1, 167, 255, 231, 177]
abbrev dktX1_init_3 : List UInt8 := dkwX1_init_3 ++ []
def dkwX1_init_2 : List UInt8 := [181, 0, 38, 3, 60, 27, 7, 162, 0, 26, 42, 180, 0, 11, 27, 187, 0, 9, 89, 42, 180, 0, 34]
abbrev dktX1_init_2 : List UInt8 := dkwX1_init_2 ++ dktX1_init_3
def dkwX1_init_1 : List UInt8 := [187, 0, 24, 89, 183, 0, 26, 181, 0, 27, 42, 187, 0, 31, 89, 183, 0, 33, 181, 0, 34, 42, 4]
abbrev dktX1_init_1 : List UInt8 := dkwX1_init_1 ++ dktX1_init_2
def dkwX1_init_0 : List UInt8 := [42, 183, 0, 3, 42, 7, 189, 0, 9, 181, 0, 11, 42, 187, 0, 17, 89, 183, 0, 19, 181, 0, 20, 42]
abbrev dktX1_init_0 : List UInt8 := dkwX1_init_0 ++ dktX1_init_1
theorem dksX1_init_0 : cX1_init.data.toList.drop 0 = dktX1_init_0 := by decide +kernel
theorem dksX1_init_1 : cX1_init.data.toList.drop 24 = dktX1_init_1 := dk_seg dksX1_init_0 24 rfl rfl
theorem dksX1_init_2 : cX1_init.data.toList.drop 47 = dktX1_init_2 := dk_seg dksX1_init_1 23 rfl rfl
theorem dksX1_init_3 : cX1_init.data.toList.drop 70 = dktX1_init_3 := dk_seg dksX1_init_2 23 rfl rfl
theorem dX1_init_0 : decode cX1_init 0 = .ok (.aload_n 0, 1) := dk_42 (dk_at dksX1_init_0 0 rfl rfl)
theorem dX1_init_1 : decode cX1_init 1 = .ok (.invokespecial 3, 3) := dk_183 0 3 (dk_at dksX1_init_0 1 rfl rfl)
theorem dX1_init_4 : decode cX1_init 4 = .ok (.aload_n 0, 1) := dk_42 (dk_at dksX1_init_0 4 rfl rfl)
theorem dX1_init_5 : decode cX1_init 5 = .ok (.iconst 4, 1) := dk_7 (dk_at dksX1_init_0 5 rfl rfl)
theorem dX1_init_6 : decode cX1_init 6 = .ok (.anewarray 9, 3) := dk_189 0 9 (dk_at dksX1_init_0 6 rfl rfl)
theorem dX1_init_9 : decode cX1_init 9 = .ok (.putfield 11, 3) := dk_181 0 11 (dk_at dksX1_init_0 9 rfl rfl)
theorem dX1_init_12 : decode cX1_init 12 = .ok (.aload_n 0, 1) := dk_42 (dk_at dksX1_init_0 12 rfl rfl)
theorem dX1_init_13 : decode cX1_init 13 = .ok (.new 17, 3) := dk_187 0 17 (dk_at dksX1_init_0 13 rfl rfl)
theorem dX1_init_16 : decode cX1_init 16 = .ok (.dup, 1) := dk_89 (dk_at dksX1_init_0 16 rfl rfl)
theorem dX1_init_17 : decode cX1_init 17 = .ok (.invokespecial 19, 3) := dk_183 0 19 (dk_at dksX1_init_0 17 rfl rfl)
theorem dX1_init_20 : decode cX1_init 20 = .ok (.putfield 20, 3) := dk_181 0 20 (dk_at dksX1_init_0 20 rfl rfl)
theorem dX1_init_23 : decode cX1_init 23 = .ok (.aload_n 0, 1) := dk_42 (dk_at dksX1_init_0 23 rfl rfl)
theorem dX1_init_24 : decode cX1_init 24 = .ok (.new 24, 3) := dk_187 0 24 (dk_at dksX1_init_1 0 rfl rfl)
theorem dX1_init_27 : decode cX1_init 27 = .ok (.dup, 1) := dk_89 (dk_at dksX1_init_1 3 rfl rfl)
theorem dX1_init_28 : decode cX1_init 28 = .ok (.invokespecial 26, 3) := dk_183 0 26 (dk_at dksX1_init_1 4 rfl rfl)
theorem dX1_init_31 : decode cX1_init 31 = .ok (.putfield 27, 3) := dk_181 0 27 (dk_at dksX1_init_1 7 rfl rfl)
theorem dX1_init_34 : decode cX1_init 34 = .ok (.aload_n 0, 1) := dk_42 (dk_at dksX1_init_1 10 rfl rfl)
theorem dX1_init_35 : decode cX1_init 35 = .ok (.new 31, 3) := dk_187 0 31 (dk_at dksX1_init_1 11 rfl rfl)
theorem dX1_init_38 : decode cX1_init 38 = .ok (.dup, 1) := dk_89 (dk_at dksX1_init_1 14 rfl rfl)
theorem dX1_init_39 : decode cX1_init 39 = .ok (.invokespecial 33, 3) := dk_183 0 33 (dk_at dksX1_init_1 15 rfl rfl)
theorem dX1_init_42 : decode cX1_init 42 = .ok (.putfield 34, 3) := dk_181 0 34 (dk_at dksX1_init_1 18 rfl rfl)
theorem dX1_init_45 : decode cX1_init 45 = .ok (.aload_n 0, 1) := dk_42 (dk_at dksX1_init_1 21 rfl rfl)
theorem dX1_init_46 : decode cX1_init 46 = .ok (.iconst 1, 1) := dk_4 (dk_at dksX1_init_1 22 rfl rfl)
theorem dX1_init_47 : decode cX1_init 47 = .ok (.putfield 38, 3) := dk_181 0 38 (dk_at dksX1_init_2 0 rfl rfl)
theorem dX1_init_50 : decode cX1_init 50 = .ok (.iconst 0, 1) := dk_3 (dk_at dksX1_init_2 3 rfl rfl)
theorem dX1_init_51 : decode cX1_init 51 = .ok (.istore_n 1, 1) := dk_60 (dk_at dksX1_init_2 4 rfl rfl)
theorem dX1_init_52 : decode cX1_init 52 = .ok (.iload_n 1, 1) := dk_27 (dk_at dksX1_init_2 5 rfl rfl)
theorem dX1_init_53 : decode cX1_init 53 = .ok (.iconst 4, 1) := dk_7 (dk_at dksX1_init_2 6 rfl rfl)
theorem dX1_init_54 : decode cX1_init 54 = .ok (.if_icmp .ge 26, 3) := dk_162 0 26 (dk_at dksX1_init_2 7 rfl rfl)
theorem dX1_init_57 : decode cX1_init 57 = .ok (.aload_n 0, 1) := dk_42 (dk_at dksX1_init_2 10 rfl rfl)
theorem dX1_init_58 : decode cX1_init 58 = .ok (.getfield 11, 3) := dk_180 0 11 (dk_at dksX1_init_2 11 rfl rfl)
theorem dX1_init_61 : decode cX1_init 61 = .ok (.iload_n 1, 1) := dk_27 (dk_at dksX1_init_2 14 rfl rfl)
theorem dX1_init_62 : decode cX1_init 62 = .ok (.new 9, 3) := dk_187 0 9 (dk_at dksX1_init_2 15 rfl rfl)
theorem dX1_init_65 : decode cX1_init 65 = .ok (.dup, 1) := dk_89 (dk_at dksX1_init_2 18 rfl rfl)
theorem dX1_init_66 : decode cX1_init 66 = .ok (.aload_n 0, 1) := dk_42 (dk_at dksX1_init_2 19 rfl rfl)
theorem dX1_init_67 : decode cX1_init 67 = .ok (.getfield 34, 3) := dk_180 0 34 (dk_at dksX1_init_2 20 rfl rfl)
theorem dX1_init_70 : decode cX1_init 70 = .ok (.invokespecial 42, 3) := dk_183 0 42 (dk_at dksX1_init_3 0 rfl rfl)
theorem dX1_init_73 : decode cX1_init 73 = .ok (.aastore, 1) := dk_83 (dk_at dksX1_init_3 3 rfl rfl)
theorem dX1_init_74 : decode cX1_init 74 = .ok (.iinc 1 1, 3) := dk_132 1 1 (dk_at dksX1_init_3 4 rfl rfl)
theorem dX1_init_77 : decode cX1_init 77 = .ok (.goto (-25), 3) := dk_167 255 231 (dk_at dksX1_init_3 7 rfl rfl)
theorem dX1_init_80 : decode cX1_init 80 = .ok (.return_, 1) := dk_177 (dk_at dksX1_init_3 10 rfl rfl)
abbrev cX1_text : ByteArray := prog_22_method_3_code
def yX1_text : MethodName := ⟨RX1, "text", "(I)LEditsMeet$Text;"⟩
def dkwX1_text_0 : List UInt8 := [27, 7, 160, 0, 10, 42, 180, 0, 20, 167, 0, 12, 42, 180, 0, 11, 27, 50, 180, 0, 59, 176]
abbrev dktX1_text_0 : List UInt8 := dkwX1_text_0 ++ []
theorem dksX1_text_0 : cX1_text.data.toList.drop 0 = dktX1_text_0 := by decide +kernel
theorem dX1_text_0 : decode cX1_text 0 = .ok (.iload_n 1, 1) := dk_27 (dk_at dksX1_text_0 0 rfl rfl)
theorem dX1_text_1 : decode cX1_text 1 = .ok (.iconst 4, 1) := dk_7 (dk_at dksX1_text_0 1 rfl rfl)
theorem dX1_text_2 : decode cX1_text 2 = .ok (.if_icmp .ne 10, 3) := dk_160 0 10 (dk_at dksX1_text_0 2 rfl rfl)
theorem dX1_text_5 : decode cX1_text 5 = .ok (.aload_n 0, 1) := dk_42 (dk_at dksX1_text_0 5 rfl rfl)
theorem dX1_text_6 : decode cX1_text 6 = .ok (.getfield 20, 3) := dk_180 0 20 (dk_at dksX1_text_0 6 rfl rfl)
theorem dX1_text_9 : decode cX1_text 9 = .ok (.goto 12, 3) := dk_167 0 12 (dk_at dksX1_text_0 9 rfl rfl)
theorem dX1_text_12 : decode cX1_text 12 = .ok (.aload_n 0, 1) := dk_42 (dk_at dksX1_text_0 12 rfl rfl)
theorem dX1_text_13 : decode cX1_text 13 = .ok (.getfield 11, 3) := dk_180 0 11 (dk_at dksX1_text_0 13 rfl rfl)
theorem dX1_text_16 : decode cX1_text 16 = .ok (.iload_n 1, 1) := dk_27 (dk_at dksX1_text_0 16 rfl rfl)
theorem dX1_text_17 : decode cX1_text 17 = .ok (.aaload, 1) := dk_50 (dk_at dksX1_text_0 17 rfl rfl)
theorem dX1_text_18 : decode cX1_text 18 = .ok (.getfield 59, 3) := dk_180 0 59 (dk_at dksX1_text_0 18 rfl rfl)
theorem dX1_text_21 : decode cX1_text 21 = .ok (.areturn, 1) := dk_176 (dk_at dksX1_text_0 21 rfl rfl)
abbrev cX1_isFull : ByteArray := prog_22_method_4_code
def yX1_isFull : MethodName := ⟨RX1, "isFull", "()Z"⟩
def dkwX1_isFull_0 : List UInt8 := [42, 180, 0, 27, 182, 0, 60, 16, 90, 160, 0, 7, 4, 167, 0, 4, 3, 172]
abbrev dktX1_isFull_0 : List UInt8 := dkwX1_isFull_0 ++ []
theorem dksX1_isFull_0 : cX1_isFull.data.toList.drop 0 = dktX1_isFull_0 := by decide +kernel
theorem dX1_isFull_0 : decode cX1_isFull 0 = .ok (.aload_n 0, 1) := dk_42 (dk_at dksX1_isFull_0 0 rfl rfl)
theorem dX1_isFull_1 : decode cX1_isFull 1 = .ok (.getfield 27, 3) := dk_180 0 27 (dk_at dksX1_isFull_0 1 rfl rfl)
theorem dX1_isFull_4 : decode cX1_isFull 4 = .ok (.invokevirtual 60, 3) := dk_182 0 60 (dk_at dksX1_isFull_0 4 rfl rfl)
theorem dX1_isFull_7 : decode cX1_isFull 7 = .ok (.bipush 90, 2) := dk_16 90 (dk_at dksX1_isFull_0 7 rfl rfl)
theorem dX1_isFull_9 : decode cX1_isFull 9 = .ok (.if_icmp .ne 7, 3) := dk_160 0 7 (dk_at dksX1_isFull_0 9 rfl rfl)
theorem dX1_isFull_12 : decode cX1_isFull 12 = .ok (.iconst 1, 1) := dk_4 (dk_at dksX1_isFull_0 12 rfl rfl)
theorem dX1_isFull_13 : decode cX1_isFull 13 = .ok (.goto 4, 3) := dk_167 0 4 (dk_at dksX1_isFull_0 13 rfl rfl)
theorem dX1_isFull_16 : decode cX1_isFull 16 = .ok (.iconst 0, 1) := dk_3 (dk_at dksX1_isFull_0 16 rfl rfl)
theorem dX1_isFull_17 : decode cX1_isFull 17 = .ok (.ireturn, 1) := dk_172 (dk_at dksX1_isFull_0 17 rfl rfl)
abbrev cX1_serves : ByteArray := prog_22_method_5_code
def yX1_serves : MethodName := ⟨RX1, "serves", "(I)V"⟩
def dkwX1_serves_2 : List UInt8 := [183, 0, 81, 182, 0, 84, 87, 44, 4, 181, 0, 88, 177]
abbrev dktX1_serves_2 : List UInt8 := dkwX1_serves_2 ++ []
def dkwX1_serves_1 : List UInt8 := [182, 0, 71, 78, 42, 180, 0, 20, 45, 182, 0, 75, 42, 180, 0, 27, 187, 0, 79, 89, 45, 27]
abbrev dktX1_serves_1 : List UInt8 := dkwX1_serves_1 ++ dktX1_serves_2
def dkwX1_serves_0 : List UInt8 := [42, 180, 0, 11, 27, 50, 77, 42, 180, 0, 34, 44, 180, 0, 64, 42, 180, 0, 27, 44, 180, 0, 68]
abbrev dktX1_serves_0 : List UInt8 := dkwX1_serves_0 ++ dktX1_serves_1
theorem dksX1_serves_0 : cX1_serves.data.toList.drop 0 = dktX1_serves_0 := by decide +kernel
theorem dksX1_serves_1 : cX1_serves.data.toList.drop 23 = dktX1_serves_1 := dk_seg dksX1_serves_0 23 rfl rfl
theorem dksX1_serves_2 : cX1_serves.data.toList.drop 45 = dktX1_serves_2 := dk_seg dksX1_serves_1 22 rfl rfl
theorem dX1_serves_0 : decode cX1_serves 0 = .ok (.aload_n 0, 1) := dk_42 (dk_at dksX1_serves_0 0 rfl rfl)
theorem dX1_serves_1 : decode cX1_serves 1 = .ok (.getfield 11, 3) := dk_180 0 11 (dk_at dksX1_serves_0 1 rfl rfl)
theorem dX1_serves_4 : decode cX1_serves 4 = .ok (.iload_n 1, 1) := dk_27 (dk_at dksX1_serves_0 4 rfl rfl)
theorem dX1_serves_5 : decode cX1_serves 5 = .ok (.aaload, 1) := dk_50 (dk_at dksX1_serves_0 5 rfl rfl)
theorem dX1_serves_6 : decode cX1_serves 6 = .ok (.astore_n 2, 1) := dk_77 (dk_at dksX1_serves_0 6 rfl rfl)
theorem dX1_serves_7 : decode cX1_serves 7 = .ok (.aload_n 0, 1) := dk_42 (dk_at dksX1_serves_0 7 rfl rfl)
theorem dX1_serves_8 : decode cX1_serves 8 = .ok (.getfield 34, 3) := dk_180 0 34 (dk_at dksX1_serves_0 8 rfl rfl)
theorem dX1_serves_11 : decode cX1_serves 11 = .ok (.aload_n 2, 1) := dk_44 (dk_at dksX1_serves_0 11 rfl rfl)
theorem dX1_serves_12 : decode cX1_serves 12 = .ok (.getfield 64, 3) := dk_180 0 64 (dk_at dksX1_serves_0 12 rfl rfl)
theorem dX1_serves_15 : decode cX1_serves 15 = .ok (.aload_n 0, 1) := dk_42 (dk_at dksX1_serves_0 15 rfl rfl)
theorem dX1_serves_16 : decode cX1_serves 16 = .ok (.getfield 27, 3) := dk_180 0 27 (dk_at dksX1_serves_0 16 rfl rfl)
theorem dX1_serves_19 : decode cX1_serves 19 = .ok (.aload_n 2, 1) := dk_44 (dk_at dksX1_serves_0 19 rfl rfl)
theorem dX1_serves_20 : decode cX1_serves 20 = .ok (.getfield 68, 3) := dk_180 0 68 (dk_at dksX1_serves_0 20 rfl rfl)
theorem dX1_serves_23 : decode cX1_serves 23 = .ok (.invokevirtual 71, 3) := dk_182 0 71 (dk_at dksX1_serves_1 0 rfl rfl)
theorem dX1_serves_26 : decode cX1_serves 26 = .ok (.astore_n 3, 1) := dk_78 (dk_at dksX1_serves_1 3 rfl rfl)
theorem dX1_serves_27 : decode cX1_serves 27 = .ok (.aload_n 0, 1) := dk_42 (dk_at dksX1_serves_1 4 rfl rfl)
theorem dX1_serves_28 : decode cX1_serves 28 = .ok (.getfield 20, 3) := dk_180 0 20 (dk_at dksX1_serves_1 5 rfl rfl)
theorem dX1_serves_31 : decode cX1_serves 31 = .ok (.aload_n 3, 1) := dk_45 (dk_at dksX1_serves_1 8 rfl rfl)
theorem dX1_serves_32 : decode cX1_serves 32 = .ok (.invokevirtual 75, 3) := dk_182 0 75 (dk_at dksX1_serves_1 9 rfl rfl)
theorem dX1_serves_35 : decode cX1_serves 35 = .ok (.aload_n 0, 1) := dk_42 (dk_at dksX1_serves_1 12 rfl rfl)
theorem dX1_serves_36 : decode cX1_serves 36 = .ok (.getfield 27, 3) := dk_180 0 27 (dk_at dksX1_serves_1 13 rfl rfl)
theorem dX1_serves_39 : decode cX1_serves 39 = .ok (.new 79, 3) := dk_187 0 79 (dk_at dksX1_serves_1 16 rfl rfl)
theorem dX1_serves_42 : decode cX1_serves 42 = .ok (.dup, 1) := dk_89 (dk_at dksX1_serves_1 19 rfl rfl)
theorem dX1_serves_43 : decode cX1_serves 43 = .ok (.aload_n 3, 1) := dk_45 (dk_at dksX1_serves_1 20 rfl rfl)
theorem dX1_serves_44 : decode cX1_serves 44 = .ok (.iload_n 1, 1) := dk_27 (dk_at dksX1_serves_1 21 rfl rfl)
theorem dX1_serves_45 : decode cX1_serves 45 = .ok (.invokespecial 81, 3) := dk_183 0 81 (dk_at dksX1_serves_2 0 rfl rfl)
theorem dX1_serves_48 : decode cX1_serves 48 = .ok (.invokevirtual 84, 3) := dk_182 0 84 (dk_at dksX1_serves_2 3 rfl rfl)
theorem dX1_serves_51 : decode cX1_serves 51 = .ok (.pop, 1) := dk_87 (dk_at dksX1_serves_2 6 rfl rfl)
theorem dX1_serves_52 : decode cX1_serves 52 = .ok (.aload_n 2, 1) := dk_44 (dk_at dksX1_serves_2 7 rfl rfl)
theorem dX1_serves_53 : decode cX1_serves 53 = .ok (.iconst 1, 1) := dk_4 (dk_at dksX1_serves_2 8 rfl rfl)
theorem dX1_serves_54 : decode cX1_serves 54 = .ok (.putfield 88, 3) := dk_181 0 88 (dk_at dksX1_serves_2 9 rfl rfl)
theorem dX1_serves_57 : decode cX1_serves 57 = .ok (.return_, 1) := dk_177 (dk_at dksX1_serves_2 12 rfl rfl)
abbrev cX1_mayHear : ByteArray := prog_22_method_6_code
def yX1_mayHear : MethodName := ⟨RX1, "mayHear", "(I)Z"⟩
def dkwX1_mayHear_1 : List UInt8 := [172]
abbrev dktX1_mayHear_1 : List UInt8 := dkwX1_mayHear_1 ++ []
def dkwX1_mayHear_0 : List UInt8 := [42, 180, 0, 11, 27, 50, 180, 0, 92, 42, 180, 0, 27, 182, 0, 60, 162, 0, 7, 4, 167, 0, 4, 3]
abbrev dktX1_mayHear_0 : List UInt8 := dkwX1_mayHear_0 ++ dktX1_mayHear_1
theorem dksX1_mayHear_0 : cX1_mayHear.data.toList.drop 0 = dktX1_mayHear_0 := by decide +kernel
theorem dksX1_mayHear_1 : cX1_mayHear.data.toList.drop 24 = dktX1_mayHear_1 := dk_seg dksX1_mayHear_0 24 rfl rfl
theorem dX1_mayHear_0 : decode cX1_mayHear 0 = .ok (.aload_n 0, 1) := dk_42 (dk_at dksX1_mayHear_0 0 rfl rfl)
theorem dX1_mayHear_1 : decode cX1_mayHear 1 = .ok (.getfield 11, 3) := dk_180 0 11 (dk_at dksX1_mayHear_0 1 rfl rfl)
theorem dX1_mayHear_4 : decode cX1_mayHear 4 = .ok (.iload_n 1, 1) := dk_27 (dk_at dksX1_mayHear_0 4 rfl rfl)
theorem dX1_mayHear_5 : decode cX1_mayHear 5 = .ok (.aaload, 1) := dk_50 (dk_at dksX1_mayHear_0 5 rfl rfl)
theorem dX1_mayHear_6 : decode cX1_mayHear 6 = .ok (.getfield 92, 3) := dk_180 0 92 (dk_at dksX1_mayHear_0 6 rfl rfl)
theorem dX1_mayHear_9 : decode cX1_mayHear 9 = .ok (.aload_n 0, 1) := dk_42 (dk_at dksX1_mayHear_0 9 rfl rfl)
theorem dX1_mayHear_10 : decode cX1_mayHear 10 = .ok (.getfield 27, 3) := dk_180 0 27 (dk_at dksX1_mayHear_0 10 rfl rfl)
theorem dX1_mayHear_13 : decode cX1_mayHear 13 = .ok (.invokevirtual 60, 3) := dk_182 0 60 (dk_at dksX1_mayHear_0 13 rfl rfl)
theorem dX1_mayHear_16 : decode cX1_mayHear 16 = .ok (.if_icmp .ge 7, 3) := dk_162 0 7 (dk_at dksX1_mayHear_0 16 rfl rfl)
theorem dX1_mayHear_19 : decode cX1_mayHear 19 = .ok (.iconst 1, 1) := dk_4 (dk_at dksX1_mayHear_0 19 rfl rfl)
theorem dX1_mayHear_20 : decode cX1_mayHear 20 = .ok (.goto 4, 3) := dk_167 0 4 (dk_at dksX1_mayHear_0 20 rfl rfl)
theorem dX1_mayHear_23 : decode cX1_mayHear 23 = .ok (.iconst 0, 1) := dk_3 (dk_at dksX1_mayHear_0 23 rfl rfl)
theorem dX1_mayHear_24 : decode cX1_mayHear 24 = .ok (.ireturn, 1) := dk_172 (dk_at dksX1_mayHear_1 0 rfl rfl)
abbrev cX1_hears : ByteArray := prog_22_method_7_code
def yX1_hears : MethodName := ⟨RX1, "hears", "(I)V"⟩
def dkwX1_hears_2 : List UInt8 := [180, 0, 105, 182, 0, 108, 177]
abbrev dktX1_hears_2 : List UInt8 := dkwX1_hears_2 ++ []
def dkwX1_hears_1 : List UInt8 := [27, 160, 0, 15, 42, 180, 0, 11, 27, 50, 182, 0, 102, 167, 0, 16, 42, 180, 0, 11, 27, 50, 44]
abbrev dktX1_hears_1 : List UInt8 := dkwX1_hears_1 ++ dktX1_hears_2
def dkwX1_hears_0 : List UInt8 := [42, 180, 0, 27, 42, 180, 0, 11, 27, 50, 180, 0, 92, 182, 0, 95, 192, 0, 79, 77, 44, 180, 0, 99]
abbrev dktX1_hears_0 : List UInt8 := dkwX1_hears_0 ++ dktX1_hears_1
theorem dksX1_hears_0 : cX1_hears.data.toList.drop 0 = dktX1_hears_0 := by decide +kernel
theorem dksX1_hears_1 : cX1_hears.data.toList.drop 24 = dktX1_hears_1 := dk_seg dksX1_hears_0 24 rfl rfl
theorem dksX1_hears_2 : cX1_hears.data.toList.drop 47 = dktX1_hears_2 := dk_seg dksX1_hears_1 23 rfl rfl
theorem dX1_hears_0 : decode cX1_hears 0 = .ok (.aload_n 0, 1) := dk_42 (dk_at dksX1_hears_0 0 rfl rfl)
theorem dX1_hears_1 : decode cX1_hears 1 = .ok (.getfield 27, 3) := dk_180 0 27 (dk_at dksX1_hears_0 1 rfl rfl)
theorem dX1_hears_4 : decode cX1_hears 4 = .ok (.aload_n 0, 1) := dk_42 (dk_at dksX1_hears_0 4 rfl rfl)
theorem dX1_hears_5 : decode cX1_hears 5 = .ok (.getfield 11, 3) := dk_180 0 11 (dk_at dksX1_hears_0 5 rfl rfl)
theorem dX1_hears_8 : decode cX1_hears 8 = .ok (.iload_n 1, 1) := dk_27 (dk_at dksX1_hears_0 8 rfl rfl)
theorem dX1_hears_9 : decode cX1_hears 9 = .ok (.aaload, 1) := dk_50 (dk_at dksX1_hears_0 9 rfl rfl)
theorem dX1_hears_10 : decode cX1_hears 10 = .ok (.getfield 92, 3) := dk_180 0 92 (dk_at dksX1_hears_0 10 rfl rfl)
theorem dX1_hears_13 : decode cX1_hears 13 = .ok (.invokevirtual 95, 3) := dk_182 0 95 (dk_at dksX1_hears_0 13 rfl rfl)
theorem dX1_hears_16 : decode cX1_hears 16 = .ok (.checkcast 79, 3) := dk_192 0 79 (dk_at dksX1_hears_0 16 rfl rfl)
theorem dX1_hears_19 : decode cX1_hears 19 = .ok (.astore_n 2, 1) := dk_77 (dk_at dksX1_hears_0 19 rfl rfl)
theorem dX1_hears_20 : decode cX1_hears 20 = .ok (.aload_n 2, 1) := dk_44 (dk_at dksX1_hears_0 20 rfl rfl)
theorem dX1_hears_21 : decode cX1_hears 21 = .ok (.getfield 99, 3) := dk_180 0 99 (dk_at dksX1_hears_0 21 rfl rfl)
theorem dX1_hears_24 : decode cX1_hears 24 = .ok (.iload_n 1, 1) := dk_27 (dk_at dksX1_hears_1 0 rfl rfl)
theorem dX1_hears_25 : decode cX1_hears 25 = .ok (.if_icmp .ne 15, 3) := dk_160 0 15 (dk_at dksX1_hears_1 1 rfl rfl)
theorem dX1_hears_28 : decode cX1_hears 28 = .ok (.aload_n 0, 1) := dk_42 (dk_at dksX1_hears_1 4 rfl rfl)
theorem dX1_hears_29 : decode cX1_hears 29 = .ok (.getfield 11, 3) := dk_180 0 11 (dk_at dksX1_hears_1 5 rfl rfl)
theorem dX1_hears_32 : decode cX1_hears 32 = .ok (.iload_n 1, 1) := dk_27 (dk_at dksX1_hears_1 8 rfl rfl)
theorem dX1_hears_33 : decode cX1_hears 33 = .ok (.aaload, 1) := dk_50 (dk_at dksX1_hears_1 9 rfl rfl)
theorem dX1_hears_34 : decode cX1_hears 34 = .ok (.invokevirtual 102, 3) := dk_182 0 102 (dk_at dksX1_hears_1 10 rfl rfl)
theorem dX1_hears_37 : decode cX1_hears 37 = .ok (.goto 16, 3) := dk_167 0 16 (dk_at dksX1_hears_1 13 rfl rfl)
theorem dX1_hears_40 : decode cX1_hears 40 = .ok (.aload_n 0, 1) := dk_42 (dk_at dksX1_hears_1 16 rfl rfl)
theorem dX1_hears_41 : decode cX1_hears 41 = .ok (.getfield 11, 3) := dk_180 0 11 (dk_at dksX1_hears_1 17 rfl rfl)
theorem dX1_hears_44 : decode cX1_hears 44 = .ok (.iload_n 1, 1) := dk_27 (dk_at dksX1_hears_1 20 rfl rfl)
theorem dX1_hears_45 : decode cX1_hears 45 = .ok (.aaload, 1) := dk_50 (dk_at dksX1_hears_1 21 rfl rfl)
theorem dX1_hears_46 : decode cX1_hears 46 = .ok (.aload_n 2, 1) := dk_44 (dk_at dksX1_hears_1 22 rfl rfl)
theorem dX1_hears_47 : decode cX1_hears 47 = .ok (.getfield 105, 3) := dk_180 0 105 (dk_at dksX1_hears_2 0 rfl rfl)
theorem dX1_hears_50 : decode cX1_hears 50 = .ok (.invokevirtual 108, 3) := dk_182 0 108 (dk_at dksX1_hears_2 3 rfl rfl)
theorem dX1_hears_53 : decode cX1_hears 53 = .ok (.return_, 1) := dk_177 (dk_at dksX1_hears_2 6 rfl rfl)
abbrev cX1_draw : ByteArray := prog_22_method_8_code
def yX1_draw : MethodName := ⟨RX1, "draw", "(I)I"⟩
def dkwX1_draw_1 : List UInt8 := [172]
abbrev dktX1_draw_1 : List UInt8 := dkwX1_draw_1 ++ []
def dkwX1_draw_0 : List UInt8 := [42, 42, 180, 0, 38, 18, 111, 104, 17, 48, 57, 96, 181, 0, 38, 42, 180, 0, 38, 16, 16, 124, 27, 112]
abbrev dktX1_draw_0 : List UInt8 := dkwX1_draw_0 ++ dktX1_draw_1
theorem dksX1_draw_0 : cX1_draw.data.toList.drop 0 = dktX1_draw_0 := by decide +kernel
theorem dksX1_draw_1 : cX1_draw.data.toList.drop 24 = dktX1_draw_1 := dk_seg dksX1_draw_0 24 rfl rfl
theorem dX1_draw_0 : decode cX1_draw 0 = .ok (.aload_n 0, 1) := dk_42 (dk_at dksX1_draw_0 0 rfl rfl)
theorem dX1_draw_1 : decode cX1_draw 1 = .ok (.aload_n 0, 1) := dk_42 (dk_at dksX1_draw_0 1 rfl rfl)
theorem dX1_draw_2 : decode cX1_draw 2 = .ok (.getfield 38, 3) := dk_180 0 38 (dk_at dksX1_draw_0 2 rfl rfl)
theorem dX1_draw_5 : decode cX1_draw 5 = .ok (.ldc 111, 2) := dk_18 111 (dk_at dksX1_draw_0 5 rfl rfl)
theorem dX1_draw_7 : decode cX1_draw 7 = .ok (.imul, 1) := dk_104 (dk_at dksX1_draw_0 7 rfl rfl)
theorem dX1_draw_8 : decode cX1_draw 8 = .ok (.sipush 12345, 3) := dk_17 48 57 (dk_at dksX1_draw_0 8 rfl rfl)
theorem dX1_draw_11 : decode cX1_draw 11 = .ok (.iadd, 1) := dk_96 (dk_at dksX1_draw_0 11 rfl rfl)
theorem dX1_draw_12 : decode cX1_draw 12 = .ok (.putfield 38, 3) := dk_181 0 38 (dk_at dksX1_draw_0 12 rfl rfl)
theorem dX1_draw_15 : decode cX1_draw 15 = .ok (.aload_n 0, 1) := dk_42 (dk_at dksX1_draw_0 15 rfl rfl)
theorem dX1_draw_16 : decode cX1_draw 16 = .ok (.getfield 38, 3) := dk_180 0 38 (dk_at dksX1_draw_0 16 rfl rfl)
theorem dX1_draw_19 : decode cX1_draw 19 = .ok (.bipush 16, 2) := dk_16 16 (dk_at dksX1_draw_0 19 rfl rfl)
theorem dX1_draw_21 : decode cX1_draw 21 = .ok (.iushr, 1) := dk_124 (dk_at dksX1_draw_0 21 rfl rfl)
theorem dX1_draw_22 : decode cX1_draw 22 = .ok (.iload_n 1, 1) := dk_27 (dk_at dksX1_draw_0 22 rfl rfl)
theorem dX1_draw_23 : decode cX1_draw 23 = .ok (.irem, 1) := dk_112 (dk_at dksX1_draw_0 23 rfl rfl)
theorem dX1_draw_24 : decode cX1_draw 24 = .ok (.ireturn, 1) := dk_172 (dk_at dksX1_draw_1 0 rfl rfl)
abbrev cX1_becomes : ByteArray := prog_22_method_2_code
def yX1_becomes : MethodName := ⟨RX1, "becomes", "(LEditsMeet$World;)LEditsMeet$World;"⟩
def dkwX1_becomes_3 : List UInt8 := [176]
abbrev dktX1_becomes_3 : List UInt8 := dkwX1_becomes_3 ++ []
def dkwX1_becomes_2 : List UInt8 := [182, 0, 52, 42, 180, 0, 27, 43, 180, 0, 27, 182, 0, 55, 87, 42, 43, 180, 0, 38, 181, 0, 38, 42]
abbrev dktX1_becomes_2 : List UInt8 := dkwX1_becomes_2 ++ dktX1_becomes_3
def dkwX1_becomes_1 : List UInt8 := [132, 2, 1, 167, 255, 233, 42, 180, 0, 20, 43, 180, 0, 20, 182, 0, 49, 87, 42, 180, 0, 27]
abbrev dktX1_becomes_1 : List UInt8 := dkwX1_becomes_1 ++ dktX1_becomes_2
def dkwX1_becomes_0 : List UInt8 := [3, 61, 28, 7, 162, 0, 24, 42, 180, 0, 11, 28, 50, 43, 180, 0, 11, 28, 50, 182, 0, 45]
abbrev dktX1_becomes_0 : List UInt8 := dkwX1_becomes_0 ++ dktX1_becomes_1
theorem dksX1_becomes_0 : cX1_becomes.data.toList.drop 0 = dktX1_becomes_0 := by decide +kernel
theorem dksX1_becomes_1 : cX1_becomes.data.toList.drop 22 = dktX1_becomes_1 := dk_seg dksX1_becomes_0 22 rfl rfl
theorem dksX1_becomes_2 : cX1_becomes.data.toList.drop 44 = dktX1_becomes_2 := dk_seg dksX1_becomes_1 22 rfl rfl
theorem dksX1_becomes_3 : cX1_becomes.data.toList.drop 68 = dktX1_becomes_3 := dk_seg dksX1_becomes_2 24 rfl rfl
theorem dX1_becomes_0 : decode cX1_becomes 0 = .ok (.iconst 0, 1) := dk_3 (dk_at dksX1_becomes_0 0 rfl rfl)
theorem dX1_becomes_1 : decode cX1_becomes 1 = .ok (.istore_n 2, 1) := dk_61 (dk_at dksX1_becomes_0 1 rfl rfl)
theorem dX1_becomes_2 : decode cX1_becomes 2 = .ok (.iload_n 2, 1) := dk_28 (dk_at dksX1_becomes_0 2 rfl rfl)
theorem dX1_becomes_3 : decode cX1_becomes 3 = .ok (.iconst 4, 1) := dk_7 (dk_at dksX1_becomes_0 3 rfl rfl)
theorem dX1_becomes_4 : decode cX1_becomes 4 = .ok (.if_icmp .ge 24, 3) := dk_162 0 24 (dk_at dksX1_becomes_0 4 rfl rfl)
theorem dX1_becomes_7 : decode cX1_becomes 7 = .ok (.aload_n 0, 1) := dk_42 (dk_at dksX1_becomes_0 7 rfl rfl)
theorem dX1_becomes_8 : decode cX1_becomes 8 = .ok (.getfield 11, 3) := dk_180 0 11 (dk_at dksX1_becomes_0 8 rfl rfl)
theorem dX1_becomes_11 : decode cX1_becomes 11 = .ok (.iload_n 2, 1) := dk_28 (dk_at dksX1_becomes_0 11 rfl rfl)
theorem dX1_becomes_12 : decode cX1_becomes 12 = .ok (.aaload, 1) := dk_50 (dk_at dksX1_becomes_0 12 rfl rfl)
theorem dX1_becomes_13 : decode cX1_becomes 13 = .ok (.aload_n 1, 1) := dk_43 (dk_at dksX1_becomes_0 13 rfl rfl)
theorem dX1_becomes_14 : decode cX1_becomes 14 = .ok (.getfield 11, 3) := dk_180 0 11 (dk_at dksX1_becomes_0 14 rfl rfl)
theorem dX1_becomes_17 : decode cX1_becomes 17 = .ok (.iload_n 2, 1) := dk_28 (dk_at dksX1_becomes_0 17 rfl rfl)
theorem dX1_becomes_18 : decode cX1_becomes 18 = .ok (.aaload, 1) := dk_50 (dk_at dksX1_becomes_0 18 rfl rfl)
theorem dX1_becomes_19 : decode cX1_becomes 19 = .ok (.invokevirtual 45, 3) := dk_182 0 45 (dk_at dksX1_becomes_0 19 rfl rfl)
theorem dX1_becomes_22 : decode cX1_becomes 22 = .ok (.iinc 2 1, 3) := dk_132 2 1 (dk_at dksX1_becomes_1 0 rfl rfl)
theorem dX1_becomes_25 : decode cX1_becomes 25 = .ok (.goto (-23), 3) := dk_167 255 233 (dk_at dksX1_becomes_1 3 rfl rfl)
theorem dX1_becomes_28 : decode cX1_becomes 28 = .ok (.aload_n 0, 1) := dk_42 (dk_at dksX1_becomes_1 6 rfl rfl)
theorem dX1_becomes_29 : decode cX1_becomes 29 = .ok (.getfield 20, 3) := dk_180 0 20 (dk_at dksX1_becomes_1 7 rfl rfl)
theorem dX1_becomes_32 : decode cX1_becomes 32 = .ok (.aload_n 1, 1) := dk_43 (dk_at dksX1_becomes_1 10 rfl rfl)
theorem dX1_becomes_33 : decode cX1_becomes 33 = .ok (.getfield 20, 3) := dk_180 0 20 (dk_at dksX1_becomes_1 11 rfl rfl)
theorem dX1_becomes_36 : decode cX1_becomes 36 = .ok (.invokevirtual 49, 3) := dk_182 0 49 (dk_at dksX1_becomes_1 14 rfl rfl)
theorem dX1_becomes_39 : decode cX1_becomes 39 = .ok (.pop, 1) := dk_87 (dk_at dksX1_becomes_1 17 rfl rfl)
theorem dX1_becomes_40 : decode cX1_becomes 40 = .ok (.aload_n 0, 1) := dk_42 (dk_at dksX1_becomes_1 18 rfl rfl)
theorem dX1_becomes_41 : decode cX1_becomes 41 = .ok (.getfield 27, 3) := dk_180 0 27 (dk_at dksX1_becomes_1 19 rfl rfl)
theorem dX1_becomes_44 : decode cX1_becomes 44 = .ok (.invokevirtual 52, 3) := dk_182 0 52 (dk_at dksX1_becomes_2 0 rfl rfl)
theorem dX1_becomes_47 : decode cX1_becomes 47 = .ok (.aload_n 0, 1) := dk_42 (dk_at dksX1_becomes_2 3 rfl rfl)
theorem dX1_becomes_48 : decode cX1_becomes 48 = .ok (.getfield 27, 3) := dk_180 0 27 (dk_at dksX1_becomes_2 4 rfl rfl)
theorem dX1_becomes_51 : decode cX1_becomes 51 = .ok (.aload_n 1, 1) := dk_43 (dk_at dksX1_becomes_2 7 rfl rfl)
theorem dX1_becomes_52 : decode cX1_becomes 52 = .ok (.getfield 27, 3) := dk_180 0 27 (dk_at dksX1_becomes_2 8 rfl rfl)
theorem dX1_becomes_55 : decode cX1_becomes 55 = .ok (.invokevirtual 55, 3) := dk_182 0 55 (dk_at dksX1_becomes_2 11 rfl rfl)
theorem dX1_becomes_58 : decode cX1_becomes 58 = .ok (.pop, 1) := dk_87 (dk_at dksX1_becomes_2 14 rfl rfl)
theorem dX1_becomes_59 : decode cX1_becomes 59 = .ok (.aload_n 0, 1) := dk_42 (dk_at dksX1_becomes_2 15 rfl rfl)
theorem dX1_becomes_60 : decode cX1_becomes 60 = .ok (.aload_n 1, 1) := dk_43 (dk_at dksX1_becomes_2 16 rfl rfl)
theorem dX1_becomes_61 : decode cX1_becomes 61 = .ok (.getfield 38, 3) := dk_180 0 38 (dk_at dksX1_becomes_2 17 rfl rfl)
theorem dX1_becomes_64 : decode cX1_becomes 64 = .ok (.putfield 38, 3) := dk_181 0 38 (dk_at dksX1_becomes_2 20 rfl rfl)
theorem dX1_becomes_67 : decode cX1_becomes 67 = .ok (.aload_n 0, 1) := dk_42 (dk_at dksX1_becomes_2 23 rfl rfl)
theorem dX1_becomes_68 : decode cX1_becomes 68 = .ok (.areturn, 1) := dk_176 (dk_at dksX1_becomes_3 0 rfl rfl)
theorem q122 : (Jvm.Cond.initialized "EditsMeet$World") ∈ lw_all := lw_g (lw_at lw_m1 2 rfl) rfl
theorem q186 : (Jvm.Cond.instantiable "EditsMeet$World" (5 : Nat)) ∈ lw_all := lw_g (lw_at lw_m1 66 rfl) rfl
theorem q188 : (Jvm.Cond.instanceMethod ({ cls := "EditsMeet$World", name := "<init>", desc := "()V" } : Jvm.MethodName)) ∈ lw_all := lw_g (lw_at lw_m1 68 rfl) rfl
theorem q189 : (Jvm.Cond.code ({ cls := "EditsMeet$World", name := "<init>", desc := "()V" } : Jvm.MethodName) prog_22_method_1_code (2 : Nat) (Option.none : Option Jvm.ClassFile.FieldType)) ∈ lw_all := lw_g (lw_at lw_m1 69 rfl) rfl
theorem q190 : (Jvm.Cond.methodLink "EditsMeet$World" (3 : Nat) ({ cls := "java/lang/Object", name := "<init>", desc := "()V" } : Jvm.MethodName)) ∈ lw_all := lw_g (lw_at lw_m1 70 rfl) rfl
theorem q191 : (Jvm.Cond.classLink "EditsMeet$World" (9 : Nat) "EditsMeet$Client") ∈ lw_all := lw_g (lw_at lw_m1 71 rfl) rfl
theorem q193 : (Jvm.Cond.classLink "EditsMeet$World" (17 : Nat) "EditsMeet$Text") ∈ lw_all := lw_g (lw_at lw_m1 73 rfl) rfl
theorem q195 : (Jvm.Cond.methodLinkNest "EditsMeet$World" (19 : Nat) ({ cls := "EditsMeet$Text", name := "<init>", desc := "()V" } : Jvm.MethodName) "EditsMeet") ∈ lw_tbl := lw_at lw_m1 75 rfl
theorem q323 : (Jvm.Cond.classLink "EditsMeet$World" (24 : Nat) "java/util/ArrayList") ∈ lw_all := lw_g (lw_at lw_m1 203 rfl) rfl
theorem q325 : (Jvm.Cond.methodLink "EditsMeet$World" (26 : Nat) ({ cls := "java/util/ArrayList", name := "<init>", desc := "()V" } : Jvm.MethodName)) ∈ lw_all := lw_g (lw_at lw_m1 205 rfl) rfl
theorem q356 : (Jvm.Cond.classLink "EditsMeet$World" (31 : Nat) "EditsMeet$Weaver") ∈ lw_all := lw_g (lw_at lw_m1 236 rfl) rfl
theorem q358 : (Jvm.Cond.methodLinkNest "EditsMeet$World" (33 : Nat) ({ cls := "EditsMeet$Weaver", name := "<init>", desc := "()V" } : Jvm.MethodName) "EditsMeet") ∈ lw_tbl := lw_at lw_m1 238 rfl
theorem q438 : (Jvm.Cond.methodLink "EditsMeet$World" (42 : Nat) ({ cls := "EditsMeet$Client", name := "<init>", desc := "(LEditsMeet$Weaver;)V" } : Jvm.MethodName)) ∈ lw_all := lw_g (lw_at lw_m2 78 rfl) rfl
theorem q485 : (Jvm.Cond.fieldLink "EditsMeet$World" (59 : Nat) "EditsMeet$Client" "text" "LEditsMeet$Text;") ∈ lw_all := lw_g (lw_at lw_m2 125 rfl) rfl
theorem q495 : (Jvm.Cond.fieldLink "EditsMeet$World" (92 : Nat) "EditsMeet$Client" "revision" "I") ∈ lw_all := lw_g (lw_at lw_m2 135 rfl) rfl
theorem q501 : (Jvm.Cond.fieldLink "EditsMeet$World" (64 : Nat) "EditsMeet$Client" "asSent" "LEditsMeet$Edit;") ∈ lw_all := lw_g (lw_at lw_m2 141 rfl) rfl
theorem q503 : (Jvm.Cond.fieldLink "EditsMeet$World" (68 : Nat) "EditsMeet$Client" "sentFor" "I") ∈ lw_all := lw_g (lw_at lw_m2 143 rfl) rfl
theorem q505 : (Jvm.Cond.fieldLink "EditsMeet$World" (88 : Nat) "EditsMeet$Client" "isServed" "Z") ∈ lw_all := lw_g (lw_at lw_m2 145 rfl) rfl
theorem q539 : (Jvm.Cond.fieldLink "EditsMeet$World" (11 : Nat) "EditsMeet$World" "client" "[LEditsMeet$Client;") ∈ lw_all := lw_g (lw_at lw_m2 179 rfl) rfl
theorem q541 : (Jvm.Cond.fieldLink "EditsMeet$World" (20 : Nat) "EditsMeet$World" "text" "LEditsMeet$Text;") ∈ lw_all := lw_g (lw_at lw_m2 181 rfl) rfl
theorem q543 : (Jvm.Cond.fieldLink "EditsMeet$World" (27 : Nat) "EditsMeet$World" "revisions" "Ljava/util/ArrayList;") ∈ lw_all := lw_g (lw_at lw_m2 183 rfl) rfl
theorem q545 : (Jvm.Cond.fieldLink "EditsMeet$World" (34 : Nat) "EditsMeet$World" "weaver" "LEditsMeet$Weaver;") ∈ lw_all := lw_g (lw_at lw_m2 185 rfl) rfl
theorem q547 : (Jvm.Cond.fieldLink "EditsMeet$World" (38 : Nat) "EditsMeet$World" "seed" "I") ∈ lw_all := lw_g (lw_at lw_m2 187 rfl) rfl
theorem q549 : (Jvm.Cond.laysFinal "EditsMeet$World" "EditsMeet$World" "client" "[LEditsMeet$Client;") ∈ lw_all := lw_g (lw_at lw_m2 189 rfl) rfl
theorem q550 : (Jvm.Cond.soleField "EditsMeet$World" "client") ∈ lw_all := lw_g (lw_at lw_m2 190 rfl) rfl
theorem q551 : (Jvm.Cond.laysFinal "EditsMeet$World" "EditsMeet$World" "text" "LEditsMeet$Text;") ∈ lw_all := lw_g (lw_at lw_m2 191 rfl) rfl
theorem q552 : (Jvm.Cond.soleField "EditsMeet$World" "text") ∈ lw_all := lw_g (lw_at lw_m2 192 rfl) rfl
theorem q553 : (Jvm.Cond.laysFinal "EditsMeet$World" "EditsMeet$World" "revisions" "Ljava/util/ArrayList;") ∈ lw_all := lw_g (lw_at lw_m2 193 rfl) rfl
theorem q554 : (Jvm.Cond.soleField "EditsMeet$World" "revisions") ∈ lw_all := lw_g (lw_at lw_m2 194 rfl) rfl
theorem q555 : (Jvm.Cond.laysFinal "EditsMeet$World" "EditsMeet$World" "weaver" "LEditsMeet$Weaver;") ∈ lw_all := lw_g (lw_at lw_m2 195 rfl) rfl
theorem q556 : (Jvm.Cond.soleField "EditsMeet$World" "weaver") ∈ lw_all := lw_g (lw_at lw_m2 196 rfl) rfl
theorem q557 : (Jvm.Cond.lays "EditsMeet$World" "EditsMeet$World" "seed" "I") ∈ lw_all := lw_g (lw_at lw_m2 197 rfl) rfl
theorem q558 : (Jvm.Cond.soleField "EditsMeet$World" "seed") ∈ lw_all := lw_g (lw_at lw_m2 198 rfl) rfl
theorem q559 : (Jvm.Cond.superclass "EditsMeet$World" "java/lang/Object") ∈ lw_all := lw_g (lw_at lw_m2 199 rfl) rfl
theorem q1458 : (Jvm.Cond.selects "EditsMeet$World" ({ cls := "java/lang/Object", name := "getClass", desc := "()Ljava/lang/Class;" } : Jvm.MethodName) ({ cls := "java/lang/Object", name := "getClass", desc := "()Ljava/lang/Class;" } : Jvm.MethodName)) ∈ lw_all := lw_g (lw_at lw_m6 138 rfl) rfl
theorem q2163 : (Jvm.Cond.instanceMethod ({ cls := "EditsMeet$World", name := "text", desc := "(I)LEditsMeet$Text;" } : Jvm.MethodName)) ∈ lw_all := lw_g (lw_at lw_m9 123 rfl) rfl
theorem q2164 : (Jvm.Cond.selects "EditsMeet$World" ({ cls := "EditsMeet$World", name := "text", desc := "(I)LEditsMeet$Text;" } : Jvm.MethodName) ({ cls := "EditsMeet$World", name := "text", desc := "(I)LEditsMeet$Text;" } : Jvm.MethodName)) ∈ lw_all := lw_g (lw_at lw_m9 124 rfl) rfl
theorem q2165 : (Jvm.Cond.code ({ cls := "EditsMeet$World", name := "text", desc := "(I)LEditsMeet$Text;" } : Jvm.MethodName) prog_22_method_3_code (2 : Nat) (Option.some (Jvm.ClassFile.FieldType.object "EditsMeet$Text"))) ∈ lw_all := lw_g (lw_at lw_m9 125 rfl) rfl
theorem q2488 : (Jvm.Cond.instanceMethod ({ cls := "EditsMeet$World", name := "isFull", desc := "()Z" } : Jvm.MethodName)) ∈ lw_all := lw_g (lw_at lw_m10 208 rfl) rfl
theorem q2489 : (Jvm.Cond.selects "EditsMeet$World" ({ cls := "EditsMeet$World", name := "isFull", desc := "()Z" } : Jvm.MethodName) ({ cls := "EditsMeet$World", name := "isFull", desc := "()Z" } : Jvm.MethodName)) ∈ lw_all := lw_g (lw_at lw_m10 209 rfl) rfl
theorem q2490 : (Jvm.Cond.code ({ cls := "EditsMeet$World", name := "isFull", desc := "()Z" } : Jvm.MethodName) prog_22_method_4_code (1 : Nat) (Option.some Jvm.ClassFile.FieldType.boolean)) ∈ lw_all := lw_g (lw_at lw_m10 210 rfl) rfl
theorem q2491 : (Jvm.Cond.methodLink "EditsMeet$World" (60 : Nat) ({ cls := "java/util/ArrayList", name := "size", desc := "()I" } : Jvm.MethodName)) ∈ lw_all := lw_g (lw_at lw_m10 211 rfl) rfl
theorem q2493 : (Jvm.Cond.instanceMethod ({ cls := "EditsMeet$World", name := "serves", desc := "(I)V" } : Jvm.MethodName)) ∈ lw_all := lw_g (lw_at lw_m10 213 rfl) rfl
theorem q2494 : (Jvm.Cond.selects "EditsMeet$World" ({ cls := "EditsMeet$World", name := "serves", desc := "(I)V" } : Jvm.MethodName) ({ cls := "EditsMeet$World", name := "serves", desc := "(I)V" } : Jvm.MethodName)) ∈ lw_all := lw_g (lw_at lw_m10 214 rfl) rfl
theorem q2495 : (Jvm.Cond.code ({ cls := "EditsMeet$World", name := "serves", desc := "(I)V" } : Jvm.MethodName) prog_22_method_5_code (4 : Nat) (Option.none : Option Jvm.ClassFile.FieldType)) ∈ lw_all := lw_g (lw_at lw_m10 215 rfl) rfl
theorem q2496 : (Jvm.Cond.methodLink "EditsMeet$World" (71 : Nat) ({ cls := "EditsMeet$Weaver", name := "overAll", desc := "(LEditsMeet$Edit;Ljava/util/ArrayList;I)LEditsMeet$Edit;" } : Jvm.MethodName)) ∈ lw_all := lw_g (lw_at lw_m10 216 rfl) rfl
theorem q2511 : (Jvm.Cond.methodLink "EditsMeet$World" (75 : Nat) ({ cls := "EditsMeet$Text", name := "does", desc := "(LEditsMeet$Edit;)V" } : Jvm.MethodName)) ∈ lw_all := lw_g (lw_at lw_m10 231 rfl) rfl
theorem q2512 : (Jvm.Cond.classLink "EditsMeet$World" (79 : Nat) "EditsMeet$Revision") ∈ lw_all := lw_g (lw_at lw_m10 232 rfl) rfl
theorem q2514 : (Jvm.Cond.methodLink "EditsMeet$World" (81 : Nat) ({ cls := "EditsMeet$Revision", name := "<init>", desc := "(LEditsMeet$Edit;I)V" } : Jvm.MethodName)) ∈ lw_all := lw_g (lw_at lw_m10 234 rfl) rfl
theorem q2519 : (Jvm.Cond.fieldLink "EditsMeet$World" (105 : Nat) "EditsMeet$Revision" "edit" "LEditsMeet$Edit;") ∈ lw_all := lw_g (lw_at lw_m10 239 rfl) rfl
theorem q2523 : (Jvm.Cond.fieldLink "EditsMeet$World" (99 : Nat) "EditsMeet$Revision" "by" "I") ∈ lw_all := lw_g (lw_at lw_m11 3 rfl) rfl
theorem q2530 : (Jvm.Cond.methodLink "EditsMeet$World" (84 : Nat) ({ cls := "java/util/ArrayList", name := "add", desc := "(Ljava/lang/Object;)Z" } : Jvm.MethodName)) ∈ lw_all := lw_g (lw_at lw_m11 10 rfl) rfl
theorem q2544 : (Jvm.Cond.instanceMethod ({ cls := "EditsMeet$World", name := "mayHear", desc := "(I)Z" } : Jvm.MethodName)) ∈ lw_all := lw_g (lw_at lw_m11 24 rfl) rfl
theorem q2545 : (Jvm.Cond.selects "EditsMeet$World" ({ cls := "EditsMeet$World", name := "mayHear", desc := "(I)Z" } : Jvm.MethodName) ({ cls := "EditsMeet$World", name := "mayHear", desc := "(I)Z" } : Jvm.MethodName)) ∈ lw_all := lw_g (lw_at lw_m11 25 rfl) rfl
theorem q2546 : (Jvm.Cond.code ({ cls := "EditsMeet$World", name := "mayHear", desc := "(I)Z" } : Jvm.MethodName) prog_22_method_6_code (2 : Nat) (Option.some Jvm.ClassFile.FieldType.boolean)) ∈ lw_all := lw_g (lw_at lw_m11 26 rfl) rfl
theorem q2548 : (Jvm.Cond.instanceMethod ({ cls := "EditsMeet$World", name := "hears", desc := "(I)V" } : Jvm.MethodName)) ∈ lw_all := lw_g (lw_at lw_m11 28 rfl) rfl
theorem q2549 : (Jvm.Cond.selects "EditsMeet$World" ({ cls := "EditsMeet$World", name := "hears", desc := "(I)V" } : Jvm.MethodName) ({ cls := "EditsMeet$World", name := "hears", desc := "(I)V" } : Jvm.MethodName)) ∈ lw_all := lw_g (lw_at lw_m11 29 rfl) rfl
theorem q2550 : (Jvm.Cond.code ({ cls := "EditsMeet$World", name := "hears", desc := "(I)V" } : Jvm.MethodName) prog_22_method_7_code (3 : Nat) (Option.none : Option Jvm.ClassFile.FieldType)) ∈ lw_all := lw_g (lw_at lw_m11 30 rfl) rfl
theorem q2551 : (Jvm.Cond.methodLink "EditsMeet$World" (95 : Nat) ({ cls := "java/util/ArrayList", name := "get", desc := "(I)Ljava/lang/Object;" } : Jvm.MethodName)) ∈ lw_all := lw_g (lw_at lw_m11 31 rfl) rfl
theorem q2552 : (Jvm.Cond.methodLink "EditsMeet$World" (102 : Nat) ({ cls := "EditsMeet$Client", name := "hearsOwn", desc := "()V" } : Jvm.MethodName)) ∈ lw_all := lw_g (lw_at lw_m11 32 rfl) rfl
theorem q2557 : (Jvm.Cond.methodLink "EditsMeet$World" (108 : Nat) ({ cls := "EditsMeet$Client", name := "hears", desc := "(LEditsMeet$Edit;)V" } : Jvm.MethodName)) ∈ lw_all := lw_g (lw_at lw_m11 37 rfl) rfl
theorem q2781 : (Jvm.Cond.instanceMethod ({ cls := "EditsMeet$World", name := "draw", desc := "(I)I" } : Jvm.MethodName)) ∈ lw_all := lw_g (lw_at lw_m12 21 rfl) rfl
theorem q2782 : (Jvm.Cond.selects "EditsMeet$World" ({ cls := "EditsMeet$World", name := "draw", desc := "(I)I" } : Jvm.MethodName) ({ cls := "EditsMeet$World", name := "draw", desc := "(I)I" } : Jvm.MethodName)) ∈ lw_all := lw_g (lw_at lw_m12 22 rfl) rfl
theorem q2783 : (Jvm.Cond.code ({ cls := "EditsMeet$World", name := "draw", desc := "(I)I" } : Jvm.MethodName) prog_22_method_8_code (2 : Nat) (Option.some Jvm.ClassFile.FieldType.int)) ∈ lw_all := lw_g (lw_at lw_m12 23 rfl) rfl
theorem q2784 : (Jvm.Cond.constant "EditsMeet$World" (111 : Nat) (1103515245 : Int32)) ∈ lw_all := lw_g (lw_at lw_m12 24 rfl) rfl
theorem q2798 : (Jvm.Cond.instanceMethod ({ cls := "EditsMeet$World", name := "becomes", desc := "(LEditsMeet$World;)LEditsMeet$World;" } : Jvm.MethodName)) ∈ lw_all := lw_g (lw_at lw_m12 38 rfl) rfl
theorem q2799 : (Jvm.Cond.selects "EditsMeet$World" ({ cls := "EditsMeet$World", name := "becomes", desc := "(LEditsMeet$World;)LEditsMeet$World;" } : Jvm.MethodName) ({ cls := "EditsMeet$World", name := "becomes", desc := "(LEditsMeet$World;)LEditsMeet$World;" } : Jvm.MethodName)) ∈ lw_all := lw_g (lw_at lw_m12 39 rfl) rfl
theorem q2800 : (Jvm.Cond.code ({ cls := "EditsMeet$World", name := "becomes", desc := "(LEditsMeet$World;)LEditsMeet$World;" } : Jvm.MethodName) prog_22_method_2_code (3 : Nat) (Option.some (Jvm.ClassFile.FieldType.object "EditsMeet$World"))) ∈ lw_all := lw_g (lw_at lw_m12 40 rfl) rfl
theorem q2801 : (Jvm.Cond.methodLink "EditsMeet$World" (45 : Nat) ({ cls := "EditsMeet$Client", name := "becomes", desc := "(LEditsMeet$Client;)V" } : Jvm.MethodName)) ∈ lw_all := lw_g (lw_at lw_m12 41 rfl) rfl
theorem q3010 : (Jvm.Cond.methodLink "EditsMeet$World" (49 : Nat) ({ cls := "EditsMeet$Text", name := "becomes", desc := "(LEditsMeet$Text;)LEditsMeet$Text;" } : Jvm.MethodName)) ∈ lw_all := lw_g (lw_at lw_m13 10 rfl) rfl
theorem q3011 : (Jvm.Cond.methodLink "EditsMeet$World" (52 : Nat) ({ cls := "java/util/ArrayList", name := "clear", desc := "()V" } : Jvm.MethodName)) ∈ lw_all := lw_g (lw_at lw_m13 11 rfl) rfl
theorem q3012 : (Jvm.Cond.methodLink "EditsMeet$World" (55 : Nat) ({ cls := "java/util/ArrayList", name := "addAll", desc := "(Ljava/util/Collection;)Z" } : Jvm.MethodName)) ∈ lw_all := lw_g (lw_at lw_m13 12 rfl) rfl
theorem q3629 : (Jvm.Cond.castable "EditsMeet$World" "java/lang/Object") ∈ lw_tbl := lw_at lw_m15 149 rfl
theorem in_X1 : ∀ w ∈ wsX10, w ∈ lw_all := lw_in wsX10 [549, 551, 553, 555, 557] (by decide +kernel) (by decide +kernel)

/-! EditsMeet$Text -/
set_option maxRecDepth 100000
def RX2 : String := "EditsMeet$Text"
def TX2 : u_T := fun k => match k with
  | 0 => ("EditsMeet$Text", "letters", "Ljava/lang/StringBuilder;", true)
  | _ => ("EditsMeet$Text", "marks", "Ljava/lang/StringBuilder;", true)
def tyX2 : Nat → FieldType := fun k => match k with
  | 0 => .object "java/lang/StringBuilder"
  | _ => .object "java/lang/StringBuilder"
abbrev wsX20 : List Cond := u_ws RX2 TX2 2
theorem nmX2 : ∀ a, a < 2 → ∀ b, b < 2 → a ≠ b → (TX2 a).2.1 ≠ (TX2 b).2.1 := by decide +kernel
theorem tyX2_ok : ∀ k, k < 2 → parseFieldDescriptor (TX2 k).2.2.1 = some (tyX2 k) := by decide +kernel
abbrev cX2_init : ByteArray := prog_20_method_1_code
def yX2_init : MethodName := ⟨RX2, "<init>", "()V"⟩
def dkwX2_init_1 : List UInt8 := [181, 0, 18, 177]
abbrev dktX2_init_1 : List UInt8 := dkwX2_init_1 ++ []
def dkwX2_init_0 : List UInt8 := [42, 183, 0, 3, 42, 187, 0, 9, 89, 183, 0, 11, 181, 0, 12, 42, 187, 0, 9, 89, 183, 0, 11]
abbrev dktX2_init_0 : List UInt8 := dkwX2_init_0 ++ dktX2_init_1
theorem dksX2_init_0 : cX2_init.data.toList.drop 0 = dktX2_init_0 := by decide +kernel
theorem dksX2_init_1 : cX2_init.data.toList.drop 23 = dktX2_init_1 := dk_seg dksX2_init_0 23 rfl rfl
theorem dX2_init_0 : decode cX2_init 0 = .ok (.aload_n 0, 1) := dk_42 (dk_at dksX2_init_0 0 rfl rfl)
theorem dX2_init_1 : decode cX2_init 1 = .ok (.invokespecial 3, 3) := dk_183 0 3 (dk_at dksX2_init_0 1 rfl rfl)
theorem dX2_init_4 : decode cX2_init 4 = .ok (.aload_n 0, 1) := dk_42 (dk_at dksX2_init_0 4 rfl rfl)
theorem dX2_init_5 : decode cX2_init 5 = .ok (.new 9, 3) := dk_187 0 9 (dk_at dksX2_init_0 5 rfl rfl)
theorem dX2_init_8 : decode cX2_init 8 = .ok (.dup, 1) := dk_89 (dk_at dksX2_init_0 8 rfl rfl)
theorem dX2_init_9 : decode cX2_init 9 = .ok (.invokespecial 11, 3) := dk_183 0 11 (dk_at dksX2_init_0 9 rfl rfl)
theorem dX2_init_12 : decode cX2_init 12 = .ok (.putfield 12, 3) := dk_181 0 12 (dk_at dksX2_init_0 12 rfl rfl)
theorem dX2_init_15 : decode cX2_init 15 = .ok (.aload_n 0, 1) := dk_42 (dk_at dksX2_init_0 15 rfl rfl)
theorem dX2_init_16 : decode cX2_init 16 = .ok (.new 9, 3) := dk_187 0 9 (dk_at dksX2_init_0 16 rfl rfl)
theorem dX2_init_19 : decode cX2_init 19 = .ok (.dup, 1) := dk_89 (dk_at dksX2_init_0 19 rfl rfl)
theorem dX2_init_20 : decode cX2_init 20 = .ok (.invokespecial 11, 3) := dk_183 0 11 (dk_at dksX2_init_0 20 rfl rfl)
theorem dX2_init_23 : decode cX2_init 23 = .ok (.putfield 18, 3) := dk_181 0 18 (dk_at dksX2_init_1 0 rfl rfl)
theorem dX2_init_26 : decode cX2_init 26 = .ok (.return_, 1) := dk_177 (dk_at dksX2_init_1 3 rfl rfl)
abbrev cX2_length : ByteArray := prog_20_method_3_code
def yX2_length : MethodName := ⟨RX2, "length", "()I"⟩
def dkwX2_length_0 : List UInt8 := [42, 180, 0, 12, 182, 0, 29, 172]
abbrev dktX2_length_0 : List UInt8 := dkwX2_length_0 ++ []
theorem dksX2_length_0 : cX2_length.data.toList.drop 0 = dktX2_length_0 := by decide +kernel
theorem dX2_length_0 : decode cX2_length 0 = .ok (.aload_n 0, 1) := dk_42 (dk_at dksX2_length_0 0 rfl rfl)
theorem dX2_length_1 : decode cX2_length 1 = .ok (.getfield 12, 3) := dk_180 0 12 (dk_at dksX2_length_0 1 rfl rfl)
theorem dX2_length_4 : decode cX2_length 4 = .ok (.invokevirtual 29, 3) := dk_182 0 29 (dk_at dksX2_length_0 4 rfl rfl)
theorem dX2_length_7 : decode cX2_length 7 = .ok (.ireturn, 1) := dk_172 (dk_at dksX2_length_0 7 rfl rfl)
abbrev cX2_turned : ByteArray := prog_20_method_8_code
def yX2_turned : MethodName := ⟨RX2, "turned", "(LEditsMeet$Edit;LEditsMeet$Edit;)LEditsMeet$Edit;"⟩
def dkwX2_turned_8 : List UInt8 := [167, 255, 83, 43, 182, 0, 114, 176]
abbrev dktX2_turned_8 : List UInt8 := dkwX2_turned_8 ++ []
def dkwX2_turned_7 : List UInt8 := [182, 0, 107, 132, 6, 1, 167, 255, 202, 29, 25, 5, 185, 0, 111, 1, 0, 96, 62, 132, 4, 1]
abbrev dktX2_turned_7 : List UInt8 := dkwX2_turned_7 ++ dktX2_turned_8
def dkwX2_turned_6 : List UInt8 := [185, 0, 79, 2, 0, 54, 8, 43, 21, 7, 21, 8, 2, 130, 126, 21, 8, 21, 7, 2, 130, 126]
abbrev dktX2_turned_6 : List UInt8 := dkwX2_turned_6 ++ dktX2_turned_7
def dkwX2_turned_5 : List UInt8 := [185, 0, 68, 1, 0, 96, 162, 0, 46, 42, 21, 6, 182, 0, 75, 54, 7, 25, 5, 21, 7]
abbrev dktX2_turned_5 : List UInt8 := dkwX2_turned_5 ++ dktX2_turned_6
def dkwX2_turned_4 : List UInt8 := [96, 182, 0, 100, 184, 0, 104, 182, 0, 96, 87, 167, 0, 63, 29, 54, 6, 21, 6, 29, 25, 5]
abbrev dktX2_turned_4 : List UInt8 := dkwX2_turned_4 ++ dktX2_turned_5
def dkwX2_turned_3 : List UInt8 := [25, 5, 185, 0, 68, 1, 0, 96, 182, 0, 100, 42, 180, 0, 18, 29, 29, 25, 5, 185, 0, 68, 1, 0]
abbrev dktX2_turned_3 : List UInt8 := dkwX2_turned_3 ++ dktX2_turned_4
def dkwX2_turned_2 : List UInt8 := [182, 0, 96, 87, 167, 0, 118, 25, 5, 185, 0, 62, 1, 0, 153, 0, 48, 43, 42, 180, 0, 12, 29, 29]
abbrev dktX2_turned_2 : List UInt8 := dkwX2_turned_2 ++ dktX2_turned_3
def dkwX2_turned_1 : List UInt8 := [58, 5, 25, 5, 185, 0, 91, 1, 0, 153, 0, 21, 43, 25, 5, 185, 0, 68, 1, 0, 184, 0, 94]
abbrev dktX2_turned_1 : List UInt8 := dkwX2_turned_1 ++ dktX2_turned_2
def dkwX2_turned_0 : List UInt8 := [43, 182, 0, 88, 3, 62, 3, 54, 4, 21, 4, 44, 182, 0, 42, 162, 0, 170, 44, 21, 4, 182, 0, 47]
abbrev dktX2_turned_0 : List UInt8 := dkwX2_turned_0 ++ dktX2_turned_1
theorem dksX2_turned_0 : cX2_turned.data.toList.drop 0 = dktX2_turned_0 := by decide +kernel
theorem dksX2_turned_1 : cX2_turned.data.toList.drop 24 = dktX2_turned_1 := dk_seg dksX2_turned_0 24 rfl rfl
theorem dksX2_turned_2 : cX2_turned.data.toList.drop 47 = dktX2_turned_2 := dk_seg dksX2_turned_1 23 rfl rfl
theorem dksX2_turned_3 : cX2_turned.data.toList.drop 71 = dktX2_turned_3 := dk_seg dksX2_turned_2 24 rfl rfl
theorem dksX2_turned_4 : cX2_turned.data.toList.drop 95 = dktX2_turned_4 := dk_seg dksX2_turned_3 24 rfl rfl
theorem dksX2_turned_5 : cX2_turned.data.toList.drop 117 = dktX2_turned_5 := dk_seg dksX2_turned_4 22 rfl rfl
theorem dksX2_turned_6 : cX2_turned.data.toList.drop 138 = dktX2_turned_6 := dk_seg dksX2_turned_5 21 rfl rfl
theorem dksX2_turned_7 : cX2_turned.data.toList.drop 160 = dktX2_turned_7 := dk_seg dksX2_turned_6 22 rfl rfl
theorem dksX2_turned_8 : cX2_turned.data.toList.drop 182 = dktX2_turned_8 := dk_seg dksX2_turned_7 22 rfl rfl
theorem dX2_turned_0 : decode cX2_turned 0 = .ok (.aload_n 1, 1) := dk_43 (dk_at dksX2_turned_0 0 rfl rfl)
theorem dX2_turned_1 : decode cX2_turned 1 = .ok (.invokevirtual 88, 3) := dk_182 0 88 (dk_at dksX2_turned_0 1 rfl rfl)
theorem dX2_turned_4 : decode cX2_turned 4 = .ok (.iconst 0, 1) := dk_3 (dk_at dksX2_turned_0 4 rfl rfl)
theorem dX2_turned_5 : decode cX2_turned 5 = .ok (.istore_n 3, 1) := dk_62 (dk_at dksX2_turned_0 5 rfl rfl)
theorem dX2_turned_6 : decode cX2_turned 6 = .ok (.iconst 0, 1) := dk_3 (dk_at dksX2_turned_0 6 rfl rfl)
theorem dX2_turned_7 : decode cX2_turned 7 = .ok (.istore 4, 2) := dk_54 4 (dk_at dksX2_turned_0 7 rfl rfl)
theorem dX2_turned_9 : decode cX2_turned 9 = .ok (.iload 4, 2) := dk_21 4 (dk_at dksX2_turned_0 9 rfl rfl)
theorem dX2_turned_11 : decode cX2_turned 11 = .ok (.aload_n 2, 1) := dk_44 (dk_at dksX2_turned_0 11 rfl rfl)
theorem dX2_turned_12 : decode cX2_turned 12 = .ok (.invokevirtual 42, 3) := dk_182 0 42 (dk_at dksX2_turned_0 12 rfl rfl)
theorem dX2_turned_15 : decode cX2_turned 15 = .ok (.if_icmp .ge 170, 3) := dk_162 0 170 (dk_at dksX2_turned_0 15 rfl rfl)
theorem dX2_turned_18 : decode cX2_turned 18 = .ok (.aload_n 2, 1) := dk_44 (dk_at dksX2_turned_0 18 rfl rfl)
theorem dX2_turned_19 : decode cX2_turned 19 = .ok (.iload 4, 2) := dk_21 4 (dk_at dksX2_turned_0 19 rfl rfl)
theorem dX2_turned_21 : decode cX2_turned 21 = .ok (.invokevirtual 47, 3) := dk_182 0 47 (dk_at dksX2_turned_0 21 rfl rfl)
theorem dX2_turned_24 : decode cX2_turned 24 = .ok (.astore 5, 2) := dk_58 5 (dk_at dksX2_turned_1 0 rfl rfl)
theorem dX2_turned_26 : decode cX2_turned 26 = .ok (.aload 5, 2) := dk_25 5 (dk_at dksX2_turned_1 2 rfl rfl)
theorem dX2_turned_28 : decode cX2_turned 28 = .ok (.invokeinterface 91 1, 5) := by decide +kernel
theorem dX2_turned_33 : decode cX2_turned 33 = .ok (.ifCond .eq 21, 3) := dk_153 0 21 (dk_at dksX2_turned_1 9 rfl rfl)
theorem dX2_turned_36 : decode cX2_turned 36 = .ok (.aload_n 1, 1) := dk_43 (dk_at dksX2_turned_1 12 rfl rfl)
theorem dX2_turned_37 : decode cX2_turned 37 = .ok (.aload 5, 2) := dk_25 5 (dk_at dksX2_turned_1 13 rfl rfl)
theorem dX2_turned_39 : decode cX2_turned 39 = .ok (.invokeinterface 68 1, 5) := by decide +kernel
theorem dX2_turned_44 : decode cX2_turned 44 = .ok (.invokestatic 94, 3) := dk_184 0 94 (dk_at dksX2_turned_1 20 rfl rfl)
theorem dX2_turned_47 : decode cX2_turned 47 = .ok (.invokevirtual 96, 3) := dk_182 0 96 (dk_at dksX2_turned_2 0 rfl rfl)
theorem dX2_turned_50 : decode cX2_turned 50 = .ok (.pop, 1) := dk_87 (dk_at dksX2_turned_2 3 rfl rfl)
theorem dX2_turned_51 : decode cX2_turned 51 = .ok (.goto 118, 3) := dk_167 0 118 (dk_at dksX2_turned_2 4 rfl rfl)
theorem dX2_turned_54 : decode cX2_turned 54 = .ok (.aload 5, 2) := dk_25 5 (dk_at dksX2_turned_2 7 rfl rfl)
theorem dX2_turned_56 : decode cX2_turned 56 = .ok (.invokeinterface 62 1, 5) := by decide +kernel
theorem dX2_turned_61 : decode cX2_turned 61 = .ok (.ifCond .eq 48, 3) := dk_153 0 48 (dk_at dksX2_turned_2 14 rfl rfl)
theorem dX2_turned_64 : decode cX2_turned 64 = .ok (.aload_n 1, 1) := dk_43 (dk_at dksX2_turned_2 17 rfl rfl)
theorem dX2_turned_65 : decode cX2_turned 65 = .ok (.aload_n 0, 1) := dk_42 (dk_at dksX2_turned_2 18 rfl rfl)
theorem dX2_turned_66 : decode cX2_turned 66 = .ok (.getfield 12, 3) := dk_180 0 12 (dk_at dksX2_turned_2 19 rfl rfl)
theorem dX2_turned_69 : decode cX2_turned 69 = .ok (.iload_n 3, 1) := dk_29 (dk_at dksX2_turned_2 22 rfl rfl)
theorem dX2_turned_70 : decode cX2_turned 70 = .ok (.iload_n 3, 1) := dk_29 (dk_at dksX2_turned_2 23 rfl rfl)
theorem dX2_turned_71 : decode cX2_turned 71 = .ok (.aload 5, 2) := dk_25 5 (dk_at dksX2_turned_3 0 rfl rfl)
theorem dX2_turned_73 : decode cX2_turned 73 = .ok (.invokeinterface 68 1, 5) := by decide +kernel
theorem dX2_turned_78 : decode cX2_turned 78 = .ok (.iadd, 1) := dk_96 (dk_at dksX2_turned_3 7 rfl rfl)
theorem dX2_turned_79 : decode cX2_turned 79 = .ok (.invokevirtual 100, 3) := dk_182 0 100 (dk_at dksX2_turned_3 8 rfl rfl)
theorem dX2_turned_82 : decode cX2_turned 82 = .ok (.aload_n 0, 1) := dk_42 (dk_at dksX2_turned_3 11 rfl rfl)
theorem dX2_turned_83 : decode cX2_turned 83 = .ok (.getfield 18, 3) := dk_180 0 18 (dk_at dksX2_turned_3 12 rfl rfl)
theorem dX2_turned_86 : decode cX2_turned 86 = .ok (.iload_n 3, 1) := dk_29 (dk_at dksX2_turned_3 15 rfl rfl)
theorem dX2_turned_87 : decode cX2_turned 87 = .ok (.iload_n 3, 1) := dk_29 (dk_at dksX2_turned_3 16 rfl rfl)
theorem dX2_turned_88 : decode cX2_turned 88 = .ok (.aload 5, 2) := dk_25 5 (dk_at dksX2_turned_3 17 rfl rfl)
theorem dX2_turned_90 : decode cX2_turned 90 = .ok (.invokeinterface 68 1, 5) := by decide +kernel
theorem dX2_turned_95 : decode cX2_turned 95 = .ok (.iadd, 1) := dk_96 (dk_at dksX2_turned_4 0 rfl rfl)
theorem dX2_turned_96 : decode cX2_turned 96 = .ok (.invokevirtual 100, 3) := dk_182 0 100 (dk_at dksX2_turned_4 1 rfl rfl)
theorem dX2_turned_99 : decode cX2_turned 99 = .ok (.invokestatic 104, 3) := dk_184 0 104 (dk_at dksX2_turned_4 4 rfl rfl)
theorem dX2_turned_102 : decode cX2_turned 102 = .ok (.invokevirtual 96, 3) := dk_182 0 96 (dk_at dksX2_turned_4 7 rfl rfl)
theorem dX2_turned_105 : decode cX2_turned 105 = .ok (.pop, 1) := dk_87 (dk_at dksX2_turned_4 10 rfl rfl)
theorem dX2_turned_106 : decode cX2_turned 106 = .ok (.goto 63, 3) := dk_167 0 63 (dk_at dksX2_turned_4 11 rfl rfl)
theorem dX2_turned_109 : decode cX2_turned 109 = .ok (.iload_n 3, 1) := dk_29 (dk_at dksX2_turned_4 14 rfl rfl)
theorem dX2_turned_110 : decode cX2_turned 110 = .ok (.istore 6, 2) := dk_54 6 (dk_at dksX2_turned_4 15 rfl rfl)
theorem dX2_turned_112 : decode cX2_turned 112 = .ok (.iload 6, 2) := dk_21 6 (dk_at dksX2_turned_4 17 rfl rfl)
theorem dX2_turned_114 : decode cX2_turned 114 = .ok (.iload_n 3, 1) := dk_29 (dk_at dksX2_turned_4 19 rfl rfl)
theorem dX2_turned_115 : decode cX2_turned 115 = .ok (.aload 5, 2) := dk_25 5 (dk_at dksX2_turned_4 20 rfl rfl)
theorem dX2_turned_117 : decode cX2_turned 117 = .ok (.invokeinterface 68 1, 5) := by decide +kernel
theorem dX2_turned_122 : decode cX2_turned 122 = .ok (.iadd, 1) := dk_96 (dk_at dksX2_turned_5 5 rfl rfl)
theorem dX2_turned_123 : decode cX2_turned 123 = .ok (.if_icmp .ge 46, 3) := dk_162 0 46 (dk_at dksX2_turned_5 6 rfl rfl)
theorem dX2_turned_126 : decode cX2_turned 126 = .ok (.aload_n 0, 1) := dk_42 (dk_at dksX2_turned_5 9 rfl rfl)
theorem dX2_turned_127 : decode cX2_turned 127 = .ok (.iload 6, 2) := dk_21 6 (dk_at dksX2_turned_5 10 rfl rfl)
theorem dX2_turned_129 : decode cX2_turned 129 = .ok (.invokevirtual 75, 3) := dk_182 0 75 (dk_at dksX2_turned_5 12 rfl rfl)
theorem dX2_turned_132 : decode cX2_turned 132 = .ok (.istore 7, 2) := dk_54 7 (dk_at dksX2_turned_5 15 rfl rfl)
theorem dX2_turned_134 : decode cX2_turned 134 = .ok (.aload 5, 2) := dk_25 5 (dk_at dksX2_turned_5 17 rfl rfl)
theorem dX2_turned_136 : decode cX2_turned 136 = .ok (.iload 7, 2) := dk_21 7 (dk_at dksX2_turned_5 19 rfl rfl)
theorem dX2_turned_138 : decode cX2_turned 138 = .ok (.invokeinterface 79 2, 5) := by decide +kernel
theorem dX2_turned_143 : decode cX2_turned 143 = .ok (.istore 8, 2) := dk_54 8 (dk_at dksX2_turned_6 5 rfl rfl)
theorem dX2_turned_145 : decode cX2_turned 145 = .ok (.aload_n 1, 1) := dk_43 (dk_at dksX2_turned_6 7 rfl rfl)
theorem dX2_turned_146 : decode cX2_turned 146 = .ok (.iload 7, 2) := dk_21 7 (dk_at dksX2_turned_6 8 rfl rfl)
theorem dX2_turned_148 : decode cX2_turned 148 = .ok (.iload 8, 2) := dk_21 8 (dk_at dksX2_turned_6 10 rfl rfl)
theorem dX2_turned_150 : decode cX2_turned 150 = .ok (.iconst (-1), 1) := dk_2 (dk_at dksX2_turned_6 12 rfl rfl)
theorem dX2_turned_151 : decode cX2_turned 151 = .ok (.ixor, 1) := dk_130 (dk_at dksX2_turned_6 13 rfl rfl)
theorem dX2_turned_152 : decode cX2_turned 152 = .ok (.iand, 1) := dk_126 (dk_at dksX2_turned_6 14 rfl rfl)
theorem dX2_turned_153 : decode cX2_turned 153 = .ok (.iload 8, 2) := dk_21 8 (dk_at dksX2_turned_6 15 rfl rfl)
theorem dX2_turned_155 : decode cX2_turned 155 = .ok (.iload 7, 2) := dk_21 7 (dk_at dksX2_turned_6 17 rfl rfl)
theorem dX2_turned_157 : decode cX2_turned 157 = .ok (.iconst (-1), 1) := dk_2 (dk_at dksX2_turned_6 19 rfl rfl)
theorem dX2_turned_158 : decode cX2_turned 158 = .ok (.ixor, 1) := dk_130 (dk_at dksX2_turned_6 20 rfl rfl)
theorem dX2_turned_159 : decode cX2_turned 159 = .ok (.iand, 1) := dk_126 (dk_at dksX2_turned_6 21 rfl rfl)
theorem dX2_turned_160 : decode cX2_turned 160 = .ok (.invokevirtual 107, 3) := dk_182 0 107 (dk_at dksX2_turned_7 0 rfl rfl)
theorem dX2_turned_163 : decode cX2_turned 163 = .ok (.iinc 6 1, 3) := dk_132 6 1 (dk_at dksX2_turned_7 3 rfl rfl)
theorem dX2_turned_166 : decode cX2_turned 166 = .ok (.goto (-54), 3) := dk_167 255 202 (dk_at dksX2_turned_7 6 rfl rfl)
theorem dX2_turned_169 : decode cX2_turned 169 = .ok (.iload_n 3, 1) := dk_29 (dk_at dksX2_turned_7 9 rfl rfl)
theorem dX2_turned_170 : decode cX2_turned 170 = .ok (.aload 5, 2) := dk_25 5 (dk_at dksX2_turned_7 10 rfl rfl)
theorem dX2_turned_172 : decode cX2_turned 172 = .ok (.invokeinterface 111 1, 5) := by decide +kernel
theorem dX2_turned_177 : decode cX2_turned 177 = .ok (.iadd, 1) := dk_96 (dk_at dksX2_turned_7 17 rfl rfl)
theorem dX2_turned_178 : decode cX2_turned 178 = .ok (.istore_n 3, 1) := dk_62 (dk_at dksX2_turned_7 18 rfl rfl)
theorem dX2_turned_179 : decode cX2_turned 179 = .ok (.iinc 4 1, 3) := dk_132 4 1 (dk_at dksX2_turned_7 19 rfl rfl)
theorem dX2_turned_182 : decode cX2_turned 182 = .ok (.goto (-173), 3) := dk_167 255 83 (dk_at dksX2_turned_8 0 rfl rfl)
theorem dX2_turned_185 : decode cX2_turned 185 = .ok (.aload_n 1, 1) := dk_43 (dk_at dksX2_turned_8 3 rfl rfl)
theorem dX2_turned_186 : decode cX2_turned 186 = .ok (.invokevirtual 114, 3) := dk_182 0 114 (dk_at dksX2_turned_8 4 rfl rfl)
theorem dX2_turned_189 : decode cX2_turned 189 = .ok (.areturn, 1) := dk_176 (dk_at dksX2_turned_8 7 rfl rfl)
abbrev cX2_mark : ByteArray := prog_20_method_5_code
def yX2_mark : MethodName := ⟨RX2, "mark", "(I)I"⟩
def dkwX2_mark_0 : List UInt8 := [42, 180, 0, 18, 27, 182, 0, 33, 172]
abbrev dktX2_mark_0 : List UInt8 := dkwX2_mark_0 ++ []
theorem dksX2_mark_0 : cX2_mark.data.toList.drop 0 = dktX2_mark_0 := by decide +kernel
theorem dX2_mark_0 : decode cX2_mark 0 = .ok (.aload_n 0, 1) := dk_42 (dk_at dksX2_mark_0 0 rfl rfl)
theorem dX2_mark_1 : decode cX2_mark 1 = .ok (.getfield 18, 3) := dk_180 0 18 (dk_at dksX2_mark_0 1 rfl rfl)
theorem dX2_mark_4 : decode cX2_mark 4 = .ok (.iload_n 1, 1) := dk_27 (dk_at dksX2_mark_0 4 rfl rfl)
theorem dX2_mark_5 : decode cX2_mark 5 = .ok (.invokevirtual 33, 3) := dk_182 0 33 (dk_at dksX2_mark_0 5 rfl rfl)
theorem dX2_mark_8 : decode cX2_mark 8 = .ok (.ireturn, 1) := dk_172 (dk_at dksX2_mark_0 8 rfl rfl)
abbrev cX2_does : ByteArray := prog_20_method_7_code
def yX2_does : MethodName := ⟨RX2, "does", "(LEditsMeet$Edit;)V"⟩
def dkwX2_does_7 : List UInt8 := [185, 0, 85, 1, 0, 96, 61, 132, 3, 1, 167, 255, 87, 177]
abbrev dktX2_does_7 : List UInt8 := dkwX2_does_7 ++ []
def dkwX2_does_6 : List UInt8 := [21, 6, 182, 0, 75, 185, 0, 79, 2, 0, 146, 182, 0, 81, 132, 6, 1, 167, 255, 216, 28, 25, 4]
abbrev dktX2_does_6 : List UInt8 := dkwX2_does_6 ++ dktX2_does_7
def dkwX2_does_5 : List UInt8 := [21, 6, 28, 25, 4, 185, 0, 68, 1, 0, 96, 162, 0, 32, 42, 180, 0, 18, 21, 6, 25, 4, 42]
abbrev dktX2_does_5 : List UInt8 := dkwX2_does_5 ++ dktX2_does_6
def dkwX2_does_4 : List UInt8 := [180, 0, 18, 28, 28, 25, 4, 185, 0, 68, 1, 0, 96, 182, 0, 71, 87, 167, 0, 49, 28, 54, 6]
abbrev dktX2_does_4 : List UInt8 := dkwX2_does_4 ++ dktX2_does_5
def dkwX2_does_3 : List UInt8 := [153, 0, 42, 42, 180, 0, 12, 28, 28, 25, 4, 185, 0, 68, 1, 0, 96, 182, 0, 71, 87, 42]
abbrev dktX2_does_3 : List UInt8 := dkwX2_does_3 ++ dktX2_does_4
def dkwX2_does_2 : List UInt8 := [42, 180, 0, 18, 28, 25, 5, 180, 0, 60, 182, 0, 56, 87, 167, 0, 98, 25, 4, 185, 0, 62, 1, 0]
abbrev dktX2_does_2 : List UInt8 := dkwX2_does_2 ++ dktX2_does_3
def dkwX2_does_1 : List UInt8 := [153, 0, 41, 25, 4, 192, 0, 51, 58, 5, 42, 180, 0, 12, 28, 25, 5, 180, 0, 53, 182, 0, 56, 87]
abbrev dktX2_does_1 : List UInt8 := dkwX2_does_1 ++ dktX2_does_2
def dkwX2_does_0 : List UInt8 := [3, 61, 3, 62, 29, 43, 182, 0, 42, 162, 0, 167, 43, 29, 182, 0, 47, 58, 4, 25, 4, 193, 0, 51]
abbrev dktX2_does_0 : List UInt8 := dkwX2_does_0 ++ dktX2_does_1
theorem dksX2_does_0 : cX2_does.data.toList.drop 0 = dktX2_does_0 := by decide +kernel
theorem dksX2_does_1 : cX2_does.data.toList.drop 24 = dktX2_does_1 := dk_seg dksX2_does_0 24 rfl rfl
theorem dksX2_does_2 : cX2_does.data.toList.drop 48 = dktX2_does_2 := dk_seg dksX2_does_1 24 rfl rfl
theorem dksX2_does_3 : cX2_does.data.toList.drop 72 = dktX2_does_3 := dk_seg dksX2_does_2 24 rfl rfl
theorem dksX2_does_4 : cX2_does.data.toList.drop 94 = dktX2_does_4 := dk_seg dksX2_does_3 22 rfl rfl
theorem dksX2_does_5 : cX2_does.data.toList.drop 117 = dktX2_does_5 := dk_seg dksX2_does_4 23 rfl rfl
theorem dksX2_does_6 : cX2_does.data.toList.drop 140 = dktX2_does_6 := dk_seg dksX2_does_5 23 rfl rfl
theorem dksX2_does_7 : cX2_does.data.toList.drop 163 = dktX2_does_7 := dk_seg dksX2_does_6 23 rfl rfl
theorem dX2_does_0 : decode cX2_does 0 = .ok (.iconst 0, 1) := dk_3 (dk_at dksX2_does_0 0 rfl rfl)
theorem dX2_does_1 : decode cX2_does 1 = .ok (.istore_n 2, 1) := dk_61 (dk_at dksX2_does_0 1 rfl rfl)
theorem dX2_does_2 : decode cX2_does 2 = .ok (.iconst 0, 1) := dk_3 (dk_at dksX2_does_0 2 rfl rfl)
theorem dX2_does_3 : decode cX2_does 3 = .ok (.istore_n 3, 1) := dk_62 (dk_at dksX2_does_0 3 rfl rfl)
theorem dX2_does_4 : decode cX2_does 4 = .ok (.iload_n 3, 1) := dk_29 (dk_at dksX2_does_0 4 rfl rfl)
theorem dX2_does_5 : decode cX2_does 5 = .ok (.aload_n 1, 1) := dk_43 (dk_at dksX2_does_0 5 rfl rfl)
theorem dX2_does_6 : decode cX2_does 6 = .ok (.invokevirtual 42, 3) := dk_182 0 42 (dk_at dksX2_does_0 6 rfl rfl)
theorem dX2_does_9 : decode cX2_does 9 = .ok (.if_icmp .ge 167, 3) := dk_162 0 167 (dk_at dksX2_does_0 9 rfl rfl)
theorem dX2_does_12 : decode cX2_does 12 = .ok (.aload_n 1, 1) := dk_43 (dk_at dksX2_does_0 12 rfl rfl)
theorem dX2_does_13 : decode cX2_does 13 = .ok (.iload_n 3, 1) := dk_29 (dk_at dksX2_does_0 13 rfl rfl)
theorem dX2_does_14 : decode cX2_does 14 = .ok (.invokevirtual 47, 3) := dk_182 0 47 (dk_at dksX2_does_0 14 rfl rfl)
theorem dX2_does_17 : decode cX2_does 17 = .ok (.astore 4, 2) := dk_58 4 (dk_at dksX2_does_0 17 rfl rfl)
theorem dX2_does_19 : decode cX2_does 19 = .ok (.aload 4, 2) := dk_25 4 (dk_at dksX2_does_0 19 rfl rfl)
theorem dX2_does_21 : decode cX2_does 21 = .ok (.instanceof 51, 3) := dk_193 0 51 (dk_at dksX2_does_0 21 rfl rfl)
theorem dX2_does_24 : decode cX2_does 24 = .ok (.ifCond .eq 41, 3) := dk_153 0 41 (dk_at dksX2_does_1 0 rfl rfl)
theorem dX2_does_27 : decode cX2_does 27 = .ok (.aload 4, 2) := dk_25 4 (dk_at dksX2_does_1 3 rfl rfl)
theorem dX2_does_29 : decode cX2_does 29 = .ok (.checkcast 51, 3) := dk_192 0 51 (dk_at dksX2_does_1 5 rfl rfl)
theorem dX2_does_32 : decode cX2_does 32 = .ok (.astore 5, 2) := dk_58 5 (dk_at dksX2_does_1 8 rfl rfl)
theorem dX2_does_34 : decode cX2_does 34 = .ok (.aload_n 0, 1) := dk_42 (dk_at dksX2_does_1 10 rfl rfl)
theorem dX2_does_35 : decode cX2_does 35 = .ok (.getfield 12, 3) := dk_180 0 12 (dk_at dksX2_does_1 11 rfl rfl)
theorem dX2_does_38 : decode cX2_does 38 = .ok (.iload_n 2, 1) := dk_28 (dk_at dksX2_does_1 14 rfl rfl)
theorem dX2_does_39 : decode cX2_does 39 = .ok (.aload 5, 2) := dk_25 5 (dk_at dksX2_does_1 15 rfl rfl)
theorem dX2_does_41 : decode cX2_does 41 = .ok (.getfield 53, 3) := dk_180 0 53 (dk_at dksX2_does_1 17 rfl rfl)
theorem dX2_does_44 : decode cX2_does 44 = .ok (.invokevirtual 56, 3) := dk_182 0 56 (dk_at dksX2_does_1 20 rfl rfl)
theorem dX2_does_47 : decode cX2_does 47 = .ok (.pop, 1) := dk_87 (dk_at dksX2_does_1 23 rfl rfl)
theorem dX2_does_48 : decode cX2_does 48 = .ok (.aload_n 0, 1) := dk_42 (dk_at dksX2_does_2 0 rfl rfl)
theorem dX2_does_49 : decode cX2_does 49 = .ok (.getfield 18, 3) := dk_180 0 18 (dk_at dksX2_does_2 1 rfl rfl)
theorem dX2_does_52 : decode cX2_does 52 = .ok (.iload_n 2, 1) := dk_28 (dk_at dksX2_does_2 4 rfl rfl)
theorem dX2_does_53 : decode cX2_does 53 = .ok (.aload 5, 2) := dk_25 5 (dk_at dksX2_does_2 5 rfl rfl)
theorem dX2_does_55 : decode cX2_does 55 = .ok (.getfield 60, 3) := dk_180 0 60 (dk_at dksX2_does_2 7 rfl rfl)
theorem dX2_does_58 : decode cX2_does 58 = .ok (.invokevirtual 56, 3) := dk_182 0 56 (dk_at dksX2_does_2 10 rfl rfl)
theorem dX2_does_61 : decode cX2_does 61 = .ok (.pop, 1) := dk_87 (dk_at dksX2_does_2 13 rfl rfl)
theorem dX2_does_62 : decode cX2_does 62 = .ok (.goto 98, 3) := dk_167 0 98 (dk_at dksX2_does_2 14 rfl rfl)
theorem dX2_does_65 : decode cX2_does 65 = .ok (.aload 4, 2) := dk_25 4 (dk_at dksX2_does_2 17 rfl rfl)
theorem dX2_does_67 : decode cX2_does 67 = .ok (.invokeinterface 62 1, 5) := by decide +kernel
theorem dX2_does_72 : decode cX2_does 72 = .ok (.ifCond .eq 42, 3) := dk_153 0 42 (dk_at dksX2_does_3 0 rfl rfl)
theorem dX2_does_75 : decode cX2_does 75 = .ok (.aload_n 0, 1) := dk_42 (dk_at dksX2_does_3 3 rfl rfl)
theorem dX2_does_76 : decode cX2_does 76 = .ok (.getfield 12, 3) := dk_180 0 12 (dk_at dksX2_does_3 4 rfl rfl)
theorem dX2_does_79 : decode cX2_does 79 = .ok (.iload_n 2, 1) := dk_28 (dk_at dksX2_does_3 7 rfl rfl)
theorem dX2_does_80 : decode cX2_does 80 = .ok (.iload_n 2, 1) := dk_28 (dk_at dksX2_does_3 8 rfl rfl)
theorem dX2_does_81 : decode cX2_does 81 = .ok (.aload 4, 2) := dk_25 4 (dk_at dksX2_does_3 9 rfl rfl)
theorem dX2_does_83 : decode cX2_does 83 = .ok (.invokeinterface 68 1, 5) := by decide +kernel
theorem dX2_does_88 : decode cX2_does 88 = .ok (.iadd, 1) := dk_96 (dk_at dksX2_does_3 16 rfl rfl)
theorem dX2_does_89 : decode cX2_does 89 = .ok (.invokevirtual 71, 3) := dk_182 0 71 (dk_at dksX2_does_3 17 rfl rfl)
theorem dX2_does_92 : decode cX2_does 92 = .ok (.pop, 1) := dk_87 (dk_at dksX2_does_3 20 rfl rfl)
theorem dX2_does_93 : decode cX2_does 93 = .ok (.aload_n 0, 1) := dk_42 (dk_at dksX2_does_3 21 rfl rfl)
theorem dX2_does_94 : decode cX2_does 94 = .ok (.getfield 18, 3) := dk_180 0 18 (dk_at dksX2_does_4 0 rfl rfl)
theorem dX2_does_97 : decode cX2_does 97 = .ok (.iload_n 2, 1) := dk_28 (dk_at dksX2_does_4 3 rfl rfl)
theorem dX2_does_98 : decode cX2_does 98 = .ok (.iload_n 2, 1) := dk_28 (dk_at dksX2_does_4 4 rfl rfl)
theorem dX2_does_99 : decode cX2_does 99 = .ok (.aload 4, 2) := dk_25 4 (dk_at dksX2_does_4 5 rfl rfl)
theorem dX2_does_101 : decode cX2_does 101 = .ok (.invokeinterface 68 1, 5) := by decide +kernel
theorem dX2_does_106 : decode cX2_does 106 = .ok (.iadd, 1) := dk_96 (dk_at dksX2_does_4 12 rfl rfl)
theorem dX2_does_107 : decode cX2_does 107 = .ok (.invokevirtual 71, 3) := dk_182 0 71 (dk_at dksX2_does_4 13 rfl rfl)
theorem dX2_does_110 : decode cX2_does 110 = .ok (.pop, 1) := dk_87 (dk_at dksX2_does_4 16 rfl rfl)
theorem dX2_does_111 : decode cX2_does 111 = .ok (.goto 49, 3) := dk_167 0 49 (dk_at dksX2_does_4 17 rfl rfl)
theorem dX2_does_114 : decode cX2_does 114 = .ok (.iload_n 2, 1) := dk_28 (dk_at dksX2_does_4 20 rfl rfl)
theorem dX2_does_115 : decode cX2_does 115 = .ok (.istore 6, 2) := dk_54 6 (dk_at dksX2_does_4 21 rfl rfl)
theorem dX2_does_117 : decode cX2_does 117 = .ok (.iload 6, 2) := dk_21 6 (dk_at dksX2_does_5 0 rfl rfl)
theorem dX2_does_119 : decode cX2_does 119 = .ok (.iload_n 2, 1) := dk_28 (dk_at dksX2_does_5 2 rfl rfl)
theorem dX2_does_120 : decode cX2_does 120 = .ok (.aload 4, 2) := dk_25 4 (dk_at dksX2_does_5 3 rfl rfl)
theorem dX2_does_122 : decode cX2_does 122 = .ok (.invokeinterface 68 1, 5) := by decide +kernel
theorem dX2_does_127 : decode cX2_does 127 = .ok (.iadd, 1) := dk_96 (dk_at dksX2_does_5 10 rfl rfl)
theorem dX2_does_128 : decode cX2_does 128 = .ok (.if_icmp .ge 32, 3) := dk_162 0 32 (dk_at dksX2_does_5 11 rfl rfl)
theorem dX2_does_131 : decode cX2_does 131 = .ok (.aload_n 0, 1) := dk_42 (dk_at dksX2_does_5 14 rfl rfl)
theorem dX2_does_132 : decode cX2_does 132 = .ok (.getfield 18, 3) := dk_180 0 18 (dk_at dksX2_does_5 15 rfl rfl)
theorem dX2_does_135 : decode cX2_does 135 = .ok (.iload 6, 2) := dk_21 6 (dk_at dksX2_does_5 18 rfl rfl)
theorem dX2_does_137 : decode cX2_does 137 = .ok (.aload 4, 2) := dk_25 4 (dk_at dksX2_does_5 20 rfl rfl)
theorem dX2_does_139 : decode cX2_does 139 = .ok (.aload_n 0, 1) := dk_42 (dk_at dksX2_does_5 22 rfl rfl)
theorem dX2_does_140 : decode cX2_does 140 = .ok (.iload 6, 2) := dk_21 6 (dk_at dksX2_does_6 0 rfl rfl)
theorem dX2_does_142 : decode cX2_does 142 = .ok (.invokevirtual 75, 3) := dk_182 0 75 (dk_at dksX2_does_6 2 rfl rfl)
theorem dX2_does_145 : decode cX2_does 145 = .ok (.invokeinterface 79 2, 5) := by decide +kernel
theorem dX2_does_150 : decode cX2_does 150 = .ok (.i2c, 1) := dk_146 (dk_at dksX2_does_6 10 rfl rfl)
theorem dX2_does_151 : decode cX2_does 151 = .ok (.invokevirtual 81, 3) := dk_182 0 81 (dk_at dksX2_does_6 11 rfl rfl)
theorem dX2_does_154 : decode cX2_does 154 = .ok (.iinc 6 1, 3) := dk_132 6 1 (dk_at dksX2_does_6 14 rfl rfl)
theorem dX2_does_157 : decode cX2_does 157 = .ok (.goto (-40), 3) := dk_167 255 216 (dk_at dksX2_does_6 17 rfl rfl)
theorem dX2_does_160 : decode cX2_does 160 = .ok (.iload_n 2, 1) := dk_28 (dk_at dksX2_does_6 20 rfl rfl)
theorem dX2_does_161 : decode cX2_does 161 = .ok (.aload 4, 2) := dk_25 4 (dk_at dksX2_does_6 21 rfl rfl)
theorem dX2_does_163 : decode cX2_does 163 = .ok (.invokeinterface 85 1, 5) := by decide +kernel
theorem dX2_does_168 : decode cX2_does 168 = .ok (.iadd, 1) := dk_96 (dk_at dksX2_does_7 5 rfl rfl)
theorem dX2_does_169 : decode cX2_does 169 = .ok (.istore_n 2, 1) := dk_61 (dk_at dksX2_does_7 6 rfl rfl)
theorem dX2_does_170 : decode cX2_does 170 = .ok (.iinc 3 1, 3) := dk_132 3 1 (dk_at dksX2_does_7 7 rfl rfl)
theorem dX2_does_173 : decode cX2_does 173 = .ok (.goto (-169), 3) := dk_167 255 87 (dk_at dksX2_does_7 10 rfl rfl)
theorem dX2_does_176 : decode cX2_does 176 = .ok (.return_, 1) := dk_177 (dk_at dksX2_does_7 13 rfl rfl)
abbrev cX2_edit : ByteArray := prog_20_method_9_code
def yX2_edit : MethodName := ⟨RX2, "edit", "(ILEditsMeet$Part;)LEditsMeet$Edit;"⟩
def dkwX2_edit_1 : List UInt8 := [27, 100, 44, 185, 0, 111, 1, 0, 100, 184, 0, 119, 182, 0, 96, 182, 0, 114, 176]
abbrev dktX2_edit_1 : List UInt8 := dkwX2_edit_1 ++ []
def dkwX2_edit_0 : List UInt8 := [187, 0, 43, 89, 183, 0, 118, 27, 184, 0, 119, 182, 0, 96, 44, 182, 0, 96, 78, 45, 42, 182, 0, 37]
abbrev dktX2_edit_0 : List UInt8 := dkwX2_edit_0 ++ dktX2_edit_1
theorem dksX2_edit_0 : cX2_edit.data.toList.drop 0 = dktX2_edit_0 := by decide +kernel
theorem dksX2_edit_1 : cX2_edit.data.toList.drop 24 = dktX2_edit_1 := dk_seg dksX2_edit_0 24 rfl rfl
theorem dX2_edit_0 : decode cX2_edit 0 = .ok (.new 43, 3) := dk_187 0 43 (dk_at dksX2_edit_0 0 rfl rfl)
theorem dX2_edit_3 : decode cX2_edit 3 = .ok (.dup, 1) := dk_89 (dk_at dksX2_edit_0 3 rfl rfl)
theorem dX2_edit_4 : decode cX2_edit 4 = .ok (.invokespecial 118, 3) := dk_183 0 118 (dk_at dksX2_edit_0 4 rfl rfl)
theorem dX2_edit_7 : decode cX2_edit 7 = .ok (.iload_n 1, 1) := dk_27 (dk_at dksX2_edit_0 7 rfl rfl)
theorem dX2_edit_8 : decode cX2_edit 8 = .ok (.invokestatic 119, 3) := dk_184 0 119 (dk_at dksX2_edit_0 8 rfl rfl)
theorem dX2_edit_11 : decode cX2_edit 11 = .ok (.invokevirtual 96, 3) := dk_182 0 96 (dk_at dksX2_edit_0 11 rfl rfl)
theorem dX2_edit_14 : decode cX2_edit 14 = .ok (.aload_n 2, 1) := dk_44 (dk_at dksX2_edit_0 14 rfl rfl)
theorem dX2_edit_15 : decode cX2_edit 15 = .ok (.invokevirtual 96, 3) := dk_182 0 96 (dk_at dksX2_edit_0 15 rfl rfl)
theorem dX2_edit_18 : decode cX2_edit 18 = .ok (.astore_n 3, 1) := dk_78 (dk_at dksX2_edit_0 18 rfl rfl)
theorem dX2_edit_19 : decode cX2_edit 19 = .ok (.aload_n 3, 1) := dk_45 (dk_at dksX2_edit_0 19 rfl rfl)
theorem dX2_edit_20 : decode cX2_edit 20 = .ok (.aload_n 0, 1) := dk_42 (dk_at dksX2_edit_0 20 rfl rfl)
theorem dX2_edit_21 : decode cX2_edit 21 = .ok (.invokevirtual 37, 3) := dk_182 0 37 (dk_at dksX2_edit_0 21 rfl rfl)
theorem dX2_edit_24 : decode cX2_edit 24 = .ok (.iload_n 1, 1) := dk_27 (dk_at dksX2_edit_1 0 rfl rfl)
theorem dX2_edit_25 : decode cX2_edit 25 = .ok (.isub, 1) := dk_100 (dk_at dksX2_edit_1 1 rfl rfl)
theorem dX2_edit_26 : decode cX2_edit 26 = .ok (.aload_n 2, 1) := dk_44 (dk_at dksX2_edit_1 2 rfl rfl)
theorem dX2_edit_27 : decode cX2_edit 27 = .ok (.invokeinterface 111 1, 5) := by decide +kernel
theorem dX2_edit_32 : decode cX2_edit 32 = .ok (.isub, 1) := dk_100 (dk_at dksX2_edit_1 8 rfl rfl)
theorem dX2_edit_33 : decode cX2_edit 33 = .ok (.invokestatic 119, 3) := dk_184 0 119 (dk_at dksX2_edit_1 9 rfl rfl)
theorem dX2_edit_36 : decode cX2_edit 36 = .ok (.invokevirtual 96, 3) := dk_182 0 96 (dk_at dksX2_edit_1 12 rfl rfl)
theorem dX2_edit_39 : decode cX2_edit 39 = .ok (.invokevirtual 114, 3) := dk_182 0 114 (dk_at dksX2_edit_1 15 rfl rfl)
theorem dX2_edit_42 : decode cX2_edit 42 = .ok (.areturn, 1) := dk_176 (dk_at dksX2_edit_1 18 rfl rfl)
abbrev cX2_isPlace : ByteArray := prog_20_method_6_code
def yX2_isPlace : MethodName := ⟨RX2, "isPlace", "(I)Z"⟩
def dkwX2_isPlace_0 : List UInt8 := [27, 3, 42, 182, 0, 37, 4, 100, 184, 0, 38, 172]
abbrev dktX2_isPlace_0 : List UInt8 := dkwX2_isPlace_0 ++ []
theorem dksX2_isPlace_0 : cX2_isPlace.data.toList.drop 0 = dktX2_isPlace_0 := by decide +kernel
theorem dX2_isPlace_0 : decode cX2_isPlace 0 = .ok (.iload_n 1, 1) := dk_27 (dk_at dksX2_isPlace_0 0 rfl rfl)
theorem dX2_isPlace_1 : decode cX2_isPlace 1 = .ok (.iconst 0, 1) := dk_3 (dk_at dksX2_isPlace_0 1 rfl rfl)
theorem dX2_isPlace_2 : decode cX2_isPlace 2 = .ok (.aload_n 0, 1) := dk_42 (dk_at dksX2_isPlace_0 2 rfl rfl)
theorem dX2_isPlace_3 : decode cX2_isPlace 3 = .ok (.invokevirtual 37, 3) := dk_182 0 37 (dk_at dksX2_isPlace_0 3 rfl rfl)
theorem dX2_isPlace_6 : decode cX2_isPlace 6 = .ok (.iconst 1, 1) := dk_4 (dk_at dksX2_isPlace_0 6 rfl rfl)
theorem dX2_isPlace_7 : decode cX2_isPlace 7 = .ok (.isub, 1) := dk_100 (dk_at dksX2_isPlace_0 7 rfl rfl)
theorem dX2_isPlace_8 : decode cX2_isPlace 8 = .ok (.invokestatic 38, 3) := dk_184 0 38 (dk_at dksX2_isPlace_0 8 rfl rfl)
theorem dX2_isPlace_11 : decode cX2_isPlace 11 = .ok (.ireturn, 1) := dk_172 (dk_at dksX2_isPlace_0 11 rfl rfl)
abbrev cX2_letter : ByteArray := prog_20_method_4_code
def yX2_letter : MethodName := ⟨RX2, "letter", "(I)I"⟩
def dkwX2_letter_0 : List UInt8 := [42, 180, 0, 12, 27, 182, 0, 33, 16, 97, 100, 172]
abbrev dktX2_letter_0 : List UInt8 := dkwX2_letter_0 ++ []
theorem dksX2_letter_0 : cX2_letter.data.toList.drop 0 = dktX2_letter_0 := by decide +kernel
theorem dX2_letter_0 : decode cX2_letter 0 = .ok (.aload_n 0, 1) := dk_42 (dk_at dksX2_letter_0 0 rfl rfl)
theorem dX2_letter_1 : decode cX2_letter 1 = .ok (.getfield 12, 3) := dk_180 0 12 (dk_at dksX2_letter_0 1 rfl rfl)
theorem dX2_letter_4 : decode cX2_letter 4 = .ok (.iload_n 1, 1) := dk_27 (dk_at dksX2_letter_0 4 rfl rfl)
theorem dX2_letter_5 : decode cX2_letter 5 = .ok (.invokevirtual 33, 3) := dk_182 0 33 (dk_at dksX2_letter_0 5 rfl rfl)
theorem dX2_letter_8 : decode cX2_letter 8 = .ok (.bipush 97, 2) := dk_16 97 (dk_at dksX2_letter_0 8 rfl rfl)
theorem dX2_letter_10 : decode cX2_letter 10 = .ok (.isub, 1) := dk_100 (dk_at dksX2_letter_0 10 rfl rfl)
theorem dX2_letter_11 : decode cX2_letter 11 = .ok (.ireturn, 1) := dk_172 (dk_at dksX2_letter_0 11 rfl rfl)
abbrev cX2_differs : ByteArray := prog_20_method_10_code
def yX2_differs : MethodName := ⟨RX2, "differs", "(LEditsMeet$Text;)I"⟩
def dkwX2_differs_2 : List UInt8 := [132, 3, 1, 167, 255, 220, 42, 182, 0, 37, 43, 182, 0, 37, 160, 0, 7, 2, 167, 0, 4, 28, 172]
abbrev dktX2_differs_2 : List UInt8 := dkwX2_differs_2 ++ []
def dkwX2_differs_1 : List UInt8 := [43, 29, 182, 0, 128, 160, 0, 16, 42, 29, 182, 0, 75, 43, 29, 182, 0, 75, 159, 0, 5, 29, 172]
abbrev dktX2_differs_1 : List UInt8 := dkwX2_differs_1 ++ dktX2_differs_2
def dkwX2_differs_0 : List UInt8 := [42, 182, 0, 37, 43, 182, 0, 37, 184, 0, 122, 61, 3, 62, 29, 28, 162, 0, 37, 42, 29, 182, 0, 128]
abbrev dktX2_differs_0 : List UInt8 := dkwX2_differs_0 ++ dktX2_differs_1
theorem dksX2_differs_0 : cX2_differs.data.toList.drop 0 = dktX2_differs_0 := by decide +kernel
theorem dksX2_differs_1 : cX2_differs.data.toList.drop 24 = dktX2_differs_1 := dk_seg dksX2_differs_0 24 rfl rfl
theorem dksX2_differs_2 : cX2_differs.data.toList.drop 47 = dktX2_differs_2 := dk_seg dksX2_differs_1 23 rfl rfl
theorem dX2_differs_0 : decode cX2_differs 0 = .ok (.aload_n 0, 1) := dk_42 (dk_at dksX2_differs_0 0 rfl rfl)
theorem dX2_differs_1 : decode cX2_differs 1 = .ok (.invokevirtual 37, 3) := dk_182 0 37 (dk_at dksX2_differs_0 1 rfl rfl)
theorem dX2_differs_4 : decode cX2_differs 4 = .ok (.aload_n 1, 1) := dk_43 (dk_at dksX2_differs_0 4 rfl rfl)
theorem dX2_differs_5 : decode cX2_differs 5 = .ok (.invokevirtual 37, 3) := dk_182 0 37 (dk_at dksX2_differs_0 5 rfl rfl)
theorem dX2_differs_8 : decode cX2_differs 8 = .ok (.invokestatic 122, 3) := dk_184 0 122 (dk_at dksX2_differs_0 8 rfl rfl)
theorem dX2_differs_11 : decode cX2_differs 11 = .ok (.istore_n 2, 1) := dk_61 (dk_at dksX2_differs_0 11 rfl rfl)
theorem dX2_differs_12 : decode cX2_differs 12 = .ok (.iconst 0, 1) := dk_3 (dk_at dksX2_differs_0 12 rfl rfl)
theorem dX2_differs_13 : decode cX2_differs 13 = .ok (.istore_n 3, 1) := dk_62 (dk_at dksX2_differs_0 13 rfl rfl)
theorem dX2_differs_14 : decode cX2_differs 14 = .ok (.iload_n 3, 1) := dk_29 (dk_at dksX2_differs_0 14 rfl rfl)
theorem dX2_differs_15 : decode cX2_differs 15 = .ok (.iload_n 2, 1) := dk_28 (dk_at dksX2_differs_0 15 rfl rfl)
theorem dX2_differs_16 : decode cX2_differs 16 = .ok (.if_icmp .ge 37, 3) := dk_162 0 37 (dk_at dksX2_differs_0 16 rfl rfl)
theorem dX2_differs_19 : decode cX2_differs 19 = .ok (.aload_n 0, 1) := dk_42 (dk_at dksX2_differs_0 19 rfl rfl)
theorem dX2_differs_20 : decode cX2_differs 20 = .ok (.iload_n 3, 1) := dk_29 (dk_at dksX2_differs_0 20 rfl rfl)
theorem dX2_differs_21 : decode cX2_differs 21 = .ok (.invokevirtual 128, 3) := dk_182 0 128 (dk_at dksX2_differs_0 21 rfl rfl)
theorem dX2_differs_24 : decode cX2_differs 24 = .ok (.aload_n 1, 1) := dk_43 (dk_at dksX2_differs_1 0 rfl rfl)
theorem dX2_differs_25 : decode cX2_differs 25 = .ok (.iload_n 3, 1) := dk_29 (dk_at dksX2_differs_1 1 rfl rfl)
theorem dX2_differs_26 : decode cX2_differs 26 = .ok (.invokevirtual 128, 3) := dk_182 0 128 (dk_at dksX2_differs_1 2 rfl rfl)
theorem dX2_differs_29 : decode cX2_differs 29 = .ok (.if_icmp .ne 16, 3) := dk_160 0 16 (dk_at dksX2_differs_1 5 rfl rfl)
theorem dX2_differs_32 : decode cX2_differs 32 = .ok (.aload_n 0, 1) := dk_42 (dk_at dksX2_differs_1 8 rfl rfl)
theorem dX2_differs_33 : decode cX2_differs 33 = .ok (.iload_n 3, 1) := dk_29 (dk_at dksX2_differs_1 9 rfl rfl)
theorem dX2_differs_34 : decode cX2_differs 34 = .ok (.invokevirtual 75, 3) := dk_182 0 75 (dk_at dksX2_differs_1 10 rfl rfl)
theorem dX2_differs_37 : decode cX2_differs 37 = .ok (.aload_n 1, 1) := dk_43 (dk_at dksX2_differs_1 13 rfl rfl)
theorem dX2_differs_38 : decode cX2_differs 38 = .ok (.iload_n 3, 1) := dk_29 (dk_at dksX2_differs_1 14 rfl rfl)
theorem dX2_differs_39 : decode cX2_differs 39 = .ok (.invokevirtual 75, 3) := dk_182 0 75 (dk_at dksX2_differs_1 15 rfl rfl)
theorem dX2_differs_42 : decode cX2_differs 42 = .ok (.if_icmp .eq 5, 3) := dk_159 0 5 (dk_at dksX2_differs_1 18 rfl rfl)
theorem dX2_differs_45 : decode cX2_differs 45 = .ok (.iload_n 3, 1) := dk_29 (dk_at dksX2_differs_1 21 rfl rfl)
theorem dX2_differs_46 : decode cX2_differs 46 = .ok (.ireturn, 1) := dk_172 (dk_at dksX2_differs_1 22 rfl rfl)
theorem dX2_differs_47 : decode cX2_differs 47 = .ok (.iinc 3 1, 3) := dk_132 3 1 (dk_at dksX2_differs_2 0 rfl rfl)
theorem dX2_differs_50 : decode cX2_differs 50 = .ok (.goto (-36), 3) := dk_167 255 220 (dk_at dksX2_differs_2 3 rfl rfl)
theorem dX2_differs_53 : decode cX2_differs 53 = .ok (.aload_n 0, 1) := dk_42 (dk_at dksX2_differs_2 6 rfl rfl)
theorem dX2_differs_54 : decode cX2_differs 54 = .ok (.invokevirtual 37, 3) := dk_182 0 37 (dk_at dksX2_differs_2 7 rfl rfl)
theorem dX2_differs_57 : decode cX2_differs 57 = .ok (.aload_n 1, 1) := dk_43 (dk_at dksX2_differs_2 10 rfl rfl)
theorem dX2_differs_58 : decode cX2_differs 58 = .ok (.invokevirtual 37, 3) := dk_182 0 37 (dk_at dksX2_differs_2 11 rfl rfl)
theorem dX2_differs_61 : decode cX2_differs 61 = .ok (.if_icmp .ne 7, 3) := dk_160 0 7 (dk_at dksX2_differs_2 14 rfl rfl)
theorem dX2_differs_64 : decode cX2_differs 64 = .ok (.iconst (-1), 1) := dk_2 (dk_at dksX2_differs_2 17 rfl rfl)
theorem dX2_differs_65 : decode cX2_differs 65 = .ok (.goto 4, 3) := dk_167 0 4 (dk_at dksX2_differs_2 18 rfl rfl)
theorem dX2_differs_68 : decode cX2_differs 68 = .ok (.iload_n 2, 1) := dk_28 (dk_at dksX2_differs_2 21 rfl rfl)
theorem dX2_differs_69 : decode cX2_differs 69 = .ok (.ireturn, 1) := dk_172 (dk_at dksX2_differs_2 22 rfl rfl)
abbrev cX2_becomes : ByteArray := prog_20_method_2_code
def yX2_becomes : MethodName := ⟨RX2, "becomes", "(LEditsMeet$Text;)LEditsMeet$Text;"⟩
def dkwX2_becomes_1 : List UInt8 := [3, 182, 0, 21, 42, 180, 0, 18, 43, 180, 0, 18, 182, 0, 25, 87, 42, 176]
abbrev dktX2_becomes_1 : List UInt8 := dkwX2_becomes_1 ++ []
def dkwX2_becomes_0 : List UInt8 := [42, 180, 0, 12, 3, 182, 0, 21, 42, 180, 0, 12, 43, 180, 0, 12, 182, 0, 25, 87, 42, 180, 0, 18]
abbrev dktX2_becomes_0 : List UInt8 := dkwX2_becomes_0 ++ dktX2_becomes_1
theorem dksX2_becomes_0 : cX2_becomes.data.toList.drop 0 = dktX2_becomes_0 := by decide +kernel
theorem dksX2_becomes_1 : cX2_becomes.data.toList.drop 24 = dktX2_becomes_1 := dk_seg dksX2_becomes_0 24 rfl rfl
theorem dX2_becomes_0 : decode cX2_becomes 0 = .ok (.aload_n 0, 1) := dk_42 (dk_at dksX2_becomes_0 0 rfl rfl)
theorem dX2_becomes_1 : decode cX2_becomes 1 = .ok (.getfield 12, 3) := dk_180 0 12 (dk_at dksX2_becomes_0 1 rfl rfl)
theorem dX2_becomes_4 : decode cX2_becomes 4 = .ok (.iconst 0, 1) := dk_3 (dk_at dksX2_becomes_0 4 rfl rfl)
theorem dX2_becomes_5 : decode cX2_becomes 5 = .ok (.invokevirtual 21, 3) := dk_182 0 21 (dk_at dksX2_becomes_0 5 rfl rfl)
theorem dX2_becomes_8 : decode cX2_becomes 8 = .ok (.aload_n 0, 1) := dk_42 (dk_at dksX2_becomes_0 8 rfl rfl)
theorem dX2_becomes_9 : decode cX2_becomes 9 = .ok (.getfield 12, 3) := dk_180 0 12 (dk_at dksX2_becomes_0 9 rfl rfl)
theorem dX2_becomes_12 : decode cX2_becomes 12 = .ok (.aload_n 1, 1) := dk_43 (dk_at dksX2_becomes_0 12 rfl rfl)
theorem dX2_becomes_13 : decode cX2_becomes 13 = .ok (.getfield 12, 3) := dk_180 0 12 (dk_at dksX2_becomes_0 13 rfl rfl)
theorem dX2_becomes_16 : decode cX2_becomes 16 = .ok (.invokevirtual 25, 3) := dk_182 0 25 (dk_at dksX2_becomes_0 16 rfl rfl)
theorem dX2_becomes_19 : decode cX2_becomes 19 = .ok (.pop, 1) := dk_87 (dk_at dksX2_becomes_0 19 rfl rfl)
theorem dX2_becomes_20 : decode cX2_becomes 20 = .ok (.aload_n 0, 1) := dk_42 (dk_at dksX2_becomes_0 20 rfl rfl)
theorem dX2_becomes_21 : decode cX2_becomes 21 = .ok (.getfield 18, 3) := dk_180 0 18 (dk_at dksX2_becomes_0 21 rfl rfl)
theorem dX2_becomes_24 : decode cX2_becomes 24 = .ok (.iconst 0, 1) := dk_3 (dk_at dksX2_becomes_1 0 rfl rfl)
theorem dX2_becomes_25 : decode cX2_becomes 25 = .ok (.invokevirtual 21, 3) := dk_182 0 21 (dk_at dksX2_becomes_1 1 rfl rfl)
theorem dX2_becomes_28 : decode cX2_becomes 28 = .ok (.aload_n 0, 1) := dk_42 (dk_at dksX2_becomes_1 4 rfl rfl)
theorem dX2_becomes_29 : decode cX2_becomes 29 = .ok (.getfield 18, 3) := dk_180 0 18 (dk_at dksX2_becomes_1 5 rfl rfl)
theorem dX2_becomes_32 : decode cX2_becomes 32 = .ok (.aload_n 1, 1) := dk_43 (dk_at dksX2_becomes_1 8 rfl rfl)
theorem dX2_becomes_33 : decode cX2_becomes 33 = .ok (.getfield 18, 3) := dk_180 0 18 (dk_at dksX2_becomes_1 9 rfl rfl)
theorem dX2_becomes_36 : decode cX2_becomes 36 = .ok (.invokevirtual 25, 3) := dk_182 0 25 (dk_at dksX2_becomes_1 12 rfl rfl)
theorem dX2_becomes_39 : decode cX2_becomes 39 = .ok (.pop, 1) := dk_87 (dk_at dksX2_becomes_1 15 rfl rfl)
theorem dX2_becomes_40 : decode cX2_becomes 40 = .ok (.aload_n 0, 1) := dk_42 (dk_at dksX2_becomes_1 16 rfl rfl)
theorem dX2_becomes_41 : decode cX2_becomes 41 = .ok (.areturn, 1) := dk_176 (dk_at dksX2_becomes_1 17 rfl rfl)
theorem q123 : (Jvm.Cond.initialized "EditsMeet$Text") ∈ lw_all := lw_g (lw_at lw_m1 3 rfl) rfl
theorem q194 : (Jvm.Cond.instantiable "EditsMeet$Text" (2 : Nat)) ∈ lw_all := lw_g (lw_at lw_m1 74 rfl) rfl
theorem q196 : (Jvm.Cond.instanceMethod ({ cls := "EditsMeet$Text", name := "<init>", desc := "()V" } : Jvm.MethodName)) ∈ lw_all := lw_g (lw_at lw_m1 76 rfl) rfl
theorem q197 : (Jvm.Cond.code ({ cls := "EditsMeet$Text", name := "<init>", desc := "()V" } : Jvm.MethodName) prog_20_method_1_code (1 : Nat) (Option.none : Option Jvm.ClassFile.FieldType)) ∈ lw_all := lw_g (lw_at lw_m1 77 rfl) rfl
theorem q198 : (Jvm.Cond.methodLink "EditsMeet$Text" (3 : Nat) ({ cls := "java/lang/Object", name := "<init>", desc := "()V" } : Jvm.MethodName)) ∈ lw_all := lw_g (lw_at lw_m1 78 rfl) rfl
theorem q199 : (Jvm.Cond.classLink "EditsMeet$Text" (9 : Nat) "java/lang/StringBuilder") ∈ lw_all := lw_g (lw_at lw_m1 79 rfl) rfl
theorem q201 : (Jvm.Cond.methodLink "EditsMeet$Text" (11 : Nat) ({ cls := "java/lang/StringBuilder", name := "<init>", desc := "()V" } : Jvm.MethodName)) ∈ lw_all := lw_g (lw_at lw_m1 81 rfl) rfl
theorem q316 : (Jvm.Cond.fieldLink "EditsMeet$Text" (12 : Nat) "EditsMeet$Text" "letters" "Ljava/lang/StringBuilder;") ∈ lw_all := lw_g (lw_at lw_m1 196 rfl) rfl
theorem q317 : (Jvm.Cond.fieldLink "EditsMeet$Text" (18 : Nat) "EditsMeet$Text" "marks" "Ljava/lang/StringBuilder;") ∈ lw_all := lw_g (lw_at lw_m1 197 rfl) rfl
theorem q318 : (Jvm.Cond.laysFinal "EditsMeet$Text" "EditsMeet$Text" "letters" "Ljava/lang/StringBuilder;") ∈ lw_all := lw_g (lw_at lw_m1 198 rfl) rfl
theorem q319 : (Jvm.Cond.soleField "EditsMeet$Text" "letters") ∈ lw_all := lw_g (lw_at lw_m1 199 rfl) rfl
theorem q320 : (Jvm.Cond.laysFinal "EditsMeet$Text" "EditsMeet$Text" "marks" "Ljava/lang/StringBuilder;") ∈ lw_all := lw_g (lw_at lw_m1 200 rfl) rfl
theorem q321 : (Jvm.Cond.soleField "EditsMeet$Text" "marks") ∈ lw_all := lw_g (lw_at lw_m1 201 rfl) rfl
theorem q322 : (Jvm.Cond.superclass "EditsMeet$Text" "java/lang/Object") ∈ lw_all := lw_g (lw_at lw_m1 202 rfl) rfl
theorem q1318 : (Jvm.Cond.fieldLinkNest "EditsMeet$Text" (53 : Nat) "EditsMeet$Insert" "letters" "Ljava/lang/String;" "EditsMeet") ∈ lw_tbl := lw_at lw_m5 238 rfl
theorem q1321 : (Jvm.Cond.fieldLinkNest "EditsMeet$Text" (60 : Nat) "EditsMeet$Insert" "marks" "Ljava/lang/String;" "EditsMeet") ∈ lw_tbl := lw_at lw_m6 1 rfl
theorem q1456 : (Jvm.Cond.selects "EditsMeet$Text" ({ cls := "java/lang/Object", name := "getClass", desc := "()Ljava/lang/Class;" } : Jvm.MethodName) ({ cls := "java/lang/Object", name := "getClass", desc := "()Ljava/lang/Class;" } : Jvm.MethodName)) ∈ lw_all := lw_g (lw_at lw_m6 136 rfl) rfl
theorem q2167 : (Jvm.Cond.instanceMethod ({ cls := "EditsMeet$Text", name := "length", desc := "()I" } : Jvm.MethodName)) ∈ lw_all := lw_g (lw_at lw_m9 127 rfl) rfl
theorem q2168 : (Jvm.Cond.selects "EditsMeet$Text" ({ cls := "EditsMeet$Text", name := "length", desc := "()I" } : Jvm.MethodName) ({ cls := "EditsMeet$Text", name := "length", desc := "()I" } : Jvm.MethodName)) ∈ lw_all := lw_g (lw_at lw_m9 128 rfl) rfl
theorem q2169 : (Jvm.Cond.code ({ cls := "EditsMeet$Text", name := "length", desc := "()I" } : Jvm.MethodName) prog_20_method_3_code (1 : Nat) (Option.some Jvm.ClassFile.FieldType.int)) ∈ lw_all := lw_g (lw_at lw_m9 129 rfl) rfl
theorem q2170 : (Jvm.Cond.methodLink "EditsMeet$Text" (29 : Nat) ({ cls := "java/lang/StringBuilder", name := "length", desc := "()I" } : Jvm.MethodName)) ∈ lw_all := lw_g (lw_at lw_m9 130 rfl) rfl
theorem q2172 : (Jvm.Cond.instanceMethod ({ cls := "EditsMeet$Text", name := "turned", desc := "(LEditsMeet$Edit;LEditsMeet$Edit;)LEditsMeet$Edit;" } : Jvm.MethodName)) ∈ lw_all := lw_g (lw_at lw_m9 132 rfl) rfl
theorem q2173 : (Jvm.Cond.selects "EditsMeet$Text" ({ cls := "EditsMeet$Text", name := "turned", desc := "(LEditsMeet$Edit;LEditsMeet$Edit;)LEditsMeet$Edit;" } : Jvm.MethodName) ({ cls := "EditsMeet$Text", name := "turned", desc := "(LEditsMeet$Edit;LEditsMeet$Edit;)LEditsMeet$Edit;" } : Jvm.MethodName)) ∈ lw_all := lw_g (lw_at lw_m9 133 rfl) rfl
theorem q2174 : (Jvm.Cond.code ({ cls := "EditsMeet$Text", name := "turned", desc := "(LEditsMeet$Edit;LEditsMeet$Edit;)LEditsMeet$Edit;" } : Jvm.MethodName) prog_20_method_8_code (9 : Nat) (Option.some (Jvm.ClassFile.FieldType.object "EditsMeet$Edit"))) ∈ lw_all := lw_g (lw_at lw_m9 134 rfl) rfl
theorem q2175 : (Jvm.Cond.methodLink "EditsMeet$Text" (88 : Nat) ({ cls := "EditsMeet$Edit", name := "empties", desc := "()V" } : Jvm.MethodName)) ∈ lw_all := lw_g (lw_at lw_m9 135 rfl) rfl
theorem q2176 : (Jvm.Cond.methodLink "EditsMeet$Text" (42 : Nat) ({ cls := "EditsMeet$Edit", name := "many", desc := "()I" } : Jvm.MethodName)) ∈ lw_all := lw_g (lw_at lw_m9 136 rfl) rfl
theorem q2177 : (Jvm.Cond.methodLink "EditsMeet$Text" (47 : Nat) ({ cls := "EditsMeet$Edit", name := "get", desc := "(I)LEditsMeet$Part;" } : Jvm.MethodName)) ∈ lw_all := lw_g (lw_at lw_m9 137 rfl) rfl
theorem q2178 : (Jvm.Cond.interfaceEntry "EditsMeet$Text" (91 : Nat)) ∈ lw_tbl := lw_at lw_m9 138 rfl
theorem q2179 : (Jvm.Cond.methodLink "EditsMeet$Text" (91 : Nat) ({ cls := "EditsMeet$Part", name := "inserts", desc := "()Z" } : Jvm.MethodName)) ∈ lw_all := lw_g (lw_at lw_m9 139 rfl) rfl
theorem q2180 : (Jvm.Cond.interfaceEntry "EditsMeet$Text" (68 : Nat)) ∈ lw_tbl := lw_at lw_m9 140 rfl
theorem q2181 : (Jvm.Cond.methodLink "EditsMeet$Text" (68 : Nat) ({ cls := "EditsMeet$Part", name := "n", desc := "()I" } : Jvm.MethodName)) ∈ lw_all := lw_g (lw_at lw_m9 141 rfl) rfl
theorem q2182 : (Jvm.Cond.methodLink "EditsMeet$Text" (94 : Nat) ({ cls := "EditsMeet$Part", name := "delete", desc := "(I)LEditsMeet$Part;" } : Jvm.MethodName)) ∈ lw_all := lw_g (lw_at lw_m9 142 rfl) rfl
theorem q2183 : (Jvm.Cond.methodLink "EditsMeet$Text" (96 : Nat) ({ cls := "EditsMeet$Edit", name := "adds", desc := "(LEditsMeet$Part;)LEditsMeet$Edit;" } : Jvm.MethodName)) ∈ lw_all := lw_g (lw_at lw_m9 143 rfl) rfl
theorem q2184 : (Jvm.Cond.interfaceEntry "EditsMeet$Text" (62 : Nat)) ∈ lw_tbl := lw_at lw_m9 144 rfl
theorem q2185 : (Jvm.Cond.methodLink "EditsMeet$Text" (62 : Nat) ({ cls := "EditsMeet$Part", name := "deletes", desc := "()Z" } : Jvm.MethodName)) ∈ lw_all := lw_g (lw_at lw_m9 145 rfl) rfl
theorem q2186 : (Jvm.Cond.methodLink "EditsMeet$Text" (100 : Nat) ({ cls := "java/lang/StringBuilder", name := "subSequence", desc := "(II)Ljava/lang/CharSequence;" } : Jvm.MethodName)) ∈ lw_all := lw_g (lw_at lw_m9 146 rfl) rfl
theorem q2205 : (Jvm.Cond.methodLink "EditsMeet$Text" (104 : Nat) ({ cls := "EditsMeet$Part", name := "insert", desc := "(Ljava/lang/CharSequence;Ljava/lang/CharSequence;)LEditsMeet$Part;" } : Jvm.MethodName)) ∈ lw_all := lw_g (lw_at lw_m9 165 rfl) rfl
theorem q2206 : (Jvm.Cond.methodLink "EditsMeet$Text" (75 : Nat) ({ cls := "EditsMeet$Text", name := "mark", desc := "(I)I" } : Jvm.MethodName)) ∈ lw_all := lw_g (lw_at lw_m9 166 rfl) rfl
theorem q2207 : (Jvm.Cond.instanceMethod ({ cls := "EditsMeet$Text", name := "mark", desc := "(I)I" } : Jvm.MethodName)) ∈ lw_all := lw_g (lw_at lw_m9 167 rfl) rfl
theorem q2208 : (Jvm.Cond.selects "EditsMeet$Text" ({ cls := "EditsMeet$Text", name := "mark", desc := "(I)I" } : Jvm.MethodName) ({ cls := "EditsMeet$Text", name := "mark", desc := "(I)I" } : Jvm.MethodName)) ∈ lw_all := lw_g (lw_at lw_m9 168 rfl) rfl
theorem q2209 : (Jvm.Cond.code ({ cls := "EditsMeet$Text", name := "mark", desc := "(I)I" } : Jvm.MethodName) prog_20_method_5_code (2 : Nat) (Option.some Jvm.ClassFile.FieldType.int)) ∈ lw_all := lw_g (lw_at lw_m9 169 rfl) rfl
theorem q2210 : (Jvm.Cond.methodLink "EditsMeet$Text" (33 : Nat) ({ cls := "java/lang/StringBuilder", name := "charAt", desc := "(I)C" } : Jvm.MethodName)) ∈ lw_all := lw_g (lw_at lw_m9 170 rfl) rfl
theorem q2211 : (Jvm.Cond.interfaceEntry "EditsMeet$Text" (79 : Nat)) ∈ lw_tbl := lw_at lw_m9 171 rfl
theorem q2212 : (Jvm.Cond.methodLink "EditsMeet$Text" (79 : Nat) ({ cls := "EditsMeet$Part", name := "marks", desc := "(I)I" } : Jvm.MethodName)) ∈ lw_all := lw_g (lw_at lw_m9 172 rfl) rfl
theorem q2213 : (Jvm.Cond.methodLink "EditsMeet$Text" (107 : Nat) ({ cls := "EditsMeet$Edit", name := "turns", desc := "(II)V" } : Jvm.MethodName)) ∈ lw_all := lw_g (lw_at lw_m9 173 rfl) rfl
theorem q2218 : (Jvm.Cond.interfaceEntry "EditsMeet$Text" (111 : Nat)) ∈ lw_tbl := lw_at lw_m9 178 rfl
theorem q2219 : (Jvm.Cond.methodLink "EditsMeet$Text" (111 : Nat) ({ cls := "EditsMeet$Part", name := "takes", desc := "()I" } : Jvm.MethodName)) ∈ lw_all := lw_g (lw_at lw_m9 179 rfl) rfl
theorem q2220 : (Jvm.Cond.methodLink "EditsMeet$Text" (114 : Nat) ({ cls := "EditsMeet$Edit", name := "ends", desc := "()LEditsMeet$Edit;" } : Jvm.MethodName)) ∈ lw_all := lw_g (lw_at lw_m9 180 rfl) rfl
theorem q2348 : (Jvm.Cond.instanceMethod ({ cls := "EditsMeet$Text", name := "does", desc := "(LEditsMeet$Edit;)V" } : Jvm.MethodName)) ∈ lw_all := lw_g (lw_at lw_m10 68 rfl) rfl
theorem q2349 : (Jvm.Cond.selects "EditsMeet$Text" ({ cls := "EditsMeet$Text", name := "does", desc := "(LEditsMeet$Edit;)V" } : Jvm.MethodName) ({ cls := "EditsMeet$Text", name := "does", desc := "(LEditsMeet$Edit;)V" } : Jvm.MethodName)) ∈ lw_all := lw_g (lw_at lw_m10 69 rfl) rfl
theorem q2350 : (Jvm.Cond.code ({ cls := "EditsMeet$Text", name := "does", desc := "(LEditsMeet$Edit;)V" } : Jvm.MethodName) prog_20_method_7_code (7 : Nat) (Option.none : Option Jvm.ClassFile.FieldType)) ∈ lw_all := lw_g (lw_at lw_m10 70 rfl) rfl
theorem q2351 : (Jvm.Cond.classLink "EditsMeet$Text" (51 : Nat) "EditsMeet$Insert") ∈ lw_all := lw_g (lw_at lw_m10 71 rfl) rfl
theorem q2352 : (Jvm.Cond.methodLink "EditsMeet$Text" (56 : Nat) ({ cls := "java/lang/StringBuilder", name := "insert", desc := "(ILjava/lang/String;)Ljava/lang/StringBuilder;" } : Jvm.MethodName)) ∈ lw_all := lw_g (lw_at lw_m10 72 rfl) rfl
theorem q2368 : (Jvm.Cond.methodLink "EditsMeet$Text" (71 : Nat) ({ cls := "java/lang/StringBuilder", name := "delete", desc := "(II)Ljava/lang/StringBuilder;" } : Jvm.MethodName)) ∈ lw_all := lw_g (lw_at lw_m10 88 rfl) rfl
theorem q2375 : (Jvm.Cond.methodLink "EditsMeet$Text" (81 : Nat) ({ cls := "java/lang/StringBuilder", name := "setCharAt", desc := "(IC)V" } : Jvm.MethodName)) ∈ lw_all := lw_g (lw_at lw_m10 95 rfl) rfl
theorem q2382 : (Jvm.Cond.interfaceEntry "EditsMeet$Text" (85 : Nat)) ∈ lw_tbl := lw_at lw_m10 102 rfl
theorem q2383 : (Jvm.Cond.methodLink "EditsMeet$Text" (85 : Nat) ({ cls := "EditsMeet$Part", name := "gives", desc := "()I" } : Jvm.MethodName)) ∈ lw_all := lw_g (lw_at lw_m10 103 rfl) rfl
theorem q2439 : (Jvm.Cond.instanceMethod ({ cls := "EditsMeet$Text", name := "edit", desc := "(ILEditsMeet$Part;)LEditsMeet$Edit;" } : Jvm.MethodName)) ∈ lw_all := lw_g (lw_at lw_m10 159 rfl) rfl
theorem q2440 : (Jvm.Cond.selects "EditsMeet$Text" ({ cls := "EditsMeet$Text", name := "edit", desc := "(ILEditsMeet$Part;)LEditsMeet$Edit;" } : Jvm.MethodName) ({ cls := "EditsMeet$Text", name := "edit", desc := "(ILEditsMeet$Part;)LEditsMeet$Edit;" } : Jvm.MethodName)) ∈ lw_all := lw_g (lw_at lw_m10 160 rfl) rfl
theorem q2441 : (Jvm.Cond.code ({ cls := "EditsMeet$Text", name := "edit", desc := "(ILEditsMeet$Part;)LEditsMeet$Edit;" } : Jvm.MethodName) prog_20_method_9_code (4 : Nat) (Option.some (Jvm.ClassFile.FieldType.object "EditsMeet$Edit"))) ∈ lw_all := lw_g (lw_at lw_m10 161 rfl) rfl
theorem q2442 : (Jvm.Cond.classLink "EditsMeet$Text" (43 : Nat) "EditsMeet$Edit") ∈ lw_all := lw_g (lw_at lw_m10 162 rfl) rfl
theorem q2443 : (Jvm.Cond.methodLinkNest "EditsMeet$Text" (118 : Nat) ({ cls := "EditsMeet$Edit", name := "<init>", desc := "()V" } : Jvm.MethodName) "EditsMeet") ∈ lw_tbl := lw_at lw_m10 163 rfl
theorem q2444 : (Jvm.Cond.methodLink "EditsMeet$Text" (119 : Nat) ({ cls := "EditsMeet$Part", name := "keep", desc := "(I)LEditsMeet$Part;" } : Jvm.MethodName)) ∈ lw_all := lw_g (lw_at lw_m10 164 rfl) rfl
theorem q2445 : (Jvm.Cond.methodLink "EditsMeet$Text" (37 : Nat) ({ cls := "EditsMeet$Text", name := "length", desc := "()I" } : Jvm.MethodName)) ∈ lw_all := lw_g (lw_at lw_m10 165 rfl) rfl
theorem q2736 : (Jvm.Cond.instanceMethod ({ cls := "EditsMeet$Text", name := "isPlace", desc := "(I)Z" } : Jvm.MethodName)) ∈ lw_all := lw_g (lw_at lw_m11 216 rfl) rfl
theorem q2737 : (Jvm.Cond.selects "EditsMeet$Text" ({ cls := "EditsMeet$Text", name := "isPlace", desc := "(I)Z" } : Jvm.MethodName) ({ cls := "EditsMeet$Text", name := "isPlace", desc := "(I)Z" } : Jvm.MethodName)) ∈ lw_all := lw_g (lw_at lw_m11 217 rfl) rfl
theorem q2738 : (Jvm.Cond.code ({ cls := "EditsMeet$Text", name := "isPlace", desc := "(I)Z" } : Jvm.MethodName) prog_20_method_6_code (2 : Nat) (Option.some Jvm.ClassFile.FieldType.boolean)) ∈ lw_all := lw_g (lw_at lw_m11 218 rfl) rfl
theorem q2739 : (Jvm.Cond.methodLinkNest "EditsMeet$Text" (38 : Nat) ({ cls := "EditsMeet", name := "isIn", desc := "(III)Z" } : Jvm.MethodName) "EditsMeet") ∈ lw_tbl := lw_at lw_m11 219 rfl
theorem q2741 : (Jvm.Cond.instanceMethod ({ cls := "EditsMeet$Text", name := "letter", desc := "(I)I" } : Jvm.MethodName)) ∈ lw_all := lw_g (lw_at lw_m11 221 rfl) rfl
theorem q2742 : (Jvm.Cond.selects "EditsMeet$Text" ({ cls := "EditsMeet$Text", name := "letter", desc := "(I)I" } : Jvm.MethodName) ({ cls := "EditsMeet$Text", name := "letter", desc := "(I)I" } : Jvm.MethodName)) ∈ lw_all := lw_g (lw_at lw_m11 222 rfl) rfl
theorem q2743 : (Jvm.Cond.code ({ cls := "EditsMeet$Text", name := "letter", desc := "(I)I" } : Jvm.MethodName) prog_20_method_4_code (2 : Nat) (Option.some Jvm.ClassFile.FieldType.int)) ∈ lw_all := lw_g (lw_at lw_m11 223 rfl) rfl
theorem q2749 : (Jvm.Cond.instanceMethod ({ cls := "EditsMeet$Text", name := "differs", desc := "(LEditsMeet$Text;)I" } : Jvm.MethodName)) ∈ lw_all := lw_g (lw_at lw_m11 229 rfl) rfl
theorem q2750 : (Jvm.Cond.selects "EditsMeet$Text" ({ cls := "EditsMeet$Text", name := "differs", desc := "(LEditsMeet$Text;)I" } : Jvm.MethodName) ({ cls := "EditsMeet$Text", name := "differs", desc := "(LEditsMeet$Text;)I" } : Jvm.MethodName)) ∈ lw_all := lw_g (lw_at lw_m11 230 rfl) rfl
theorem q2751 : (Jvm.Cond.code ({ cls := "EditsMeet$Text", name := "differs", desc := "(LEditsMeet$Text;)I" } : Jvm.MethodName) prog_20_method_10_code (4 : Nat) (Option.some Jvm.ClassFile.FieldType.int)) ∈ lw_all := lw_g (lw_at lw_m11 231 rfl) rfl
theorem q2752 : (Jvm.Cond.methodLink "EditsMeet$Text" (122 : Nat) ({ cls := "java/lang/Math", name := "min", desc := "(II)I" } : Jvm.MethodName)) ∈ lw_all := lw_g (lw_at lw_m11 232 rfl) rfl
theorem q2753 : (Jvm.Cond.methodLink "EditsMeet$Text" (128 : Nat) ({ cls := "EditsMeet$Text", name := "letter", desc := "(I)I" } : Jvm.MethodName)) ∈ lw_all := lw_g (lw_at lw_m11 233 rfl) rfl
theorem q2806 : (Jvm.Cond.instanceMethod ({ cls := "EditsMeet$Text", name := "becomes", desc := "(LEditsMeet$Text;)LEditsMeet$Text;" } : Jvm.MethodName)) ∈ lw_all := lw_g (lw_at lw_m12 46 rfl) rfl
theorem q2807 : (Jvm.Cond.selects "EditsMeet$Text" ({ cls := "EditsMeet$Text", name := "becomes", desc := "(LEditsMeet$Text;)LEditsMeet$Text;" } : Jvm.MethodName) ({ cls := "EditsMeet$Text", name := "becomes", desc := "(LEditsMeet$Text;)LEditsMeet$Text;" } : Jvm.MethodName)) ∈ lw_all := lw_g (lw_at lw_m12 47 rfl) rfl
theorem q2808 : (Jvm.Cond.code ({ cls := "EditsMeet$Text", name := "becomes", desc := "(LEditsMeet$Text;)LEditsMeet$Text;" } : Jvm.MethodName) prog_20_method_2_code (2 : Nat) (Option.some (Jvm.ClassFile.FieldType.object "EditsMeet$Text"))) ∈ lw_all := lw_g (lw_at lw_m12 48 rfl) rfl
theorem q2809 : (Jvm.Cond.methodLink "EditsMeet$Text" (21 : Nat) ({ cls := "java/lang/StringBuilder", name := "setLength", desc := "(I)V" } : Jvm.MethodName)) ∈ lw_all := lw_g (lw_at lw_m12 49 rfl) rfl
theorem q2858 : (Jvm.Cond.methodLink "EditsMeet$Text" (25 : Nat) ({ cls := "java/lang/StringBuilder", name := "append", desc := "(Ljava/lang/CharSequence;)Ljava/lang/StringBuilder;" } : Jvm.MethodName)) ∈ lw_all := lw_g (lw_at lw_m12 98 rfl) rfl
theorem q3630 : (Jvm.Cond.castable "EditsMeet$Text" "java/lang/Object") ∈ lw_tbl := lw_at lw_m15 150 rfl
theorem in_X2 : ∀ w ∈ wsX20, w ∈ lw_all := lw_in wsX20 [318, 320] (by decide +kernel) (by decide +kernel)

/-! EditsMeet$Weaver -/
set_option maxRecDepth 100000
def RX3 : String := "EditsMeet$Weaver"
def TX3 : u_T := fun k => match k with
  | 0 => ("EditsMeet$Weaver", "x", "LEditsMeet$Goes;", true)
  | 1 => ("EditsMeet$Weaver", "y", "LEditsMeet$Goes;", true)
  | 2 => ("EditsMeet$Weaver", "kept", "LEditsMeet$Part;", true)
  | 3 => ("EditsMeet$Weaver", "spare", "LEditsMeet$Edit;", true)
  | 4 => ("EditsMeet$Weaver", "one", "LEditsMeet$Edit;", true)
  | _ => ("EditsMeet$Weaver", "two", "LEditsMeet$Edit;", true)
def tyX3 : Nat → FieldType := fun k => match k with
  | 0 => .object "EditsMeet$Goes"
  | 1 => .object "EditsMeet$Goes"
  | 2 => .object "EditsMeet$Part"
  | 3 => .object "EditsMeet$Edit"
  | 4 => .object "EditsMeet$Edit"
  | _ => .object "EditsMeet$Edit"
abbrev wsX30 : List Cond := u_ws RX3 TX3 6
theorem nmX3 : ∀ a, a < 6 → ∀ b, b < 6 → a ≠ b → (TX3 a).2.1 ≠ (TX3 b).2.1 := by decide +kernel
theorem tyX3_ok : ∀ k, k < 6 → parseFieldDescriptor (TX3 k).2.2.1 = some (tyX3 k) := by decide +kernel
abbrev cX3_init : ByteArray := prog_21_method_1_code
def yX3_init : MethodName := ⟨RX3, "<init>", "()V"⟩
def dkwX3_init_2 : List UInt8 := [187, 0, 29, 89, 183, 0, 31, 181, 0, 36, 42, 187, 0, 29, 89, 183, 0, 31, 181, 0, 39, 177]
abbrev dktX3_init_2 : List UInt8 := dkwX3_init_2 ++ []
def dkwX3_init_1 : List UInt8 := [181, 0, 16, 42, 4, 184, 0, 19, 181, 0, 25, 42, 187, 0, 29, 89, 183, 0, 31, 181, 0, 32, 42]
abbrev dktX3_init_1 : List UInt8 := dkwX3_init_1 ++ dktX3_init_2
def dkwX3_init_0 : List UInt8 := [42, 183, 0, 1, 42, 187, 0, 7, 89, 183, 0, 9, 181, 0, 10, 42, 187, 0, 7, 89, 183, 0, 9]
abbrev dktX3_init_0 : List UInt8 := dkwX3_init_0 ++ dktX3_init_1
theorem dksX3_init_0 : cX3_init.data.toList.drop 0 = dktX3_init_0 := by decide +kernel
theorem dksX3_init_1 : cX3_init.data.toList.drop 23 = dktX3_init_1 := dk_seg dksX3_init_0 23 rfl rfl
theorem dksX3_init_2 : cX3_init.data.toList.drop 46 = dktX3_init_2 := dk_seg dksX3_init_1 23 rfl rfl
theorem dX3_init_0 : decode cX3_init 0 = .ok (.aload_n 0, 1) := dk_42 (dk_at dksX3_init_0 0 rfl rfl)
theorem dX3_init_1 : decode cX3_init 1 = .ok (.invokespecial 1, 3) := dk_183 0 1 (dk_at dksX3_init_0 1 rfl rfl)
theorem dX3_init_4 : decode cX3_init 4 = .ok (.aload_n 0, 1) := dk_42 (dk_at dksX3_init_0 4 rfl rfl)
theorem dX3_init_5 : decode cX3_init 5 = .ok (.new 7, 3) := dk_187 0 7 (dk_at dksX3_init_0 5 rfl rfl)
theorem dX3_init_8 : decode cX3_init 8 = .ok (.dup, 1) := dk_89 (dk_at dksX3_init_0 8 rfl rfl)
theorem dX3_init_9 : decode cX3_init 9 = .ok (.invokespecial 9, 3) := dk_183 0 9 (dk_at dksX3_init_0 9 rfl rfl)
theorem dX3_init_12 : decode cX3_init 12 = .ok (.putfield 10, 3) := dk_181 0 10 (dk_at dksX3_init_0 12 rfl rfl)
theorem dX3_init_15 : decode cX3_init 15 = .ok (.aload_n 0, 1) := dk_42 (dk_at dksX3_init_0 15 rfl rfl)
theorem dX3_init_16 : decode cX3_init 16 = .ok (.new 7, 3) := dk_187 0 7 (dk_at dksX3_init_0 16 rfl rfl)
theorem dX3_init_19 : decode cX3_init 19 = .ok (.dup, 1) := dk_89 (dk_at dksX3_init_0 19 rfl rfl)
theorem dX3_init_20 : decode cX3_init 20 = .ok (.invokespecial 9, 3) := dk_183 0 9 (dk_at dksX3_init_0 20 rfl rfl)
theorem dX3_init_23 : decode cX3_init 23 = .ok (.putfield 16, 3) := dk_181 0 16 (dk_at dksX3_init_1 0 rfl rfl)
theorem dX3_init_26 : decode cX3_init 26 = .ok (.aload_n 0, 1) := dk_42 (dk_at dksX3_init_1 3 rfl rfl)
theorem dX3_init_27 : decode cX3_init 27 = .ok (.iconst 1, 1) := dk_4 (dk_at dksX3_init_1 4 rfl rfl)
theorem dX3_init_28 : decode cX3_init 28 = .ok (.invokestatic 19, 3) := dk_184 0 19 (dk_at dksX3_init_1 5 rfl rfl)
theorem dX3_init_31 : decode cX3_init 31 = .ok (.putfield 25, 3) := dk_181 0 25 (dk_at dksX3_init_1 8 rfl rfl)
theorem dX3_init_34 : decode cX3_init 34 = .ok (.aload_n 0, 1) := dk_42 (dk_at dksX3_init_1 11 rfl rfl)
theorem dX3_init_35 : decode cX3_init 35 = .ok (.new 29, 3) := dk_187 0 29 (dk_at dksX3_init_1 12 rfl rfl)
theorem dX3_init_38 : decode cX3_init 38 = .ok (.dup, 1) := dk_89 (dk_at dksX3_init_1 15 rfl rfl)
theorem dX3_init_39 : decode cX3_init 39 = .ok (.invokespecial 31, 3) := dk_183 0 31 (dk_at dksX3_init_1 16 rfl rfl)
theorem dX3_init_42 : decode cX3_init 42 = .ok (.putfield 32, 3) := dk_181 0 32 (dk_at dksX3_init_1 19 rfl rfl)
theorem dX3_init_45 : decode cX3_init 45 = .ok (.aload_n 0, 1) := dk_42 (dk_at dksX3_init_1 22 rfl rfl)
theorem dX3_init_46 : decode cX3_init 46 = .ok (.new 29, 3) := dk_187 0 29 (dk_at dksX3_init_2 0 rfl rfl)
theorem dX3_init_49 : decode cX3_init 49 = .ok (.dup, 1) := dk_89 (dk_at dksX3_init_2 3 rfl rfl)
theorem dX3_init_50 : decode cX3_init 50 = .ok (.invokespecial 31, 3) := dk_183 0 31 (dk_at dksX3_init_2 4 rfl rfl)
theorem dX3_init_53 : decode cX3_init 53 = .ok (.putfield 36, 3) := dk_181 0 36 (dk_at dksX3_init_2 7 rfl rfl)
theorem dX3_init_56 : decode cX3_init 56 = .ok (.aload_n 0, 1) := dk_42 (dk_at dksX3_init_2 10 rfl rfl)
theorem dX3_init_57 : decode cX3_init 57 = .ok (.new 29, 3) := dk_187 0 29 (dk_at dksX3_init_2 11 rfl rfl)
theorem dX3_init_60 : decode cX3_init 60 = .ok (.dup, 1) := dk_89 (dk_at dksX3_init_2 14 rfl rfl)
theorem dX3_init_61 : decode cX3_init 61 = .ok (.invokespecial 31, 3) := dk_183 0 31 (dk_at dksX3_init_2 15 rfl rfl)
theorem dX3_init_64 : decode cX3_init 64 = .ok (.putfield 39, 3) := dk_181 0 39 (dk_at dksX3_init_2 18 rfl rfl)
theorem dX3_init_67 : decode cX3_init 67 = .ok (.return_, 1) := dk_177 (dk_at dksX3_init_2 21 rfl rfl)
abbrev cX3_behind : ByteArray := prog_21_method_4_code
def yX3_behind : MethodName := ⟨RX3, "behind", "(LEditsMeet$Edit;LEditsMeet$Edit;LEditsMeet$Edit;)LEditsMeet$Edit;"⟩
def dkwX3_behind_5 : List UInt8 := [182, 0, 116, 167, 255, 160, 43, 182, 0, 120, 176]
abbrev dktX3_behind_5 : List UInt8 := dkwX3_behind_5 ++ []
def dkwX3_behind_4 : List UInt8 := [182, 0, 110, 153, 0, 18, 43, 42, 180, 0, 16, 182, 0, 113, 182, 0, 82, 87, 167, 255, 168, 42, 43]
abbrev dktX3_behind_4 : List UInt8 := dkwX3_behind_4 ++ dktX3_behind_5
def dkwX3_behind_3 : List UInt8 := [87, 42, 180, 0, 10, 42, 180, 0, 10, 182, 0, 56, 182, 0, 93, 167, 255, 193, 42, 180, 0, 16]
abbrev dktX3_behind_3 : List UInt8 := dkwX3_behind_3 ++ dktX3_behind_4
def dkwX3_behind_2 : List UInt8 := [182, 0, 107, 153, 0, 39, 43, 42, 180, 0, 10, 182, 0, 65, 42, 180, 0, 10, 182, 0, 56, 182, 0, 90]
abbrev dktX3_behind_2 : List UInt8 := dkwX3_behind_2 ++ dktX3_behind_3
def dkwX3_behind_1 : List UInt8 := [180, 0, 10, 182, 0, 104, 154, 0, 13, 42, 180, 0, 16, 182, 0, 104, 153, 0, 82, 42, 180, 0, 10]
abbrev dktX3_behind_1 : List UInt8 := dkwX3_behind_1 ++ dktX3_behind_2
def dkwX3_behind_0 : List UInt8 := [43, 182, 0, 97, 42, 180, 0, 10, 44, 182, 0, 100, 87, 42, 180, 0, 16, 45, 182, 0, 100, 87, 42]
abbrev dktX3_behind_0 : List UInt8 := dkwX3_behind_0 ++ dktX3_behind_1
theorem dksX3_behind_0 : cX3_behind.data.toList.drop 0 = dktX3_behind_0 := by decide +kernel
theorem dksX3_behind_1 : cX3_behind.data.toList.drop 23 = dktX3_behind_1 := dk_seg dksX3_behind_0 23 rfl rfl
theorem dksX3_behind_2 : cX3_behind.data.toList.drop 46 = dktX3_behind_2 := dk_seg dksX3_behind_1 23 rfl rfl
theorem dksX3_behind_3 : cX3_behind.data.toList.drop 70 = dktX3_behind_3 := dk_seg dksX3_behind_2 24 rfl rfl
theorem dksX3_behind_4 : cX3_behind.data.toList.drop 92 = dktX3_behind_4 := dk_seg dksX3_behind_3 22 rfl rfl
theorem dksX3_behind_5 : cX3_behind.data.toList.drop 115 = dktX3_behind_5 := dk_seg dksX3_behind_4 23 rfl rfl
theorem dX3_behind_0 : decode cX3_behind 0 = .ok (.aload_n 1, 1) := dk_43 (dk_at dksX3_behind_0 0 rfl rfl)
theorem dX3_behind_1 : decode cX3_behind 1 = .ok (.invokevirtual 97, 3) := dk_182 0 97 (dk_at dksX3_behind_0 1 rfl rfl)
theorem dX3_behind_4 : decode cX3_behind 4 = .ok (.aload_n 0, 1) := dk_42 (dk_at dksX3_behind_0 4 rfl rfl)
theorem dX3_behind_5 : decode cX3_behind 5 = .ok (.getfield 10, 3) := dk_180 0 10 (dk_at dksX3_behind_0 5 rfl rfl)
theorem dX3_behind_8 : decode cX3_behind 8 = .ok (.aload_n 2, 1) := dk_44 (dk_at dksX3_behind_0 8 rfl rfl)
theorem dX3_behind_9 : decode cX3_behind 9 = .ok (.invokevirtual 100, 3) := dk_182 0 100 (dk_at dksX3_behind_0 9 rfl rfl)
theorem dX3_behind_12 : decode cX3_behind 12 = .ok (.pop, 1) := dk_87 (dk_at dksX3_behind_0 12 rfl rfl)
theorem dX3_behind_13 : decode cX3_behind 13 = .ok (.aload_n 0, 1) := dk_42 (dk_at dksX3_behind_0 13 rfl rfl)
theorem dX3_behind_14 : decode cX3_behind 14 = .ok (.getfield 16, 3) := dk_180 0 16 (dk_at dksX3_behind_0 14 rfl rfl)
theorem dX3_behind_17 : decode cX3_behind 17 = .ok (.aload_n 3, 1) := dk_45 (dk_at dksX3_behind_0 17 rfl rfl)
theorem dX3_behind_18 : decode cX3_behind 18 = .ok (.invokevirtual 100, 3) := dk_182 0 100 (dk_at dksX3_behind_0 18 rfl rfl)
theorem dX3_behind_21 : decode cX3_behind 21 = .ok (.pop, 1) := dk_87 (dk_at dksX3_behind_0 21 rfl rfl)
theorem dX3_behind_22 : decode cX3_behind 22 = .ok (.aload_n 0, 1) := dk_42 (dk_at dksX3_behind_0 22 rfl rfl)
theorem dX3_behind_23 : decode cX3_behind 23 = .ok (.getfield 10, 3) := dk_180 0 10 (dk_at dksX3_behind_1 0 rfl rfl)
theorem dX3_behind_26 : decode cX3_behind 26 = .ok (.invokevirtual 104, 3) := dk_182 0 104 (dk_at dksX3_behind_1 3 rfl rfl)
theorem dX3_behind_29 : decode cX3_behind 29 = .ok (.ifCond .ne 13, 3) := dk_154 0 13 (dk_at dksX3_behind_1 6 rfl rfl)
theorem dX3_behind_32 : decode cX3_behind 32 = .ok (.aload_n 0, 1) := dk_42 (dk_at dksX3_behind_1 9 rfl rfl)
theorem dX3_behind_33 : decode cX3_behind 33 = .ok (.getfield 16, 3) := dk_180 0 16 (dk_at dksX3_behind_1 10 rfl rfl)
theorem dX3_behind_36 : decode cX3_behind 36 = .ok (.invokevirtual 104, 3) := dk_182 0 104 (dk_at dksX3_behind_1 13 rfl rfl)
theorem dX3_behind_39 : decode cX3_behind 39 = .ok (.ifCond .eq 82, 3) := dk_153 0 82 (dk_at dksX3_behind_1 16 rfl rfl)
theorem dX3_behind_42 : decode cX3_behind 42 = .ok (.aload_n 0, 1) := dk_42 (dk_at dksX3_behind_1 19 rfl rfl)
theorem dX3_behind_43 : decode cX3_behind 43 = .ok (.getfield 10, 3) := dk_180 0 10 (dk_at dksX3_behind_1 20 rfl rfl)
theorem dX3_behind_46 : decode cX3_behind 46 = .ok (.invokevirtual 107, 3) := dk_182 0 107 (dk_at dksX3_behind_2 0 rfl rfl)
theorem dX3_behind_49 : decode cX3_behind 49 = .ok (.ifCond .eq 39, 3) := dk_153 0 39 (dk_at dksX3_behind_2 3 rfl rfl)
theorem dX3_behind_52 : decode cX3_behind 52 = .ok (.aload_n 1, 1) := dk_43 (dk_at dksX3_behind_2 6 rfl rfl)
theorem dX3_behind_53 : decode cX3_behind 53 = .ok (.aload_n 0, 1) := dk_42 (dk_at dksX3_behind_2 7 rfl rfl)
theorem dX3_behind_54 : decode cX3_behind 54 = .ok (.getfield 10, 3) := dk_180 0 10 (dk_at dksX3_behind_2 8 rfl rfl)
theorem dX3_behind_57 : decode cX3_behind 57 = .ok (.invokevirtual 65, 3) := dk_182 0 65 (dk_at dksX3_behind_2 11 rfl rfl)
theorem dX3_behind_60 : decode cX3_behind 60 = .ok (.aload_n 0, 1) := dk_42 (dk_at dksX3_behind_2 14 rfl rfl)
theorem dX3_behind_61 : decode cX3_behind 61 = .ok (.getfield 10, 3) := dk_180 0 10 (dk_at dksX3_behind_2 15 rfl rfl)
theorem dX3_behind_64 : decode cX3_behind 64 = .ok (.invokevirtual 56, 3) := dk_182 0 56 (dk_at dksX3_behind_2 18 rfl rfl)
theorem dX3_behind_67 : decode cX3_behind 67 = .ok (.invokevirtual 90, 3) := dk_182 0 90 (dk_at dksX3_behind_2 21 rfl rfl)
theorem dX3_behind_70 : decode cX3_behind 70 = .ok (.pop, 1) := dk_87 (dk_at dksX3_behind_3 0 rfl rfl)
theorem dX3_behind_71 : decode cX3_behind 71 = .ok (.aload_n 0, 1) := dk_42 (dk_at dksX3_behind_3 1 rfl rfl)
theorem dX3_behind_72 : decode cX3_behind 72 = .ok (.getfield 10, 3) := dk_180 0 10 (dk_at dksX3_behind_3 2 rfl rfl)
theorem dX3_behind_75 : decode cX3_behind 75 = .ok (.aload_n 0, 1) := dk_42 (dk_at dksX3_behind_3 5 rfl rfl)
theorem dX3_behind_76 : decode cX3_behind 76 = .ok (.getfield 10, 3) := dk_180 0 10 (dk_at dksX3_behind_3 6 rfl rfl)
theorem dX3_behind_79 : decode cX3_behind 79 = .ok (.invokevirtual 56, 3) := dk_182 0 56 (dk_at dksX3_behind_3 9 rfl rfl)
theorem dX3_behind_82 : decode cX3_behind 82 = .ok (.invokevirtual 93, 3) := dk_182 0 93 (dk_at dksX3_behind_3 12 rfl rfl)
theorem dX3_behind_85 : decode cX3_behind 85 = .ok (.goto (-63), 3) := dk_167 255 193 (dk_at dksX3_behind_3 15 rfl rfl)
theorem dX3_behind_88 : decode cX3_behind 88 = .ok (.aload_n 0, 1) := dk_42 (dk_at dksX3_behind_3 18 rfl rfl)
theorem dX3_behind_89 : decode cX3_behind 89 = .ok (.getfield 16, 3) := dk_180 0 16 (dk_at dksX3_behind_3 19 rfl rfl)
theorem dX3_behind_92 : decode cX3_behind 92 = .ok (.invokevirtual 110, 3) := dk_182 0 110 (dk_at dksX3_behind_4 0 rfl rfl)
theorem dX3_behind_95 : decode cX3_behind 95 = .ok (.ifCond .eq 18, 3) := dk_153 0 18 (dk_at dksX3_behind_4 3 rfl rfl)
theorem dX3_behind_98 : decode cX3_behind 98 = .ok (.aload_n 1, 1) := dk_43 (dk_at dksX3_behind_4 6 rfl rfl)
theorem dX3_behind_99 : decode cX3_behind 99 = .ok (.aload_n 0, 1) := dk_42 (dk_at dksX3_behind_4 7 rfl rfl)
theorem dX3_behind_100 : decode cX3_behind 100 = .ok (.getfield 16, 3) := dk_180 0 16 (dk_at dksX3_behind_4 8 rfl rfl)
theorem dX3_behind_103 : decode cX3_behind 103 = .ok (.invokevirtual 113, 3) := dk_182 0 113 (dk_at dksX3_behind_4 11 rfl rfl)
theorem dX3_behind_106 : decode cX3_behind 106 = .ok (.invokevirtual 82, 3) := dk_182 0 82 (dk_at dksX3_behind_4 14 rfl rfl)
theorem dX3_behind_109 : decode cX3_behind 109 = .ok (.pop, 1) := dk_87 (dk_at dksX3_behind_4 17 rfl rfl)
theorem dX3_behind_110 : decode cX3_behind 110 = .ok (.goto (-88), 3) := dk_167 255 168 (dk_at dksX3_behind_4 18 rfl rfl)
theorem dX3_behind_113 : decode cX3_behind 113 = .ok (.aload_n 0, 1) := dk_42 (dk_at dksX3_behind_4 21 rfl rfl)
theorem dX3_behind_114 : decode cX3_behind 114 = .ok (.aload_n 1, 1) := dk_43 (dk_at dksX3_behind_4 22 rfl rfl)
theorem dX3_behind_115 : decode cX3_behind 115 = .ok (.invokevirtual 116, 3) := dk_182 0 116 (dk_at dksX3_behind_5 0 rfl rfl)
theorem dX3_behind_118 : decode cX3_behind 118 = .ok (.goto (-96), 3) := dk_167 255 160 (dk_at dksX3_behind_5 3 rfl rfl)
theorem dX3_behind_121 : decode cX3_behind 121 = .ok (.aload_n 1, 1) := dk_43 (dk_at dksX3_behind_5 6 rfl rfl)
theorem dX3_behind_122 : decode cX3_behind 122 = .ok (.invokevirtual 120, 3) := dk_182 0 120 (dk_at dksX3_behind_5 7 rfl rfl)
theorem dX3_behind_125 : decode cX3_behind 125 = .ok (.areturn, 1) := dk_176 (dk_at dksX3_behind_5 10 rfl rfl)
abbrev cX3_pairs : ByteArray := prog_21_method_3_code
def yX3_pairs : MethodName := ⟨RX3, "pairs", "(LEditsMeet$Edit;)V"⟩
def dkwX3_pairs_5 : List UInt8 := [182, 0, 90, 87, 42, 180, 0, 10, 28, 182, 0, 93, 42, 180, 0, 16, 28, 182, 0, 93, 177]
abbrev dktX3_pairs_5 : List UInt8 := dkwX3_pairs_5 ++ []
def dkwX3_pairs_4 : List UInt8 := [185, 0, 74, 1, 0, 153, 0, 7, 45, 167, 0, 14, 42, 180, 0, 10, 182, 0, 65, 45, 184, 0, 86, 28]
abbrev dktX3_pairs_4 : List UInt8 := dkwX3_pairs_4 ++ dktX3_pairs_5
def dkwX3_pairs_3 : List UInt8 := [192, 0, 69, 58, 5, 43, 25, 5, 45, 182, 0, 78, 182, 0, 82, 87, 167, 0, 41, 43, 45]
abbrev dktX3_pairs_3 : List UInt8 := dkwX3_pairs_3 ++ dktX3_pairs_4
def dkwX3_pairs_2 : List UInt8 := [182, 0, 71, 58, 4, 45, 185, 0, 74, 1, 0, 154, 0, 29, 25, 4, 193, 0, 69, 153, 0, 21, 25, 4]
abbrev dktX3_pairs_2 : List UInt8 := dkwX3_pairs_2 ++ dktX3_pairs_3
def dkwX3_pairs_1 : List UInt8 := [182, 0, 65, 78, 42, 180, 0, 10, 182, 0, 65, 193, 0, 69, 153, 0, 51, 42, 180, 0, 10, 28]
abbrev dktX3_pairs_1 : List UInt8 := dkwX3_pairs_1 ++ dktX3_pairs_2
def dkwX3_pairs_0 : List UInt8 := [42, 180, 0, 10, 182, 0, 56, 42, 180, 0, 16, 182, 0, 56, 184, 0, 59, 61, 42, 180, 0, 16]
abbrev dktX3_pairs_0 : List UInt8 := dkwX3_pairs_0 ++ dktX3_pairs_1
theorem dksX3_pairs_0 : cX3_pairs.data.toList.drop 0 = dktX3_pairs_0 := by decide +kernel
theorem dksX3_pairs_1 : cX3_pairs.data.toList.drop 22 = dktX3_pairs_1 := dk_seg dksX3_pairs_0 22 rfl rfl
theorem dksX3_pairs_2 : cX3_pairs.data.toList.drop 44 = dktX3_pairs_2 := dk_seg dksX3_pairs_1 22 rfl rfl
theorem dksX3_pairs_3 : cX3_pairs.data.toList.drop 68 = dktX3_pairs_3 := dk_seg dksX3_pairs_2 24 rfl rfl
theorem dksX3_pairs_4 : cX3_pairs.data.toList.drop 89 = dktX3_pairs_4 := dk_seg dksX3_pairs_3 21 rfl rfl
theorem dksX3_pairs_5 : cX3_pairs.data.toList.drop 113 = dktX3_pairs_5 := dk_seg dksX3_pairs_4 24 rfl rfl
theorem dX3_pairs_0 : decode cX3_pairs 0 = .ok (.aload_n 0, 1) := dk_42 (dk_at dksX3_pairs_0 0 rfl rfl)
theorem dX3_pairs_1 : decode cX3_pairs 1 = .ok (.getfield 10, 3) := dk_180 0 10 (dk_at dksX3_pairs_0 1 rfl rfl)
theorem dX3_pairs_4 : decode cX3_pairs 4 = .ok (.invokevirtual 56, 3) := dk_182 0 56 (dk_at dksX3_pairs_0 4 rfl rfl)
theorem dX3_pairs_7 : decode cX3_pairs 7 = .ok (.aload_n 0, 1) := dk_42 (dk_at dksX3_pairs_0 7 rfl rfl)
theorem dX3_pairs_8 : decode cX3_pairs 8 = .ok (.getfield 16, 3) := dk_180 0 16 (dk_at dksX3_pairs_0 8 rfl rfl)
theorem dX3_pairs_11 : decode cX3_pairs 11 = .ok (.invokevirtual 56, 3) := dk_182 0 56 (dk_at dksX3_pairs_0 11 rfl rfl)
theorem dX3_pairs_14 : decode cX3_pairs 14 = .ok (.invokestatic 59, 3) := dk_184 0 59 (dk_at dksX3_pairs_0 14 rfl rfl)
theorem dX3_pairs_17 : decode cX3_pairs 17 = .ok (.istore_n 2, 1) := dk_61 (dk_at dksX3_pairs_0 17 rfl rfl)
theorem dX3_pairs_18 : decode cX3_pairs 18 = .ok (.aload_n 0, 1) := dk_42 (dk_at dksX3_pairs_0 18 rfl rfl)
theorem dX3_pairs_19 : decode cX3_pairs 19 = .ok (.getfield 16, 3) := dk_180 0 16 (dk_at dksX3_pairs_0 19 rfl rfl)
theorem dX3_pairs_22 : decode cX3_pairs 22 = .ok (.invokevirtual 65, 3) := dk_182 0 65 (dk_at dksX3_pairs_1 0 rfl rfl)
theorem dX3_pairs_25 : decode cX3_pairs 25 = .ok (.astore_n 3, 1) := dk_78 (dk_at dksX3_pairs_1 3 rfl rfl)
theorem dX3_pairs_26 : decode cX3_pairs 26 = .ok (.aload_n 0, 1) := dk_42 (dk_at dksX3_pairs_1 4 rfl rfl)
theorem dX3_pairs_27 : decode cX3_pairs 27 = .ok (.getfield 10, 3) := dk_180 0 10 (dk_at dksX3_pairs_1 5 rfl rfl)
theorem dX3_pairs_30 : decode cX3_pairs 30 = .ok (.invokevirtual 65, 3) := dk_182 0 65 (dk_at dksX3_pairs_1 8 rfl rfl)
theorem dX3_pairs_33 : decode cX3_pairs 33 = .ok (.instanceof 69, 3) := dk_193 0 69 (dk_at dksX3_pairs_1 11 rfl rfl)
theorem dX3_pairs_36 : decode cX3_pairs 36 = .ok (.ifCond .eq 51, 3) := dk_153 0 51 (dk_at dksX3_pairs_1 14 rfl rfl)
theorem dX3_pairs_39 : decode cX3_pairs 39 = .ok (.aload_n 0, 1) := dk_42 (dk_at dksX3_pairs_1 17 rfl rfl)
theorem dX3_pairs_40 : decode cX3_pairs 40 = .ok (.getfield 10, 3) := dk_180 0 10 (dk_at dksX3_pairs_1 18 rfl rfl)
theorem dX3_pairs_43 : decode cX3_pairs 43 = .ok (.iload_n 2, 1) := dk_28 (dk_at dksX3_pairs_1 21 rfl rfl)
theorem dX3_pairs_44 : decode cX3_pairs 44 = .ok (.invokevirtual 71, 3) := dk_182 0 71 (dk_at dksX3_pairs_2 0 rfl rfl)
theorem dX3_pairs_47 : decode cX3_pairs 47 = .ok (.astore 4, 2) := dk_58 4 (dk_at dksX3_pairs_2 3 rfl rfl)
theorem dX3_pairs_49 : decode cX3_pairs 49 = .ok (.aload_n 3, 1) := dk_45 (dk_at dksX3_pairs_2 5 rfl rfl)
theorem dX3_pairs_50 : decode cX3_pairs 50 = .ok (.invokeinterface 74 1, 5) := by decide +kernel
theorem dX3_pairs_55 : decode cX3_pairs 55 = .ok (.ifCond .ne 29, 3) := dk_154 0 29 (dk_at dksX3_pairs_2 11 rfl rfl)
theorem dX3_pairs_58 : decode cX3_pairs 58 = .ok (.aload 4, 2) := dk_25 4 (dk_at dksX3_pairs_2 14 rfl rfl)
theorem dX3_pairs_60 : decode cX3_pairs 60 = .ok (.instanceof 69, 3) := dk_193 0 69 (dk_at dksX3_pairs_2 16 rfl rfl)
theorem dX3_pairs_63 : decode cX3_pairs 63 = .ok (.ifCond .eq 21, 3) := dk_153 0 21 (dk_at dksX3_pairs_2 19 rfl rfl)
theorem dX3_pairs_66 : decode cX3_pairs 66 = .ok (.aload 4, 2) := dk_25 4 (dk_at dksX3_pairs_2 22 rfl rfl)
theorem dX3_pairs_68 : decode cX3_pairs 68 = .ok (.checkcast 69, 3) := dk_192 0 69 (dk_at dksX3_pairs_3 0 rfl rfl)
theorem dX3_pairs_71 : decode cX3_pairs 71 = .ok (.astore 5, 2) := dk_58 5 (dk_at dksX3_pairs_3 3 rfl rfl)
theorem dX3_pairs_73 : decode cX3_pairs 73 = .ok (.aload_n 1, 1) := dk_43 (dk_at dksX3_pairs_3 5 rfl rfl)
theorem dX3_pairs_74 : decode cX3_pairs 74 = .ok (.aload 5, 2) := dk_25 5 (dk_at dksX3_pairs_3 6 rfl rfl)
theorem dX3_pairs_76 : decode cX3_pairs 76 = .ok (.aload_n 3, 1) := dk_45 (dk_at dksX3_pairs_3 8 rfl rfl)
theorem dX3_pairs_77 : decode cX3_pairs 77 = .ok (.invokevirtual 78, 3) := dk_182 0 78 (dk_at dksX3_pairs_3 9 rfl rfl)
theorem dX3_pairs_80 : decode cX3_pairs 80 = .ok (.invokevirtual 82, 3) := dk_182 0 82 (dk_at dksX3_pairs_3 12 rfl rfl)
theorem dX3_pairs_83 : decode cX3_pairs 83 = .ok (.pop, 1) := dk_87 (dk_at dksX3_pairs_3 15 rfl rfl)
theorem dX3_pairs_84 : decode cX3_pairs 84 = .ok (.goto 41, 3) := dk_167 0 41 (dk_at dksX3_pairs_3 16 rfl rfl)
theorem dX3_pairs_87 : decode cX3_pairs 87 = .ok (.aload_n 1, 1) := dk_43 (dk_at dksX3_pairs_3 19 rfl rfl)
theorem dX3_pairs_88 : decode cX3_pairs 88 = .ok (.aload_n 3, 1) := dk_45 (dk_at dksX3_pairs_3 20 rfl rfl)
theorem dX3_pairs_89 : decode cX3_pairs 89 = .ok (.invokeinterface 74 1, 5) := by decide +kernel
theorem dX3_pairs_94 : decode cX3_pairs 94 = .ok (.ifCond .eq 7, 3) := dk_153 0 7 (dk_at dksX3_pairs_4 5 rfl rfl)
theorem dX3_pairs_97 : decode cX3_pairs 97 = .ok (.aload_n 3, 1) := dk_45 (dk_at dksX3_pairs_4 8 rfl rfl)
theorem dX3_pairs_98 : decode cX3_pairs 98 = .ok (.goto 14, 3) := dk_167 0 14 (dk_at dksX3_pairs_4 9 rfl rfl)
theorem dX3_pairs_101 : decode cX3_pairs 101 = .ok (.aload_n 0, 1) := dk_42 (dk_at dksX3_pairs_4 12 rfl rfl)
theorem dX3_pairs_102 : decode cX3_pairs 102 = .ok (.getfield 10, 3) := dk_180 0 10 (dk_at dksX3_pairs_4 13 rfl rfl)
theorem dX3_pairs_105 : decode cX3_pairs 105 = .ok (.invokevirtual 65, 3) := dk_182 0 65 (dk_at dksX3_pairs_4 16 rfl rfl)
theorem dX3_pairs_108 : decode cX3_pairs 108 = .ok (.aload_n 3, 1) := dk_45 (dk_at dksX3_pairs_4 19 rfl rfl)
theorem dX3_pairs_109 : decode cX3_pairs 109 = .ok (.invokestatic 86, 3) := dk_184 0 86 (dk_at dksX3_pairs_4 20 rfl rfl)
theorem dX3_pairs_112 : decode cX3_pairs 112 = .ok (.iload_n 2, 1) := dk_28 (dk_at dksX3_pairs_4 23 rfl rfl)
theorem dX3_pairs_113 : decode cX3_pairs 113 = .ok (.invokevirtual 90, 3) := dk_182 0 90 (dk_at dksX3_pairs_5 0 rfl rfl)
theorem dX3_pairs_116 : decode cX3_pairs 116 = .ok (.pop, 1) := dk_87 (dk_at dksX3_pairs_5 3 rfl rfl)
theorem dX3_pairs_117 : decode cX3_pairs 117 = .ok (.aload_n 0, 1) := dk_42 (dk_at dksX3_pairs_5 4 rfl rfl)
theorem dX3_pairs_118 : decode cX3_pairs 118 = .ok (.getfield 10, 3) := dk_180 0 10 (dk_at dksX3_pairs_5 5 rfl rfl)
theorem dX3_pairs_121 : decode cX3_pairs 121 = .ok (.iload_n 2, 1) := dk_28 (dk_at dksX3_pairs_5 8 rfl rfl)
theorem dX3_pairs_122 : decode cX3_pairs 122 = .ok (.invokevirtual 93, 3) := dk_182 0 93 (dk_at dksX3_pairs_5 9 rfl rfl)
theorem dX3_pairs_125 : decode cX3_pairs 125 = .ok (.aload_n 0, 1) := dk_42 (dk_at dksX3_pairs_5 12 rfl rfl)
theorem dX3_pairs_126 : decode cX3_pairs 126 = .ok (.getfield 16, 3) := dk_180 0 16 (dk_at dksX3_pairs_5 13 rfl rfl)
theorem dX3_pairs_129 : decode cX3_pairs 129 = .ok (.iload_n 2, 1) := dk_28 (dk_at dksX3_pairs_5 16 rfl rfl)
theorem dX3_pairs_130 : decode cX3_pairs 130 = .ok (.invokevirtual 93, 3) := dk_182 0 93 (dk_at dksX3_pairs_5 17 rfl rfl)
theorem dX3_pairs_133 : decode cX3_pairs 133 = .ok (.return_, 1) := dk_177 (dk_at dksX3_pairs_5 20 rfl rfl)
abbrev cX3_both : ByteArray := prog_21_method_2_code
def yX3_both : MethodName := ⟨RX3, "both", "(LEditsMeet$Part;LEditsMeet$Part;)LEditsMeet$Part;"⟩
def dkwX3_both_4 : List UInt8 := [185, 0, 49, 1, 0, 28, 29, 184, 0, 52, 176]
abbrev dktX3_both_4 : List UInt8 := dkwX3_both_4 ++ []
def dkwX3_both_3 : List UInt8 := [185, 0, 42, 1, 0, 28, 160, 0, 17, 43, 185, 0, 46, 1, 0, 29, 160, 0, 7, 43, 167, 0, 14, 42]
abbrev dktX3_both_3 : List UInt8 := dkwX3_both_3 ++ dktX3_both_4
def dkwX3_both_2 : List UInt8 := [185, 0, 42, 1, 0, 28, 160, 0, 17, 42, 185, 0, 46, 1, 0, 29, 160, 0, 7, 42, 167, 0, 38, 43]
abbrev dktX3_both_2 : List UInt8 := dkwX3_both_2 ++ dktX3_both_3
def dkwX3_both_1 : List UInt8 := [185, 0, 46, 1, 0, 43, 185, 0, 42, 1, 0, 2, 130, 126, 43, 185, 0, 46, 1, 0, 128, 62, 42]
abbrev dktX3_both_1 : List UInt8 := dkwX3_both_1 ++ dktX3_both_2
def dkwX3_both_0 : List UInt8 := [42, 185, 0, 42, 1, 0, 43, 185, 0, 46, 1, 0, 2, 130, 126, 43, 185, 0, 42, 1, 0, 128, 61, 42]
abbrev dktX3_both_0 : List UInt8 := dkwX3_both_0 ++ dktX3_both_1
theorem dksX3_both_0 : cX3_both.data.toList.drop 0 = dktX3_both_0 := by decide +kernel
theorem dksX3_both_1 : cX3_both.data.toList.drop 24 = dktX3_both_1 := dk_seg dksX3_both_0 24 rfl rfl
theorem dksX3_both_2 : cX3_both.data.toList.drop 47 = dktX3_both_2 := dk_seg dksX3_both_1 23 rfl rfl
theorem dksX3_both_3 : cX3_both.data.toList.drop 71 = dktX3_both_3 := dk_seg dksX3_both_2 24 rfl rfl
theorem dksX3_both_4 : cX3_both.data.toList.drop 95 = dktX3_both_4 := dk_seg dksX3_both_3 24 rfl rfl
theorem dX3_both_0 : decode cX3_both 0 = .ok (.aload_n 0, 1) := dk_42 (dk_at dksX3_both_0 0 rfl rfl)
theorem dX3_both_1 : decode cX3_both 1 = .ok (.invokeinterface 42 1, 5) := by decide +kernel
theorem dX3_both_6 : decode cX3_both 6 = .ok (.aload_n 1, 1) := dk_43 (dk_at dksX3_both_0 6 rfl rfl)
theorem dX3_both_7 : decode cX3_both 7 = .ok (.invokeinterface 46 1, 5) := by decide +kernel
theorem dX3_both_12 : decode cX3_both 12 = .ok (.iconst (-1), 1) := dk_2 (dk_at dksX3_both_0 12 rfl rfl)
theorem dX3_both_13 : decode cX3_both 13 = .ok (.ixor, 1) := dk_130 (dk_at dksX3_both_0 13 rfl rfl)
theorem dX3_both_14 : decode cX3_both 14 = .ok (.iand, 1) := dk_126 (dk_at dksX3_both_0 14 rfl rfl)
theorem dX3_both_15 : decode cX3_both 15 = .ok (.aload_n 1, 1) := dk_43 (dk_at dksX3_both_0 15 rfl rfl)
theorem dX3_both_16 : decode cX3_both 16 = .ok (.invokeinterface 42 1, 5) := by decide +kernel
theorem dX3_both_21 : decode cX3_both 21 = .ok (.ior, 1) := dk_128 (dk_at dksX3_both_0 21 rfl rfl)
theorem dX3_both_22 : decode cX3_both 22 = .ok (.istore_n 2, 1) := dk_61 (dk_at dksX3_both_0 22 rfl rfl)
theorem dX3_both_23 : decode cX3_both 23 = .ok (.aload_n 0, 1) := dk_42 (dk_at dksX3_both_0 23 rfl rfl)
theorem dX3_both_24 : decode cX3_both 24 = .ok (.invokeinterface 46 1, 5) := by decide +kernel
theorem dX3_both_29 : decode cX3_both 29 = .ok (.aload_n 1, 1) := dk_43 (dk_at dksX3_both_1 5 rfl rfl)
theorem dX3_both_30 : decode cX3_both 30 = .ok (.invokeinterface 42 1, 5) := by decide +kernel
theorem dX3_both_35 : decode cX3_both 35 = .ok (.iconst (-1), 1) := dk_2 (dk_at dksX3_both_1 11 rfl rfl)
theorem dX3_both_36 : decode cX3_both 36 = .ok (.ixor, 1) := dk_130 (dk_at dksX3_both_1 12 rfl rfl)
theorem dX3_both_37 : decode cX3_both 37 = .ok (.iand, 1) := dk_126 (dk_at dksX3_both_1 13 rfl rfl)
theorem dX3_both_38 : decode cX3_both 38 = .ok (.aload_n 1, 1) := dk_43 (dk_at dksX3_both_1 14 rfl rfl)
theorem dX3_both_39 : decode cX3_both 39 = .ok (.invokeinterface 46 1, 5) := by decide +kernel
theorem dX3_both_44 : decode cX3_both 44 = .ok (.ior, 1) := dk_128 (dk_at dksX3_both_1 20 rfl rfl)
theorem dX3_both_45 : decode cX3_both 45 = .ok (.istore_n 3, 1) := dk_62 (dk_at dksX3_both_1 21 rfl rfl)
theorem dX3_both_46 : decode cX3_both 46 = .ok (.aload_n 0, 1) := dk_42 (dk_at dksX3_both_1 22 rfl rfl)
theorem dX3_both_47 : decode cX3_both 47 = .ok (.invokeinterface 42 1, 5) := by decide +kernel
theorem dX3_both_52 : decode cX3_both 52 = .ok (.iload_n 2, 1) := dk_28 (dk_at dksX3_both_2 5 rfl rfl)
theorem dX3_both_53 : decode cX3_both 53 = .ok (.if_icmp .ne 17, 3) := dk_160 0 17 (dk_at dksX3_both_2 6 rfl rfl)
theorem dX3_both_56 : decode cX3_both 56 = .ok (.aload_n 0, 1) := dk_42 (dk_at dksX3_both_2 9 rfl rfl)
theorem dX3_both_57 : decode cX3_both 57 = .ok (.invokeinterface 46 1, 5) := by decide +kernel
theorem dX3_both_62 : decode cX3_both 62 = .ok (.iload_n 3, 1) := dk_29 (dk_at dksX3_both_2 15 rfl rfl)
theorem dX3_both_63 : decode cX3_both 63 = .ok (.if_icmp .ne 7, 3) := dk_160 0 7 (dk_at dksX3_both_2 16 rfl rfl)
theorem dX3_both_66 : decode cX3_both 66 = .ok (.aload_n 0, 1) := dk_42 (dk_at dksX3_both_2 19 rfl rfl)
theorem dX3_both_67 : decode cX3_both 67 = .ok (.goto 38, 3) := dk_167 0 38 (dk_at dksX3_both_2 20 rfl rfl)
theorem dX3_both_70 : decode cX3_both 70 = .ok (.aload_n 1, 1) := dk_43 (dk_at dksX3_both_2 23 rfl rfl)
theorem dX3_both_71 : decode cX3_both 71 = .ok (.invokeinterface 42 1, 5) := by decide +kernel
theorem dX3_both_76 : decode cX3_both 76 = .ok (.iload_n 2, 1) := dk_28 (dk_at dksX3_both_3 5 rfl rfl)
theorem dX3_both_77 : decode cX3_both 77 = .ok (.if_icmp .ne 17, 3) := dk_160 0 17 (dk_at dksX3_both_3 6 rfl rfl)
theorem dX3_both_80 : decode cX3_both 80 = .ok (.aload_n 1, 1) := dk_43 (dk_at dksX3_both_3 9 rfl rfl)
theorem dX3_both_81 : decode cX3_both 81 = .ok (.invokeinterface 46 1, 5) := by decide +kernel
theorem dX3_both_86 : decode cX3_both 86 = .ok (.iload_n 3, 1) := dk_29 (dk_at dksX3_both_3 15 rfl rfl)
theorem dX3_both_87 : decode cX3_both 87 = .ok (.if_icmp .ne 7, 3) := dk_160 0 7 (dk_at dksX3_both_3 16 rfl rfl)
theorem dX3_both_90 : decode cX3_both 90 = .ok (.aload_n 1, 1) := dk_43 (dk_at dksX3_both_3 19 rfl rfl)
theorem dX3_both_91 : decode cX3_both 91 = .ok (.goto 14, 3) := dk_167 0 14 (dk_at dksX3_both_3 20 rfl rfl)
theorem dX3_both_94 : decode cX3_both 94 = .ok (.aload_n 0, 1) := dk_42 (dk_at dksX3_both_3 23 rfl rfl)
theorem dX3_both_95 : decode cX3_both 95 = .ok (.invokeinterface 49 1, 5) := by decide +kernel
theorem dX3_both_100 : decode cX3_both 100 = .ok (.iload_n 2, 1) := dk_28 (dk_at dksX3_both_4 5 rfl rfl)
theorem dX3_both_101 : decode cX3_both 101 = .ok (.iload_n 3, 1) := dk_29 (dk_at dksX3_both_4 6 rfl rfl)
theorem dX3_both_102 : decode cX3_both 102 = .ok (.invokestatic 52, 3) := dk_184 0 52 (dk_at dksX3_both_4 7 rfl rfl)
theorem dX3_both_105 : decode cX3_both 105 = .ok (.areturn, 1) := dk_176 (dk_at dksX3_both_4 10 rfl rfl)
abbrev cX3_over : ByteArray := prog_21_method_7_code
def yX3_over : MethodName := ⟨RX3, "over", "(LEditsMeet$Edit;LEditsMeet$Edit;LEditsMeet$Edit;Z)LEditsMeet$Edit;"⟩
def dkwX3_over_5 : List UInt8 := [182, 0, 56, 182, 0, 93, 167, 255, 156, 42, 43, 21, 4, 182, 0, 128, 167, 255, 146, 43, 182, 0, 120, 176]
abbrev dktX3_over_5 : List UInt8 := dkwX3_over_5 ++ []
def dkwX3_over_4 : List UInt8 := [42, 180, 0, 25, 42, 180, 0, 16, 182, 0, 56, 182, 0, 90, 87, 42, 180, 0, 16, 42, 180, 0, 16]
abbrev dktX3_over_4 : List UInt8 := dkwX3_over_4 ++ dktX3_over_5
def dkwX3_over_3 : List UInt8 := [180, 0, 10, 182, 0, 113, 182, 0, 82, 87, 167, 255, 199, 42, 180, 0, 16, 182, 0, 110, 153, 0, 36, 43]
abbrev dktX3_over_3 : List UInt8 := dkwX3_over_3 ++ dktX3_over_4
def dkwX3_over_2 : List UInt8 := [182, 0, 110, 153, 0, 33, 21, 4, 154, 0, 13, 42, 180, 0, 16, 182, 0, 110, 154, 0, 18, 43, 42]
abbrev dktX3_over_2 : List UInt8 := dkwX3_over_2 ++ dktX3_over_3
def dkwX3_over_1 : List UInt8 := [180, 0, 10, 182, 0, 104, 154, 0, 13, 42, 180, 0, 16, 182, 0, 104, 153, 0, 96, 42, 180, 0, 10]
abbrev dktX3_over_1 : List UInt8 := dkwX3_over_1 ++ dktX3_over_2
def dkwX3_over_0 : List UInt8 := [43, 182, 0, 97, 42, 180, 0, 10, 44, 182, 0, 100, 87, 42, 180, 0, 16, 45, 182, 0, 100, 87, 42]
abbrev dktX3_over_0 : List UInt8 := dkwX3_over_0 ++ dktX3_over_1
theorem dksX3_over_0 : cX3_over.data.toList.drop 0 = dktX3_over_0 := by decide +kernel
theorem dksX3_over_1 : cX3_over.data.toList.drop 23 = dktX3_over_1 := dk_seg dksX3_over_0 23 rfl rfl
theorem dksX3_over_2 : cX3_over.data.toList.drop 46 = dktX3_over_2 := dk_seg dksX3_over_1 23 rfl rfl
theorem dksX3_over_3 : cX3_over.data.toList.drop 69 = dktX3_over_3 := dk_seg dksX3_over_2 23 rfl rfl
theorem dksX3_over_4 : cX3_over.data.toList.drop 93 = dktX3_over_4 := dk_seg dksX3_over_3 24 rfl rfl
theorem dksX3_over_5 : cX3_over.data.toList.drop 116 = dktX3_over_5 := dk_seg dksX3_over_4 23 rfl rfl
theorem dX3_over_0 : decode cX3_over 0 = .ok (.aload_n 1, 1) := dk_43 (dk_at dksX3_over_0 0 rfl rfl)
theorem dX3_over_1 : decode cX3_over 1 = .ok (.invokevirtual 97, 3) := dk_182 0 97 (dk_at dksX3_over_0 1 rfl rfl)
theorem dX3_over_4 : decode cX3_over 4 = .ok (.aload_n 0, 1) := dk_42 (dk_at dksX3_over_0 4 rfl rfl)
theorem dX3_over_5 : decode cX3_over 5 = .ok (.getfield 10, 3) := dk_180 0 10 (dk_at dksX3_over_0 5 rfl rfl)
theorem dX3_over_8 : decode cX3_over 8 = .ok (.aload_n 2, 1) := dk_44 (dk_at dksX3_over_0 8 rfl rfl)
theorem dX3_over_9 : decode cX3_over 9 = .ok (.invokevirtual 100, 3) := dk_182 0 100 (dk_at dksX3_over_0 9 rfl rfl)
theorem dX3_over_12 : decode cX3_over 12 = .ok (.pop, 1) := dk_87 (dk_at dksX3_over_0 12 rfl rfl)
theorem dX3_over_13 : decode cX3_over 13 = .ok (.aload_n 0, 1) := dk_42 (dk_at dksX3_over_0 13 rfl rfl)
theorem dX3_over_14 : decode cX3_over 14 = .ok (.getfield 16, 3) := dk_180 0 16 (dk_at dksX3_over_0 14 rfl rfl)
theorem dX3_over_17 : decode cX3_over 17 = .ok (.aload_n 3, 1) := dk_45 (dk_at dksX3_over_0 17 rfl rfl)
theorem dX3_over_18 : decode cX3_over 18 = .ok (.invokevirtual 100, 3) := dk_182 0 100 (dk_at dksX3_over_0 18 rfl rfl)
theorem dX3_over_21 : decode cX3_over 21 = .ok (.pop, 1) := dk_87 (dk_at dksX3_over_0 21 rfl rfl)
theorem dX3_over_22 : decode cX3_over 22 = .ok (.aload_n 0, 1) := dk_42 (dk_at dksX3_over_0 22 rfl rfl)
theorem dX3_over_23 : decode cX3_over 23 = .ok (.getfield 10, 3) := dk_180 0 10 (dk_at dksX3_over_1 0 rfl rfl)
theorem dX3_over_26 : decode cX3_over 26 = .ok (.invokevirtual 104, 3) := dk_182 0 104 (dk_at dksX3_over_1 3 rfl rfl)
theorem dX3_over_29 : decode cX3_over 29 = .ok (.ifCond .ne 13, 3) := dk_154 0 13 (dk_at dksX3_over_1 6 rfl rfl)
theorem dX3_over_32 : decode cX3_over 32 = .ok (.aload_n 0, 1) := dk_42 (dk_at dksX3_over_1 9 rfl rfl)
theorem dX3_over_33 : decode cX3_over 33 = .ok (.getfield 16, 3) := dk_180 0 16 (dk_at dksX3_over_1 10 rfl rfl)
theorem dX3_over_36 : decode cX3_over 36 = .ok (.invokevirtual 104, 3) := dk_182 0 104 (dk_at dksX3_over_1 13 rfl rfl)
theorem dX3_over_39 : decode cX3_over 39 = .ok (.ifCond .eq 96, 3) := dk_153 0 96 (dk_at dksX3_over_1 16 rfl rfl)
theorem dX3_over_42 : decode cX3_over 42 = .ok (.aload_n 0, 1) := dk_42 (dk_at dksX3_over_1 19 rfl rfl)
theorem dX3_over_43 : decode cX3_over 43 = .ok (.getfield 10, 3) := dk_180 0 10 (dk_at dksX3_over_1 20 rfl rfl)
theorem dX3_over_46 : decode cX3_over 46 = .ok (.invokevirtual 110, 3) := dk_182 0 110 (dk_at dksX3_over_2 0 rfl rfl)
theorem dX3_over_49 : decode cX3_over 49 = .ok (.ifCond .eq 33, 3) := dk_153 0 33 (dk_at dksX3_over_2 3 rfl rfl)
theorem dX3_over_52 : decode cX3_over 52 = .ok (.iload 4, 2) := dk_21 4 (dk_at dksX3_over_2 6 rfl rfl)
theorem dX3_over_54 : decode cX3_over 54 = .ok (.ifCond .ne 13, 3) := dk_154 0 13 (dk_at dksX3_over_2 8 rfl rfl)
theorem dX3_over_57 : decode cX3_over 57 = .ok (.aload_n 0, 1) := dk_42 (dk_at dksX3_over_2 11 rfl rfl)
theorem dX3_over_58 : decode cX3_over 58 = .ok (.getfield 16, 3) := dk_180 0 16 (dk_at dksX3_over_2 12 rfl rfl)
theorem dX3_over_61 : decode cX3_over 61 = .ok (.invokevirtual 110, 3) := dk_182 0 110 (dk_at dksX3_over_2 15 rfl rfl)
theorem dX3_over_64 : decode cX3_over 64 = .ok (.ifCond .ne 18, 3) := dk_154 0 18 (dk_at dksX3_over_2 18 rfl rfl)
theorem dX3_over_67 : decode cX3_over 67 = .ok (.aload_n 1, 1) := dk_43 (dk_at dksX3_over_2 21 rfl rfl)
theorem dX3_over_68 : decode cX3_over 68 = .ok (.aload_n 0, 1) := dk_42 (dk_at dksX3_over_2 22 rfl rfl)
theorem dX3_over_69 : decode cX3_over 69 = .ok (.getfield 10, 3) := dk_180 0 10 (dk_at dksX3_over_3 0 rfl rfl)
theorem dX3_over_72 : decode cX3_over 72 = .ok (.invokevirtual 113, 3) := dk_182 0 113 (dk_at dksX3_over_3 3 rfl rfl)
theorem dX3_over_75 : decode cX3_over 75 = .ok (.invokevirtual 82, 3) := dk_182 0 82 (dk_at dksX3_over_3 6 rfl rfl)
theorem dX3_over_78 : decode cX3_over 78 = .ok (.pop, 1) := dk_87 (dk_at dksX3_over_3 9 rfl rfl)
theorem dX3_over_79 : decode cX3_over 79 = .ok (.goto (-57), 3) := dk_167 255 199 (dk_at dksX3_over_3 10 rfl rfl)
theorem dX3_over_82 : decode cX3_over 82 = .ok (.aload_n 0, 1) := dk_42 (dk_at dksX3_over_3 13 rfl rfl)
theorem dX3_over_83 : decode cX3_over 83 = .ok (.getfield 16, 3) := dk_180 0 16 (dk_at dksX3_over_3 14 rfl rfl)
theorem dX3_over_86 : decode cX3_over 86 = .ok (.invokevirtual 110, 3) := dk_182 0 110 (dk_at dksX3_over_3 17 rfl rfl)
theorem dX3_over_89 : decode cX3_over 89 = .ok (.ifCond .eq 36, 3) := dk_153 0 36 (dk_at dksX3_over_3 20 rfl rfl)
theorem dX3_over_92 : decode cX3_over 92 = .ok (.aload_n 1, 1) := dk_43 (dk_at dksX3_over_3 23 rfl rfl)
theorem dX3_over_93 : decode cX3_over 93 = .ok (.aload_n 0, 1) := dk_42 (dk_at dksX3_over_4 0 rfl rfl)
theorem dX3_over_94 : decode cX3_over 94 = .ok (.getfield 25, 3) := dk_180 0 25 (dk_at dksX3_over_4 1 rfl rfl)
theorem dX3_over_97 : decode cX3_over 97 = .ok (.aload_n 0, 1) := dk_42 (dk_at dksX3_over_4 4 rfl rfl)
theorem dX3_over_98 : decode cX3_over 98 = .ok (.getfield 16, 3) := dk_180 0 16 (dk_at dksX3_over_4 5 rfl rfl)
theorem dX3_over_101 : decode cX3_over 101 = .ok (.invokevirtual 56, 3) := dk_182 0 56 (dk_at dksX3_over_4 8 rfl rfl)
theorem dX3_over_104 : decode cX3_over 104 = .ok (.invokevirtual 90, 3) := dk_182 0 90 (dk_at dksX3_over_4 11 rfl rfl)
theorem dX3_over_107 : decode cX3_over 107 = .ok (.pop, 1) := dk_87 (dk_at dksX3_over_4 14 rfl rfl)
theorem dX3_over_108 : decode cX3_over 108 = .ok (.aload_n 0, 1) := dk_42 (dk_at dksX3_over_4 15 rfl rfl)
theorem dX3_over_109 : decode cX3_over 109 = .ok (.getfield 16, 3) := dk_180 0 16 (dk_at dksX3_over_4 16 rfl rfl)
theorem dX3_over_112 : decode cX3_over 112 = .ok (.aload_n 0, 1) := dk_42 (dk_at dksX3_over_4 19 rfl rfl)
theorem dX3_over_113 : decode cX3_over 113 = .ok (.getfield 16, 3) := dk_180 0 16 (dk_at dksX3_over_4 20 rfl rfl)
theorem dX3_over_116 : decode cX3_over 116 = .ok (.invokevirtual 56, 3) := dk_182 0 56 (dk_at dksX3_over_5 0 rfl rfl)
theorem dX3_over_119 : decode cX3_over 119 = .ok (.invokevirtual 93, 3) := dk_182 0 93 (dk_at dksX3_over_5 3 rfl rfl)
theorem dX3_over_122 : decode cX3_over 122 = .ok (.goto (-100), 3) := dk_167 255 156 (dk_at dksX3_over_5 6 rfl rfl)
theorem dX3_over_125 : decode cX3_over 125 = .ok (.aload_n 0, 1) := dk_42 (dk_at dksX3_over_5 9 rfl rfl)
theorem dX3_over_126 : decode cX3_over 126 = .ok (.aload_n 1, 1) := dk_43 (dk_at dksX3_over_5 10 rfl rfl)
theorem dX3_over_127 : decode cX3_over 127 = .ok (.iload 4, 2) := dk_21 4 (dk_at dksX3_over_5 11 rfl rfl)
theorem dX3_over_129 : decode cX3_over 129 = .ok (.invokevirtual 128, 3) := dk_182 0 128 (dk_at dksX3_over_5 13 rfl rfl)
theorem dX3_over_132 : decode cX3_over 132 = .ok (.goto (-110), 3) := dk_167 255 146 (dk_at dksX3_over_5 16 rfl rfl)
theorem dX3_over_135 : decode cX3_over 135 = .ok (.aload_n 1, 1) := dk_43 (dk_at dksX3_over_5 19 rfl rfl)
theorem dX3_over_136 : decode cX3_over 136 = .ok (.invokevirtual 120, 3) := dk_182 0 120 (dk_at dksX3_over_5 20 rfl rfl)
theorem dX3_over_139 : decode cX3_over 139 = .ok (.areturn, 1) := dk_176 (dk_at dksX3_over_5 23 rfl rfl)
abbrev cX3_yields : ByteArray := prog_21_method_6_code
def yX3_yields : MethodName := ⟨RX3, "yields", "(LEditsMeet$Edit;Z)V"⟩
def dkwX3_yields_2 : List UInt8 := [29, 182, 0, 90, 87, 42, 180, 0, 10, 29, 182, 0, 93, 42, 180, 0, 16, 29, 182, 0, 93, 177]
abbrev dktX3_yields_2 : List UInt8 := dkwX3_yields_2 ++ []
def dkwX3_yields_1 : List UInt8 := [182, 0, 65, 42, 180, 0, 16, 182, 0, 65, 28, 184, 0, 124, 58, 4, 25, 4, 198, 0, 11, 43, 25, 4]
abbrev dktX3_yields_1 : List UInt8 := dkwX3_yields_1 ++ dktX3_yields_2
def dkwX3_yields_0 : List UInt8 := [42, 180, 0, 10, 182, 0, 56, 42, 180, 0, 16, 182, 0, 56, 184, 0, 59, 62, 42, 180, 0, 10]
abbrev dktX3_yields_0 : List UInt8 := dkwX3_yields_0 ++ dktX3_yields_1
theorem dksX3_yields_0 : cX3_yields.data.toList.drop 0 = dktX3_yields_0 := by decide +kernel
theorem dksX3_yields_1 : cX3_yields.data.toList.drop 22 = dktX3_yields_1 := dk_seg dksX3_yields_0 22 rfl rfl
theorem dksX3_yields_2 : cX3_yields.data.toList.drop 46 = dktX3_yields_2 := dk_seg dksX3_yields_1 24 rfl rfl
theorem dX3_yields_0 : decode cX3_yields 0 = .ok (.aload_n 0, 1) := dk_42 (dk_at dksX3_yields_0 0 rfl rfl)
theorem dX3_yields_1 : decode cX3_yields 1 = .ok (.getfield 10, 3) := dk_180 0 10 (dk_at dksX3_yields_0 1 rfl rfl)
theorem dX3_yields_4 : decode cX3_yields 4 = .ok (.invokevirtual 56, 3) := dk_182 0 56 (dk_at dksX3_yields_0 4 rfl rfl)
theorem dX3_yields_7 : decode cX3_yields 7 = .ok (.aload_n 0, 1) := dk_42 (dk_at dksX3_yields_0 7 rfl rfl)
theorem dX3_yields_8 : decode cX3_yields 8 = .ok (.getfield 16, 3) := dk_180 0 16 (dk_at dksX3_yields_0 8 rfl rfl)
theorem dX3_yields_11 : decode cX3_yields 11 = .ok (.invokevirtual 56, 3) := dk_182 0 56 (dk_at dksX3_yields_0 11 rfl rfl)
theorem dX3_yields_14 : decode cX3_yields 14 = .ok (.invokestatic 59, 3) := dk_184 0 59 (dk_at dksX3_yields_0 14 rfl rfl)
theorem dX3_yields_17 : decode cX3_yields 17 = .ok (.istore_n 3, 1) := dk_62 (dk_at dksX3_yields_0 17 rfl rfl)
theorem dX3_yields_18 : decode cX3_yields 18 = .ok (.aload_n 0, 1) := dk_42 (dk_at dksX3_yields_0 18 rfl rfl)
theorem dX3_yields_19 : decode cX3_yields 19 = .ok (.getfield 10, 3) := dk_180 0 10 (dk_at dksX3_yields_0 19 rfl rfl)
theorem dX3_yields_22 : decode cX3_yields 22 = .ok (.invokevirtual 65, 3) := dk_182 0 65 (dk_at dksX3_yields_1 0 rfl rfl)
theorem dX3_yields_25 : decode cX3_yields 25 = .ok (.aload_n 0, 1) := dk_42 (dk_at dksX3_yields_1 3 rfl rfl)
theorem dX3_yields_26 : decode cX3_yields 26 = .ok (.getfield 16, 3) := dk_180 0 16 (dk_at dksX3_yields_1 4 rfl rfl)
theorem dX3_yields_29 : decode cX3_yields 29 = .ok (.invokevirtual 65, 3) := dk_182 0 65 (dk_at dksX3_yields_1 7 rfl rfl)
theorem dX3_yields_32 : decode cX3_yields 32 = .ok (.iload_n 2, 1) := dk_28 (dk_at dksX3_yields_1 10 rfl rfl)
theorem dX3_yields_33 : decode cX3_yields 33 = .ok (.invokestatic 124, 3) := dk_184 0 124 (dk_at dksX3_yields_1 11 rfl rfl)
theorem dX3_yields_36 : decode cX3_yields 36 = .ok (.astore 4, 2) := dk_58 4 (dk_at dksX3_yields_1 14 rfl rfl)
theorem dX3_yields_38 : decode cX3_yields 38 = .ok (.aload 4, 2) := dk_25 4 (dk_at dksX3_yields_1 16 rfl rfl)
theorem dX3_yields_40 : decode cX3_yields 40 = .ok (.ifnull 11, 3) := dk_198 0 11 (dk_at dksX3_yields_1 18 rfl rfl)
theorem dX3_yields_43 : decode cX3_yields 43 = .ok (.aload_n 1, 1) := dk_43 (dk_at dksX3_yields_1 21 rfl rfl)
theorem dX3_yields_44 : decode cX3_yields 44 = .ok (.aload 4, 2) := dk_25 4 (dk_at dksX3_yields_1 22 rfl rfl)
theorem dX3_yields_46 : decode cX3_yields 46 = .ok (.iload_n 3, 1) := dk_29 (dk_at dksX3_yields_2 0 rfl rfl)
theorem dX3_yields_47 : decode cX3_yields 47 = .ok (.invokevirtual 90, 3) := dk_182 0 90 (dk_at dksX3_yields_2 1 rfl rfl)
theorem dX3_yields_50 : decode cX3_yields 50 = .ok (.pop, 1) := dk_87 (dk_at dksX3_yields_2 4 rfl rfl)
theorem dX3_yields_51 : decode cX3_yields 51 = .ok (.aload_n 0, 1) := dk_42 (dk_at dksX3_yields_2 5 rfl rfl)
theorem dX3_yields_52 : decode cX3_yields 52 = .ok (.getfield 10, 3) := dk_180 0 10 (dk_at dksX3_yields_2 6 rfl rfl)
theorem dX3_yields_55 : decode cX3_yields 55 = .ok (.iload_n 3, 1) := dk_29 (dk_at dksX3_yields_2 9 rfl rfl)
theorem dX3_yields_56 : decode cX3_yields 56 = .ok (.invokevirtual 93, 3) := dk_182 0 93 (dk_at dksX3_yields_2 10 rfl rfl)
theorem dX3_yields_59 : decode cX3_yields 59 = .ok (.aload_n 0, 1) := dk_42 (dk_at dksX3_yields_2 13 rfl rfl)
theorem dX3_yields_60 : decode cX3_yields 60 = .ok (.getfield 16, 3) := dk_180 0 16 (dk_at dksX3_yields_2 14 rfl rfl)
theorem dX3_yields_63 : decode cX3_yields 63 = .ok (.iload_n 3, 1) := dk_29 (dk_at dksX3_yields_2 17 rfl rfl)
theorem dX3_yields_64 : decode cX3_yields 64 = .ok (.invokevirtual 93, 3) := dk_182 0 93 (dk_at dksX3_yields_2 18 rfl rfl)
theorem dX3_yields_67 : decode cX3_yields 67 = .ok (.return_, 1) := dk_177 (dk_at dksX3_yields_2 21 rfl rfl)
abbrev cX3_yields_2 : ByteArray := prog_21_method_5_code
def yX3_yields_2 : MethodName := ⟨RX3, "yields", "(LEditsMeet$Part;LEditsMeet$Part;Z)LEditsMeet$Part;"⟩
def dkwX3_yields_2_4 : List UInt8 := [126, 184, 0, 52, 176]
abbrev dktX3_yields_2_4 : List UInt8 := dkwX3_yields_2_4 ++ []
def dkwX3_yields_2_3 : List UInt8 := [185, 0, 49, 1, 0, 42, 185, 0, 42, 1, 0, 29, 2, 130, 126, 42, 185, 0, 46, 1, 0, 29, 2, 130]
abbrev dktX3_yields_2_3 : List UInt8 := dkwX3_yields_2_3 ++ dktX3_yields_2_4
def dkwX3_yields_2_2 : List UInt8 := [185, 0, 42, 1, 0, 42, 185, 0, 46, 1, 0, 128, 29, 126, 154, 0, 7, 42, 167, 0, 32, 42]
abbrev dktX3_yields_2_2 : List UInt8 := dkwX3_yields_2_2 ++ dktX3_yields_2_3
def dkwX3_yields_2_1 : List UInt8 := [185, 0, 46, 1, 0, 128, 167, 0, 4, 3, 62, 42, 185, 0, 74, 1, 0, 154, 0, 21, 42]
abbrev dktX3_yields_2_1 : List UInt8 := dkwX3_yields_2_1 ++ dktX3_yields_2_2
def dkwX3_yields_2_0 : List UInt8 := [43, 185, 0, 74, 1, 0, 153, 0, 5, 1, 176, 28, 153, 0, 19, 43, 185, 0, 42, 1, 0, 43]
abbrev dktX3_yields_2_0 : List UInt8 := dkwX3_yields_2_0 ++ dktX3_yields_2_1
theorem dksX3_yields_2_0 : cX3_yields_2.data.toList.drop 0 = dktX3_yields_2_0 := by decide +kernel
theorem dksX3_yields_2_1 : cX3_yields_2.data.toList.drop 22 = dktX3_yields_2_1 := dk_seg dksX3_yields_2_0 22 rfl rfl
theorem dksX3_yields_2_2 : cX3_yields_2.data.toList.drop 43 = dktX3_yields_2_2 := dk_seg dksX3_yields_2_1 21 rfl rfl
theorem dksX3_yields_2_3 : cX3_yields_2.data.toList.drop 65 = dktX3_yields_2_3 := dk_seg dksX3_yields_2_2 22 rfl rfl
theorem dksX3_yields_2_4 : cX3_yields_2.data.toList.drop 89 = dktX3_yields_2_4 := dk_seg dksX3_yields_2_3 24 rfl rfl
theorem dX3_yields_2_0 : decode cX3_yields_2 0 = .ok (.aload_n 1, 1) := dk_43 (dk_at dksX3_yields_2_0 0 rfl rfl)
theorem dX3_yields_2_1 : decode cX3_yields_2 1 = .ok (.invokeinterface 74 1, 5) := by decide +kernel
theorem dX3_yields_2_6 : decode cX3_yields_2 6 = .ok (.ifCond .eq 5, 3) := dk_153 0 5 (dk_at dksX3_yields_2_0 6 rfl rfl)
theorem dX3_yields_2_9 : decode cX3_yields_2 9 = .ok (.aconst_null, 1) := dk_1 (dk_at dksX3_yields_2_0 9 rfl rfl)
theorem dX3_yields_2_10 : decode cX3_yields_2 10 = .ok (.areturn, 1) := dk_176 (dk_at dksX3_yields_2_0 10 rfl rfl)
theorem dX3_yields_2_11 : decode cX3_yields_2 11 = .ok (.iload_n 2, 1) := dk_28 (dk_at dksX3_yields_2_0 11 rfl rfl)
theorem dX3_yields_2_12 : decode cX3_yields_2 12 = .ok (.ifCond .eq 19, 3) := dk_153 0 19 (dk_at dksX3_yields_2_0 12 rfl rfl)
theorem dX3_yields_2_15 : decode cX3_yields_2 15 = .ok (.aload_n 1, 1) := dk_43 (dk_at dksX3_yields_2_0 15 rfl rfl)
theorem dX3_yields_2_16 : decode cX3_yields_2 16 = .ok (.invokeinterface 42 1, 5) := by decide +kernel
theorem dX3_yields_2_21 : decode cX3_yields_2 21 = .ok (.aload_n 1, 1) := dk_43 (dk_at dksX3_yields_2_0 21 rfl rfl)
theorem dX3_yields_2_22 : decode cX3_yields_2 22 = .ok (.invokeinterface 46 1, 5) := by decide +kernel
theorem dX3_yields_2_27 : decode cX3_yields_2 27 = .ok (.ior, 1) := dk_128 (dk_at dksX3_yields_2_1 5 rfl rfl)
theorem dX3_yields_2_28 : decode cX3_yields_2 28 = .ok (.goto 4, 3) := dk_167 0 4 (dk_at dksX3_yields_2_1 6 rfl rfl)
theorem dX3_yields_2_31 : decode cX3_yields_2 31 = .ok (.iconst 0, 1) := dk_3 (dk_at dksX3_yields_2_1 9 rfl rfl)
theorem dX3_yields_2_32 : decode cX3_yields_2 32 = .ok (.istore_n 3, 1) := dk_62 (dk_at dksX3_yields_2_1 10 rfl rfl)
theorem dX3_yields_2_33 : decode cX3_yields_2 33 = .ok (.aload_n 0, 1) := dk_42 (dk_at dksX3_yields_2_1 11 rfl rfl)
theorem dX3_yields_2_34 : decode cX3_yields_2 34 = .ok (.invokeinterface 74 1, 5) := by decide +kernel
theorem dX3_yields_2_39 : decode cX3_yields_2 39 = .ok (.ifCond .ne 21, 3) := dk_154 0 21 (dk_at dksX3_yields_2_1 17 rfl rfl)
theorem dX3_yields_2_42 : decode cX3_yields_2 42 = .ok (.aload_n 0, 1) := dk_42 (dk_at dksX3_yields_2_1 20 rfl rfl)
theorem dX3_yields_2_43 : decode cX3_yields_2 43 = .ok (.invokeinterface 42 1, 5) := by decide +kernel
theorem dX3_yields_2_48 : decode cX3_yields_2 48 = .ok (.aload_n 0, 1) := dk_42 (dk_at dksX3_yields_2_2 5 rfl rfl)
theorem dX3_yields_2_49 : decode cX3_yields_2 49 = .ok (.invokeinterface 46 1, 5) := by decide +kernel
theorem dX3_yields_2_54 : decode cX3_yields_2 54 = .ok (.ior, 1) := dk_128 (dk_at dksX3_yields_2_2 11 rfl rfl)
theorem dX3_yields_2_55 : decode cX3_yields_2 55 = .ok (.iload_n 3, 1) := dk_29 (dk_at dksX3_yields_2_2 12 rfl rfl)
theorem dX3_yields_2_56 : decode cX3_yields_2 56 = .ok (.iand, 1) := dk_126 (dk_at dksX3_yields_2_2 13 rfl rfl)
theorem dX3_yields_2_57 : decode cX3_yields_2 57 = .ok (.ifCond .ne 7, 3) := dk_154 0 7 (dk_at dksX3_yields_2_2 14 rfl rfl)
theorem dX3_yields_2_60 : decode cX3_yields_2 60 = .ok (.aload_n 0, 1) := dk_42 (dk_at dksX3_yields_2_2 17 rfl rfl)
theorem dX3_yields_2_61 : decode cX3_yields_2 61 = .ok (.goto 32, 3) := dk_167 0 32 (dk_at dksX3_yields_2_2 18 rfl rfl)
theorem dX3_yields_2_64 : decode cX3_yields_2 64 = .ok (.aload_n 0, 1) := dk_42 (dk_at dksX3_yields_2_2 21 rfl rfl)
theorem dX3_yields_2_65 : decode cX3_yields_2 65 = .ok (.invokeinterface 49 1, 5) := by decide +kernel
theorem dX3_yields_2_70 : decode cX3_yields_2 70 = .ok (.aload_n 0, 1) := dk_42 (dk_at dksX3_yields_2_3 5 rfl rfl)
theorem dX3_yields_2_71 : decode cX3_yields_2 71 = .ok (.invokeinterface 42 1, 5) := by decide +kernel
theorem dX3_yields_2_76 : decode cX3_yields_2 76 = .ok (.iload_n 3, 1) := dk_29 (dk_at dksX3_yields_2_3 11 rfl rfl)
theorem dX3_yields_2_77 : decode cX3_yields_2 77 = .ok (.iconst (-1), 1) := dk_2 (dk_at dksX3_yields_2_3 12 rfl rfl)
theorem dX3_yields_2_78 : decode cX3_yields_2 78 = .ok (.ixor, 1) := dk_130 (dk_at dksX3_yields_2_3 13 rfl rfl)
theorem dX3_yields_2_79 : decode cX3_yields_2 79 = .ok (.iand, 1) := dk_126 (dk_at dksX3_yields_2_3 14 rfl rfl)
theorem dX3_yields_2_80 : decode cX3_yields_2 80 = .ok (.aload_n 0, 1) := dk_42 (dk_at dksX3_yields_2_3 15 rfl rfl)
theorem dX3_yields_2_81 : decode cX3_yields_2 81 = .ok (.invokeinterface 46 1, 5) := by decide +kernel
theorem dX3_yields_2_86 : decode cX3_yields_2 86 = .ok (.iload_n 3, 1) := dk_29 (dk_at dksX3_yields_2_3 21 rfl rfl)
theorem dX3_yields_2_87 : decode cX3_yields_2 87 = .ok (.iconst (-1), 1) := dk_2 (dk_at dksX3_yields_2_3 22 rfl rfl)
theorem dX3_yields_2_88 : decode cX3_yields_2 88 = .ok (.ixor, 1) := dk_130 (dk_at dksX3_yields_2_3 23 rfl rfl)
theorem dX3_yields_2_89 : decode cX3_yields_2 89 = .ok (.iand, 1) := dk_126 (dk_at dksX3_yields_2_4 0 rfl rfl)
theorem dX3_yields_2_90 : decode cX3_yields_2 90 = .ok (.invokestatic 52, 3) := dk_184 0 52 (dk_at dksX3_yields_2_4 1 rfl rfl)
theorem dX3_yields_2_93 : decode cX3_yields_2 93 = .ok (.areturn, 1) := dk_176 (dk_at dksX3_yields_2_4 4 rfl rfl)
abbrev cX3_overAll : ByteArray := prog_21_method_9_code
def yX3_overAll : MethodName := ⟨RX3, "overAll", "(LEditsMeet$Edit;Ljava/util/ArrayList;I)LEditsMeet$Edit;"⟩
def dkwX3_overAll_2 : List UInt8 := [192, 0, 147, 180, 0, 149, 3, 182, 0, 131, 58, 4, 132, 5, 1, 167, 255, 203, 25, 4, 182, 0, 152, 176]
abbrev dktX3_overAll_2 : List UInt8 := dkwX3_overAll_2 ++ []
def dkwX3_overAll_1 : List UInt8 := [166, 0, 10, 42, 180, 0, 39, 167, 0, 7, 42, 180, 0, 36, 25, 4, 44, 21, 5, 182, 0, 143]
abbrev dktX3_overAll_1 : List UInt8 := dkwX3_overAll_1 ++ dktX3_overAll_2
def dkwX3_overAll_0 : List UInt8 := [43, 58, 4, 29, 54, 5, 21, 5, 44, 182, 0, 138, 162, 0, 50, 42, 25, 4, 42, 180, 0, 36]
abbrev dktX3_overAll_0 : List UInt8 := dkwX3_overAll_0 ++ dktX3_overAll_1
theorem dksX3_overAll_0 : cX3_overAll.data.toList.drop 0 = dktX3_overAll_0 := by decide +kernel
theorem dksX3_overAll_1 : cX3_overAll.data.toList.drop 22 = dktX3_overAll_1 := dk_seg dksX3_overAll_0 22 rfl rfl
theorem dksX3_overAll_2 : cX3_overAll.data.toList.drop 44 = dktX3_overAll_2 := dk_seg dksX3_overAll_1 22 rfl rfl
theorem dX3_overAll_0 : decode cX3_overAll 0 = .ok (.aload_n 1, 1) := dk_43 (dk_at dksX3_overAll_0 0 rfl rfl)
theorem dX3_overAll_1 : decode cX3_overAll 1 = .ok (.astore 4, 2) := dk_58 4 (dk_at dksX3_overAll_0 1 rfl rfl)
theorem dX3_overAll_3 : decode cX3_overAll 3 = .ok (.iload_n 3, 1) := dk_29 (dk_at dksX3_overAll_0 3 rfl rfl)
theorem dX3_overAll_4 : decode cX3_overAll 4 = .ok (.istore 5, 2) := dk_54 5 (dk_at dksX3_overAll_0 4 rfl rfl)
theorem dX3_overAll_6 : decode cX3_overAll 6 = .ok (.iload 5, 2) := dk_21 5 (dk_at dksX3_overAll_0 6 rfl rfl)
theorem dX3_overAll_8 : decode cX3_overAll 8 = .ok (.aload_n 2, 1) := dk_44 (dk_at dksX3_overAll_0 8 rfl rfl)
theorem dX3_overAll_9 : decode cX3_overAll 9 = .ok (.invokevirtual 138, 3) := dk_182 0 138 (dk_at dksX3_overAll_0 9 rfl rfl)
theorem dX3_overAll_12 : decode cX3_overAll 12 = .ok (.if_icmp .ge 50, 3) := dk_162 0 50 (dk_at dksX3_overAll_0 12 rfl rfl)
theorem dX3_overAll_15 : decode cX3_overAll 15 = .ok (.aload_n 0, 1) := dk_42 (dk_at dksX3_overAll_0 15 rfl rfl)
theorem dX3_overAll_16 : decode cX3_overAll 16 = .ok (.aload 4, 2) := dk_25 4 (dk_at dksX3_overAll_0 16 rfl rfl)
theorem dX3_overAll_18 : decode cX3_overAll 18 = .ok (.aload_n 0, 1) := dk_42 (dk_at dksX3_overAll_0 18 rfl rfl)
theorem dX3_overAll_19 : decode cX3_overAll 19 = .ok (.getfield 36, 3) := dk_180 0 36 (dk_at dksX3_overAll_0 19 rfl rfl)
theorem dX3_overAll_22 : decode cX3_overAll 22 = .ok (.if_acmp .ne 10, 3) := dk_166 0 10 (dk_at dksX3_overAll_1 0 rfl rfl)
theorem dX3_overAll_25 : decode cX3_overAll 25 = .ok (.aload_n 0, 1) := dk_42 (dk_at dksX3_overAll_1 3 rfl rfl)
theorem dX3_overAll_26 : decode cX3_overAll 26 = .ok (.getfield 39, 3) := dk_180 0 39 (dk_at dksX3_overAll_1 4 rfl rfl)
theorem dX3_overAll_29 : decode cX3_overAll 29 = .ok (.goto 7, 3) := dk_167 0 7 (dk_at dksX3_overAll_1 7 rfl rfl)
theorem dX3_overAll_32 : decode cX3_overAll 32 = .ok (.aload_n 0, 1) := dk_42 (dk_at dksX3_overAll_1 10 rfl rfl)
theorem dX3_overAll_33 : decode cX3_overAll 33 = .ok (.getfield 36, 3) := dk_180 0 36 (dk_at dksX3_overAll_1 11 rfl rfl)
theorem dX3_overAll_36 : decode cX3_overAll 36 = .ok (.aload 4, 2) := dk_25 4 (dk_at dksX3_overAll_1 14 rfl rfl)
theorem dX3_overAll_38 : decode cX3_overAll 38 = .ok (.aload_n 2, 1) := dk_44 (dk_at dksX3_overAll_1 16 rfl rfl)
theorem dX3_overAll_39 : decode cX3_overAll 39 = .ok (.iload 5, 2) := dk_21 5 (dk_at dksX3_overAll_1 17 rfl rfl)
theorem dX3_overAll_41 : decode cX3_overAll 41 = .ok (.invokevirtual 143, 3) := dk_182 0 143 (dk_at dksX3_overAll_1 19 rfl rfl)
theorem dX3_overAll_44 : decode cX3_overAll 44 = .ok (.checkcast 147, 3) := dk_192 0 147 (dk_at dksX3_overAll_2 0 rfl rfl)
theorem dX3_overAll_47 : decode cX3_overAll 47 = .ok (.getfield 149, 3) := dk_180 0 149 (dk_at dksX3_overAll_2 3 rfl rfl)
theorem dX3_overAll_50 : decode cX3_overAll 50 = .ok (.iconst 0, 1) := dk_3 (dk_at dksX3_overAll_2 6 rfl rfl)
theorem dX3_overAll_51 : decode cX3_overAll 51 = .ok (.invokevirtual 131, 3) := dk_182 0 131 (dk_at dksX3_overAll_2 7 rfl rfl)
theorem dX3_overAll_54 : decode cX3_overAll 54 = .ok (.astore 4, 2) := dk_58 4 (dk_at dksX3_overAll_2 10 rfl rfl)
theorem dX3_overAll_56 : decode cX3_overAll 56 = .ok (.iinc 5 1, 3) := dk_132 5 1 (dk_at dksX3_overAll_2 12 rfl rfl)
theorem dX3_overAll_59 : decode cX3_overAll 59 = .ok (.goto (-53), 3) := dk_167 255 203 (dk_at dksX3_overAll_2 15 rfl rfl)
theorem dX3_overAll_62 : decode cX3_overAll 62 = .ok (.aload 4, 2) := dk_25 4 (dk_at dksX3_overAll_2 18 rfl rfl)
theorem dX3_overAll_64 : decode cX3_overAll 64 = .ok (.invokevirtual 152, 3) := dk_182 0 152 (dk_at dksX3_overAll_2 20 rfl rfl)
theorem dX3_overAll_67 : decode cX3_overAll 67 = .ok (.areturn, 1) := dk_176 (dk_at dksX3_overAll_2 23 rfl rfl)
abbrev cX3_passes : ByteArray := prog_21_method_8_code
def yX3_passes : MethodName := ⟨RX3, "passes", "(LEditsMeet$Edit;LEditsMeet$Edit;)LEditsMeet$Edit;"⟩
def dkwX3_passes_2 : List UInt8 := [182, 0, 135, 45, 176]
abbrev dktX3_passes_2 : List UInt8 := dkwX3_passes_2 ++ []
def dkwX3_passes_1 : List UInt8 := [180, 0, 39, 167, 0, 7, 42, 180, 0, 36, 44, 43, 4, 182, 0, 131, 78, 43, 42, 180, 0, 32]
abbrev dktX3_passes_1 : List UInt8 := dkwX3_passes_1 ++ dktX3_passes_2
def dkwX3_passes_0 : List UInt8 := [42, 42, 180, 0, 32, 43, 44, 3, 182, 0, 131, 87, 42, 44, 42, 180, 0, 36, 166, 0, 10, 42]
abbrev dktX3_passes_0 : List UInt8 := dkwX3_passes_0 ++ dktX3_passes_1
theorem dksX3_passes_0 : cX3_passes.data.toList.drop 0 = dktX3_passes_0 := by decide +kernel
theorem dksX3_passes_1 : cX3_passes.data.toList.drop 22 = dktX3_passes_1 := dk_seg dksX3_passes_0 22 rfl rfl
theorem dksX3_passes_2 : cX3_passes.data.toList.drop 44 = dktX3_passes_2 := dk_seg dksX3_passes_1 22 rfl rfl
theorem dX3_passes_0 : decode cX3_passes 0 = .ok (.aload_n 0, 1) := dk_42 (dk_at dksX3_passes_0 0 rfl rfl)
theorem dX3_passes_1 : decode cX3_passes 1 = .ok (.aload_n 0, 1) := dk_42 (dk_at dksX3_passes_0 1 rfl rfl)
theorem dX3_passes_2 : decode cX3_passes 2 = .ok (.getfield 32, 3) := dk_180 0 32 (dk_at dksX3_passes_0 2 rfl rfl)
theorem dX3_passes_5 : decode cX3_passes 5 = .ok (.aload_n 1, 1) := dk_43 (dk_at dksX3_passes_0 5 rfl rfl)
theorem dX3_passes_6 : decode cX3_passes 6 = .ok (.aload_n 2, 1) := dk_44 (dk_at dksX3_passes_0 6 rfl rfl)
theorem dX3_passes_7 : decode cX3_passes 7 = .ok (.iconst 0, 1) := dk_3 (dk_at dksX3_passes_0 7 rfl rfl)
theorem dX3_passes_8 : decode cX3_passes 8 = .ok (.invokevirtual 131, 3) := dk_182 0 131 (dk_at dksX3_passes_0 8 rfl rfl)
theorem dX3_passes_11 : decode cX3_passes 11 = .ok (.pop, 1) := dk_87 (dk_at dksX3_passes_0 11 rfl rfl)
theorem dX3_passes_12 : decode cX3_passes 12 = .ok (.aload_n 0, 1) := dk_42 (dk_at dksX3_passes_0 12 rfl rfl)
theorem dX3_passes_13 : decode cX3_passes 13 = .ok (.aload_n 2, 1) := dk_44 (dk_at dksX3_passes_0 13 rfl rfl)
theorem dX3_passes_14 : decode cX3_passes 14 = .ok (.aload_n 0, 1) := dk_42 (dk_at dksX3_passes_0 14 rfl rfl)
theorem dX3_passes_15 : decode cX3_passes 15 = .ok (.getfield 36, 3) := dk_180 0 36 (dk_at dksX3_passes_0 15 rfl rfl)
theorem dX3_passes_18 : decode cX3_passes 18 = .ok (.if_acmp .ne 10, 3) := dk_166 0 10 (dk_at dksX3_passes_0 18 rfl rfl)
theorem dX3_passes_21 : decode cX3_passes 21 = .ok (.aload_n 0, 1) := dk_42 (dk_at dksX3_passes_0 21 rfl rfl)
theorem dX3_passes_22 : decode cX3_passes 22 = .ok (.getfield 39, 3) := dk_180 0 39 (dk_at dksX3_passes_1 0 rfl rfl)
theorem dX3_passes_25 : decode cX3_passes 25 = .ok (.goto 7, 3) := dk_167 0 7 (dk_at dksX3_passes_1 3 rfl rfl)
theorem dX3_passes_28 : decode cX3_passes 28 = .ok (.aload_n 0, 1) := dk_42 (dk_at dksX3_passes_1 6 rfl rfl)
theorem dX3_passes_29 : decode cX3_passes 29 = .ok (.getfield 36, 3) := dk_180 0 36 (dk_at dksX3_passes_1 7 rfl rfl)
theorem dX3_passes_32 : decode cX3_passes 32 = .ok (.aload_n 2, 1) := dk_44 (dk_at dksX3_passes_1 10 rfl rfl)
theorem dX3_passes_33 : decode cX3_passes 33 = .ok (.aload_n 1, 1) := dk_43 (dk_at dksX3_passes_1 11 rfl rfl)
theorem dX3_passes_34 : decode cX3_passes 34 = .ok (.iconst 1, 1) := dk_4 (dk_at dksX3_passes_1 12 rfl rfl)
theorem dX3_passes_35 : decode cX3_passes 35 = .ok (.invokevirtual 131, 3) := dk_182 0 131 (dk_at dksX3_passes_1 13 rfl rfl)
theorem dX3_passes_38 : decode cX3_passes 38 = .ok (.astore_n 3, 1) := dk_78 (dk_at dksX3_passes_1 16 rfl rfl)
theorem dX3_passes_39 : decode cX3_passes 39 = .ok (.aload_n 1, 1) := dk_43 (dk_at dksX3_passes_1 17 rfl rfl)
theorem dX3_passes_40 : decode cX3_passes 40 = .ok (.aload_n 0, 1) := dk_42 (dk_at dksX3_passes_1 18 rfl rfl)
theorem dX3_passes_41 : decode cX3_passes 41 = .ok (.getfield 32, 3) := dk_180 0 32 (dk_at dksX3_passes_1 19 rfl rfl)
theorem dX3_passes_44 : decode cX3_passes 44 = .ok (.invokevirtual 135, 3) := dk_182 0 135 (dk_at dksX3_passes_2 0 rfl rfl)
theorem dX3_passes_47 : decode cX3_passes 47 = .ok (.aload_n 3, 1) := dk_45 (dk_at dksX3_passes_2 3 rfl rfl)
theorem dX3_passes_48 : decode cX3_passes 48 = .ok (.areturn, 1) := dk_176 (dk_at dksX3_passes_2 4 rfl rfl)
theorem q135 : (Jvm.Cond.initialized "EditsMeet$Weaver") ∈ lw_all := lw_g (lw_at lw_m1 15 rfl) rfl
theorem q357 : (Jvm.Cond.instantiable "EditsMeet$Weaver" (6 : Nat)) ∈ lw_all := lw_g (lw_at lw_m1 237 rfl) rfl
theorem q359 : (Jvm.Cond.instanceMethod ({ cls := "EditsMeet$Weaver", name := "<init>", desc := "()V" } : Jvm.MethodName)) ∈ lw_all := lw_g (lw_at lw_m1 239 rfl) rfl
theorem q360 : (Jvm.Cond.code ({ cls := "EditsMeet$Weaver", name := "<init>", desc := "()V" } : Jvm.MethodName) prog_21_method_1_code (1 : Nat) (Option.none : Option Jvm.ClassFile.FieldType)) ∈ lw_all := lw_g (lw_at lw_m2 0 rfl) rfl
theorem q361 : (Jvm.Cond.methodLink "EditsMeet$Weaver" (1 : Nat) ({ cls := "java/lang/Object", name := "<init>", desc := "()V" } : Jvm.MethodName)) ∈ lw_all := lw_g (lw_at lw_m2 1 rfl) rfl
theorem q362 : (Jvm.Cond.classLink "EditsMeet$Weaver" (7 : Nat) "EditsMeet$Goes") ∈ lw_all := lw_g (lw_at lw_m2 2 rfl) rfl
theorem q364 : (Jvm.Cond.methodLinkNest "EditsMeet$Weaver" (9 : Nat) ({ cls := "EditsMeet$Goes", name := "<init>", desc := "()V" } : Jvm.MethodName) "EditsMeet") ∈ lw_tbl := lw_at lw_m2 4 rfl
theorem q378 : (Jvm.Cond.methodLink "EditsMeet$Weaver" (19 : Nat) ({ cls := "EditsMeet$Part", name := "keep", desc := "(I)LEditsMeet$Part;" } : Jvm.MethodName)) ∈ lw_all := lw_g (lw_at lw_m2 18 rfl) rfl
theorem q394 : (Jvm.Cond.classLink "EditsMeet$Weaver" (29 : Nat) "EditsMeet$Edit") ∈ lw_all := lw_g (lw_at lw_m2 34 rfl) rfl
theorem q396 : (Jvm.Cond.methodLinkNest "EditsMeet$Weaver" (31 : Nat) ({ cls := "EditsMeet$Edit", name := "<init>", desc := "()V" } : Jvm.MethodName) "EditsMeet") ∈ lw_tbl := lw_at lw_m2 36 rfl
theorem q418 : (Jvm.Cond.fieldLink "EditsMeet$Weaver" (10 : Nat) "EditsMeet$Weaver" "x" "LEditsMeet$Goes;") ∈ lw_all := lw_g (lw_at lw_m2 58 rfl) rfl
theorem q419 : (Jvm.Cond.fieldLink "EditsMeet$Weaver" (16 : Nat) "EditsMeet$Weaver" "y" "LEditsMeet$Goes;") ∈ lw_all := lw_g (lw_at lw_m2 59 rfl) rfl
theorem q420 : (Jvm.Cond.fieldLink "EditsMeet$Weaver" (25 : Nat) "EditsMeet$Weaver" "kept" "LEditsMeet$Part;") ∈ lw_all := lw_g (lw_at lw_m2 60 rfl) rfl
theorem q421 : (Jvm.Cond.fieldLink "EditsMeet$Weaver" (32 : Nat) "EditsMeet$Weaver" "spare" "LEditsMeet$Edit;") ∈ lw_all := lw_g (lw_at lw_m2 61 rfl) rfl
theorem q422 : (Jvm.Cond.fieldLink "EditsMeet$Weaver" (36 : Nat) "EditsMeet$Weaver" "one" "LEditsMeet$Edit;") ∈ lw_all := lw_g (lw_at lw_m2 62 rfl) rfl
theorem q423 : (Jvm.Cond.fieldLink "EditsMeet$Weaver" (39 : Nat) "EditsMeet$Weaver" "two" "LEditsMeet$Edit;") ∈ lw_all := lw_g (lw_at lw_m2 63 rfl) rfl
theorem q424 : (Jvm.Cond.laysFinal "EditsMeet$Weaver" "EditsMeet$Weaver" "x" "LEditsMeet$Goes;") ∈ lw_all := lw_g (lw_at lw_m2 64 rfl) rfl
theorem q425 : (Jvm.Cond.soleField "EditsMeet$Weaver" "x") ∈ lw_all := lw_g (lw_at lw_m2 65 rfl) rfl
theorem q426 : (Jvm.Cond.laysFinal "EditsMeet$Weaver" "EditsMeet$Weaver" "y" "LEditsMeet$Goes;") ∈ lw_all := lw_g (lw_at lw_m2 66 rfl) rfl
theorem q427 : (Jvm.Cond.soleField "EditsMeet$Weaver" "y") ∈ lw_all := lw_g (lw_at lw_m2 67 rfl) rfl
theorem q428 : (Jvm.Cond.laysFinal "EditsMeet$Weaver" "EditsMeet$Weaver" "kept" "LEditsMeet$Part;") ∈ lw_all := lw_g (lw_at lw_m2 68 rfl) rfl
theorem q429 : (Jvm.Cond.soleField "EditsMeet$Weaver" "kept") ∈ lw_all := lw_g (lw_at lw_m2 69 rfl) rfl
theorem q430 : (Jvm.Cond.laysFinal "EditsMeet$Weaver" "EditsMeet$Weaver" "spare" "LEditsMeet$Edit;") ∈ lw_all := lw_g (lw_at lw_m2 70 rfl) rfl
theorem q431 : (Jvm.Cond.soleField "EditsMeet$Weaver" "spare") ∈ lw_all := lw_g (lw_at lw_m2 71 rfl) rfl
theorem q432 : (Jvm.Cond.laysFinal "EditsMeet$Weaver" "EditsMeet$Weaver" "one" "LEditsMeet$Edit;") ∈ lw_all := lw_g (lw_at lw_m2 72 rfl) rfl
theorem q433 : (Jvm.Cond.soleField "EditsMeet$Weaver" "one") ∈ lw_all := lw_g (lw_at lw_m2 73 rfl) rfl
theorem q434 : (Jvm.Cond.laysFinal "EditsMeet$Weaver" "EditsMeet$Weaver" "two" "LEditsMeet$Edit;") ∈ lw_all := lw_g (lw_at lw_m2 74 rfl) rfl
theorem q435 : (Jvm.Cond.soleField "EditsMeet$Weaver" "two") ∈ lw_all := lw_g (lw_at lw_m2 75 rfl) rfl
theorem q436 : (Jvm.Cond.superclass "EditsMeet$Weaver" "java/lang/Object") ∈ lw_all := lw_g (lw_at lw_m2 76 rfl) rfl
theorem q1457 : (Jvm.Cond.selects "EditsMeet$Weaver" ({ cls := "java/lang/Object", name := "getClass", desc := "()Ljava/lang/Class;" } : Jvm.MethodName) ({ cls := "java/lang/Object", name := "getClass", desc := "()Ljava/lang/Class;" } : Jvm.MethodName)) ∈ lw_all := lw_g (lw_at lw_m6 137 rfl) rfl
theorem q2052 : (Jvm.Cond.instanceMethod ({ cls := "EditsMeet$Weaver", name := "behind", desc := "(LEditsMeet$Edit;LEditsMeet$Edit;LEditsMeet$Edit;)LEditsMeet$Edit;" } : Jvm.MethodName)) ∈ lw_all := lw_g (lw_at lw_m9 12 rfl) rfl
theorem q2053 : (Jvm.Cond.selects "EditsMeet$Weaver" ({ cls := "EditsMeet$Weaver", name := "behind", desc := "(LEditsMeet$Edit;LEditsMeet$Edit;LEditsMeet$Edit;)LEditsMeet$Edit;" } : Jvm.MethodName) ({ cls := "EditsMeet$Weaver", name := "behind", desc := "(LEditsMeet$Edit;LEditsMeet$Edit;LEditsMeet$Edit;)LEditsMeet$Edit;" } : Jvm.MethodName)) ∈ lw_all := lw_g (lw_at lw_m9 13 rfl) rfl
theorem q2054 : (Jvm.Cond.code ({ cls := "EditsMeet$Weaver", name := "behind", desc := "(LEditsMeet$Edit;LEditsMeet$Edit;LEditsMeet$Edit;)LEditsMeet$Edit;" } : Jvm.MethodName) prog_21_method_4_code (4 : Nat) (Option.some (Jvm.ClassFile.FieldType.object "EditsMeet$Edit"))) ∈ lw_all := lw_g (lw_at lw_m9 14 rfl) rfl
theorem q2055 : (Jvm.Cond.methodLink "EditsMeet$Weaver" (97 : Nat) ({ cls := "EditsMeet$Edit", name := "empties", desc := "()V" } : Jvm.MethodName)) ∈ lw_all := lw_g (lw_at lw_m9 15 rfl) rfl
theorem q2063 : (Jvm.Cond.methodLink "EditsMeet$Weaver" (100 : Nat) ({ cls := "EditsMeet$Goes", name := "along", desc := "(LEditsMeet$Edit;)LEditsMeet$Goes;" } : Jvm.MethodName)) ∈ lw_all := lw_g (lw_at lw_m9 23 rfl) rfl
theorem q2064 : (Jvm.Cond.methodLink "EditsMeet$Weaver" (104 : Nat) ({ cls := "EditsMeet$Goes", name := "hasNext", desc := "()Z" } : Jvm.MethodName)) ∈ lw_all := lw_g (lw_at lw_m9 24 rfl) rfl
theorem q2065 : (Jvm.Cond.methodLink "EditsMeet$Weaver" (107 : Nat) ({ cls := "EditsMeet$Goes", name := "isDelete", desc := "()Z" } : Jvm.MethodName)) ∈ lw_all := lw_g (lw_at lw_m9 25 rfl) rfl
theorem q2072 : (Jvm.Cond.methodLink "EditsMeet$Weaver" (65 : Nat) ({ cls := "EditsMeet$Goes", name := "here", desc := "()LEditsMeet$Part;" } : Jvm.MethodName)) ∈ lw_all := lw_g (lw_at lw_m9 32 rfl) rfl
theorem q2073 : (Jvm.Cond.methodLink "EditsMeet$Weaver" (56 : Nat) ({ cls := "EditsMeet$Goes", name := "left", desc := "()I" } : Jvm.MethodName)) ∈ lw_all := lw_g (lw_at lw_m9 33 rfl) rfl
theorem q2074 : (Jvm.Cond.methodLink "EditsMeet$Weaver" (90 : Nat) ({ cls := "EditsMeet$Edit", name := "adds", desc := "(LEditsMeet$Part;I)LEditsMeet$Edit;" } : Jvm.MethodName)) ∈ lw_all := lw_g (lw_at lw_m9 34 rfl) rfl
theorem q2075 : (Jvm.Cond.methodLink "EditsMeet$Weaver" (93 : Nat) ({ cls := "EditsMeet$Goes", name := "skips", desc := "(I)V" } : Jvm.MethodName)) ∈ lw_all := lw_g (lw_at lw_m9 35 rfl) rfl
theorem q2076 : (Jvm.Cond.methodLink "EditsMeet$Weaver" (110 : Nat) ({ cls := "EditsMeet$Goes", name := "isInsert", desc := "()Z" } : Jvm.MethodName)) ∈ lw_all := lw_g (lw_at lw_m9 36 rfl) rfl
theorem q2082 : (Jvm.Cond.methodLink "EditsMeet$Weaver" (113 : Nat) ({ cls := "EditsMeet$Goes", name := "next", desc := "()LEditsMeet$Part;" } : Jvm.MethodName)) ∈ lw_all := lw_g (lw_at lw_m9 42 rfl) rfl
theorem q2083 : (Jvm.Cond.methodLink "EditsMeet$Weaver" (82 : Nat) ({ cls := "EditsMeet$Edit", name := "adds", desc := "(LEditsMeet$Part;)LEditsMeet$Edit;" } : Jvm.MethodName)) ∈ lw_all := lw_g (lw_at lw_m9 43 rfl) rfl
theorem q2084 : (Jvm.Cond.methodLink "EditsMeet$Weaver" (116 : Nat) ({ cls := "EditsMeet$Weaver", name := "pairs", desc := "(LEditsMeet$Edit;)V" } : Jvm.MethodName)) ∈ lw_all := lw_g (lw_at lw_m9 44 rfl) rfl
theorem q2085 : (Jvm.Cond.privateMethod ({ cls := "EditsMeet$Weaver", name := "pairs", desc := "(LEditsMeet$Edit;)V" } : Jvm.MethodName)) ∈ lw_tbl := lw_at lw_m9 45 rfl
theorem q2086 : (Jvm.Cond.instanceMethod ({ cls := "EditsMeet$Weaver", name := "pairs", desc := "(LEditsMeet$Edit;)V" } : Jvm.MethodName)) ∈ lw_all := lw_g (lw_at lw_m9 46 rfl) rfl
theorem q2087 : (Jvm.Cond.code ({ cls := "EditsMeet$Weaver", name := "pairs", desc := "(LEditsMeet$Edit;)V" } : Jvm.MethodName) prog_21_method_3_code (6 : Nat) (Option.none : Option Jvm.ClassFile.FieldType)) ∈ lw_all := lw_g (lw_at lw_m9 47 rfl) rfl
theorem q2088 : (Jvm.Cond.methodLink "EditsMeet$Weaver" (59 : Nat) ({ cls := "java/lang/Math", name := "min", desc := "(II)I" } : Jvm.MethodName)) ∈ lw_all := lw_g (lw_at lw_m9 48 rfl) rfl
theorem q2089 : (Jvm.Cond.classLink "EditsMeet$Weaver" (69 : Nat) "EditsMeet$Insert") ∈ lw_all := lw_g (lw_at lw_m9 49 rfl) rfl
theorem q2090 : (Jvm.Cond.methodLink "EditsMeet$Weaver" (71 : Nat) ({ cls := "EditsMeet$Goes", name := "takes", desc := "(I)LEditsMeet$Part;" } : Jvm.MethodName)) ∈ lw_all := lw_g (lw_at lw_m9 50 rfl) rfl
theorem q2091 : (Jvm.Cond.interfaceEntry "EditsMeet$Weaver" (74 : Nat)) ∈ lw_tbl := lw_at lw_m9 51 rfl
theorem q2092 : (Jvm.Cond.methodLink "EditsMeet$Weaver" (74 : Nat) ({ cls := "EditsMeet$Part", name := "deletes", desc := "()Z" } : Jvm.MethodName)) ∈ lw_all := lw_g (lw_at lw_m9 52 rfl) rfl
theorem q2093 : (Jvm.Cond.methodLink "EditsMeet$Weaver" (78 : Nat) ({ cls := "EditsMeet$Insert", name := "turned", desc := "(LEditsMeet$Part;)LEditsMeet$Part;" } : Jvm.MethodName)) ∈ lw_all := lw_g (lw_at lw_m9 53 rfl) rfl
theorem q2117 : (Jvm.Cond.methodLink "EditsMeet$Weaver" (86 : Nat) ({ cls := "EditsMeet$Weaver", name := "both", desc := "(LEditsMeet$Part;LEditsMeet$Part;)LEditsMeet$Part;" } : Jvm.MethodName)) ∈ lw_all := lw_g (lw_at lw_m9 77 rfl) rfl
theorem q2118 : (Jvm.Cond.static ({ cls := "EditsMeet$Weaver", name := "both", desc := "(LEditsMeet$Part;LEditsMeet$Part;)LEditsMeet$Part;" } : Jvm.MethodName)) ∈ lw_all := lw_g (lw_at lw_m9 78 rfl) rfl
theorem q2119 : (Jvm.Cond.code ({ cls := "EditsMeet$Weaver", name := "both", desc := "(LEditsMeet$Part;LEditsMeet$Part;)LEditsMeet$Part;" } : Jvm.MethodName) prog_21_method_2_code (4 : Nat) (Option.some (Jvm.ClassFile.FieldType.object "EditsMeet$Part"))) ∈ lw_all := lw_g (lw_at lw_m9 79 rfl) rfl
theorem q2120 : (Jvm.Cond.interfaceEntry "EditsMeet$Weaver" (42 : Nat)) ∈ lw_tbl := lw_at lw_m9 80 rfl
theorem q2121 : (Jvm.Cond.methodLink "EditsMeet$Weaver" (42 : Nat) ({ cls := "EditsMeet$Part", name := "on", desc := "()I" } : Jvm.MethodName)) ∈ lw_all := lw_g (lw_at lw_m9 81 rfl) rfl
theorem q2122 : (Jvm.Cond.interfaceEntry "EditsMeet$Weaver" (46 : Nat)) ∈ lw_tbl := lw_at lw_m9 82 rfl
theorem q2123 : (Jvm.Cond.methodLink "EditsMeet$Weaver" (46 : Nat) ({ cls := "EditsMeet$Part", name := "off", desc := "()I" } : Jvm.MethodName)) ∈ lw_all := lw_g (lw_at lw_m9 83 rfl) rfl
theorem q2124 : (Jvm.Cond.interfaceEntry "EditsMeet$Weaver" (49 : Nat)) ∈ lw_tbl := lw_at lw_m9 84 rfl
theorem q2125 : (Jvm.Cond.methodLink "EditsMeet$Weaver" (49 : Nat) ({ cls := "EditsMeet$Part", name := "n", desc := "()I" } : Jvm.MethodName)) ∈ lw_all := lw_g (lw_at lw_m9 85 rfl) rfl
theorem q2126 : (Jvm.Cond.methodLink "EditsMeet$Weaver" (52 : Nat) ({ cls := "EditsMeet$Part", name := "mark", desc := "(III)LEditsMeet$Part;" } : Jvm.MethodName)) ∈ lw_all := lw_g (lw_at lw_m9 86 rfl) rfl
theorem q2127 : (Jvm.Cond.methodLink "EditsMeet$Weaver" (120 : Nat) ({ cls := "EditsMeet$Edit", name := "ends", desc := "()LEditsMeet$Edit;" } : Jvm.MethodName)) ∈ lw_all := lw_g (lw_at lw_m9 87 rfl) rfl
theorem q2142 : (Jvm.Cond.instanceMethod ({ cls := "EditsMeet$Weaver", name := "over", desc := "(LEditsMeet$Edit;LEditsMeet$Edit;LEditsMeet$Edit;Z)LEditsMeet$Edit;" } : Jvm.MethodName)) ∈ lw_all := lw_g (lw_at lw_m9 102 rfl) rfl
theorem q2143 : (Jvm.Cond.selects "EditsMeet$Weaver" ({ cls := "EditsMeet$Weaver", name := "over", desc := "(LEditsMeet$Edit;LEditsMeet$Edit;LEditsMeet$Edit;Z)LEditsMeet$Edit;" } : Jvm.MethodName) ({ cls := "EditsMeet$Weaver", name := "over", desc := "(LEditsMeet$Edit;LEditsMeet$Edit;LEditsMeet$Edit;Z)LEditsMeet$Edit;" } : Jvm.MethodName)) ∈ lw_all := lw_g (lw_at lw_m9 103 rfl) rfl
theorem q2144 : (Jvm.Cond.code ({ cls := "EditsMeet$Weaver", name := "over", desc := "(LEditsMeet$Edit;LEditsMeet$Edit;LEditsMeet$Edit;Z)LEditsMeet$Edit;" } : Jvm.MethodName) prog_21_method_7_code (5 : Nat) (Option.some (Jvm.ClassFile.FieldType.object "EditsMeet$Edit"))) ∈ lw_all := lw_g (lw_at lw_m9 104 rfl) rfl
theorem q2145 : (Jvm.Cond.methodLink "EditsMeet$Weaver" (128 : Nat) ({ cls := "EditsMeet$Weaver", name := "yields", desc := "(LEditsMeet$Edit;Z)V" } : Jvm.MethodName)) ∈ lw_all := lw_g (lw_at lw_m9 105 rfl) rfl
theorem q2146 : (Jvm.Cond.privateMethod ({ cls := "EditsMeet$Weaver", name := "yields", desc := "(LEditsMeet$Edit;Z)V" } : Jvm.MethodName)) ∈ lw_tbl := lw_at lw_m9 106 rfl
theorem q2147 : (Jvm.Cond.instanceMethod ({ cls := "EditsMeet$Weaver", name := "yields", desc := "(LEditsMeet$Edit;Z)V" } : Jvm.MethodName)) ∈ lw_all := lw_g (lw_at lw_m9 107 rfl) rfl
theorem q2148 : (Jvm.Cond.code ({ cls := "EditsMeet$Weaver", name := "yields", desc := "(LEditsMeet$Edit;Z)V" } : Jvm.MethodName) prog_21_method_6_code (5 : Nat) (Option.none : Option Jvm.ClassFile.FieldType)) ∈ lw_all := lw_g (lw_at lw_m9 108 rfl) rfl
theorem q2149 : (Jvm.Cond.methodLink "EditsMeet$Weaver" (124 : Nat) ({ cls := "EditsMeet$Weaver", name := "yields", desc := "(LEditsMeet$Part;LEditsMeet$Part;Z)LEditsMeet$Part;" } : Jvm.MethodName)) ∈ lw_all := lw_g (lw_at lw_m9 109 rfl) rfl
theorem q2150 : (Jvm.Cond.static ({ cls := "EditsMeet$Weaver", name := "yields", desc := "(LEditsMeet$Part;LEditsMeet$Part;Z)LEditsMeet$Part;" } : Jvm.MethodName)) ∈ lw_all := lw_g (lw_at lw_m9 110 rfl) rfl
theorem q2151 : (Jvm.Cond.code ({ cls := "EditsMeet$Weaver", name := "yields", desc := "(LEditsMeet$Part;LEditsMeet$Part;Z)LEditsMeet$Part;" } : Jvm.MethodName) prog_21_method_5_code (4 : Nat) (Option.some (Jvm.ClassFile.FieldType.object "EditsMeet$Part"))) ∈ lw_all := lw_g (lw_at lw_m9 111 rfl) rfl
theorem q2497 : (Jvm.Cond.instanceMethod ({ cls := "EditsMeet$Weaver", name := "overAll", desc := "(LEditsMeet$Edit;Ljava/util/ArrayList;I)LEditsMeet$Edit;" } : Jvm.MethodName)) ∈ lw_all := lw_g (lw_at lw_m10 217 rfl) rfl
theorem q2498 : (Jvm.Cond.selects "EditsMeet$Weaver" ({ cls := "EditsMeet$Weaver", name := "overAll", desc := "(LEditsMeet$Edit;Ljava/util/ArrayList;I)LEditsMeet$Edit;" } : Jvm.MethodName) ({ cls := "EditsMeet$Weaver", name := "overAll", desc := "(LEditsMeet$Edit;Ljava/util/ArrayList;I)LEditsMeet$Edit;" } : Jvm.MethodName)) ∈ lw_all := lw_g (lw_at lw_m10 218 rfl) rfl
theorem q2499 : (Jvm.Cond.code ({ cls := "EditsMeet$Weaver", name := "overAll", desc := "(LEditsMeet$Edit;Ljava/util/ArrayList;I)LEditsMeet$Edit;" } : Jvm.MethodName) prog_21_method_9_code (6 : Nat) (Option.some (Jvm.ClassFile.FieldType.object "EditsMeet$Edit"))) ∈ lw_all := lw_g (lw_at lw_m10 219 rfl) rfl
theorem q2500 : (Jvm.Cond.methodLink "EditsMeet$Weaver" (138 : Nat) ({ cls := "java/util/ArrayList", name := "size", desc := "()I" } : Jvm.MethodName)) ∈ lw_all := lw_g (lw_at lw_m10 220 rfl) rfl
theorem q2501 : (Jvm.Cond.methodLink "EditsMeet$Weaver" (143 : Nat) ({ cls := "java/util/ArrayList", name := "get", desc := "(I)Ljava/lang/Object;" } : Jvm.MethodName)) ∈ lw_all := lw_g (lw_at lw_m10 221 rfl) rfl
theorem q2502 : (Jvm.Cond.classLink "EditsMeet$Weaver" (147 : Nat) "EditsMeet$Revision") ∈ lw_all := lw_g (lw_at lw_m10 222 rfl) rfl
theorem q2503 : (Jvm.Cond.methodLink "EditsMeet$Weaver" (131 : Nat) ({ cls := "EditsMeet$Weaver", name := "over", desc := "(LEditsMeet$Edit;LEditsMeet$Edit;LEditsMeet$Edit;Z)LEditsMeet$Edit;" } : Jvm.MethodName)) ∈ lw_all := lw_g (lw_at lw_m10 223 rfl) rfl
theorem q2504 : (Jvm.Cond.methodLink "EditsMeet$Weaver" (152 : Nat) ({ cls := "EditsMeet$Edit", name := "copied", desc := "()LEditsMeet$Edit;" } : Jvm.MethodName)) ∈ lw_all := lw_g (lw_at lw_m10 224 rfl) rfl
theorem q2520 : (Jvm.Cond.fieldLink "EditsMeet$Weaver" (149 : Nat) "EditsMeet$Revision" "edit" "LEditsMeet$Edit;") ∈ lw_all := lw_g (lw_at lw_m11 0 rfl) rfl
theorem q2562 : (Jvm.Cond.instanceMethod ({ cls := "EditsMeet$Weaver", name := "passes", desc := "(LEditsMeet$Edit;LEditsMeet$Edit;)LEditsMeet$Edit;" } : Jvm.MethodName)) ∈ lw_all := lw_g (lw_at lw_m11 42 rfl) rfl
theorem q2563 : (Jvm.Cond.selects "EditsMeet$Weaver" ({ cls := "EditsMeet$Weaver", name := "passes", desc := "(LEditsMeet$Edit;LEditsMeet$Edit;)LEditsMeet$Edit;" } : Jvm.MethodName) ({ cls := "EditsMeet$Weaver", name := "passes", desc := "(LEditsMeet$Edit;LEditsMeet$Edit;)LEditsMeet$Edit;" } : Jvm.MethodName)) ∈ lw_all := lw_g (lw_at lw_m11 43 rfl) rfl
theorem q2564 : (Jvm.Cond.code ({ cls := "EditsMeet$Weaver", name := "passes", desc := "(LEditsMeet$Edit;LEditsMeet$Edit;)LEditsMeet$Edit;" } : Jvm.MethodName) prog_21_method_8_code (4 : Nat) (Option.some (Jvm.ClassFile.FieldType.object "EditsMeet$Edit"))) ∈ lw_all := lw_g (lw_at lw_m11 44 rfl) rfl
theorem q2565 : (Jvm.Cond.methodLink "EditsMeet$Weaver" (135 : Nat) ({ cls := "EditsMeet$Edit", name := "swaps", desc := "(LEditsMeet$Edit;)V" } : Jvm.MethodName)) ∈ lw_all := lw_g (lw_at lw_m11 45 rfl) rfl
theorem q3634 : (Jvm.Cond.castable "EditsMeet$Weaver" "java/lang/Object") ∈ lw_tbl := lw_at lw_m15 154 rfl
theorem in_X3 : ∀ w ∈ wsX30, w ∈ lw_all := lw_in wsX30 [424, 426, 428, 430, 432, 434] (by decide +kernel) (by decide +kernel)

/-! EditsMeet$Goes -/
set_option maxRecDepth 100000
def RX4 : String := "EditsMeet$Goes"
def TX4 : u_T := fun k => match k with
  | 0 => ("EditsMeet$Goes", "of", "LEditsMeet$Edit;", false)
  | 1 => ("EditsMeet$Goes", "at", "I", false)
  | _ => ("EditsMeet$Goes", "gone", "I", false)
def tyX4 : Nat → FieldType := fun k => match k with
  | 0 => .object "EditsMeet$Edit"
  | 1 => .int
  | _ => .int
abbrev wsX40 : List Cond := u_ws RX4 TX4 3
theorem nmX4 : ∀ a, a < 3 → ∀ b, b < 3 → a ≠ b → (TX4 a).2.1 ≠ (TX4 b).2.1 := by decide +kernel
theorem tyX4_ok : ∀ k, k < 3 → parseFieldDescriptor (TX4 k).2.2.1 = some (tyX4 k) := by decide +kernel
abbrev cX4_init : ByteArray := prog_8_method_1_code
def yX4_init : MethodName := ⟨RX4, "<init>", "()V"⟩
theorem dX4_init_0 : decode cX4_init 0 = .ok (.aload_n 0, 1) := by decide +kernel
theorem dX4_init_1 : decode cX4_init 1 = .ok (.invokespecial 1, 3) := by decide +kernel
theorem dX4_init_4 : decode cX4_init 4 = .ok (.return_, 1) := by decide +kernel
abbrev cX4_along : ByteArray := prog_8_method_2_code
def yX4_along : MethodName := ⟨RX4, "along", "(LEditsMeet$Edit;)LEditsMeet$Goes;"⟩
def dkwX4_along_0 : List UInt8 := [42, 43, 181, 0, 7, 42, 3, 181, 0, 13, 42, 3, 181, 0, 17, 42, 176]
abbrev dktX4_along_0 : List UInt8 := dkwX4_along_0 ++ []
theorem dksX4_along_0 : cX4_along.data.toList.drop 0 = dktX4_along_0 := by decide +kernel
theorem dX4_along_0 : decode cX4_along 0 = .ok (.aload_n 0, 1) := dk_42 (dk_at dksX4_along_0 0 rfl rfl)
theorem dX4_along_1 : decode cX4_along 1 = .ok (.aload_n 1, 1) := dk_43 (dk_at dksX4_along_0 1 rfl rfl)
theorem dX4_along_2 : decode cX4_along 2 = .ok (.putfield 7, 3) := dk_181 0 7 (dk_at dksX4_along_0 2 rfl rfl)
theorem dX4_along_5 : decode cX4_along 5 = .ok (.aload_n 0, 1) := dk_42 (dk_at dksX4_along_0 5 rfl rfl)
theorem dX4_along_6 : decode cX4_along 6 = .ok (.iconst 0, 1) := dk_3 (dk_at dksX4_along_0 6 rfl rfl)
theorem dX4_along_7 : decode cX4_along 7 = .ok (.putfield 13, 3) := dk_181 0 13 (dk_at dksX4_along_0 7 rfl rfl)
theorem dX4_along_10 : decode cX4_along 10 = .ok (.aload_n 0, 1) := dk_42 (dk_at dksX4_along_0 10 rfl rfl)
theorem dX4_along_11 : decode cX4_along 11 = .ok (.iconst 0, 1) := dk_3 (dk_at dksX4_along_0 11 rfl rfl)
theorem dX4_along_12 : decode cX4_along 12 = .ok (.putfield 17, 3) := dk_181 0 17 (dk_at dksX4_along_0 12 rfl rfl)
theorem dX4_along_15 : decode cX4_along 15 = .ok (.aload_n 0, 1) := dk_42 (dk_at dksX4_along_0 15 rfl rfl)
theorem dX4_along_16 : decode cX4_along 16 = .ok (.areturn, 1) := dk_176 (dk_at dksX4_along_0 16 rfl rfl)
abbrev cX4_hasNext : ByteArray := prog_8_method_3_code
def yX4_hasNext : MethodName := ⟨RX4, "hasNext", "()Z"⟩
def dkwX4_hasNext_0 : List UInt8 := [42, 180, 0, 13, 42, 180, 0, 7, 182, 0, 20, 162, 0, 7, 4, 167, 0, 4, 3, 172]
abbrev dktX4_hasNext_0 : List UInt8 := dkwX4_hasNext_0 ++ []
theorem dksX4_hasNext_0 : cX4_hasNext.data.toList.drop 0 = dktX4_hasNext_0 := by decide +kernel
theorem dX4_hasNext_0 : decode cX4_hasNext 0 = .ok (.aload_n 0, 1) := dk_42 (dk_at dksX4_hasNext_0 0 rfl rfl)
theorem dX4_hasNext_1 : decode cX4_hasNext 1 = .ok (.getfield 13, 3) := dk_180 0 13 (dk_at dksX4_hasNext_0 1 rfl rfl)
theorem dX4_hasNext_4 : decode cX4_hasNext 4 = .ok (.aload_n 0, 1) := dk_42 (dk_at dksX4_hasNext_0 4 rfl rfl)
theorem dX4_hasNext_5 : decode cX4_hasNext 5 = .ok (.getfield 7, 3) := dk_180 0 7 (dk_at dksX4_hasNext_0 5 rfl rfl)
theorem dX4_hasNext_8 : decode cX4_hasNext 8 = .ok (.invokevirtual 20, 3) := dk_182 0 20 (dk_at dksX4_hasNext_0 8 rfl rfl)
theorem dX4_hasNext_11 : decode cX4_hasNext 11 = .ok (.if_icmp .ge 7, 3) := dk_162 0 7 (dk_at dksX4_hasNext_0 11 rfl rfl)
theorem dX4_hasNext_14 : decode cX4_hasNext 14 = .ok (.iconst 1, 1) := dk_4 (dk_at dksX4_hasNext_0 14 rfl rfl)
theorem dX4_hasNext_15 : decode cX4_hasNext 15 = .ok (.goto 4, 3) := dk_167 0 4 (dk_at dksX4_hasNext_0 15 rfl rfl)
theorem dX4_hasNext_18 : decode cX4_hasNext 18 = .ok (.iconst 0, 1) := dk_3 (dk_at dksX4_hasNext_0 18 rfl rfl)
theorem dX4_hasNext_19 : decode cX4_hasNext 19 = .ok (.ireturn, 1) := dk_172 (dk_at dksX4_hasNext_0 19 rfl rfl)
abbrev cX4_next : ByteArray := prog_8_method_11_code
def yX4_next : MethodName := ⟨RX4, "next", "()Ljava/lang/Object;"⟩
theorem dX4_next_0 : decode cX4_next 0 = .ok (.aload_n 0, 1) := by decide +kernel
theorem dX4_next_1 : decode cX4_next 1 = .ok (.invokevirtual 63, 3) := by decide +kernel
theorem dX4_next_4 : decode cX4_next 4 = .ok (.areturn, 1) := by decide +kernel
abbrev cX4_next_2 : ByteArray := prog_8_method_10_code
def yX4_next_2 : MethodName := ⟨RX4, "next", "()LEditsMeet$Part;"⟩
def dkwX4_next_2_0 : List UInt8 := [42, 42, 182, 0, 57, 182, 0, 60, 176]
abbrev dktX4_next_2_0 : List UInt8 := dkwX4_next_2_0 ++ []
theorem dksX4_next_2_0 : cX4_next_2.data.toList.drop 0 = dktX4_next_2_0 := by decide +kernel
theorem dX4_next_2_0 : decode cX4_next_2 0 = .ok (.aload_n 0, 1) := dk_42 (dk_at dksX4_next_2_0 0 rfl rfl)
theorem dX4_next_2_1 : decode cX4_next_2 1 = .ok (.aload_n 0, 1) := dk_42 (dk_at dksX4_next_2_0 1 rfl rfl)
theorem dX4_next_2_2 : decode cX4_next_2 2 = .ok (.invokevirtual 57, 3) := dk_182 0 57 (dk_at dksX4_next_2_0 2 rfl rfl)
theorem dX4_next_2_5 : decode cX4_next_2 5 = .ok (.invokevirtual 60, 3) := dk_182 0 60 (dk_at dksX4_next_2_0 5 rfl rfl)
theorem dX4_next_2_8 : decode cX4_next_2 8 = .ok (.areturn, 1) := dk_176 (dk_at dksX4_next_2_0 8 rfl rfl)
abbrev cX4_left : ByteArray := prog_8_method_7_code
def yX4_left : MethodName := ⟨RX4, "left", "()I"⟩
def dkwX4_left_0 : List UInt8 := [42, 182, 0, 34, 185, 0, 46, 1, 0, 42, 180, 0, 17, 100, 172]
abbrev dktX4_left_0 : List UInt8 := dkwX4_left_0 ++ []
theorem dksX4_left_0 : cX4_left.data.toList.drop 0 = dktX4_left_0 := by decide +kernel
theorem dX4_left_0 : decode cX4_left 0 = .ok (.aload_n 0, 1) := dk_42 (dk_at dksX4_left_0 0 rfl rfl)
theorem dX4_left_1 : decode cX4_left 1 = .ok (.invokevirtual 34, 3) := dk_182 0 34 (dk_at dksX4_left_0 1 rfl rfl)
theorem dX4_left_4 : decode cX4_left 4 = .ok (.invokeinterface 46 1, 5) := by decide +kernel
theorem dX4_left_9 : decode cX4_left 9 = .ok (.aload_n 0, 1) := dk_42 (dk_at dksX4_left_0 9 rfl rfl)
theorem dX4_left_10 : decode cX4_left 10 = .ok (.getfield 17, 3) := dk_180 0 17 (dk_at dksX4_left_0 10 rfl rfl)
theorem dX4_left_13 : decode cX4_left 13 = .ok (.isub, 1) := dk_100 (dk_at dksX4_left_0 13 rfl rfl)
theorem dX4_left_14 : decode cX4_left 14 = .ok (.ireturn, 1) := dk_172 (dk_at dksX4_left_0 14 rfl rfl)
abbrev cX4_here : ByteArray := prog_8_method_4_code
def yX4_here : MethodName := ⟨RX4, "here", "()LEditsMeet$Part;"⟩
def dkwX4_here_0 : List UInt8 := [42, 180, 0, 7, 42, 180, 0, 13, 182, 0, 26, 176]
abbrev dktX4_here_0 : List UInt8 := dkwX4_here_0 ++ []
theorem dksX4_here_0 : cX4_here.data.toList.drop 0 = dktX4_here_0 := by decide +kernel
theorem dX4_here_0 : decode cX4_here 0 = .ok (.aload_n 0, 1) := dk_42 (dk_at dksX4_here_0 0 rfl rfl)
theorem dX4_here_1 : decode cX4_here 1 = .ok (.getfield 7, 3) := dk_180 0 7 (dk_at dksX4_here_0 1 rfl rfl)
theorem dX4_here_4 : decode cX4_here 4 = .ok (.aload_n 0, 1) := dk_42 (dk_at dksX4_here_0 4 rfl rfl)
theorem dX4_here_5 : decode cX4_here 5 = .ok (.getfield 13, 3) := dk_180 0 13 (dk_at dksX4_here_0 5 rfl rfl)
theorem dX4_here_8 : decode cX4_here 8 = .ok (.invokevirtual 26, 3) := dk_182 0 26 (dk_at dksX4_here_0 8 rfl rfl)
theorem dX4_here_11 : decode cX4_here 11 = .ok (.areturn, 1) := dk_176 (dk_at dksX4_here_0 11 rfl rfl)
abbrev cX4_takes : ByteArray := prog_8_method_9_code
def yX4_takes : MethodName := ⟨RX4, "takes", "(I)LEditsMeet$Part;"⟩
def dkwX4_takes_1 : List UInt8 := [182, 0, 53, 44, 176]
abbrev dktX4_takes_1 : List UInt8 := dkwX4_takes_1 ++ []
def dkwX4_takes_0 : List UInt8 := [42, 182, 0, 34, 42, 180, 0, 17, 42, 180, 0, 17, 27, 96, 185, 0, 49, 3, 0, 77, 42, 27]
abbrev dktX4_takes_0 : List UInt8 := dkwX4_takes_0 ++ dktX4_takes_1
theorem dksX4_takes_0 : cX4_takes.data.toList.drop 0 = dktX4_takes_0 := by decide +kernel
theorem dksX4_takes_1 : cX4_takes.data.toList.drop 22 = dktX4_takes_1 := dk_seg dksX4_takes_0 22 rfl rfl
theorem dX4_takes_0 : decode cX4_takes 0 = .ok (.aload_n 0, 1) := dk_42 (dk_at dksX4_takes_0 0 rfl rfl)
theorem dX4_takes_1 : decode cX4_takes 1 = .ok (.invokevirtual 34, 3) := dk_182 0 34 (dk_at dksX4_takes_0 1 rfl rfl)
theorem dX4_takes_4 : decode cX4_takes 4 = .ok (.aload_n 0, 1) := dk_42 (dk_at dksX4_takes_0 4 rfl rfl)
theorem dX4_takes_5 : decode cX4_takes 5 = .ok (.getfield 17, 3) := dk_180 0 17 (dk_at dksX4_takes_0 5 rfl rfl)
theorem dX4_takes_8 : decode cX4_takes 8 = .ok (.aload_n 0, 1) := dk_42 (dk_at dksX4_takes_0 8 rfl rfl)
theorem dX4_takes_9 : decode cX4_takes 9 = .ok (.getfield 17, 3) := dk_180 0 17 (dk_at dksX4_takes_0 9 rfl rfl)
theorem dX4_takes_12 : decode cX4_takes 12 = .ok (.iload_n 1, 1) := dk_27 (dk_at dksX4_takes_0 12 rfl rfl)
theorem dX4_takes_13 : decode cX4_takes 13 = .ok (.iadd, 1) := dk_96 (dk_at dksX4_takes_0 13 rfl rfl)
theorem dX4_takes_14 : decode cX4_takes 14 = .ok (.invokeinterface 49 3, 5) := by decide +kernel
theorem dX4_takes_19 : decode cX4_takes 19 = .ok (.astore_n 2, 1) := dk_77 (dk_at dksX4_takes_0 19 rfl rfl)
theorem dX4_takes_20 : decode cX4_takes 20 = .ok (.aload_n 0, 1) := dk_42 (dk_at dksX4_takes_0 20 rfl rfl)
theorem dX4_takes_21 : decode cX4_takes 21 = .ok (.iload_n 1, 1) := dk_27 (dk_at dksX4_takes_0 21 rfl rfl)
theorem dX4_takes_22 : decode cX4_takes 22 = .ok (.invokevirtual 53, 3) := dk_182 0 53 (dk_at dksX4_takes_1 0 rfl rfl)
theorem dX4_takes_25 : decode cX4_takes 25 = .ok (.aload_n 2, 1) := dk_44 (dk_at dksX4_takes_1 3 rfl rfl)
theorem dX4_takes_26 : decode cX4_takes 26 = .ok (.areturn, 1) := dk_176 (dk_at dksX4_takes_1 4 rfl rfl)
abbrev cX4_skips : ByteArray := prog_8_method_8_code
def yX4_skips : MethodName := ⟨RX4, "skips", "(I)V"⟩
def dkwX4_skips_1 : List UInt8 := [160, 0, 18, 42, 3, 181, 0, 17, 42, 89, 180, 0, 13, 4, 96, 181, 0, 13, 177]
abbrev dktX4_skips_1 : List UInt8 := dkwX4_skips_1 ++ []
def dkwX4_skips_0 : List UInt8 := [42, 89, 180, 0, 17, 27, 96, 181, 0, 17, 42, 180, 0, 17, 42, 182, 0, 34, 185, 0, 46, 1, 0]
abbrev dktX4_skips_0 : List UInt8 := dkwX4_skips_0 ++ dktX4_skips_1
theorem dksX4_skips_0 : cX4_skips.data.toList.drop 0 = dktX4_skips_0 := by decide +kernel
theorem dksX4_skips_1 : cX4_skips.data.toList.drop 23 = dktX4_skips_1 := dk_seg dksX4_skips_0 23 rfl rfl
theorem dX4_skips_0 : decode cX4_skips 0 = .ok (.aload_n 0, 1) := dk_42 (dk_at dksX4_skips_0 0 rfl rfl)
theorem dX4_skips_1 : decode cX4_skips 1 = .ok (.dup, 1) := dk_89 (dk_at dksX4_skips_0 1 rfl rfl)
theorem dX4_skips_2 : decode cX4_skips 2 = .ok (.getfield 17, 3) := dk_180 0 17 (dk_at dksX4_skips_0 2 rfl rfl)
theorem dX4_skips_5 : decode cX4_skips 5 = .ok (.iload_n 1, 1) := dk_27 (dk_at dksX4_skips_0 5 rfl rfl)
theorem dX4_skips_6 : decode cX4_skips 6 = .ok (.iadd, 1) := dk_96 (dk_at dksX4_skips_0 6 rfl rfl)
theorem dX4_skips_7 : decode cX4_skips 7 = .ok (.putfield 17, 3) := dk_181 0 17 (dk_at dksX4_skips_0 7 rfl rfl)
theorem dX4_skips_10 : decode cX4_skips 10 = .ok (.aload_n 0, 1) := dk_42 (dk_at dksX4_skips_0 10 rfl rfl)
theorem dX4_skips_11 : decode cX4_skips 11 = .ok (.getfield 17, 3) := dk_180 0 17 (dk_at dksX4_skips_0 11 rfl rfl)
theorem dX4_skips_14 : decode cX4_skips 14 = .ok (.aload_n 0, 1) := dk_42 (dk_at dksX4_skips_0 14 rfl rfl)
theorem dX4_skips_15 : decode cX4_skips 15 = .ok (.invokevirtual 34, 3) := dk_182 0 34 (dk_at dksX4_skips_0 15 rfl rfl)
theorem dX4_skips_18 : decode cX4_skips 18 = .ok (.invokeinterface 46 1, 5) := by decide +kernel
theorem dX4_skips_23 : decode cX4_skips 23 = .ok (.if_icmp .ne 18, 3) := dk_160 0 18 (dk_at dksX4_skips_1 0 rfl rfl)
theorem dX4_skips_26 : decode cX4_skips 26 = .ok (.aload_n 0, 1) := dk_42 (dk_at dksX4_skips_1 3 rfl rfl)
theorem dX4_skips_27 : decode cX4_skips 27 = .ok (.iconst 0, 1) := dk_3 (dk_at dksX4_skips_1 4 rfl rfl)
theorem dX4_skips_28 : decode cX4_skips 28 = .ok (.putfield 17, 3) := dk_181 0 17 (dk_at dksX4_skips_1 5 rfl rfl)
theorem dX4_skips_31 : decode cX4_skips 31 = .ok (.aload_n 0, 1) := dk_42 (dk_at dksX4_skips_1 8 rfl rfl)
theorem dX4_skips_32 : decode cX4_skips 32 = .ok (.dup, 1) := dk_89 (dk_at dksX4_skips_1 9 rfl rfl)
theorem dX4_skips_33 : decode cX4_skips 33 = .ok (.getfield 13, 3) := dk_180 0 13 (dk_at dksX4_skips_1 10 rfl rfl)
theorem dX4_skips_36 : decode cX4_skips 36 = .ok (.iconst 1, 1) := dk_4 (dk_at dksX4_skips_1 13 rfl rfl)
theorem dX4_skips_37 : decode cX4_skips 37 = .ok (.iadd, 1) := dk_96 (dk_at dksX4_skips_1 14 rfl rfl)
theorem dX4_skips_38 : decode cX4_skips 38 = .ok (.putfield 13, 3) := dk_181 0 13 (dk_at dksX4_skips_1 15 rfl rfl)
theorem dX4_skips_41 : decode cX4_skips 41 = .ok (.return_, 1) := dk_177 (dk_at dksX4_skips_1 18 rfl rfl)
abbrev cX4_isDelete : ByteArray := prog_8_method_6_code
def yX4_isDelete : MethodName := ⟨RX4, "isDelete", "()Z"⟩
def dkwX4_isDelete_1 : List UInt8 := [172]
abbrev dktX4_isDelete_1 : List UInt8 := dkwX4_isDelete_1 ++ []
def dkwX4_isDelete_0 : List UInt8 := [42, 182, 0, 30, 153, 0, 19, 42, 182, 0, 34, 185, 0, 43, 1, 0, 153, 0, 7, 4, 167, 0, 4, 3]
abbrev dktX4_isDelete_0 : List UInt8 := dkwX4_isDelete_0 ++ dktX4_isDelete_1
theorem dksX4_isDelete_0 : cX4_isDelete.data.toList.drop 0 = dktX4_isDelete_0 := by decide +kernel
theorem dksX4_isDelete_1 : cX4_isDelete.data.toList.drop 24 = dktX4_isDelete_1 := dk_seg dksX4_isDelete_0 24 rfl rfl
theorem dX4_isDelete_0 : decode cX4_isDelete 0 = .ok (.aload_n 0, 1) := dk_42 (dk_at dksX4_isDelete_0 0 rfl rfl)
theorem dX4_isDelete_1 : decode cX4_isDelete 1 = .ok (.invokevirtual 30, 3) := dk_182 0 30 (dk_at dksX4_isDelete_0 1 rfl rfl)
theorem dX4_isDelete_4 : decode cX4_isDelete 4 = .ok (.ifCond .eq 19, 3) := dk_153 0 19 (dk_at dksX4_isDelete_0 4 rfl rfl)
theorem dX4_isDelete_7 : decode cX4_isDelete 7 = .ok (.aload_n 0, 1) := dk_42 (dk_at dksX4_isDelete_0 7 rfl rfl)
theorem dX4_isDelete_8 : decode cX4_isDelete 8 = .ok (.invokevirtual 34, 3) := dk_182 0 34 (dk_at dksX4_isDelete_0 8 rfl rfl)
theorem dX4_isDelete_11 : decode cX4_isDelete 11 = .ok (.invokeinterface 43 1, 5) := by decide +kernel
theorem dX4_isDelete_16 : decode cX4_isDelete 16 = .ok (.ifCond .eq 7, 3) := dk_153 0 7 (dk_at dksX4_isDelete_0 16 rfl rfl)
theorem dX4_isDelete_19 : decode cX4_isDelete 19 = .ok (.iconst 1, 1) := dk_4 (dk_at dksX4_isDelete_0 19 rfl rfl)
theorem dX4_isDelete_20 : decode cX4_isDelete 20 = .ok (.goto 4, 3) := dk_167 0 4 (dk_at dksX4_isDelete_0 20 rfl rfl)
theorem dX4_isDelete_23 : decode cX4_isDelete 23 = .ok (.iconst 0, 1) := dk_3 (dk_at dksX4_isDelete_0 23 rfl rfl)
theorem dX4_isDelete_24 : decode cX4_isDelete 24 = .ok (.ireturn, 1) := dk_172 (dk_at dksX4_isDelete_1 0 rfl rfl)
abbrev cX4_isInsert : ByteArray := prog_8_method_5_code
def yX4_isInsert : MethodName := ⟨RX4, "isInsert", "()Z"⟩
def dkwX4_isInsert_1 : List UInt8 := [172]
abbrev dktX4_isInsert_1 : List UInt8 := dkwX4_isInsert_1 ++ []
def dkwX4_isInsert_0 : List UInt8 := [42, 182, 0, 30, 153, 0, 19, 42, 182, 0, 34, 185, 0, 38, 1, 0, 153, 0, 7, 4, 167, 0, 4, 3]
abbrev dktX4_isInsert_0 : List UInt8 := dkwX4_isInsert_0 ++ dktX4_isInsert_1
theorem dksX4_isInsert_0 : cX4_isInsert.data.toList.drop 0 = dktX4_isInsert_0 := by decide +kernel
theorem dksX4_isInsert_1 : cX4_isInsert.data.toList.drop 24 = dktX4_isInsert_1 := dk_seg dksX4_isInsert_0 24 rfl rfl
theorem dX4_isInsert_0 : decode cX4_isInsert 0 = .ok (.aload_n 0, 1) := dk_42 (dk_at dksX4_isInsert_0 0 rfl rfl)
theorem dX4_isInsert_1 : decode cX4_isInsert 1 = .ok (.invokevirtual 30, 3) := dk_182 0 30 (dk_at dksX4_isInsert_0 1 rfl rfl)
theorem dX4_isInsert_4 : decode cX4_isInsert 4 = .ok (.ifCond .eq 19, 3) := dk_153 0 19 (dk_at dksX4_isInsert_0 4 rfl rfl)
theorem dX4_isInsert_7 : decode cX4_isInsert 7 = .ok (.aload_n 0, 1) := dk_42 (dk_at dksX4_isInsert_0 7 rfl rfl)
theorem dX4_isInsert_8 : decode cX4_isInsert 8 = .ok (.invokevirtual 34, 3) := dk_182 0 34 (dk_at dksX4_isInsert_0 8 rfl rfl)
theorem dX4_isInsert_11 : decode cX4_isInsert 11 = .ok (.invokeinterface 38 1, 5) := by decide +kernel
theorem dX4_isInsert_16 : decode cX4_isInsert 16 = .ok (.ifCond .eq 7, 3) := dk_153 0 7 (dk_at dksX4_isInsert_0 16 rfl rfl)
theorem dX4_isInsert_19 : decode cX4_isInsert 19 = .ok (.iconst 1, 1) := dk_4 (dk_at dksX4_isInsert_0 19 rfl rfl)
theorem dX4_isInsert_20 : decode cX4_isInsert 20 = .ok (.goto 4, 3) := dk_167 0 4 (dk_at dksX4_isInsert_0 20 rfl rfl)
theorem dX4_isInsert_23 : decode cX4_isInsert 23 = .ok (.iconst 0, 1) := dk_3 (dk_at dksX4_isInsert_0 23 rfl rfl)
theorem dX4_isInsert_24 : decode cX4_isInsert 24 = .ok (.ireturn, 1) := dk_172 (dk_at dksX4_isInsert_1 0 rfl rfl)
theorem q136 : (Jvm.Cond.initialized "EditsMeet$Goes") ∈ lw_all := lw_g (lw_at lw_m1 16 rfl) rfl
theorem q363 : (Jvm.Cond.instantiable "EditsMeet$Goes" (3 : Nat)) ∈ lw_all := lw_g (lw_at lw_m2 3 rfl) rfl
theorem q365 : (Jvm.Cond.instanceMethod ({ cls := "EditsMeet$Goes", name := "<init>", desc := "()V" } : Jvm.MethodName)) ∈ lw_all := lw_g (lw_at lw_m2 5 rfl) rfl
theorem q366 : (Jvm.Cond.code ({ cls := "EditsMeet$Goes", name := "<init>", desc := "()V" } : Jvm.MethodName) prog_8_method_1_code (1 : Nat) (Option.none : Option Jvm.ClassFile.FieldType)) ∈ lw_all := lw_g (lw_at lw_m2 6 rfl) rfl
theorem q367 : (Jvm.Cond.methodLink "EditsMeet$Goes" (1 : Nat) ({ cls := "java/lang/Object", name := "<init>", desc := "()V" } : Jvm.MethodName)) ∈ lw_all := lw_g (lw_at lw_m2 7 rfl) rfl
theorem q368 : (Jvm.Cond.fieldLink "EditsMeet$Goes" (7 : Nat) "EditsMeet$Goes" "of" "LEditsMeet$Edit;") ∈ lw_all := lw_g (lw_at lw_m2 8 rfl) rfl
theorem q369 : (Jvm.Cond.fieldLink "EditsMeet$Goes" (13 : Nat) "EditsMeet$Goes" "at" "I") ∈ lw_all := lw_g (lw_at lw_m2 9 rfl) rfl
theorem q370 : (Jvm.Cond.fieldLink "EditsMeet$Goes" (17 : Nat) "EditsMeet$Goes" "gone" "I") ∈ lw_all := lw_g (lw_at lw_m2 10 rfl) rfl
theorem q371 : (Jvm.Cond.lays "EditsMeet$Goes" "EditsMeet$Goes" "of" "LEditsMeet$Edit;") ∈ lw_all := lw_g (lw_at lw_m2 11 rfl) rfl
theorem q372 : (Jvm.Cond.soleField "EditsMeet$Goes" "of") ∈ lw_all := lw_g (lw_at lw_m2 12 rfl) rfl
theorem q373 : (Jvm.Cond.lays "EditsMeet$Goes" "EditsMeet$Goes" "at" "I") ∈ lw_all := lw_g (lw_at lw_m2 13 rfl) rfl
theorem q374 : (Jvm.Cond.soleField "EditsMeet$Goes" "at") ∈ lw_all := lw_g (lw_at lw_m2 14 rfl) rfl
theorem q375 : (Jvm.Cond.lays "EditsMeet$Goes" "EditsMeet$Goes" "gone" "I") ∈ lw_all := lw_g (lw_at lw_m2 15 rfl) rfl
theorem q376 : (Jvm.Cond.soleField "EditsMeet$Goes" "gone") ∈ lw_all := lw_g (lw_at lw_m2 16 rfl) rfl
theorem q377 : (Jvm.Cond.superclass "EditsMeet$Goes" "java/lang/Object") ∈ lw_all := lw_g (lw_at lw_m2 17 rfl) rfl
theorem q1447 : (Jvm.Cond.selects "EditsMeet$Goes" ({ cls := "java/lang/Object", name := "getClass", desc := "()Ljava/lang/Class;" } : Jvm.MethodName) ({ cls := "java/lang/Object", name := "getClass", desc := "()Ljava/lang/Class;" } : Jvm.MethodName)) ∈ lw_all := lw_g (lw_at lw_m6 127 rfl) rfl
theorem q1668 : (Jvm.Cond.instanceMethod ({ cls := "EditsMeet$Goes", name := "along", desc := "(LEditsMeet$Edit;)LEditsMeet$Goes;" } : Jvm.MethodName)) ∈ lw_all := lw_g (lw_at lw_m7 108 rfl) rfl
theorem q1669 : (Jvm.Cond.selects "EditsMeet$Goes" ({ cls := "EditsMeet$Goes", name := "along", desc := "(LEditsMeet$Edit;)LEditsMeet$Goes;" } : Jvm.MethodName) ({ cls := "EditsMeet$Goes", name := "along", desc := "(LEditsMeet$Edit;)LEditsMeet$Goes;" } : Jvm.MethodName)) ∈ lw_all := lw_g (lw_at lw_m7 109 rfl) rfl
theorem q1670 : (Jvm.Cond.code ({ cls := "EditsMeet$Goes", name := "along", desc := "(LEditsMeet$Edit;)LEditsMeet$Goes;" } : Jvm.MethodName) prog_8_method_2_code (2 : Nat) (Option.some (Jvm.ClassFile.FieldType.object "EditsMeet$Goes"))) ∈ lw_all := lw_g (lw_at lw_m7 110 rfl) rfl
theorem q1675 : (Jvm.Cond.castable "EditsMeet$Goes" "java/util/Iterator") ∈ lw_tbl := lw_at lw_m7 115 rfl
theorem q1676 : (Jvm.Cond.selects "EditsMeet$Goes" ({ cls := "java/util/Iterator", name := "hasNext", desc := "()Z" } : Jvm.MethodName) ({ cls := "EditsMeet$Goes", name := "hasNext", desc := "()Z" } : Jvm.MethodName)) ∈ lw_all := lw_g (lw_at lw_m7 116 rfl) rfl
theorem q1677 : (Jvm.Cond.unhidden "EditsMeet$Goes" "hasNext" "()Z") ∈ lw_tbl := lw_at lw_m7 117 rfl
theorem q1678 : (Jvm.Cond.instanceMethod ({ cls := "EditsMeet$Goes", name := "hasNext", desc := "()Z" } : Jvm.MethodName)) ∈ lw_all := lw_g (lw_at lw_m7 118 rfl) rfl
theorem q1679 : (Jvm.Cond.publicMethod ({ cls := "EditsMeet$Goes", name := "hasNext", desc := "()Z" } : Jvm.MethodName)) ∈ lw_tbl := lw_at lw_m7 119 rfl
theorem q1680 : (Jvm.Cond.code ({ cls := "EditsMeet$Goes", name := "hasNext", desc := "()Z" } : Jvm.MethodName) prog_8_method_3_code (1 : Nat) (Option.some Jvm.ClassFile.FieldType.boolean)) ∈ lw_all := lw_g (lw_at lw_m7 120 rfl) rfl
theorem q1681 : (Jvm.Cond.methodLink "EditsMeet$Goes" (20 : Nat) ({ cls := "EditsMeet$Edit", name := "many", desc := "()I" } : Jvm.MethodName)) ∈ lw_all := lw_g (lw_at lw_m7 121 rfl) rfl
theorem q1721 : (Jvm.Cond.selects "EditsMeet$Goes" ({ cls := "java/util/Iterator", name := "next", desc := "()Ljava/lang/Object;" } : Jvm.MethodName) ({ cls := "EditsMeet$Goes", name := "next", desc := "()Ljava/lang/Object;" } : Jvm.MethodName)) ∈ lw_all := lw_g (lw_at lw_m7 161 rfl) rfl
theorem q1722 : (Jvm.Cond.unhidden "EditsMeet$Goes" "next" "()Ljava/lang/Object;") ∈ lw_tbl := lw_at lw_m7 162 rfl
theorem q1723 : (Jvm.Cond.instanceMethod ({ cls := "EditsMeet$Goes", name := "next", desc := "()Ljava/lang/Object;" } : Jvm.MethodName)) ∈ lw_all := lw_g (lw_at lw_m7 163 rfl) rfl
theorem q1724 : (Jvm.Cond.publicMethod ({ cls := "EditsMeet$Goes", name := "next", desc := "()Ljava/lang/Object;" } : Jvm.MethodName)) ∈ lw_tbl := lw_at lw_m7 164 rfl
theorem q1725 : (Jvm.Cond.code ({ cls := "EditsMeet$Goes", name := "next", desc := "()Ljava/lang/Object;" } : Jvm.MethodName) prog_8_method_11_code (1 : Nat) (Option.some (Jvm.ClassFile.FieldType.object "java/lang/Object"))) ∈ lw_all := lw_g (lw_at lw_m7 165 rfl) rfl
theorem q1726 : (Jvm.Cond.methodLink "EditsMeet$Goes" (63 : Nat) ({ cls := "EditsMeet$Goes", name := "next", desc := "()LEditsMeet$Part;" } : Jvm.MethodName)) ∈ lw_all := lw_g (lw_at lw_m7 166 rfl) rfl
theorem q1727 : (Jvm.Cond.instanceMethod ({ cls := "EditsMeet$Goes", name := "next", desc := "()LEditsMeet$Part;" } : Jvm.MethodName)) ∈ lw_all := lw_g (lw_at lw_m7 167 rfl) rfl
theorem q1728 : (Jvm.Cond.selects "EditsMeet$Goes" ({ cls := "EditsMeet$Goes", name := "next", desc := "()LEditsMeet$Part;" } : Jvm.MethodName) ({ cls := "EditsMeet$Goes", name := "next", desc := "()LEditsMeet$Part;" } : Jvm.MethodName)) ∈ lw_all := lw_g (lw_at lw_m7 168 rfl) rfl
theorem q1729 : (Jvm.Cond.code ({ cls := "EditsMeet$Goes", name := "next", desc := "()LEditsMeet$Part;" } : Jvm.MethodName) prog_8_method_10_code (1 : Nat) (Option.some (Jvm.ClassFile.FieldType.object "EditsMeet$Part"))) ∈ lw_all := lw_g (lw_at lw_m7 169 rfl) rfl
theorem q1730 : (Jvm.Cond.methodLink "EditsMeet$Goes" (57 : Nat) ({ cls := "EditsMeet$Goes", name := "left", desc := "()I" } : Jvm.MethodName)) ∈ lw_all := lw_g (lw_at lw_m7 170 rfl) rfl
theorem q1731 : (Jvm.Cond.instanceMethod ({ cls := "EditsMeet$Goes", name := "left", desc := "()I" } : Jvm.MethodName)) ∈ lw_all := lw_g (lw_at lw_m7 171 rfl) rfl
theorem q1732 : (Jvm.Cond.selects "EditsMeet$Goes" ({ cls := "EditsMeet$Goes", name := "left", desc := "()I" } : Jvm.MethodName) ({ cls := "EditsMeet$Goes", name := "left", desc := "()I" } : Jvm.MethodName)) ∈ lw_all := lw_g (lw_at lw_m7 172 rfl) rfl
theorem q1733 : (Jvm.Cond.code ({ cls := "EditsMeet$Goes", name := "left", desc := "()I" } : Jvm.MethodName) prog_8_method_7_code (1 : Nat) (Option.some Jvm.ClassFile.FieldType.int)) ∈ lw_all := lw_g (lw_at lw_m7 173 rfl) rfl
theorem q1734 : (Jvm.Cond.methodLink "EditsMeet$Goes" (34 : Nat) ({ cls := "EditsMeet$Goes", name := "here", desc := "()LEditsMeet$Part;" } : Jvm.MethodName)) ∈ lw_all := lw_g (lw_at lw_m7 174 rfl) rfl
theorem q1735 : (Jvm.Cond.instanceMethod ({ cls := "EditsMeet$Goes", name := "here", desc := "()LEditsMeet$Part;" } : Jvm.MethodName)) ∈ lw_all := lw_g (lw_at lw_m7 175 rfl) rfl
theorem q1736 : (Jvm.Cond.selects "EditsMeet$Goes" ({ cls := "EditsMeet$Goes", name := "here", desc := "()LEditsMeet$Part;" } : Jvm.MethodName) ({ cls := "EditsMeet$Goes", name := "here", desc := "()LEditsMeet$Part;" } : Jvm.MethodName)) ∈ lw_all := lw_g (lw_at lw_m7 176 rfl) rfl
theorem q1737 : (Jvm.Cond.code ({ cls := "EditsMeet$Goes", name := "here", desc := "()LEditsMeet$Part;" } : Jvm.MethodName) prog_8_method_4_code (1 : Nat) (Option.some (Jvm.ClassFile.FieldType.object "EditsMeet$Part"))) ∈ lw_all := lw_g (lw_at lw_m7 177 rfl) rfl
theorem q1738 : (Jvm.Cond.methodLink "EditsMeet$Goes" (26 : Nat) ({ cls := "EditsMeet$Edit", name := "get", desc := "(I)LEditsMeet$Part;" } : Jvm.MethodName)) ∈ lw_all := lw_g (lw_at lw_m7 178 rfl) rfl
theorem q1739 : (Jvm.Cond.interfaceEntry "EditsMeet$Goes" (46 : Nat)) ∈ lw_tbl := lw_at lw_m7 179 rfl
theorem q1740 : (Jvm.Cond.methodLink "EditsMeet$Goes" (46 : Nat) ({ cls := "EditsMeet$Part", name := "n", desc := "()I" } : Jvm.MethodName)) ∈ lw_all := lw_g (lw_at lw_m7 180 rfl) rfl
theorem q1741 : (Jvm.Cond.methodLink "EditsMeet$Goes" (60 : Nat) ({ cls := "EditsMeet$Goes", name := "takes", desc := "(I)LEditsMeet$Part;" } : Jvm.MethodName)) ∈ lw_all := lw_g (lw_at lw_m7 181 rfl) rfl
theorem q1742 : (Jvm.Cond.instanceMethod ({ cls := "EditsMeet$Goes", name := "takes", desc := "(I)LEditsMeet$Part;" } : Jvm.MethodName)) ∈ lw_all := lw_g (lw_at lw_m7 182 rfl) rfl
theorem q1743 : (Jvm.Cond.selects "EditsMeet$Goes" ({ cls := "EditsMeet$Goes", name := "takes", desc := "(I)LEditsMeet$Part;" } : Jvm.MethodName) ({ cls := "EditsMeet$Goes", name := "takes", desc := "(I)LEditsMeet$Part;" } : Jvm.MethodName)) ∈ lw_all := lw_g (lw_at lw_m7 183 rfl) rfl
theorem q1744 : (Jvm.Cond.code ({ cls := "EditsMeet$Goes", name := "takes", desc := "(I)LEditsMeet$Part;" } : Jvm.MethodName) prog_8_method_9_code (3 : Nat) (Option.some (Jvm.ClassFile.FieldType.object "EditsMeet$Part"))) ∈ lw_all := lw_g (lw_at lw_m7 184 rfl) rfl
theorem q1745 : (Jvm.Cond.interfaceEntry "EditsMeet$Goes" (49 : Nat)) ∈ lw_tbl := lw_at lw_m7 185 rfl
theorem q1746 : (Jvm.Cond.methodLink "EditsMeet$Goes" (49 : Nat) ({ cls := "EditsMeet$Part", name := "piece", desc := "(II)LEditsMeet$Part;" } : Jvm.MethodName)) ∈ lw_all := lw_g (lw_at lw_m7 186 rfl) rfl
theorem q1789 : (Jvm.Cond.methodLink "EditsMeet$Goes" (53 : Nat) ({ cls := "EditsMeet$Goes", name := "skips", desc := "(I)V" } : Jvm.MethodName)) ∈ lw_all := lw_g (lw_at lw_m7 229 rfl) rfl
theorem q1790 : (Jvm.Cond.instanceMethod ({ cls := "EditsMeet$Goes", name := "skips", desc := "(I)V" } : Jvm.MethodName)) ∈ lw_all := lw_g (lw_at lw_m7 230 rfl) rfl
theorem q1791 : (Jvm.Cond.selects "EditsMeet$Goes" ({ cls := "EditsMeet$Goes", name := "skips", desc := "(I)V" } : Jvm.MethodName) ({ cls := "EditsMeet$Goes", name := "skips", desc := "(I)V" } : Jvm.MethodName)) ∈ lw_all := lw_g (lw_at lw_m7 231 rfl) rfl
theorem q1792 : (Jvm.Cond.code ({ cls := "EditsMeet$Goes", name := "skips", desc := "(I)V" } : Jvm.MethodName) prog_8_method_8_code (2 : Nat) (Option.none : Option Jvm.ClassFile.FieldType)) ∈ lw_all := lw_g (lw_at lw_m7 232 rfl) rfl
theorem q2066 : (Jvm.Cond.instanceMethod ({ cls := "EditsMeet$Goes", name := "isDelete", desc := "()Z" } : Jvm.MethodName)) ∈ lw_all := lw_g (lw_at lw_m9 26 rfl) rfl
theorem q2067 : (Jvm.Cond.selects "EditsMeet$Goes" ({ cls := "EditsMeet$Goes", name := "isDelete", desc := "()Z" } : Jvm.MethodName) ({ cls := "EditsMeet$Goes", name := "isDelete", desc := "()Z" } : Jvm.MethodName)) ∈ lw_all := lw_g (lw_at lw_m9 27 rfl) rfl
theorem q2068 : (Jvm.Cond.code ({ cls := "EditsMeet$Goes", name := "isDelete", desc := "()Z" } : Jvm.MethodName) prog_8_method_6_code (1 : Nat) (Option.some Jvm.ClassFile.FieldType.boolean)) ∈ lw_all := lw_g (lw_at lw_m9 28 rfl) rfl
theorem q2069 : (Jvm.Cond.methodLink "EditsMeet$Goes" (30 : Nat) ({ cls := "EditsMeet$Goes", name := "hasNext", desc := "()Z" } : Jvm.MethodName)) ∈ lw_all := lw_g (lw_at lw_m9 29 rfl) rfl
theorem q2070 : (Jvm.Cond.interfaceEntry "EditsMeet$Goes" (43 : Nat)) ∈ lw_tbl := lw_at lw_m9 30 rfl
theorem q2071 : (Jvm.Cond.methodLink "EditsMeet$Goes" (43 : Nat) ({ cls := "EditsMeet$Part", name := "deletes", desc := "()Z" } : Jvm.MethodName)) ∈ lw_all := lw_g (lw_at lw_m9 31 rfl) rfl
theorem q2077 : (Jvm.Cond.instanceMethod ({ cls := "EditsMeet$Goes", name := "isInsert", desc := "()Z" } : Jvm.MethodName)) ∈ lw_all := lw_g (lw_at lw_m9 37 rfl) rfl
theorem q2078 : (Jvm.Cond.selects "EditsMeet$Goes" ({ cls := "EditsMeet$Goes", name := "isInsert", desc := "()Z" } : Jvm.MethodName) ({ cls := "EditsMeet$Goes", name := "isInsert", desc := "()Z" } : Jvm.MethodName)) ∈ lw_all := lw_g (lw_at lw_m9 38 rfl) rfl
theorem q2079 : (Jvm.Cond.code ({ cls := "EditsMeet$Goes", name := "isInsert", desc := "()Z" } : Jvm.MethodName) prog_8_method_5_code (1 : Nat) (Option.some Jvm.ClassFile.FieldType.boolean)) ∈ lw_all := lw_g (lw_at lw_m9 39 rfl) rfl
theorem q2080 : (Jvm.Cond.interfaceEntry "EditsMeet$Goes" (38 : Nat)) ∈ lw_tbl := lw_at lw_m9 40 rfl
theorem q2081 : (Jvm.Cond.methodLink "EditsMeet$Goes" (38 : Nat) ({ cls := "EditsMeet$Part", name := "inserts", desc := "()Z" } : Jvm.MethodName)) ∈ lw_all := lw_g (lw_at lw_m9 41 rfl) rfl
theorem q3600 : (Jvm.Cond.selects "EditsMeet$Goes" ({ cls := "EditsMeet$Goes", name := "hasNext", desc := "()Z" } : Jvm.MethodName) ({ cls := "EditsMeet$Goes", name := "hasNext", desc := "()Z" } : Jvm.MethodName)) ∈ lw_all := lw_g (lw_at lw_m15 120 rfl) rfl
theorem q3635 : (Jvm.Cond.castable "EditsMeet$Goes" "java/lang/Object") ∈ lw_tbl := lw_at lw_m15 155 rfl
theorem in_X4 : ∀ w ∈ wsX40, w ∈ lw_all := lw_in wsX40 [371, 373, 375] (by decide +kernel) (by decide +kernel)

/-! EditsMeet$Part -/
set_option maxRecDepth 100000
def RX5 : String := "EditsMeet$Part"
abbrev cX5_keep : ByteArray := prog_13_method_13_code
def yX5_keep : MethodName := ⟨RX5, "keep", "(I)LEditsMeet$Part;"⟩
def dkwX5_keep_0 : List UInt8 := [187, 0, 19, 89, 26, 183, 0, 21, 176]
abbrev dktX5_keep_0 : List UInt8 := dkwX5_keep_0 ++ []
theorem dksX5_keep_0 : cX5_keep.data.toList.drop 0 = dktX5_keep_0 := by decide +kernel
theorem dX5_keep_0 : decode cX5_keep 0 = .ok (.new 19, 3) := dk_187 0 19 (dk_at dksX5_keep_0 0 rfl rfl)
theorem dX5_keep_3 : decode cX5_keep 3 = .ok (.dup, 1) := dk_89 (dk_at dksX5_keep_0 3 rfl rfl)
theorem dX5_keep_4 : decode cX5_keep 4 = .ok (.iload_n 0, 1) := dk_26 (dk_at dksX5_keep_0 4 rfl rfl)
theorem dX5_keep_5 : decode cX5_keep 5 = .ok (.invokespecial 21, 3) := dk_183 0 21 (dk_at dksX5_keep_0 5 rfl rfl)
theorem dX5_keep_8 : decode cX5_keep 8 = .ok (.areturn, 1) := dk_176 (dk_at dksX5_keep_0 8 rfl rfl)
abbrev cX5_on : ByteArray := prog_13_method_10_code
def yX5_on : MethodName := ⟨RX5, "on", "()I"⟩
theorem dX5_on_0 : decode cX5_on 0 = .ok (.iconst 0, 1) := by decide +kernel
theorem dX5_on_1 : decode cX5_on 1 = .ok (.ireturn, 1) := by decide +kernel
abbrev cX5_off : ByteArray := prog_13_method_11_code
def yX5_off : MethodName := ⟨RX5, "off", "()I"⟩
theorem dX5_off_0 : decode cX5_off 0 = .ok (.iconst 0, 1) := by decide +kernel
theorem dX5_off_1 : decode cX5_off 1 = .ok (.ireturn, 1) := by decide +kernel
abbrev cX5_delete : ByteArray := prog_13_method_14_code
def yX5_delete : MethodName := ⟨RX5, "delete", "(I)LEditsMeet$Part;"⟩
def dkwX5_delete_0 : List UInt8 := [187, 0, 25, 89, 26, 183, 0, 27, 176]
abbrev dktX5_delete_0 : List UInt8 := dkwX5_delete_0 ++ []
theorem dksX5_delete_0 : cX5_delete.data.toList.drop 0 = dktX5_delete_0 := by decide +kernel
theorem dX5_delete_0 : decode cX5_delete 0 = .ok (.new 25, 3) := dk_187 0 25 (dk_at dksX5_delete_0 0 rfl rfl)
theorem dX5_delete_3 : decode cX5_delete 3 = .ok (.dup, 1) := dk_89 (dk_at dksX5_delete_0 3 rfl rfl)
theorem dX5_delete_4 : decode cX5_delete 4 = .ok (.iload_n 0, 1) := dk_26 (dk_at dksX5_delete_0 4 rfl rfl)
theorem dX5_delete_5 : decode cX5_delete 5 = .ok (.invokespecial 27, 3) := dk_183 0 27 (dk_at dksX5_delete_0 5 rfl rfl)
theorem dX5_delete_8 : decode cX5_delete 8 = .ok (.areturn, 1) := dk_176 (dk_at dksX5_delete_0 8 rfl rfl)
abbrev cX5_insert : ByteArray := prog_13_method_16_code
def yX5_insert : MethodName := ⟨RX5, "insert", "(Ljava/lang/CharSequence;Ljava/lang/CharSequence;)LEditsMeet$Part;"⟩
def dkwX5_insert_0 : List UInt8 := [187, 0, 37, 89, 42, 185, 0, 39, 1, 0, 43, 185, 0, 39, 1, 0, 183, 0, 45, 176]
abbrev dktX5_insert_0 : List UInt8 := dkwX5_insert_0 ++ []
theorem dksX5_insert_0 : cX5_insert.data.toList.drop 0 = dktX5_insert_0 := by decide +kernel
theorem dX5_insert_0 : decode cX5_insert 0 = .ok (.new 37, 3) := dk_187 0 37 (dk_at dksX5_insert_0 0 rfl rfl)
theorem dX5_insert_3 : decode cX5_insert 3 = .ok (.dup, 1) := dk_89 (dk_at dksX5_insert_0 3 rfl rfl)
theorem dX5_insert_4 : decode cX5_insert 4 = .ok (.aload_n 0, 1) := dk_42 (dk_at dksX5_insert_0 4 rfl rfl)
theorem dX5_insert_5 : decode cX5_insert 5 = .ok (.invokeinterface 39 1, 5) := by decide +kernel
theorem dX5_insert_10 : decode cX5_insert 10 = .ok (.aload_n 1, 1) := dk_43 (dk_at dksX5_insert_0 10 rfl rfl)
theorem dX5_insert_11 : decode cX5_insert 11 = .ok (.invokeinterface 39 1, 5) := by decide +kernel
theorem dX5_insert_16 : decode cX5_insert 16 = .ok (.invokespecial 45, 3) := dk_183 0 45 (dk_at dksX5_insert_0 16 rfl rfl)
theorem dX5_insert_19 : decode cX5_insert 19 = .ok (.areturn, 1) := dk_176 (dk_at dksX5_insert_0 19 rfl rfl)
abbrev cX5_mark : ByteArray := prog_13_method_15_code
def yX5_mark : MethodName := ⟨RX5, "mark", "(III)LEditsMeet$Part;"⟩
def dkwX5_mark_1 : List UInt8 := [183, 0, 34, 176]
abbrev dktX5_mark_1 : List UInt8 := dkwX5_mark_1 ++ []
def dkwX5_mark_0 : List UInt8 := [27, 154, 0, 14, 28, 154, 0, 10, 26, 184, 0, 28, 167, 0, 13, 187, 0, 32, 89, 26, 27, 28]
abbrev dktX5_mark_0 : List UInt8 := dkwX5_mark_0 ++ dktX5_mark_1
theorem dksX5_mark_0 : cX5_mark.data.toList.drop 0 = dktX5_mark_0 := by decide +kernel
theorem dksX5_mark_1 : cX5_mark.data.toList.drop 22 = dktX5_mark_1 := dk_seg dksX5_mark_0 22 rfl rfl
theorem dX5_mark_0 : decode cX5_mark 0 = .ok (.iload_n 1, 1) := dk_27 (dk_at dksX5_mark_0 0 rfl rfl)
theorem dX5_mark_1 : decode cX5_mark 1 = .ok (.ifCond .ne 14, 3) := dk_154 0 14 (dk_at dksX5_mark_0 1 rfl rfl)
theorem dX5_mark_4 : decode cX5_mark 4 = .ok (.iload_n 2, 1) := dk_28 (dk_at dksX5_mark_0 4 rfl rfl)
theorem dX5_mark_5 : decode cX5_mark 5 = .ok (.ifCond .ne 10, 3) := dk_154 0 10 (dk_at dksX5_mark_0 5 rfl rfl)
theorem dX5_mark_8 : decode cX5_mark 8 = .ok (.iload_n 0, 1) := dk_26 (dk_at dksX5_mark_0 8 rfl rfl)
theorem dX5_mark_9 : decode cX5_mark 9 = .ok (.invokestatic 28, 3) := dk_184 0 28 (dk_at dksX5_mark_0 9 rfl rfl)
theorem dX5_mark_12 : decode cX5_mark 12 = .ok (.goto 13, 3) := dk_167 0 13 (dk_at dksX5_mark_0 12 rfl rfl)
theorem dX5_mark_15 : decode cX5_mark 15 = .ok (.new 32, 3) := dk_187 0 32 (dk_at dksX5_mark_0 15 rfl rfl)
theorem dX5_mark_18 : decode cX5_mark 18 = .ok (.dup, 1) := dk_89 (dk_at dksX5_mark_0 18 rfl rfl)
theorem dX5_mark_19 : decode cX5_mark 19 = .ok (.iload_n 0, 1) := dk_26 (dk_at dksX5_mark_0 19 rfl rfl)
theorem dX5_mark_20 : decode cX5_mark 20 = .ok (.iload_n 1, 1) := dk_27 (dk_at dksX5_mark_0 20 rfl rfl)
theorem dX5_mark_21 : decode cX5_mark 21 = .ok (.iload_n 2, 1) := dk_28 (dk_at dksX5_mark_0 21 rfl rfl)
theorem dX5_mark_22 : decode cX5_mark 22 = .ok (.invokespecial 34, 3) := dk_183 0 34 (dk_at dksX5_mark_1 0 rfl rfl)
theorem dX5_mark_25 : decode cX5_mark 25 = .ok (.areturn, 1) := dk_176 (dk_at dksX5_mark_1 3 rfl rfl)
abbrev cX5_deletes : ByteArray := prog_13_method_9_code
def yX5_deletes : MethodName := ⟨RX5, "deletes", "()Z"⟩
def dkwX5_deletes_0 : List UInt8 := [42, 185, 0, 10, 1, 0, 154, 0, 7, 4, 167, 0, 4, 3, 172]
abbrev dktX5_deletes_0 : List UInt8 := dkwX5_deletes_0 ++ []
theorem dksX5_deletes_0 : cX5_deletes.data.toList.drop 0 = dktX5_deletes_0 := by decide +kernel
theorem dX5_deletes_0 : decode cX5_deletes 0 = .ok (.aload_n 0, 1) := dk_42 (dk_at dksX5_deletes_0 0 rfl rfl)
theorem dX5_deletes_1 : decode cX5_deletes 1 = .ok (.invokeinterface 10 1, 5) := by decide +kernel
theorem dX5_deletes_6 : decode cX5_deletes 6 = .ok (.ifCond .ne 7, 3) := dk_154 0 7 (dk_at dksX5_deletes_0 6 rfl rfl)
theorem dX5_deletes_9 : decode cX5_deletes 9 = .ok (.iconst 1, 1) := dk_4 (dk_at dksX5_deletes_0 9 rfl rfl)
theorem dX5_deletes_10 : decode cX5_deletes 10 = .ok (.goto 4, 3) := dk_167 0 4 (dk_at dksX5_deletes_0 10 rfl rfl)
theorem dX5_deletes_13 : decode cX5_deletes 13 = .ok (.iconst 0, 1) := dk_3 (dk_at dksX5_deletes_0 13 rfl rfl)
theorem dX5_deletes_14 : decode cX5_deletes 14 = .ok (.ireturn, 1) := dk_172 (dk_at dksX5_deletes_0 14 rfl rfl)
abbrev cX5_gives : ByteArray := prog_13_method_7_code
def yX5_gives : MethodName := ⟨RX5, "gives", "()I"⟩
theorem dX5_gives_0 : decode cX5_gives 0 = .ok (.aload_n 0, 1) := by decide +kernel
theorem dX5_gives_1 : decode cX5_gives 1 = .ok (.invokeinterface 1 1, 5) := by decide +kernel
theorem dX5_gives_6 : decode cX5_gives 6 = .ok (.ireturn, 1) := by decide +kernel
abbrev cX5_takes : ByteArray := prog_13_method_6_code
def yX5_takes : MethodName := ⟨RX5, "takes", "()I"⟩
theorem dX5_takes_0 : decode cX5_takes 0 = .ok (.iconst 0, 1) := by decide +kernel
theorem dX5_takes_1 : decode cX5_takes 1 = .ok (.ireturn, 1) := by decide +kernel
abbrev cX5_inserts : ByteArray := prog_13_method_8_code
def yX5_inserts : MethodName := ⟨RX5, "inserts", "()Z"⟩
def dkwX5_inserts_0 : List UInt8 := [42, 185, 0, 7, 1, 0, 154, 0, 7, 4, 167, 0, 4, 3, 172]
abbrev dktX5_inserts_0 : List UInt8 := dkwX5_inserts_0 ++ []
theorem dksX5_inserts_0 : cX5_inserts.data.toList.drop 0 = dktX5_inserts_0 := by decide +kernel
theorem dX5_inserts_0 : decode cX5_inserts 0 = .ok (.aload_n 0, 1) := dk_42 (dk_at dksX5_inserts_0 0 rfl rfl)
theorem dX5_inserts_1 : decode cX5_inserts 1 = .ok (.invokeinterface 7 1, 5) := by decide +kernel
theorem dX5_inserts_6 : decode cX5_inserts 6 = .ok (.ifCond .ne 7, 3) := dk_154 0 7 (dk_at dksX5_inserts_0 6 rfl rfl)
theorem dX5_inserts_9 : decode cX5_inserts 9 = .ok (.iconst 1, 1) := dk_4 (dk_at dksX5_inserts_0 9 rfl rfl)
theorem dX5_inserts_10 : decode cX5_inserts 10 = .ok (.goto 4, 3) := dk_167 0 4 (dk_at dksX5_inserts_0 10 rfl rfl)
theorem dX5_inserts_13 : decode cX5_inserts 13 = .ok (.iconst 0, 1) := dk_3 (dk_at dksX5_inserts_0 13 rfl rfl)
theorem dX5_inserts_14 : decode cX5_inserts 14 = .ok (.ireturn, 1) := dk_172 (dk_at dksX5_inserts_0 14 rfl rfl)
abbrev cX5_marks : ByteArray := prog_13_method_12_code
def yX5_marks : MethodName := ⟨RX5, "marks", "(I)I"⟩
def dkwX5_marks_0 : List UInt8 := [27, 42, 185, 0, 13, 1, 0, 128, 42, 185, 0, 16, 1, 0, 2, 130, 126, 172]
abbrev dktX5_marks_0 : List UInt8 := dkwX5_marks_0 ++ []
theorem dksX5_marks_0 : cX5_marks.data.toList.drop 0 = dktX5_marks_0 := by decide +kernel
theorem dX5_marks_0 : decode cX5_marks 0 = .ok (.iload_n 1, 1) := dk_27 (dk_at dksX5_marks_0 0 rfl rfl)
theorem dX5_marks_1 : decode cX5_marks 1 = .ok (.aload_n 0, 1) := dk_42 (dk_at dksX5_marks_0 1 rfl rfl)
theorem dX5_marks_2 : decode cX5_marks 2 = .ok (.invokeinterface 13 1, 5) := by decide +kernel
theorem dX5_marks_7 : decode cX5_marks 7 = .ok (.ior, 1) := dk_128 (dk_at dksX5_marks_0 7 rfl rfl)
theorem dX5_marks_8 : decode cX5_marks 8 = .ok (.aload_n 0, 1) := dk_42 (dk_at dksX5_marks_0 8 rfl rfl)
theorem dX5_marks_9 : decode cX5_marks 9 = .ok (.invokeinterface 16 1, 5) := by decide +kernel
theorem dX5_marks_14 : decode cX5_marks 14 = .ok (.iconst (-1), 1) := dk_2 (dk_at dksX5_marks_0 14 rfl rfl)
theorem dX5_marks_15 : decode cX5_marks 15 = .ok (.ixor, 1) := dk_130 (dk_at dksX5_marks_0 15 rfl rfl)
theorem dX5_marks_16 : decode cX5_marks 16 = .ok (.iand, 1) := dk_126 (dk_at dksX5_marks_0 16 rfl rfl)
theorem dX5_marks_17 : decode cX5_marks 17 = .ok (.ireturn, 1) := dk_172 (dk_at dksX5_marks_0 17 rfl rfl)
theorem q137 : (Jvm.Cond.initialized "EditsMeet$Part") ∈ lw_all := lw_g (lw_at lw_m1 17 rfl) rfl
theorem q379 : (Jvm.Cond.static ({ cls := "EditsMeet$Part", name := "keep", desc := "(I)LEditsMeet$Part;" } : Jvm.MethodName)) ∈ lw_all := lw_g (lw_at lw_m2 19 rfl) rfl
theorem q380 : (Jvm.Cond.code ({ cls := "EditsMeet$Part", name := "keep", desc := "(I)LEditsMeet$Part;" } : Jvm.MethodName) prog_13_method_13_code (1 : Nat) (Option.some (Jvm.ClassFile.FieldType.object "EditsMeet$Part"))) ∈ lw_all := lw_g (lw_at lw_m2 20 rfl) rfl
theorem q381 : (Jvm.Cond.classLink "EditsMeet$Part" (19 : Nat) "EditsMeet$Keep") ∈ lw_all := lw_g (lw_at lw_m2 21 rfl) rfl
theorem q383 : (Jvm.Cond.methodLink "EditsMeet$Part" (21 : Nat) ({ cls := "EditsMeet$Keep", name := "<init>", desc := "(I)V" } : Jvm.MethodName)) ∈ lw_all := lw_g (lw_at lw_m2 23 rfl) rfl
theorem q757 : (Jvm.Cond.interfaceMethod "EditsMeet$Part" "EditsMeet$Part" "kind" "()I") ∈ lw_tbl := lw_at lw_m3 157 rfl
theorem q758 : (Jvm.Cond.declares ({ cls := "EditsMeet$Part", name := "kind", desc := "()I" } : Jvm.MethodName)) ∈ lw_tbl := lw_at lw_m3 158 rfl
theorem q861 : (Jvm.Cond.interfaceMethod "EditsMeet$Part" "EditsMeet$Part" "n" "()I") ∈ lw_tbl := lw_at lw_m4 21 rfl
theorem q862 : (Jvm.Cond.declares ({ cls := "EditsMeet$Part", name := "n", desc := "()I" } : Jvm.MethodName)) ∈ lw_tbl := lw_at lw_m4 22 rfl
theorem q942 : (Jvm.Cond.declares ({ cls := "EditsMeet$Part", name := "on", desc := "()I" } : Jvm.MethodName)) ∈ lw_tbl := lw_at lw_m4 102 rfl
theorem q947 : (Jvm.Cond.instanceMethod ({ cls := "EditsMeet$Part", name := "on", desc := "()I" } : Jvm.MethodName)) ∈ lw_all := lw_g (lw_at lw_m4 107 rfl) rfl
theorem q948 : (Jvm.Cond.publicMethod ({ cls := "EditsMeet$Part", name := "on", desc := "()I" } : Jvm.MethodName)) ∈ lw_tbl := lw_at lw_m4 108 rfl
theorem q949 : (Jvm.Cond.code ({ cls := "EditsMeet$Part", name := "on", desc := "()I" } : Jvm.MethodName) prog_13_method_10_code (1 : Nat) (Option.some Jvm.ClassFile.FieldType.int)) ∈ lw_all := lw_g (lw_at lw_m4 109 rfl) rfl
theorem q959 : (Jvm.Cond.declares ({ cls := "EditsMeet$Part", name := "off", desc := "()I" } : Jvm.MethodName)) ∈ lw_tbl := lw_at lw_m4 119 rfl
theorem q964 : (Jvm.Cond.instanceMethod ({ cls := "EditsMeet$Part", name := "off", desc := "()I" } : Jvm.MethodName)) ∈ lw_all := lw_g (lw_at lw_m4 124 rfl) rfl
theorem q965 : (Jvm.Cond.publicMethod ({ cls := "EditsMeet$Part", name := "off", desc := "()I" } : Jvm.MethodName)) ∈ lw_tbl := lw_at lw_m4 125 rfl
theorem q966 : (Jvm.Cond.code ({ cls := "EditsMeet$Part", name := "off", desc := "()I" } : Jvm.MethodName) prog_13_method_11_code (1 : Nat) (Option.some Jvm.ClassFile.FieldType.int)) ∈ lw_all := lw_g (lw_at lw_m4 126 rfl) rfl
theorem q1276 : (Jvm.Cond.static ({ cls := "EditsMeet$Part", name := "delete", desc := "(I)LEditsMeet$Part;" } : Jvm.MethodName)) ∈ lw_all := lw_g (lw_at lw_m5 196 rfl) rfl
theorem q1277 : (Jvm.Cond.code ({ cls := "EditsMeet$Part", name := "delete", desc := "(I)LEditsMeet$Part;" } : Jvm.MethodName) prog_13_method_14_code (1 : Nat) (Option.some (Jvm.ClassFile.FieldType.object "EditsMeet$Part"))) ∈ lw_all := lw_g (lw_at lw_m5 197 rfl) rfl
theorem q1278 : (Jvm.Cond.classLink "EditsMeet$Part" (25 : Nat) "EditsMeet$Delete") ∈ lw_all := lw_g (lw_at lw_m5 198 rfl) rfl
theorem q1280 : (Jvm.Cond.methodLink "EditsMeet$Part" (27 : Nat) ({ cls := "EditsMeet$Delete", name := "<init>", desc := "(I)V" } : Jvm.MethodName)) ∈ lw_all := lw_g (lw_at lw_m5 200 rfl) rfl
theorem q1295 : (Jvm.Cond.static ({ cls := "EditsMeet$Part", name := "insert", desc := "(Ljava/lang/CharSequence;Ljava/lang/CharSequence;)LEditsMeet$Part;" } : Jvm.MethodName)) ∈ lw_all := lw_g (lw_at lw_m5 215 rfl) rfl
theorem q1296 : (Jvm.Cond.code ({ cls := "EditsMeet$Part", name := "insert", desc := "(Ljava/lang/CharSequence;Ljava/lang/CharSequence;)LEditsMeet$Part;" } : Jvm.MethodName) prog_13_method_16_code (2 : Nat) (Option.some (Jvm.ClassFile.FieldType.object "EditsMeet$Part"))) ∈ lw_all := lw_g (lw_at lw_m5 216 rfl) rfl
theorem q1297 : (Jvm.Cond.classLink "EditsMeet$Part" (37 : Nat) "EditsMeet$Insert") ∈ lw_all := lw_g (lw_at lw_m5 217 rfl) rfl
theorem q1299 : (Jvm.Cond.interfaceEntry "EditsMeet$Part" (39 : Nat)) ∈ lw_tbl := lw_at lw_m5 219 rfl
theorem q1300 : (Jvm.Cond.methodLink "EditsMeet$Part" (39 : Nat) ({ cls := "java/lang/CharSequence", name := "toString", desc := "()Ljava/lang/String;" } : Jvm.MethodName)) ∈ lw_all := lw_g (lw_at lw_m5 220 rfl) rfl
theorem q1313 : (Jvm.Cond.methodLink "EditsMeet$Part" (45 : Nat) ({ cls := "EditsMeet$Insert", name := "<init>", desc := "(Ljava/lang/String;Ljava/lang/String;)V" } : Jvm.MethodName)) ∈ lw_all := lw_g (lw_at lw_m5 233 rfl) rfl
theorem q1337 : (Jvm.Cond.static ({ cls := "EditsMeet$Part", name := "mark", desc := "(III)LEditsMeet$Part;" } : Jvm.MethodName)) ∈ lw_all := lw_g (lw_at lw_m6 17 rfl) rfl
theorem q1338 : (Jvm.Cond.code ({ cls := "EditsMeet$Part", name := "mark", desc := "(III)LEditsMeet$Part;" } : Jvm.MethodName) prog_13_method_15_code (3 : Nat) (Option.some (Jvm.ClassFile.FieldType.object "EditsMeet$Part"))) ∈ lw_all := lw_g (lw_at lw_m6 18 rfl) rfl
theorem q1339 : (Jvm.Cond.methodLink "EditsMeet$Part" (28 : Nat) ({ cls := "EditsMeet$Part", name := "keep", desc := "(I)LEditsMeet$Part;" } : Jvm.MethodName)) ∈ lw_all := lw_g (lw_at lw_m6 19 rfl) rfl
theorem q1340 : (Jvm.Cond.classLink "EditsMeet$Part" (32 : Nat) "EditsMeet$Mark") ∈ lw_all := lw_g (lw_at lw_m6 20 rfl) rfl
theorem q1342 : (Jvm.Cond.methodLink "EditsMeet$Part" (34 : Nat) ({ cls := "EditsMeet$Mark", name := "<init>", desc := "(III)V" } : Jvm.MethodName)) ∈ lw_all := lw_g (lw_at lw_m6 22 rfl) rfl
theorem q1380 : (Jvm.Cond.interfaceMethod "EditsMeet$Part" "EditsMeet$Part" "on" "()I") ∈ lw_tbl := lw_at lw_m6 60 rfl
theorem q1388 : (Jvm.Cond.interfaceMethod "EditsMeet$Part" "EditsMeet$Part" "off" "()I") ∈ lw_tbl := lw_at lw_m6 68 rfl
theorem q1490 : (Jvm.Cond.declares ({ cls := "EditsMeet$Part", name := "deletes", desc := "()Z" } : Jvm.MethodName)) ∈ lw_tbl := lw_at lw_m6 170 rfl
theorem q1494 : (Jvm.Cond.instanceMethod ({ cls := "EditsMeet$Part", name := "deletes", desc := "()Z" } : Jvm.MethodName)) ∈ lw_all := lw_g (lw_at lw_m6 174 rfl) rfl
theorem q1495 : (Jvm.Cond.publicMethod ({ cls := "EditsMeet$Part", name := "deletes", desc := "()Z" } : Jvm.MethodName)) ∈ lw_tbl := lw_at lw_m6 175 rfl
theorem q1496 : (Jvm.Cond.code ({ cls := "EditsMeet$Part", name := "deletes", desc := "()Z" } : Jvm.MethodName) prog_13_method_9_code (1 : Nat) (Option.some Jvm.ClassFile.FieldType.boolean)) ∈ lw_all := lw_g (lw_at lw_m6 176 rfl) rfl
theorem q1497 : (Jvm.Cond.interfaceEntry "EditsMeet$Part" (10 : Nat)) ∈ lw_tbl := lw_at lw_m6 177 rfl
theorem q1498 : (Jvm.Cond.methodLink "EditsMeet$Part" (10 : Nat) ({ cls := "EditsMeet$Part", name := "gives", desc := "()I" } : Jvm.MethodName)) ∈ lw_all := lw_g (lw_at lw_m6 178 rfl) rfl
theorem q1499 : (Jvm.Cond.interfaceMethod "EditsMeet$Part" "EditsMeet$Part" "gives" "()I") ∈ lw_tbl := lw_at lw_m6 179 rfl
theorem q1500 : (Jvm.Cond.declares ({ cls := "EditsMeet$Part", name := "gives", desc := "()I" } : Jvm.MethodName)) ∈ lw_tbl := lw_at lw_m6 180 rfl
theorem q1507 : (Jvm.Cond.instanceMethod ({ cls := "EditsMeet$Part", name := "gives", desc := "()I" } : Jvm.MethodName)) ∈ lw_all := lw_g (lw_at lw_m6 187 rfl) rfl
theorem q1508 : (Jvm.Cond.publicMethod ({ cls := "EditsMeet$Part", name := "gives", desc := "()I" } : Jvm.MethodName)) ∈ lw_tbl := lw_at lw_m6 188 rfl
theorem q1509 : (Jvm.Cond.code ({ cls := "EditsMeet$Part", name := "gives", desc := "()I" } : Jvm.MethodName) prog_13_method_7_code (1 : Nat) (Option.some Jvm.ClassFile.FieldType.int)) ∈ lw_all := lw_g (lw_at lw_m6 189 rfl) rfl
theorem q1510 : (Jvm.Cond.interfaceEntry "EditsMeet$Part" (1 : Nat)) ∈ lw_tbl := lw_at lw_m6 190 rfl
theorem q1511 : (Jvm.Cond.methodLink "EditsMeet$Part" (1 : Nat) ({ cls := "EditsMeet$Part", name := "n", desc := "()I" } : Jvm.MethodName)) ∈ lw_all := lw_g (lw_at lw_m6 191 rfl) rfl
theorem q1516 : (Jvm.Cond.interfaceMethod "EditsMeet$Part" "EditsMeet$Part" "joined" "(LEditsMeet$Part;)LEditsMeet$Part;") ∈ lw_tbl := lw_at lw_m6 196 rfl
theorem q1517 : (Jvm.Cond.declares ({ cls := "EditsMeet$Part", name := "joined", desc := "(LEditsMeet$Part;)LEditsMeet$Part;" } : Jvm.MethodName)) ∈ lw_tbl := lw_at lw_m6 197 rfl
theorem q1569 : (Jvm.Cond.interfaceMethod "EditsMeet$Part" "EditsMeet$Part" "takes" "()I") ∈ lw_tbl := lw_at lw_m7 9 rfl
theorem q1570 : (Jvm.Cond.declares ({ cls := "EditsMeet$Part", name := "takes", desc := "()I" } : Jvm.MethodName)) ∈ lw_tbl := lw_at lw_m7 10 rfl
theorem q1575 : (Jvm.Cond.instanceMethod ({ cls := "EditsMeet$Part", name := "takes", desc := "()I" } : Jvm.MethodName)) ∈ lw_all := lw_g (lw_at lw_m7 15 rfl) rfl
theorem q1576 : (Jvm.Cond.publicMethod ({ cls := "EditsMeet$Part", name := "takes", desc := "()I" } : Jvm.MethodName)) ∈ lw_tbl := lw_at lw_m7 16 rfl
theorem q1577 : (Jvm.Cond.code ({ cls := "EditsMeet$Part", name := "takes", desc := "()I" } : Jvm.MethodName) prog_13_method_6_code (1 : Nat) (Option.some Jvm.ClassFile.FieldType.int)) ∈ lw_all := lw_g (lw_at lw_m7 17 rfl) rfl
theorem q1602 : (Jvm.Cond.interfaceMethod "EditsMeet$Part" "EditsMeet$Part" "inserts" "()Z") ∈ lw_tbl := lw_at lw_m7 42 rfl
theorem q1603 : (Jvm.Cond.declares ({ cls := "EditsMeet$Part", name := "inserts", desc := "()Z" } : Jvm.MethodName)) ∈ lw_tbl := lw_at lw_m7 43 rfl
theorem q1605 : (Jvm.Cond.instanceMethod ({ cls := "EditsMeet$Part", name := "inserts", desc := "()Z" } : Jvm.MethodName)) ∈ lw_all := lw_g (lw_at lw_m7 45 rfl) rfl
theorem q1606 : (Jvm.Cond.publicMethod ({ cls := "EditsMeet$Part", name := "inserts", desc := "()Z" } : Jvm.MethodName)) ∈ lw_tbl := lw_at lw_m7 46 rfl
theorem q1607 : (Jvm.Cond.code ({ cls := "EditsMeet$Part", name := "inserts", desc := "()Z" } : Jvm.MethodName) prog_13_method_8_code (1 : Nat) (Option.some Jvm.ClassFile.FieldType.boolean)) ∈ lw_all := lw_g (lw_at lw_m7 47 rfl) rfl
theorem q1608 : (Jvm.Cond.interfaceEntry "EditsMeet$Part" (7 : Nat)) ∈ lw_tbl := lw_at lw_m7 48 rfl
theorem q1609 : (Jvm.Cond.methodLink "EditsMeet$Part" (7 : Nat) ({ cls := "EditsMeet$Part", name := "takes", desc := "()I" } : Jvm.MethodName)) ∈ lw_all := lw_g (lw_at lw_m7 49 rfl) rfl
theorem q1621 : (Jvm.Cond.interfaceMethod "EditsMeet$Part" "EditsMeet$Part" "deletes" "()Z") ∈ lw_tbl := lw_at lw_m7 61 rfl
theorem q1747 : (Jvm.Cond.interfaceMethod "EditsMeet$Part" "EditsMeet$Part" "piece" "(II)LEditsMeet$Part;") ∈ lw_tbl := lw_at lw_m7 187 rfl
theorem q1748 : (Jvm.Cond.declares ({ cls := "EditsMeet$Part", name := "piece", desc := "(II)LEditsMeet$Part;" } : Jvm.MethodName)) ∈ lw_tbl := lw_at lw_m7 188 rfl
theorem q1977 : (Jvm.Cond.interfaceMethod "EditsMeet$Part" "EditsMeet$Part" "spells" "(Ljava/lang/StringBuilder;)V") ∈ lw_tbl := lw_at lw_m8 177 rfl
theorem q1978 : (Jvm.Cond.declares ({ cls := "EditsMeet$Part", name := "spells", desc := "(Ljava/lang/StringBuilder;)V" } : Jvm.MethodName)) ∈ lw_tbl := lw_at lw_m8 178 rfl
theorem q2104 : (Jvm.Cond.interfaceMethod "EditsMeet$Part" "EditsMeet$Part" "marks" "(I)I") ∈ lw_tbl := lw_at lw_m9 64 rfl
theorem q2105 : (Jvm.Cond.declares ({ cls := "EditsMeet$Part", name := "marks", desc := "(I)I" } : Jvm.MethodName)) ∈ lw_tbl := lw_at lw_m9 65 rfl
theorem q2107 : (Jvm.Cond.instanceMethod ({ cls := "EditsMeet$Part", name := "marks", desc := "(I)I" } : Jvm.MethodName)) ∈ lw_all := lw_g (lw_at lw_m9 67 rfl) rfl
theorem q2108 : (Jvm.Cond.publicMethod ({ cls := "EditsMeet$Part", name := "marks", desc := "(I)I" } : Jvm.MethodName)) ∈ lw_tbl := lw_at lw_m9 68 rfl
theorem q2109 : (Jvm.Cond.code ({ cls := "EditsMeet$Part", name := "marks", desc := "(I)I" } : Jvm.MethodName) prog_13_method_12_code (2 : Nat) (Option.some Jvm.ClassFile.FieldType.int)) ∈ lw_all := lw_g (lw_at lw_m9 69 rfl) rfl
theorem q2110 : (Jvm.Cond.interfaceEntry "EditsMeet$Part" (13 : Nat)) ∈ lw_tbl := lw_at lw_m9 70 rfl
theorem q2111 : (Jvm.Cond.methodLink "EditsMeet$Part" (13 : Nat) ({ cls := "EditsMeet$Part", name := "on", desc := "()I" } : Jvm.MethodName)) ∈ lw_all := lw_g (lw_at lw_m9 71 rfl) rfl
theorem q2112 : (Jvm.Cond.interfaceEntry "EditsMeet$Part" (16 : Nat)) ∈ lw_tbl := lw_at lw_m9 72 rfl
theorem q2113 : (Jvm.Cond.methodLink "EditsMeet$Part" (16 : Nat) ({ cls := "EditsMeet$Part", name := "off", desc := "()I" } : Jvm.MethodName)) ∈ lw_all := lw_g (lw_at lw_m9 73 rfl) rfl

/-! EditsMeet$Over -/
set_option maxRecDepth 100000
def RX6 : String := "EditsMeet$Over"
abbrev cX6_init : ByteArray := prog_12_method_1_code
def yX6_init : MethodName := ⟨RX6, "<init>", "(I)V"⟩
def dkwX6_init_0 : List UInt8 := [42, 183, 0, 1, 42, 27, 181, 0, 7, 177]
abbrev dktX6_init_0 : List UInt8 := dkwX6_init_0 ++ []
theorem dksX6_init_0 : cX6_init.data.toList.drop 0 = dktX6_init_0 := by decide +kernel
theorem dX6_init_0 : decode cX6_init 0 = .ok (.aload_n 0, 1) := dk_42 (dk_at dksX6_init_0 0 rfl rfl)
theorem dX6_init_1 : decode cX6_init 1 = .ok (.invokespecial 1, 3) := dk_183 0 1 (dk_at dksX6_init_0 1 rfl rfl)
theorem dX6_init_4 : decode cX6_init 4 = .ok (.aload_n 0, 1) := dk_42 (dk_at dksX6_init_0 4 rfl rfl)
theorem dX6_init_5 : decode cX6_init 5 = .ok (.iload_n 1, 1) := dk_27 (dk_at dksX6_init_0 5 rfl rfl)
theorem dX6_init_6 : decode cX6_init 6 = .ok (.putfield 7, 3) := dk_181 0 7 (dk_at dksX6_init_0 6 rfl rfl)
theorem dX6_init_9 : decode cX6_init 9 = .ok (.return_, 1) := dk_177 (dk_at dksX6_init_0 9 rfl rfl)
abbrev cX6_kind : ByteArray := prog_12_method_2_code
def yX6_kind : MethodName := ⟨RX6, "kind", "()I"⟩
theorem dX6_kind_0 : decode cX6_kind 0 = .ok (.iconst 2, 1) := by decide +kernel
theorem dX6_kind_1 : decode cX6_kind 1 = .ok (.ireturn, 1) := by decide +kernel
abbrev cX6_n : ByteArray := prog_12_method_3_code
def yX6_n : MethodName := ⟨RX6, "n", "()I"⟩
theorem dX6_n_0 : decode cX6_n 0 = .ok (.aload_n 0, 1) := by decide +kernel
theorem dX6_n_1 : decode cX6_n 1 = .ok (.getfield 7, 3) := by decide +kernel
theorem dX6_n_4 : decode cX6_n 4 = .ok (.ireturn, 1) := by decide +kernel
abbrev cX6_takes : ByteArray := prog_12_method_4_code
def yX6_takes : MethodName := ⟨RX6, "takes", "()I"⟩
theorem dX6_takes_0 : decode cX6_takes 0 = .ok (.aload_n 0, 1) := by decide +kernel
theorem dX6_takes_1 : decode cX6_takes 1 = .ok (.getfield 7, 3) := by decide +kernel
theorem dX6_takes_4 : decode cX6_takes 4 = .ok (.ireturn, 1) := by decide +kernel
abbrev cX6_isLike : ByteArray := prog_12_method_6_code
def yX6_isLike : MethodName := ⟨RX6, "isLike", "(LEditsMeet$Part;)Z"⟩
def dkwX6_isLike_1 : List UInt8 := [160, 0, 20, 43, 185, 0, 24, 1, 0, 42, 182, 0, 27, 160, 0, 7, 4, 167, 0, 4, 3, 172]
abbrev dktX6_isLike_1 : List UInt8 := dkwX6_isLike_1 ++ []
def dkwX6_isLike_0 : List UInt8 := [43, 185, 0, 13, 1, 0, 42, 182, 0, 19, 160, 0, 33, 43, 185, 0, 20, 1, 0, 42, 182, 0, 23]
abbrev dktX6_isLike_0 : List UInt8 := dkwX6_isLike_0 ++ dktX6_isLike_1
theorem dksX6_isLike_0 : cX6_isLike.data.toList.drop 0 = dktX6_isLike_0 := by decide +kernel
theorem dksX6_isLike_1 : cX6_isLike.data.toList.drop 23 = dktX6_isLike_1 := dk_seg dksX6_isLike_0 23 rfl rfl
theorem dX6_isLike_0 : decode cX6_isLike 0 = .ok (.aload_n 1, 1) := dk_43 (dk_at dksX6_isLike_0 0 rfl rfl)
theorem dX6_isLike_1 : decode cX6_isLike 1 = .ok (.invokeinterface 13 1, 5) := by decide +kernel
theorem dX6_isLike_6 : decode cX6_isLike 6 = .ok (.aload_n 0, 1) := dk_42 (dk_at dksX6_isLike_0 6 rfl rfl)
theorem dX6_isLike_7 : decode cX6_isLike 7 = .ok (.invokevirtual 19, 3) := dk_182 0 19 (dk_at dksX6_isLike_0 7 rfl rfl)
theorem dX6_isLike_10 : decode cX6_isLike 10 = .ok (.if_icmp .ne 33, 3) := dk_160 0 33 (dk_at dksX6_isLike_0 10 rfl rfl)
theorem dX6_isLike_13 : decode cX6_isLike 13 = .ok (.aload_n 1, 1) := dk_43 (dk_at dksX6_isLike_0 13 rfl rfl)
theorem dX6_isLike_14 : decode cX6_isLike 14 = .ok (.invokeinterface 20 1, 5) := by decide +kernel
theorem dX6_isLike_19 : decode cX6_isLike 19 = .ok (.aload_n 0, 1) := dk_42 (dk_at dksX6_isLike_0 19 rfl rfl)
theorem dX6_isLike_20 : decode cX6_isLike 20 = .ok (.invokevirtual 23, 3) := dk_182 0 23 (dk_at dksX6_isLike_0 20 rfl rfl)
theorem dX6_isLike_23 : decode cX6_isLike 23 = .ok (.if_icmp .ne 20, 3) := dk_160 0 20 (dk_at dksX6_isLike_1 0 rfl rfl)
theorem dX6_isLike_26 : decode cX6_isLike 26 = .ok (.aload_n 1, 1) := dk_43 (dk_at dksX6_isLike_1 3 rfl rfl)
theorem dX6_isLike_27 : decode cX6_isLike 27 = .ok (.invokeinterface 24 1, 5) := by decide +kernel
theorem dX6_isLike_32 : decode cX6_isLike 32 = .ok (.aload_n 0, 1) := dk_42 (dk_at dksX6_isLike_1 9 rfl rfl)
theorem dX6_isLike_33 : decode cX6_isLike 33 = .ok (.invokevirtual 27, 3) := dk_182 0 27 (dk_at dksX6_isLike_1 10 rfl rfl)
theorem dX6_isLike_36 : decode cX6_isLike 36 = .ok (.if_icmp .ne 7, 3) := dk_160 0 7 (dk_at dksX6_isLike_1 13 rfl rfl)
theorem dX6_isLike_39 : decode cX6_isLike 39 = .ok (.iconst 1, 1) := dk_4 (dk_at dksX6_isLike_1 16 rfl rfl)
theorem dX6_isLike_40 : decode cX6_isLike 40 = .ok (.goto 4, 3) := dk_167 0 4 (dk_at dksX6_isLike_1 17 rfl rfl)
theorem dX6_isLike_43 : decode cX6_isLike 43 = .ok (.iconst 0, 1) := dk_3 (dk_at dksX6_isLike_1 20 rfl rfl)
theorem dX6_isLike_44 : decode cX6_isLike 44 = .ok (.ireturn, 1) := dk_172 (dk_at dksX6_isLike_1 21 rfl rfl)
abbrev cX6_so : ByteArray := prog_12_method_7_code
def yX6_so : MethodName := ⟨RX6, "so", "(I)LEditsMeet$Part;"⟩
def dkwX6_so_0 : List UInt8 := [27, 42, 180, 0, 7, 160, 0, 7, 42, 167, 0, 8, 42, 27, 182, 0, 28, 176]
abbrev dktX6_so_0 : List UInt8 := dkwX6_so_0 ++ []
theorem dksX6_so_0 : cX6_so.data.toList.drop 0 = dktX6_so_0 := by decide +kernel
theorem dX6_so_0 : decode cX6_so 0 = .ok (.iload_n 1, 1) := dk_27 (dk_at dksX6_so_0 0 rfl rfl)
theorem dX6_so_1 : decode cX6_so 1 = .ok (.aload_n 0, 1) := dk_42 (dk_at dksX6_so_0 1 rfl rfl)
theorem dX6_so_2 : decode cX6_so 2 = .ok (.getfield 7, 3) := dk_180 0 7 (dk_at dksX6_so_0 2 rfl rfl)
theorem dX6_so_5 : decode cX6_so 5 = .ok (.if_icmp .ne 7, 3) := dk_160 0 7 (dk_at dksX6_so_0 5 rfl rfl)
theorem dX6_so_8 : decode cX6_so 8 = .ok (.aload_n 0, 1) := dk_42 (dk_at dksX6_so_0 8 rfl rfl)
theorem dX6_so_9 : decode cX6_so 9 = .ok (.goto 8, 3) := dk_167 0 8 (dk_at dksX6_so_0 9 rfl rfl)
theorem dX6_so_12 : decode cX6_so 12 = .ok (.aload_n 0, 1) := dk_42 (dk_at dksX6_so_0 12 rfl rfl)
theorem dX6_so_13 : decode cX6_so 13 = .ok (.iload_n 1, 1) := dk_27 (dk_at dksX6_so_0 13 rfl rfl)
theorem dX6_so_14 : decode cX6_so 14 = .ok (.invokevirtual 28, 3) := dk_182 0 28 (dk_at dksX6_so_0 14 rfl rfl)
theorem dX6_so_17 : decode cX6_so 17 = .ok (.areturn, 1) := dk_176 (dk_at dksX6_so_0 17 rfl rfl)
abbrev cX6_joined : ByteArray := prog_12_method_9_code
def yX6_joined : MethodName := ⟨RX6, "joined", "(LEditsMeet$Part;)LEditsMeet$Part;"⟩
def dkwX6_joined_1 : List UInt8 := [167, 0, 4, 1, 176]
abbrev dktX6_joined_1 : List UInt8 := dkwX6_joined_1 ++ []
def dkwX6_joined_0 : List UInt8 := [42, 43, 182, 0, 35, 153, 0, 21, 42, 42, 180, 0, 7, 43, 185, 0, 39, 1, 0, 96, 182, 0, 28]
abbrev dktX6_joined_0 : List UInt8 := dkwX6_joined_0 ++ dktX6_joined_1
theorem dksX6_joined_0 : cX6_joined.data.toList.drop 0 = dktX6_joined_0 := by decide +kernel
theorem dksX6_joined_1 : cX6_joined.data.toList.drop 23 = dktX6_joined_1 := dk_seg dksX6_joined_0 23 rfl rfl
theorem dX6_joined_0 : decode cX6_joined 0 = .ok (.aload_n 0, 1) := dk_42 (dk_at dksX6_joined_0 0 rfl rfl)
theorem dX6_joined_1 : decode cX6_joined 1 = .ok (.aload_n 1, 1) := dk_43 (dk_at dksX6_joined_0 1 rfl rfl)
theorem dX6_joined_2 : decode cX6_joined 2 = .ok (.invokevirtual 35, 3) := dk_182 0 35 (dk_at dksX6_joined_0 2 rfl rfl)
theorem dX6_joined_5 : decode cX6_joined 5 = .ok (.ifCond .eq 21, 3) := dk_153 0 21 (dk_at dksX6_joined_0 5 rfl rfl)
theorem dX6_joined_8 : decode cX6_joined 8 = .ok (.aload_n 0, 1) := dk_42 (dk_at dksX6_joined_0 8 rfl rfl)
theorem dX6_joined_9 : decode cX6_joined 9 = .ok (.aload_n 0, 1) := dk_42 (dk_at dksX6_joined_0 9 rfl rfl)
theorem dX6_joined_10 : decode cX6_joined 10 = .ok (.getfield 7, 3) := dk_180 0 7 (dk_at dksX6_joined_0 10 rfl rfl)
theorem dX6_joined_13 : decode cX6_joined 13 = .ok (.aload_n 1, 1) := dk_43 (dk_at dksX6_joined_0 13 rfl rfl)
theorem dX6_joined_14 : decode cX6_joined 14 = .ok (.invokeinterface 39 1, 5) := by decide +kernel
theorem dX6_joined_19 : decode cX6_joined 19 = .ok (.iadd, 1) := dk_96 (dk_at dksX6_joined_0 19 rfl rfl)
theorem dX6_joined_20 : decode cX6_joined 20 = .ok (.invokevirtual 28, 3) := dk_182 0 28 (dk_at dksX6_joined_0 20 rfl rfl)
theorem dX6_joined_23 : decode cX6_joined 23 = .ok (.goto 4, 3) := dk_167 0 4 (dk_at dksX6_joined_1 0 rfl rfl)
theorem dX6_joined_26 : decode cX6_joined 26 = .ok (.aconst_null, 1) := dk_1 (dk_at dksX6_joined_1 3 rfl rfl)
theorem dX6_joined_27 : decode cX6_joined 27 = .ok (.areturn, 1) := dk_176 (dk_at dksX6_joined_1 4 rfl rfl)
abbrev cX6_piece : ByteArray := prog_12_method_8_code
def yX6_piece : MethodName := ⟨RX6, "piece", "(II)LEditsMeet$Part;"⟩
def dkwX6_piece_0 : List UInt8 := [42, 28, 27, 100, 182, 0, 32, 176]
abbrev dktX6_piece_0 : List UInt8 := dkwX6_piece_0 ++ []
theorem dksX6_piece_0 : cX6_piece.data.toList.drop 0 = dktX6_piece_0 := by decide +kernel
theorem dX6_piece_0 : decode cX6_piece 0 = .ok (.aload_n 0, 1) := dk_42 (dk_at dksX6_piece_0 0 rfl rfl)
theorem dX6_piece_1 : decode cX6_piece 1 = .ok (.iload_n 2, 1) := dk_28 (dk_at dksX6_piece_0 1 rfl rfl)
theorem dX6_piece_2 : decode cX6_piece 2 = .ok (.iload_n 1, 1) := dk_27 (dk_at dksX6_piece_0 2 rfl rfl)
theorem dX6_piece_3 : decode cX6_piece 3 = .ok (.isub, 1) := dk_100 (dk_at dksX6_piece_0 3 rfl rfl)
theorem dX6_piece_4 : decode cX6_piece 4 = .ok (.invokevirtual 32, 3) := dk_182 0 32 (dk_at dksX6_piece_0 4 rfl rfl)
theorem dX6_piece_7 : decode cX6_piece 7 = .ok (.areturn, 1) := dk_176 (dk_at dksX6_piece_0 7 rfl rfl)
theorem q138 : (Jvm.Cond.initialized "EditsMeet$Over") ∈ lw_all := lw_g (lw_at lw_m1 18 rfl) rfl
theorem q387 : (Jvm.Cond.instanceMethod ({ cls := "EditsMeet$Over", name := "<init>", desc := "(I)V" } : Jvm.MethodName)) ∈ lw_all := lw_g (lw_at lw_m2 27 rfl) rfl
theorem q388 : (Jvm.Cond.code ({ cls := "EditsMeet$Over", name := "<init>", desc := "(I)V" } : Jvm.MethodName) prog_12_method_1_code (2 : Nat) (Option.none : Option Jvm.ClassFile.FieldType)) ∈ lw_all := lw_g (lw_at lw_m2 28 rfl) rfl
theorem q389 : (Jvm.Cond.methodLink "EditsMeet$Over" (1 : Nat) ({ cls := "java/lang/Object", name := "<init>", desc := "()V" } : Jvm.MethodName)) ∈ lw_all := lw_g (lw_at lw_m2 29 rfl) rfl
theorem q390 : (Jvm.Cond.fieldLink "EditsMeet$Over" (7 : Nat) "EditsMeet$Over" "n" "I") ∈ lw_all := lw_g (lw_at lw_m2 30 rfl) rfl
theorem q392 : (Jvm.Cond.soleField "EditsMeet$Over" "n") ∈ lw_all := lw_g (lw_at lw_m2 32 rfl) rfl
theorem q767 : (Jvm.Cond.instanceMethod ({ cls := "EditsMeet$Over", name := "kind", desc := "()I" } : Jvm.MethodName)) ∈ lw_all := lw_g (lw_at lw_m3 167 rfl) rfl
theorem q768 : (Jvm.Cond.code ({ cls := "EditsMeet$Over", name := "kind", desc := "()I" } : Jvm.MethodName) prog_12_method_2_code (1 : Nat) (Option.some Jvm.ClassFile.FieldType.int)) ∈ lw_all := lw_g (lw_at lw_m3 168 rfl) rfl
theorem q865 : (Jvm.Cond.instanceMethod ({ cls := "EditsMeet$Over", name := "n", desc := "()I" } : Jvm.MethodName)) ∈ lw_all := lw_g (lw_at lw_m4 25 rfl) rfl
theorem q866 : (Jvm.Cond.publicMethod ({ cls := "EditsMeet$Over", name := "n", desc := "()I" } : Jvm.MethodName)) ∈ lw_tbl := lw_at lw_m4 26 rfl
theorem q867 : (Jvm.Cond.code ({ cls := "EditsMeet$Over", name := "n", desc := "()I" } : Jvm.MethodName) prog_12_method_3_code (1 : Nat) (Option.some Jvm.ClassFile.FieldType.int)) ∈ lw_all := lw_g (lw_at lw_m4 27 rfl) rfl
theorem q929 : (Jvm.Cond.instanceMethod ({ cls := "EditsMeet$Over", name := "takes", desc := "()I" } : Jvm.MethodName)) ∈ lw_all := lw_g (lw_at lw_m4 89 rfl) rfl
theorem q930 : (Jvm.Cond.sameMethod "EditsMeet$Over" "EditsMeet$Over" "takes" "()I") ∈ lw_all := lw_g (lw_at lw_m4 90 rfl) rfl
theorem q934 : (Jvm.Cond.code ({ cls := "EditsMeet$Over", name := "takes", desc := "()I" } : Jvm.MethodName) prog_12_method_4_code (1 : Nat) (Option.some Jvm.ClassFile.FieldType.int)) ∈ lw_all := lw_g (lw_at lw_m4 94 rfl) rfl
theorem q970 : (Jvm.Cond.declares ({ cls := "EditsMeet$Over", name := "n", desc := "()I" } : Jvm.MethodName)) ∈ lw_tbl := lw_at lw_m4 130 rfl
theorem q1369 : (Jvm.Cond.instanceMethod ({ cls := "EditsMeet$Over", name := "isLike", desc := "(LEditsMeet$Part;)Z" } : Jvm.MethodName)) ∈ lw_all := lw_g (lw_at lw_m6 49 rfl) rfl
theorem q1370 : (Jvm.Cond.sameMethod "EditsMeet$Over" "EditsMeet$Over" "isLike" "(LEditsMeet$Part;)Z") ∈ lw_all := lw_g (lw_at lw_m6 50 rfl) rfl
theorem q1374 : (Jvm.Cond.code ({ cls := "EditsMeet$Over", name := "isLike", desc := "(LEditsMeet$Part;)Z" } : Jvm.MethodName) prog_12_method_6_code (2 : Nat) (Option.some Jvm.ClassFile.FieldType.boolean)) ∈ lw_all := lw_g (lw_at lw_m6 54 rfl) rfl
theorem q1375 : (Jvm.Cond.interfaceEntry "EditsMeet$Over" (13 : Nat)) ∈ lw_tbl := lw_at lw_m6 55 rfl
theorem q1376 : (Jvm.Cond.methodLink "EditsMeet$Over" (13 : Nat) ({ cls := "EditsMeet$Part", name := "kind", desc := "()I" } : Jvm.MethodName)) ∈ lw_all := lw_g (lw_at lw_m6 56 rfl) rfl
theorem q1377 : (Jvm.Cond.methodLink "EditsMeet$Over" (19 : Nat) ({ cls := "EditsMeet$Over", name := "kind", desc := "()I" } : Jvm.MethodName)) ∈ lw_all := lw_g (lw_at lw_m6 57 rfl) rfl
theorem q1378 : (Jvm.Cond.interfaceEntry "EditsMeet$Over" (20 : Nat)) ∈ lw_tbl := lw_at lw_m6 58 rfl
theorem q1379 : (Jvm.Cond.methodLink "EditsMeet$Over" (20 : Nat) ({ cls := "EditsMeet$Part", name := "on", desc := "()I" } : Jvm.MethodName)) ∈ lw_all := lw_g (lw_at lw_m6 59 rfl) rfl
theorem q1385 : (Jvm.Cond.superclass "EditsMeet$Over" "java/lang/Object") ∈ lw_all := lw_g (lw_at lw_m6 65 rfl) rfl
theorem q1386 : (Jvm.Cond.interfaceEntry "EditsMeet$Over" (24 : Nat)) ∈ lw_tbl := lw_at lw_m6 66 rfl
theorem q1387 : (Jvm.Cond.methodLink "EditsMeet$Over" (24 : Nat) ({ cls := "EditsMeet$Part", name := "off", desc := "()I" } : Jvm.MethodName)) ∈ lw_all := lw_g (lw_at lw_m6 67 rfl) rfl
theorem q1398 : (Jvm.Cond.instanceMethod ({ cls := "EditsMeet$Over", name := "so", desc := "(I)LEditsMeet$Part;" } : Jvm.MethodName)) ∈ lw_all := lw_g (lw_at lw_m6 78 rfl) rfl
theorem q1399 : (Jvm.Cond.sameMethod "EditsMeet$Over" "EditsMeet$Over" "so" "(I)LEditsMeet$Part;") ∈ lw_all := lw_g (lw_at lw_m6 79 rfl) rfl
theorem q1403 : (Jvm.Cond.code ({ cls := "EditsMeet$Over", name := "so", desc := "(I)LEditsMeet$Part;" } : Jvm.MethodName) prog_12_method_7_code (2 : Nat) (Option.some (Jvm.ClassFile.FieldType.object "EditsMeet$Part"))) ∈ lw_all := lw_g (lw_at lw_m6 83 rfl) rfl
theorem q1404 : (Jvm.Cond.methodLink "EditsMeet$Over" (28 : Nat) ({ cls := "EditsMeet$Over", name := "again", desc := "(I)LEditsMeet$Part;" } : Jvm.MethodName)) ∈ lw_all := lw_g (lw_at lw_m6 84 rfl) rfl
theorem q1405 : (Jvm.Cond.declares ({ cls := "EditsMeet$Over", name := "again", desc := "(I)LEditsMeet$Part;" } : Jvm.MethodName)) ∈ lw_tbl := lw_at lw_m6 85 rfl
theorem q1406 : (Jvm.Cond.sameMethod "EditsMeet$Over" "EditsMeet$Over" "again" "(I)LEditsMeet$Part;") ∈ lw_all := lw_g (lw_at lw_m6 86 rfl) rfl
theorem q1520 : (Jvm.Cond.instanceMethod ({ cls := "EditsMeet$Over", name := "joined", desc := "(LEditsMeet$Part;)LEditsMeet$Part;" } : Jvm.MethodName)) ∈ lw_all := lw_g (lw_at lw_m6 200 rfl) rfl
theorem q1521 : (Jvm.Cond.publicMethod ({ cls := "EditsMeet$Over", name := "joined", desc := "(LEditsMeet$Part;)LEditsMeet$Part;" } : Jvm.MethodName)) ∈ lw_tbl := lw_at lw_m6 201 rfl
theorem q1522 : (Jvm.Cond.code ({ cls := "EditsMeet$Over", name := "joined", desc := "(LEditsMeet$Part;)LEditsMeet$Part;" } : Jvm.MethodName) prog_12_method_9_code (2 : Nat) (Option.some (Jvm.ClassFile.FieldType.object "EditsMeet$Part"))) ∈ lw_all := lw_g (lw_at lw_m6 202 rfl) rfl
theorem q1523 : (Jvm.Cond.methodLink "EditsMeet$Over" (35 : Nat) ({ cls := "EditsMeet$Over", name := "isLike", desc := "(LEditsMeet$Part;)Z" } : Jvm.MethodName)) ∈ lw_all := lw_g (lw_at lw_m6 203 rfl) rfl
theorem q1524 : (Jvm.Cond.interfaceEntry "EditsMeet$Over" (39 : Nat)) ∈ lw_tbl := lw_at lw_m6 204 rfl
theorem q1525 : (Jvm.Cond.methodLink "EditsMeet$Over" (39 : Nat) ({ cls := "EditsMeet$Part", name := "n", desc := "()I" } : Jvm.MethodName)) ∈ lw_all := lw_g (lw_at lw_m6 205 rfl) rfl
theorem q1573 : (Jvm.Cond.publicMethod ({ cls := "EditsMeet$Over", name := "takes", desc := "()I" } : Jvm.MethodName)) ∈ lw_tbl := lw_at lw_m7 13 rfl
theorem q1751 : (Jvm.Cond.instanceMethod ({ cls := "EditsMeet$Over", name := "piece", desc := "(II)LEditsMeet$Part;" } : Jvm.MethodName)) ∈ lw_all := lw_g (lw_at lw_m7 191 rfl) rfl
theorem q1752 : (Jvm.Cond.publicMethod ({ cls := "EditsMeet$Over", name := "piece", desc := "(II)LEditsMeet$Part;" } : Jvm.MethodName)) ∈ lw_tbl := lw_at lw_m7 192 rfl
theorem q1753 : (Jvm.Cond.code ({ cls := "EditsMeet$Over", name := "piece", desc := "(II)LEditsMeet$Part;" } : Jvm.MethodName) prog_12_method_8_code (3 : Nat) (Option.some (Jvm.ClassFile.FieldType.object "EditsMeet$Part"))) ∈ lw_all := lw_g (lw_at lw_m7 193 rfl) rfl
theorem q1754 : (Jvm.Cond.methodLink "EditsMeet$Over" (32 : Nat) ({ cls := "EditsMeet$Over", name := "so", desc := "(I)LEditsMeet$Part;" } : Jvm.MethodName)) ∈ lw_all := lw_g (lw_at lw_m7 194 rfl) rfl
theorem q3580 : (Jvm.Cond.sameMethod "EditsMeet$Over" "EditsMeet$Over" "kind" "()I") ∈ lw_all := lw_g (lw_at lw_m15 100 rfl) rfl

/-! EditsMeet$Keep -/
set_option maxRecDepth 100000
def RX7 : String := "EditsMeet$Keep"
def TX7 : u_T := fun k => match k with
  | _ => ("EditsMeet$Over", "n", "I", true)
def tyX7 : Nat → FieldType := fun k => match k with
  | _ => .int
abbrev wsX70 : List Cond := u_ws RX7 TX7 1
theorem nmX7 : ∀ a, a < 1 → ∀ b, b < 1 → a ≠ b → (TX7 a).2.1 ≠ (TX7 b).2.1 := by decide +kernel
theorem tyX7_ok : ∀ k, k < 1 → parseFieldDescriptor (TX7 k).2.2.1 = some (tyX7 k) := by decide +kernel
abbrev cX7_init : ByteArray := prog_10_method_1_code
def yX7_init : MethodName := ⟨RX7, "<init>", "(I)V"⟩
def dkwX7_init_0 : List UInt8 := [42, 27, 183, 0, 1, 177]
abbrev dktX7_init_0 : List UInt8 := dkwX7_init_0 ++ []
theorem dksX7_init_0 : cX7_init.data.toList.drop 0 = dktX7_init_0 := by decide +kernel
theorem dX7_init_0 : decode cX7_init 0 = .ok (.aload_n 0, 1) := dk_42 (dk_at dksX7_init_0 0 rfl rfl)
theorem dX7_init_1 : decode cX7_init 1 = .ok (.iload_n 1, 1) := dk_27 (dk_at dksX7_init_0 1 rfl rfl)
theorem dX7_init_2 : decode cX7_init 2 = .ok (.invokespecial 1, 3) := dk_183 0 1 (dk_at dksX7_init_0 2 rfl rfl)
theorem dX7_init_5 : decode cX7_init 5 = .ok (.return_, 1) := dk_177 (dk_at dksX7_init_0 5 rfl rfl)
abbrev cX7_kind : ByteArray := prog_10_method_2_code
def yX7_kind : MethodName := ⟨RX7, "kind", "()I"⟩
theorem dX7_kind_0 : decode cX7_kind 0 = .ok (.iconst 3, 1) := by decide +kernel
theorem dX7_kind_1 : decode cX7_kind 1 = .ok (.ireturn, 1) := by decide +kernel
abbrev cX7_turns : ByteArray := prog_10_method_5_code
def yX7_turns : MethodName := ⟨RX7, "turns", "()I"⟩
def dkwX7_turns_0 : List UInt8 := [42, 182, 0, 28, 184, 0, 31, 42, 182, 0, 37, 184, 0, 31, 96, 172]
abbrev dktX7_turns_0 : List UInt8 := dkwX7_turns_0 ++ []
theorem dksX7_turns_0 : cX7_turns.data.toList.drop 0 = dktX7_turns_0 := by decide +kernel
theorem dX7_turns_0 : decode cX7_turns 0 = .ok (.aload_n 0, 1) := dk_42 (dk_at dksX7_turns_0 0 rfl rfl)
theorem dX7_turns_1 : decode cX7_turns 1 = .ok (.invokevirtual 28, 3) := dk_182 0 28 (dk_at dksX7_turns_0 1 rfl rfl)
theorem dX7_turns_4 : decode cX7_turns 4 = .ok (.invokestatic 31, 3) := dk_184 0 31 (dk_at dksX7_turns_0 4 rfl rfl)
theorem dX7_turns_7 : decode cX7_turns 7 = .ok (.aload_n 0, 1) := dk_42 (dk_at dksX7_turns_0 7 rfl rfl)
theorem dX7_turns_8 : decode cX7_turns 8 = .ok (.invokevirtual 37, 3) := dk_182 0 37 (dk_at dksX7_turns_0 8 rfl rfl)
theorem dX7_turns_11 : decode cX7_turns 11 = .ok (.invokestatic 31, 3) := dk_184 0 31 (dk_at dksX7_turns_0 11 rfl rfl)
theorem dX7_turns_14 : decode cX7_turns 14 = .ok (.iadd, 1) := dk_96 (dk_at dksX7_turns_0 14 rfl rfl)
theorem dX7_turns_15 : decode cX7_turns 15 = .ok (.ireturn, 1) := dk_172 (dk_at dksX7_turns_0 15 rfl rfl)
abbrev cX7_again : ByteArray := prog_10_method_3_code
def yX7_again : MethodName := ⟨RX7, "again", "(I)LEditsMeet$Part;"⟩
theorem dX7_again_0 : decode cX7_again 0 = .ok (.iload_n 1, 1) := by decide +kernel
theorem dX7_again_1 : decode cX7_again 1 = .ok (.invokestatic 7, 3) := by decide +kernel
theorem dX7_again_4 : decode cX7_again 4 = .ok (.areturn, 1) := by decide +kernel
abbrev cX7_spells : ByteArray := prog_10_method_4_code
def yX7_spells : MethodName := ⟨RX7, "spells", "(Ljava/lang/StringBuilder;)V"⟩
def dkwX7_spells_0 : List UInt8 := [43, 16, 61, 182, 0, 13, 42, 182, 0, 19, 182, 0, 25, 87, 177]
abbrev dktX7_spells_0 : List UInt8 := dkwX7_spells_0 ++ []
theorem dksX7_spells_0 : cX7_spells.data.toList.drop 0 = dktX7_spells_0 := by decide +kernel
theorem dX7_spells_0 : decode cX7_spells 0 = .ok (.aload_n 1, 1) := dk_43 (dk_at dksX7_spells_0 0 rfl rfl)
theorem dX7_spells_1 : decode cX7_spells 1 = .ok (.bipush 61, 2) := dk_16 61 (dk_at dksX7_spells_0 1 rfl rfl)
theorem dX7_spells_3 : decode cX7_spells 3 = .ok (.invokevirtual 13, 3) := dk_182 0 13 (dk_at dksX7_spells_0 3 rfl rfl)
theorem dX7_spells_6 : decode cX7_spells 6 = .ok (.aload_n 0, 1) := dk_42 (dk_at dksX7_spells_0 6 rfl rfl)
theorem dX7_spells_7 : decode cX7_spells 7 = .ok (.invokevirtual 19, 3) := dk_182 0 19 (dk_at dksX7_spells_0 7 rfl rfl)
theorem dX7_spells_10 : decode cX7_spells 10 = .ok (.invokevirtual 25, 3) := dk_182 0 25 (dk_at dksX7_spells_0 10 rfl rfl)
theorem dX7_spells_13 : decode cX7_spells 13 = .ok (.pop, 1) := dk_87 (dk_at dksX7_spells_0 13 rfl rfl)
theorem dX7_spells_14 : decode cX7_spells 14 = .ok (.return_, 1) := dk_177 (dk_at dksX7_spells_0 14 rfl rfl)
theorem q139 : (Jvm.Cond.initialized "EditsMeet$Keep") ∈ lw_all := lw_g (lw_at lw_m1 19 rfl) rfl
theorem q382 : (Jvm.Cond.instantiable "EditsMeet$Keep" (1 : Nat)) ∈ lw_all := lw_g (lw_at lw_m2 22 rfl) rfl
theorem q384 : (Jvm.Cond.instanceMethod ({ cls := "EditsMeet$Keep", name := "<init>", desc := "(I)V" } : Jvm.MethodName)) ∈ lw_all := lw_g (lw_at lw_m2 24 rfl) rfl
theorem q385 : (Jvm.Cond.code ({ cls := "EditsMeet$Keep", name := "<init>", desc := "(I)V" } : Jvm.MethodName) prog_10_method_1_code (2 : Nat) (Option.none : Option Jvm.ClassFile.FieldType)) ∈ lw_all := lw_g (lw_at lw_m2 25 rfl) rfl
theorem q386 : (Jvm.Cond.methodLink "EditsMeet$Keep" (1 : Nat) ({ cls := "EditsMeet$Over", name := "<init>", desc := "(I)V" } : Jvm.MethodName)) ∈ lw_all := lw_g (lw_at lw_m2 26 rfl) rfl
theorem q391 : (Jvm.Cond.laysFinal "EditsMeet$Keep" "EditsMeet$Over" "n" "I") ∈ lw_all := lw_g (lw_at lw_m2 31 rfl) rfl
theorem q393 : (Jvm.Cond.superclass "EditsMeet$Keep" "EditsMeet$Over") ∈ lw_all := lw_g (lw_at lw_m2 33 rfl) rfl
theorem q775 : (Jvm.Cond.castable "EditsMeet$Keep" "EditsMeet$Part") ∈ lw_tbl := lw_at lw_m3 175 rfl
theorem q776 : (Jvm.Cond.selects "EditsMeet$Keep" ({ cls := "EditsMeet$Part", name := "kind", desc := "()I" } : Jvm.MethodName) ({ cls := "EditsMeet$Keep", name := "kind", desc := "()I" } : Jvm.MethodName)) ∈ lw_all := lw_g (lw_at lw_m3 176 rfl) rfl
theorem q777 : (Jvm.Cond.unhidden "EditsMeet$Keep" "kind" "()I") ∈ lw_tbl := lw_at lw_m3 177 rfl
theorem q778 : (Jvm.Cond.instanceMethod ({ cls := "EditsMeet$Keep", name := "kind", desc := "()I" } : Jvm.MethodName)) ∈ lw_all := lw_g (lw_at lw_m3 178 rfl) rfl
theorem q779 : (Jvm.Cond.publicMethod ({ cls := "EditsMeet$Keep", name := "kind", desc := "()I" } : Jvm.MethodName)) ∈ lw_tbl := lw_at lw_m3 179 rfl
theorem q780 : (Jvm.Cond.code ({ cls := "EditsMeet$Keep", name := "kind", desc := "()I" } : Jvm.MethodName) prog_10_method_2_code (1 : Nat) (Option.some Jvm.ClassFile.FieldType.int)) ∈ lw_all := lw_g (lw_at lw_m3 180 rfl) rfl
theorem q882 : (Jvm.Cond.selects "EditsMeet$Keep" ({ cls := "EditsMeet$Part", name := "n", desc := "()I" } : Jvm.MethodName) ({ cls := "EditsMeet$Over", name := "n", desc := "()I" } : Jvm.MethodName)) ∈ lw_all := lw_g (lw_at lw_m4 42 rfl) rfl
theorem q883 : (Jvm.Cond.unhidden "EditsMeet$Keep" "n" "()I") ∈ lw_tbl := lw_at lw_m4 43 rfl
theorem q932 : (Jvm.Cond.selects "EditsMeet$Keep" ({ cls := "EditsMeet$Over", name := "takes", desc := "()I" } : Jvm.MethodName) ({ cls := "EditsMeet$Over", name := "takes", desc := "()I" } : Jvm.MethodName)) ∈ lw_all := lw_g (lw_at lw_m4 92 rfl) rfl
theorem q937 : (Jvm.Cond.instanceMethod ({ cls := "EditsMeet$Keep", name := "turns", desc := "()I" } : Jvm.MethodName)) ∈ lw_all := lw_g (lw_at lw_m4 97 rfl) rfl
theorem q938 : (Jvm.Cond.selects "EditsMeet$Keep" ({ cls := "EditsMeet$Keep", name := "turns", desc := "()I" } : Jvm.MethodName) ({ cls := "EditsMeet$Keep", name := "turns", desc := "()I" } : Jvm.MethodName)) ∈ lw_all := lw_g (lw_at lw_m4 98 rfl) rfl
theorem q939 : (Jvm.Cond.sameMethod "EditsMeet$Keep" "EditsMeet$Keep" "turns" "()I") ∈ lw_all := lw_g (lw_at lw_m4 99 rfl) rfl
theorem q941 : (Jvm.Cond.code ({ cls := "EditsMeet$Keep", name := "turns", desc := "()I" } : Jvm.MethodName) prog_10_method_5_code (1 : Nat) (Option.some Jvm.ClassFile.FieldType.int)) ∈ lw_all := lw_g (lw_at lw_m4 101 rfl) rfl
theorem q943 : (Jvm.Cond.unhidden "EditsMeet$Keep" "on" "()I") ∈ lw_tbl := lw_at lw_m4 103 rfl
theorem q950 : (Jvm.Cond.methodLinkNest "EditsMeet$Keep" (31 : Nat) ({ cls := "EditsMeet", name := "bits", desc := "(I)I" } : Jvm.MethodName) "EditsMeet") ∈ lw_tbl := lw_at lw_m4 110 rfl
theorem q960 : (Jvm.Cond.unhidden "EditsMeet$Keep" "off" "()I") ∈ lw_tbl := lw_at lw_m4 120 rfl
theorem q1372 : (Jvm.Cond.selects "EditsMeet$Keep" ({ cls := "EditsMeet$Over", name := "isLike", desc := "(LEditsMeet$Part;)Z" } : Jvm.MethodName) ({ cls := "EditsMeet$Over", name := "isLike", desc := "(LEditsMeet$Part;)Z" } : Jvm.MethodName)) ∈ lw_all := lw_g (lw_at lw_m6 52 rfl) rfl
theorem q1401 : (Jvm.Cond.selects "EditsMeet$Keep" ({ cls := "EditsMeet$Over", name := "so", desc := "(I)LEditsMeet$Part;" } : Jvm.MethodName) ({ cls := "EditsMeet$Over", name := "so", desc := "(I)LEditsMeet$Part;" } : Jvm.MethodName)) ∈ lw_all := lw_g (lw_at lw_m6 81 rfl) rfl
theorem q1411 : (Jvm.Cond.selects "EditsMeet$Keep" ({ cls := "EditsMeet$Over", name := "again", desc := "(I)LEditsMeet$Part;" } : Jvm.MethodName) ({ cls := "EditsMeet$Keep", name := "again", desc := "(I)LEditsMeet$Part;" } : Jvm.MethodName)) ∈ lw_all := lw_g (lw_at lw_m6 91 rfl) rfl
theorem q1412 : (Jvm.Cond.instanceMethod ({ cls := "EditsMeet$Keep", name := "again", desc := "(I)LEditsMeet$Part;" } : Jvm.MethodName)) ∈ lw_all := lw_g (lw_at lw_m6 92 rfl) rfl
theorem q1413 : (Jvm.Cond.code ({ cls := "EditsMeet$Keep", name := "again", desc := "(I)LEditsMeet$Part;" } : Jvm.MethodName) prog_10_method_3_code (2 : Nat) (Option.some (Jvm.ClassFile.FieldType.object "EditsMeet$Part"))) ∈ lw_all := lw_g (lw_at lw_m6 93 rfl) rfl
theorem q1414 : (Jvm.Cond.methodLink "EditsMeet$Keep" (7 : Nat) ({ cls := "EditsMeet$Part", name := "keep", desc := "(I)LEditsMeet$Part;" } : Jvm.MethodName)) ∈ lw_all := lw_g (lw_at lw_m6 94 rfl) rfl
theorem q1449 : (Jvm.Cond.selects "EditsMeet$Keep" ({ cls := "java/lang/Object", name := "getClass", desc := "()Ljava/lang/Class;" } : Jvm.MethodName) ({ cls := "java/lang/Object", name := "getClass", desc := "()Ljava/lang/Class;" } : Jvm.MethodName)) ∈ lw_all := lw_g (lw_at lw_m6 129 rfl) rfl
theorem q1492 : (Jvm.Cond.unhidden "EditsMeet$Keep" "deletes" "()Z") ∈ lw_tbl := lw_at lw_m6 172 rfl
theorem q1512 : (Jvm.Cond.unhidden "EditsMeet$Keep" "gives" "()I") ∈ lw_tbl := lw_at lw_m6 192 rfl
theorem q1537 : (Jvm.Cond.selects "EditsMeet$Keep" ({ cls := "EditsMeet$Part", name := "joined", desc := "(LEditsMeet$Part;)LEditsMeet$Part;" } : Jvm.MethodName) ({ cls := "EditsMeet$Over", name := "joined", desc := "(LEditsMeet$Part;)LEditsMeet$Part;" } : Jvm.MethodName)) ∈ lw_all := lw_g (lw_at lw_m6 217 rfl) rfl
theorem q1538 : (Jvm.Cond.unhidden "EditsMeet$Keep" "joined" "(LEditsMeet$Part;)LEditsMeet$Part;") ∈ lw_tbl := lw_at lw_m6 218 rfl
theorem q1578 : (Jvm.Cond.selects "EditsMeet$Keep" ({ cls := "EditsMeet$Part", name := "takes", desc := "()I" } : Jvm.MethodName) ({ cls := "EditsMeet$Over", name := "takes", desc := "()I" } : Jvm.MethodName)) ∈ lw_all := lw_g (lw_at lw_m7 18 rfl) rfl
theorem q1579 : (Jvm.Cond.unhidden "EditsMeet$Keep" "takes" "()I") ∈ lw_tbl := lw_at lw_m7 19 rfl
theorem q1611 : (Jvm.Cond.unhidden "EditsMeet$Keep" "inserts" "()Z") ∈ lw_tbl := lw_at lw_m7 51 rfl
theorem q1785 : (Jvm.Cond.selects "EditsMeet$Keep" ({ cls := "EditsMeet$Part", name := "piece", desc := "(II)LEditsMeet$Part;" } : Jvm.MethodName) ({ cls := "EditsMeet$Over", name := "piece", desc := "(II)LEditsMeet$Part;" } : Jvm.MethodName)) ∈ lw_all := lw_g (lw_at lw_m7 225 rfl) rfl
theorem q1786 : (Jvm.Cond.unhidden "EditsMeet$Keep" "piece" "(II)LEditsMeet$Part;") ∈ lw_tbl := lw_at lw_m7 226 rfl
theorem q1993 : (Jvm.Cond.selects "EditsMeet$Keep" ({ cls := "EditsMeet$Part", name := "spells", desc := "(Ljava/lang/StringBuilder;)V" } : Jvm.MethodName) ({ cls := "EditsMeet$Keep", name := "spells", desc := "(Ljava/lang/StringBuilder;)V" } : Jvm.MethodName)) ∈ lw_all := lw_g (lw_at lw_m8 193 rfl) rfl
theorem q1994 : (Jvm.Cond.unhidden "EditsMeet$Keep" "spells" "(Ljava/lang/StringBuilder;)V") ∈ lw_tbl := lw_at lw_m8 194 rfl
theorem q1995 : (Jvm.Cond.instanceMethod ({ cls := "EditsMeet$Keep", name := "spells", desc := "(Ljava/lang/StringBuilder;)V" } : Jvm.MethodName)) ∈ lw_all := lw_g (lw_at lw_m8 195 rfl) rfl
theorem q1996 : (Jvm.Cond.publicMethod ({ cls := "EditsMeet$Keep", name := "spells", desc := "(Ljava/lang/StringBuilder;)V" } : Jvm.MethodName)) ∈ lw_tbl := lw_at lw_m8 196 rfl
theorem q1997 : (Jvm.Cond.code ({ cls := "EditsMeet$Keep", name := "spells", desc := "(Ljava/lang/StringBuilder;)V" } : Jvm.MethodName) prog_10_method_4_code (2 : Nat) (Option.none : Option Jvm.ClassFile.FieldType)) ∈ lw_all := lw_g (lw_at lw_m8 197 rfl) rfl
theorem q1998 : (Jvm.Cond.methodLink "EditsMeet$Keep" (13 : Nat) ({ cls := "java/lang/StringBuilder", name := "append", desc := "(C)Ljava/lang/StringBuilder;" } : Jvm.MethodName)) ∈ lw_all := lw_g (lw_at lw_m8 198 rfl) rfl
theorem q1999 : (Jvm.Cond.methodLink "EditsMeet$Keep" (19 : Nat) ({ cls := "EditsMeet$Keep", name := "n", desc := "()I" } : Jvm.MethodName)) ∈ lw_all := lw_g (lw_at lw_m8 199 rfl) rfl
theorem q2000 : (Jvm.Cond.sameMethod "EditsMeet$Keep" "EditsMeet$Over" "n" "()I") ∈ lw_all := lw_g (lw_at lw_m8 200 rfl) rfl
theorem q2001 : (Jvm.Cond.selects "EditsMeet$Keep" ({ cls := "EditsMeet$Keep", name := "n", desc := "()I" } : Jvm.MethodName) ({ cls := "EditsMeet$Over", name := "n", desc := "()I" } : Jvm.MethodName)) ∈ lw_all := lw_g (lw_at lw_m8 201 rfl) rfl
theorem q2003 : (Jvm.Cond.methodLink "EditsMeet$Keep" (25 : Nat) ({ cls := "java/lang/StringBuilder", name := "append", desc := "(I)Ljava/lang/StringBuilder;" } : Jvm.MethodName)) ∈ lw_all := lw_g (lw_at lw_m8 203 rfl) rfl
theorem q2115 : (Jvm.Cond.unhidden "EditsMeet$Keep" "marks" "(I)I") ∈ lw_tbl := lw_at lw_m9 75 rfl
theorem q3581 : (Jvm.Cond.sameMethod "EditsMeet$Keep" "EditsMeet$Keep" "kind" "()I") ∈ lw_all := lw_g (lw_at lw_m15 101 rfl) rfl
theorem q3594 : (Jvm.Cond.selects "EditsMeet$Keep" ({ cls := "EditsMeet$Over", name := "kind", desc := "()I" } : Jvm.MethodName) ({ cls := "EditsMeet$Keep", name := "kind", desc := "()I" } : Jvm.MethodName)) ∈ lw_all := lw_g (lw_at lw_m15 114 rfl) rfl
theorem q3621 : (Jvm.Cond.castable "EditsMeet$Keep" "EditsMeet$Over") ∈ lw_tbl := lw_at lw_m15 141 rfl
theorem q3636 : (Jvm.Cond.castable "EditsMeet$Keep" "java/lang/Object") ∈ lw_tbl := lw_at lw_m15 156 rfl
theorem in_X7 : ∀ w ∈ wsX70, w ∈ lw_all := lw_in wsX70 [391] (by decide +kernel) (by decide +kernel)

/-! EditsMeet$Edit -/
set_option maxRecDepth 100000
def RX8 : String := "EditsMeet$Edit"
def TX8 : u_T := fun k => match k with
  | 0 => ("EditsMeet$Edit", "parts", "Ljava/util/ArrayList;", false)
  | 1 => ("EditsMeet$Edit", "open", "LEditsMeet$Over;", false)
  | _ => ("EditsMeet$Edit", "opened", "I", false)
def tyX8 : Nat → FieldType := fun k => match k with
  | 0 => .object "java/util/ArrayList"
  | 1 => .object "EditsMeet$Over"
  | _ => .int
abbrev wsX80 : List Cond := u_ws RX8 TX8 3
theorem nmX8 : ∀ a, a < 3 → ∀ b, b < 3 → a ≠ b → (TX8 a).2.1 ≠ (TX8 b).2.1 := by decide +kernel
theorem tyX8_ok : ∀ k, k < 3 → parseFieldDescriptor (TX8 k).2.2.1 = some (tyX8 k) := by decide +kernel
abbrev cX8_init : ByteArray := prog_6_method_1_code
def yX8_init : MethodName := ⟨RX8, "<init>", "()V"⟩
def dkwX8_init_0 : List UInt8 := [42, 183, 0, 1, 42, 187, 0, 7, 89, 7, 183, 0, 9, 181, 0, 12, 177]
abbrev dktX8_init_0 : List UInt8 := dkwX8_init_0 ++ []
theorem dksX8_init_0 : cX8_init.data.toList.drop 0 = dktX8_init_0 := by decide +kernel
theorem dX8_init_0 : decode cX8_init 0 = .ok (.aload_n 0, 1) := dk_42 (dk_at dksX8_init_0 0 rfl rfl)
theorem dX8_init_1 : decode cX8_init 1 = .ok (.invokespecial 1, 3) := dk_183 0 1 (dk_at dksX8_init_0 1 rfl rfl)
theorem dX8_init_4 : decode cX8_init 4 = .ok (.aload_n 0, 1) := dk_42 (dk_at dksX8_init_0 4 rfl rfl)
theorem dX8_init_5 : decode cX8_init 5 = .ok (.new 7, 3) := dk_187 0 7 (dk_at dksX8_init_0 5 rfl rfl)
theorem dX8_init_8 : decode cX8_init 8 = .ok (.dup, 1) := dk_89 (dk_at dksX8_init_0 8 rfl rfl)
theorem dX8_init_9 : decode cX8_init 9 = .ok (.iconst 4, 1) := dk_7 (dk_at dksX8_init_0 9 rfl rfl)
theorem dX8_init_10 : decode cX8_init 10 = .ok (.invokespecial 9, 3) := dk_183 0 9 (dk_at dksX8_init_0 10 rfl rfl)
theorem dX8_init_13 : decode cX8_init 13 = .ok (.putfield 12, 3) := dk_181 0 12 (dk_at dksX8_init_0 13 rfl rfl)
theorem dX8_init_16 : decode cX8_init 16 = .ok (.return_, 1) := dk_177 (dk_at dksX8_init_0 16 rfl rfl)
abbrev cX8_many : ByteArray := prog_6_method_13_code
def yX8_many : MethodName := ⟨RX8, "many", "()I"⟩
def dkwX8_many_0 : List UInt8 := [42, 180, 0, 12, 182, 0, 73, 172]
abbrev dktX8_many_0 : List UInt8 := dkwX8_many_0 ++ []
theorem dksX8_many_0 : cX8_many.data.toList.drop 0 = dktX8_many_0 := by decide +kernel
theorem dX8_many_0 : decode cX8_many 0 = .ok (.aload_n 0, 1) := dk_42 (dk_at dksX8_many_0 0 rfl rfl)
theorem dX8_many_1 : decode cX8_many 1 = .ok (.getfield 12, 3) := dk_180 0 12 (dk_at dksX8_many_0 1 rfl rfl)
theorem dX8_many_4 : decode cX8_many 4 = .ok (.invokevirtual 73, 3) := dk_182 0 73 (dk_at dksX8_many_0 4 rfl rfl)
theorem dX8_many_7 : decode cX8_many 7 = .ok (.ireturn, 1) := dk_172 (dk_at dksX8_many_0 7 rfl rfl)
abbrev cX8_get : ByteArray := prog_6_method_14_code
def yX8_get : MethodName := ⟨RX8, "get", "(I)LEditsMeet$Part;"⟩
def dkwX8_get_0 : List UInt8 := [42, 180, 0, 12, 27, 182, 0, 76, 192, 0, 79, 176]
abbrev dktX8_get_0 : List UInt8 := dkwX8_get_0 ++ []
theorem dksX8_get_0 : cX8_get.data.toList.drop 0 = dktX8_get_0 := by decide +kernel
theorem dX8_get_0 : decode cX8_get 0 = .ok (.aload_n 0, 1) := dk_42 (dk_at dksX8_get_0 0 rfl rfl)
theorem dX8_get_1 : decode cX8_get 1 = .ok (.getfield 12, 3) := dk_180 0 12 (dk_at dksX8_get_0 1 rfl rfl)
theorem dX8_get_4 : decode cX8_get 4 = .ok (.iload_n 1, 1) := dk_27 (dk_at dksX8_get_0 4 rfl rfl)
theorem dX8_get_5 : decode cX8_get 5 = .ok (.invokevirtual 76, 3) := dk_182 0 76 (dk_at dksX8_get_0 5 rfl rfl)
theorem dX8_get_8 : decode cX8_get 8 = .ok (.checkcast 79, 3) := dk_192 0 79 (dk_at dksX8_get_0 8 rfl rfl)
theorem dX8_get_11 : decode cX8_get 11 = .ok (.areturn, 1) := dk_176 (dk_at dksX8_get_0 11 rfl rfl)
abbrev cX8_adds : ByteArray := prog_6_method_11_code
def yX8_adds : MethodName := ⟨RX8, "adds", "(LEditsMeet$Part;)LEditsMeet$Edit;"⟩
def dkwX8_adds_0 : List UInt8 := [42, 43, 43, 185, 0, 99, 1, 0, 182, 0, 102, 176]
abbrev dktX8_adds_0 : List UInt8 := dkwX8_adds_0 ++ []
theorem dksX8_adds_0 : cX8_adds.data.toList.drop 0 = dktX8_adds_0 := by decide +kernel
theorem dX8_adds_0 : decode cX8_adds 0 = .ok (.aload_n 0, 1) := dk_42 (dk_at dksX8_adds_0 0 rfl rfl)
theorem dX8_adds_1 : decode cX8_adds 1 = .ok (.aload_n 1, 1) := dk_43 (dk_at dksX8_adds_0 1 rfl rfl)
theorem dX8_adds_2 : decode cX8_adds 2 = .ok (.aload_n 1, 1) := dk_43 (dk_at dksX8_adds_0 2 rfl rfl)
theorem dX8_adds_3 : decode cX8_adds 3 = .ok (.invokeinterface 99 1, 5) := by decide +kernel
theorem dX8_adds_8 : decode cX8_adds 8 = .ok (.invokevirtual 102, 3) := dk_182 0 102 (dk_at dksX8_adds_0 8 rfl rfl)
theorem dX8_adds_11 : decode cX8_adds 11 = .ok (.areturn, 1) := dk_176 (dk_at dksX8_adds_0 11 rfl rfl)
abbrev cX8_adds_2 : ByteArray := prog_6_method_10_code
def yX8_adds_2 : MethodName := ⟨RX8, "adds", "(LEditsMeet$Part;I)LEditsMeet$Edit;"⟩
def dkwX8_adds_2_1 : List UInt8 := [167, 0, 22, 43, 193, 0, 93, 153, 0, 15, 43, 192, 0, 93, 58, 4, 42, 25, 4, 182, 0, 95, 42, 176]
abbrev dktX8_adds_2_1 : List UInt8 := dkwX8_adds_2_1 ++ []
def dkwX8_adds_2_0 : List UInt8 := [28, 154, 0, 5, 42, 176, 43, 193, 0, 57, 153, 0, 17, 43, 192, 0, 57, 78, 42, 45, 28, 182, 0, 89]
abbrev dktX8_adds_2_0 : List UInt8 := dkwX8_adds_2_0 ++ dktX8_adds_2_1
theorem dksX8_adds_2_0 : cX8_adds_2.data.toList.drop 0 = dktX8_adds_2_0 := by decide +kernel
theorem dksX8_adds_2_1 : cX8_adds_2.data.toList.drop 24 = dktX8_adds_2_1 := dk_seg dksX8_adds_2_0 24 rfl rfl
theorem dX8_adds_2_0 : decode cX8_adds_2 0 = .ok (.iload_n 2, 1) := dk_28 (dk_at dksX8_adds_2_0 0 rfl rfl)
theorem dX8_adds_2_1 : decode cX8_adds_2 1 = .ok (.ifCond .ne 5, 3) := dk_154 0 5 (dk_at dksX8_adds_2_0 1 rfl rfl)
theorem dX8_adds_2_4 : decode cX8_adds_2 4 = .ok (.aload_n 0, 1) := dk_42 (dk_at dksX8_adds_2_0 4 rfl rfl)
theorem dX8_adds_2_5 : decode cX8_adds_2 5 = .ok (.areturn, 1) := dk_176 (dk_at dksX8_adds_2_0 5 rfl rfl)
theorem dX8_adds_2_6 : decode cX8_adds_2 6 = .ok (.aload_n 1, 1) := dk_43 (dk_at dksX8_adds_2_0 6 rfl rfl)
theorem dX8_adds_2_7 : decode cX8_adds_2 7 = .ok (.instanceof 57, 3) := dk_193 0 57 (dk_at dksX8_adds_2_0 7 rfl rfl)
theorem dX8_adds_2_10 : decode cX8_adds_2 10 = .ok (.ifCond .eq 17, 3) := dk_153 0 17 (dk_at dksX8_adds_2_0 10 rfl rfl)
theorem dX8_adds_2_13 : decode cX8_adds_2 13 = .ok (.aload_n 1, 1) := dk_43 (dk_at dksX8_adds_2_0 13 rfl rfl)
theorem dX8_adds_2_14 : decode cX8_adds_2 14 = .ok (.checkcast 57, 3) := dk_192 0 57 (dk_at dksX8_adds_2_0 14 rfl rfl)
theorem dX8_adds_2_17 : decode cX8_adds_2 17 = .ok (.astore_n 3, 1) := dk_78 (dk_at dksX8_adds_2_0 17 rfl rfl)
theorem dX8_adds_2_18 : decode cX8_adds_2 18 = .ok (.aload_n 0, 1) := dk_42 (dk_at dksX8_adds_2_0 18 rfl rfl)
theorem dX8_adds_2_19 : decode cX8_adds_2 19 = .ok (.aload_n 3, 1) := dk_45 (dk_at dksX8_adds_2_0 19 rfl rfl)
theorem dX8_adds_2_20 : decode cX8_adds_2 20 = .ok (.iload_n 2, 1) := dk_28 (dk_at dksX8_adds_2_0 20 rfl rfl)
theorem dX8_adds_2_21 : decode cX8_adds_2 21 = .ok (.invokevirtual 89, 3) := dk_182 0 89 (dk_at dksX8_adds_2_0 21 rfl rfl)
theorem dX8_adds_2_24 : decode cX8_adds_2 24 = .ok (.goto 22, 3) := dk_167 0 22 (dk_at dksX8_adds_2_1 0 rfl rfl)
theorem dX8_adds_2_27 : decode cX8_adds_2 27 = .ok (.aload_n 1, 1) := dk_43 (dk_at dksX8_adds_2_1 3 rfl rfl)
theorem dX8_adds_2_28 : decode cX8_adds_2 28 = .ok (.instanceof 93, 3) := dk_193 0 93 (dk_at dksX8_adds_2_1 4 rfl rfl)
theorem dX8_adds_2_31 : decode cX8_adds_2 31 = .ok (.ifCond .eq 15, 3) := dk_153 0 15 (dk_at dksX8_adds_2_1 7 rfl rfl)
theorem dX8_adds_2_34 : decode cX8_adds_2 34 = .ok (.aload_n 1, 1) := dk_43 (dk_at dksX8_adds_2_1 10 rfl rfl)
theorem dX8_adds_2_35 : decode cX8_adds_2 35 = .ok (.checkcast 93, 3) := dk_192 0 93 (dk_at dksX8_adds_2_1 11 rfl rfl)
theorem dX8_adds_2_38 : decode cX8_adds_2 38 = .ok (.astore 4, 2) := dk_58 4 (dk_at dksX8_adds_2_1 14 rfl rfl)
theorem dX8_adds_2_40 : decode cX8_adds_2 40 = .ok (.aload_n 0, 1) := dk_42 (dk_at dksX8_adds_2_1 16 rfl rfl)
theorem dX8_adds_2_41 : decode cX8_adds_2 41 = .ok (.aload 4, 2) := dk_25 4 (dk_at dksX8_adds_2_1 17 rfl rfl)
theorem dX8_adds_2_43 : decode cX8_adds_2 43 = .ok (.invokevirtual 95, 3) := dk_182 0 95 (dk_at dksX8_adds_2_1 19 rfl rfl)
theorem dX8_adds_2_46 : decode cX8_adds_2 46 = .ok (.aload_n 0, 1) := dk_42 (dk_at dksX8_adds_2_1 22 rfl rfl)
theorem dX8_adds_2_47 : decode cX8_adds_2 47 = .ok (.areturn, 1) := dk_176 (dk_at dksX8_adds_2_1 23 rfl rfl)
abbrev cX8_goesOn : ByteArray := prog_6_method_8_code
def yX8_goesOn : MethodName := ⟨RX8, "goesOn", "(LEditsMeet$Over;I)V"⟩
def dkwX8_goesOn_1 : List UInt8 := [43, 181, 0, 28, 42, 89, 180, 0, 32, 28, 96, 181, 0, 32, 177]
abbrev dktX8_goesOn_1 : List UInt8 := dkwX8_goesOn_1 ++ []
def dkwX8_goesOn_0 : List UInt8 := [42, 180, 0, 28, 198, 0, 14, 42, 180, 0, 28, 43, 182, 0, 61, 154, 0, 13, 42, 182, 0, 65, 87, 42]
abbrev dktX8_goesOn_0 : List UInt8 := dkwX8_goesOn_0 ++ dktX8_goesOn_1
theorem dksX8_goesOn_0 : cX8_goesOn.data.toList.drop 0 = dktX8_goesOn_0 := by decide +kernel
theorem dksX8_goesOn_1 : cX8_goesOn.data.toList.drop 24 = dktX8_goesOn_1 := dk_seg dksX8_goesOn_0 24 rfl rfl
theorem dX8_goesOn_0 : decode cX8_goesOn 0 = .ok (.aload_n 0, 1) := dk_42 (dk_at dksX8_goesOn_0 0 rfl rfl)
theorem dX8_goesOn_1 : decode cX8_goesOn 1 = .ok (.getfield 28, 3) := dk_180 0 28 (dk_at dksX8_goesOn_0 1 rfl rfl)
theorem dX8_goesOn_4 : decode cX8_goesOn 4 = .ok (.ifnull 14, 3) := dk_198 0 14 (dk_at dksX8_goesOn_0 4 rfl rfl)
theorem dX8_goesOn_7 : decode cX8_goesOn 7 = .ok (.aload_n 0, 1) := dk_42 (dk_at dksX8_goesOn_0 7 rfl rfl)
theorem dX8_goesOn_8 : decode cX8_goesOn 8 = .ok (.getfield 28, 3) := dk_180 0 28 (dk_at dksX8_goesOn_0 8 rfl rfl)
theorem dX8_goesOn_11 : decode cX8_goesOn 11 = .ok (.aload_n 1, 1) := dk_43 (dk_at dksX8_goesOn_0 11 rfl rfl)
theorem dX8_goesOn_12 : decode cX8_goesOn 12 = .ok (.invokevirtual 61, 3) := dk_182 0 61 (dk_at dksX8_goesOn_0 12 rfl rfl)
theorem dX8_goesOn_15 : decode cX8_goesOn 15 = .ok (.ifCond .ne 13, 3) := dk_154 0 13 (dk_at dksX8_goesOn_0 15 rfl rfl)
theorem dX8_goesOn_18 : decode cX8_goesOn 18 = .ok (.aload_n 0, 1) := dk_42 (dk_at dksX8_goesOn_0 18 rfl rfl)
theorem dX8_goesOn_19 : decode cX8_goesOn 19 = .ok (.invokevirtual 65, 3) := dk_182 0 65 (dk_at dksX8_goesOn_0 19 rfl rfl)
theorem dX8_goesOn_22 : decode cX8_goesOn 22 = .ok (.pop, 1) := dk_87 (dk_at dksX8_goesOn_0 22 rfl rfl)
theorem dX8_goesOn_23 : decode cX8_goesOn 23 = .ok (.aload_n 0, 1) := dk_42 (dk_at dksX8_goesOn_0 23 rfl rfl)
theorem dX8_goesOn_24 : decode cX8_goesOn 24 = .ok (.aload_n 1, 1) := dk_43 (dk_at dksX8_goesOn_1 0 rfl rfl)
theorem dX8_goesOn_25 : decode cX8_goesOn 25 = .ok (.putfield 28, 3) := dk_181 0 28 (dk_at dksX8_goesOn_1 1 rfl rfl)
theorem dX8_goesOn_28 : decode cX8_goesOn 28 = .ok (.aload_n 0, 1) := dk_42 (dk_at dksX8_goesOn_1 4 rfl rfl)
theorem dX8_goesOn_29 : decode cX8_goesOn 29 = .ok (.dup, 1) := dk_89 (dk_at dksX8_goesOn_1 5 rfl rfl)
theorem dX8_goesOn_30 : decode cX8_goesOn 30 = .ok (.getfield 32, 3) := dk_180 0 32 (dk_at dksX8_goesOn_1 6 rfl rfl)
theorem dX8_goesOn_33 : decode cX8_goesOn 33 = .ok (.iload_n 2, 1) := dk_28 (dk_at dksX8_goesOn_1 9 rfl rfl)
theorem dX8_goesOn_34 : decode cX8_goesOn 34 = .ok (.iadd, 1) := dk_96 (dk_at dksX8_goesOn_1 10 rfl rfl)
theorem dX8_goesOn_35 : decode cX8_goesOn 35 = .ok (.putfield 32, 3) := dk_181 0 32 (dk_at dksX8_goesOn_1 11 rfl rfl)
theorem dX8_goesOn_38 : decode cX8_goesOn 38 = .ok (.return_, 1) := dk_177 (dk_at dksX8_goesOn_1 14 rfl rfl)
abbrev cX8_ends : ByteArray := prog_6_method_7_code
def yX8_ends : MethodName := ⟨RX8, "ends", "()LEditsMeet$Edit;"⟩
def dkwX8_ends_1 : List UInt8 := [182, 0, 47, 87, 42, 1, 181, 0, 28, 42, 3, 181, 0, 32, 42, 176]
abbrev dktX8_ends_1 : List UInt8 := dkwX8_ends_1 ++ []
def dkwX8_ends_0 : List UInt8 := [42, 180, 0, 28, 198, 0, 32, 42, 180, 0, 12, 42, 180, 0, 28, 42, 180, 0, 32, 182, 0, 56]
abbrev dktX8_ends_0 : List UInt8 := dkwX8_ends_0 ++ dktX8_ends_1
theorem dksX8_ends_0 : cX8_ends.data.toList.drop 0 = dktX8_ends_0 := by decide +kernel
theorem dksX8_ends_1 : cX8_ends.data.toList.drop 22 = dktX8_ends_1 := dk_seg dksX8_ends_0 22 rfl rfl
theorem dX8_ends_0 : decode cX8_ends 0 = .ok (.aload_n 0, 1) := dk_42 (dk_at dksX8_ends_0 0 rfl rfl)
theorem dX8_ends_1 : decode cX8_ends 1 = .ok (.getfield 28, 3) := dk_180 0 28 (dk_at dksX8_ends_0 1 rfl rfl)
theorem dX8_ends_4 : decode cX8_ends 4 = .ok (.ifnull 32, 3) := dk_198 0 32 (dk_at dksX8_ends_0 4 rfl rfl)
theorem dX8_ends_7 : decode cX8_ends 7 = .ok (.aload_n 0, 1) := dk_42 (dk_at dksX8_ends_0 7 rfl rfl)
theorem dX8_ends_8 : decode cX8_ends 8 = .ok (.getfield 12, 3) := dk_180 0 12 (dk_at dksX8_ends_0 8 rfl rfl)
theorem dX8_ends_11 : decode cX8_ends 11 = .ok (.aload_n 0, 1) := dk_42 (dk_at dksX8_ends_0 11 rfl rfl)
theorem dX8_ends_12 : decode cX8_ends 12 = .ok (.getfield 28, 3) := dk_180 0 28 (dk_at dksX8_ends_0 12 rfl rfl)
theorem dX8_ends_15 : decode cX8_ends 15 = .ok (.aload_n 0, 1) := dk_42 (dk_at dksX8_ends_0 15 rfl rfl)
theorem dX8_ends_16 : decode cX8_ends 16 = .ok (.getfield 32, 3) := dk_180 0 32 (dk_at dksX8_ends_0 16 rfl rfl)
theorem dX8_ends_19 : decode cX8_ends 19 = .ok (.invokevirtual 56, 3) := dk_182 0 56 (dk_at dksX8_ends_0 19 rfl rfl)
theorem dX8_ends_22 : decode cX8_ends 22 = .ok (.invokevirtual 47, 3) := dk_182 0 47 (dk_at dksX8_ends_1 0 rfl rfl)
theorem dX8_ends_25 : decode cX8_ends 25 = .ok (.pop, 1) := dk_87 (dk_at dksX8_ends_1 3 rfl rfl)
theorem dX8_ends_26 : decode cX8_ends 26 = .ok (.aload_n 0, 1) := dk_42 (dk_at dksX8_ends_1 4 rfl rfl)
theorem dX8_ends_27 : decode cX8_ends 27 = .ok (.aconst_null, 1) := dk_1 (dk_at dksX8_ends_1 5 rfl rfl)
theorem dX8_ends_28 : decode cX8_ends 28 = .ok (.putfield 28, 3) := dk_181 0 28 (dk_at dksX8_ends_1 6 rfl rfl)
theorem dX8_ends_31 : decode cX8_ends 31 = .ok (.aload_n 0, 1) := dk_42 (dk_at dksX8_ends_1 9 rfl rfl)
theorem dX8_ends_32 : decode cX8_ends 32 = .ok (.iconst 0, 1) := dk_3 (dk_at dksX8_ends_1 10 rfl rfl)
theorem dX8_ends_33 : decode cX8_ends 33 = .ok (.putfield 32, 3) := dk_181 0 32 (dk_at dksX8_ends_1 11 rfl rfl)
theorem dX8_ends_36 : decode cX8_ends 36 = .ok (.aload_n 0, 1) := dk_42 (dk_at dksX8_ends_1 14 rfl rfl)
theorem dX8_ends_37 : decode cX8_ends 37 = .ok (.areturn, 1) := dk_176 (dk_at dksX8_ends_1 15 rfl rfl)
abbrev cX8_inserts : ByteArray := prog_6_method_9_code
def yX8_inserts : MethodName := ⟨RX8, "inserts", "(LEditsMeet$Insert;)V"⟩
def dkwX8_inserts_3 : List UInt8 := [182, 0, 85, 87, 167, 0, 12, 42, 180, 0, 12, 43, 182, 0, 47, 87, 177]
abbrev dktX8_inserts_3 : List UInt8 := dkwX8_inserts_3 ++ []
def dkwX8_inserts_2 : List UInt8 := [182, 0, 76, 192, 0, 79, 43, 185, 0, 81, 2, 0, 78, 45, 198, 0, 16, 42, 180, 0, 12, 28, 45]
abbrev dktX8_inserts_2 : List UInt8 := dkwX8_inserts_2 ++ dktX8_inserts_3
def dkwX8_inserts_1 : List UInt8 := [180, 0, 12, 182, 0, 73, 4, 100, 61, 28, 156, 0, 7, 1, 167, 0, 20, 42, 180, 0, 12, 28]
abbrev dktX8_inserts_1 : List UInt8 := dkwX8_inserts_1 ++ dktX8_inserts_2
def dkwX8_inserts_0 : List UInt8 := [42, 180, 0, 28, 198, 0, 18, 42, 180, 0, 28, 182, 0, 69, 154, 0, 8, 42, 182, 0, 65, 87, 42]
abbrev dktX8_inserts_0 : List UInt8 := dkwX8_inserts_0 ++ dktX8_inserts_1
theorem dksX8_inserts_0 : cX8_inserts.data.toList.drop 0 = dktX8_inserts_0 := by decide +kernel
theorem dksX8_inserts_1 : cX8_inserts.data.toList.drop 23 = dktX8_inserts_1 := dk_seg dksX8_inserts_0 23 rfl rfl
theorem dksX8_inserts_2 : cX8_inserts.data.toList.drop 45 = dktX8_inserts_2 := dk_seg dksX8_inserts_1 22 rfl rfl
theorem dksX8_inserts_3 : cX8_inserts.data.toList.drop 68 = dktX8_inserts_3 := dk_seg dksX8_inserts_2 23 rfl rfl
theorem dX8_inserts_0 : decode cX8_inserts 0 = .ok (.aload_n 0, 1) := dk_42 (dk_at dksX8_inserts_0 0 rfl rfl)
theorem dX8_inserts_1 : decode cX8_inserts 1 = .ok (.getfield 28, 3) := dk_180 0 28 (dk_at dksX8_inserts_0 1 rfl rfl)
theorem dX8_inserts_4 : decode cX8_inserts 4 = .ok (.ifnull 18, 3) := dk_198 0 18 (dk_at dksX8_inserts_0 4 rfl rfl)
theorem dX8_inserts_7 : decode cX8_inserts 7 = .ok (.aload_n 0, 1) := dk_42 (dk_at dksX8_inserts_0 7 rfl rfl)
theorem dX8_inserts_8 : decode cX8_inserts 8 = .ok (.getfield 28, 3) := dk_180 0 28 (dk_at dksX8_inserts_0 8 rfl rfl)
theorem dX8_inserts_11 : decode cX8_inserts 11 = .ok (.invokevirtual 69, 3) := dk_182 0 69 (dk_at dksX8_inserts_0 11 rfl rfl)
theorem dX8_inserts_14 : decode cX8_inserts 14 = .ok (.ifCond .ne 8, 3) := dk_154 0 8 (dk_at dksX8_inserts_0 14 rfl rfl)
theorem dX8_inserts_17 : decode cX8_inserts 17 = .ok (.aload_n 0, 1) := dk_42 (dk_at dksX8_inserts_0 17 rfl rfl)
theorem dX8_inserts_18 : decode cX8_inserts 18 = .ok (.invokevirtual 65, 3) := dk_182 0 65 (dk_at dksX8_inserts_0 18 rfl rfl)
theorem dX8_inserts_21 : decode cX8_inserts 21 = .ok (.pop, 1) := dk_87 (dk_at dksX8_inserts_0 21 rfl rfl)
theorem dX8_inserts_22 : decode cX8_inserts 22 = .ok (.aload_n 0, 1) := dk_42 (dk_at dksX8_inserts_0 22 rfl rfl)
theorem dX8_inserts_23 : decode cX8_inserts 23 = .ok (.getfield 12, 3) := dk_180 0 12 (dk_at dksX8_inserts_1 0 rfl rfl)
theorem dX8_inserts_26 : decode cX8_inserts 26 = .ok (.invokevirtual 73, 3) := dk_182 0 73 (dk_at dksX8_inserts_1 3 rfl rfl)
theorem dX8_inserts_29 : decode cX8_inserts 29 = .ok (.iconst 1, 1) := dk_4 (dk_at dksX8_inserts_1 6 rfl rfl)
theorem dX8_inserts_30 : decode cX8_inserts 30 = .ok (.isub, 1) := dk_100 (dk_at dksX8_inserts_1 7 rfl rfl)
theorem dX8_inserts_31 : decode cX8_inserts 31 = .ok (.istore_n 2, 1) := dk_61 (dk_at dksX8_inserts_1 8 rfl rfl)
theorem dX8_inserts_32 : decode cX8_inserts 32 = .ok (.iload_n 2, 1) := dk_28 (dk_at dksX8_inserts_1 9 rfl rfl)
theorem dX8_inserts_33 : decode cX8_inserts 33 = .ok (.ifCond .ge 7, 3) := dk_156 0 7 (dk_at dksX8_inserts_1 10 rfl rfl)
theorem dX8_inserts_36 : decode cX8_inserts 36 = .ok (.aconst_null, 1) := dk_1 (dk_at dksX8_inserts_1 13 rfl rfl)
theorem dX8_inserts_37 : decode cX8_inserts 37 = .ok (.goto 20, 3) := dk_167 0 20 (dk_at dksX8_inserts_1 14 rfl rfl)
theorem dX8_inserts_40 : decode cX8_inserts 40 = .ok (.aload_n 0, 1) := dk_42 (dk_at dksX8_inserts_1 17 rfl rfl)
theorem dX8_inserts_41 : decode cX8_inserts 41 = .ok (.getfield 12, 3) := dk_180 0 12 (dk_at dksX8_inserts_1 18 rfl rfl)
theorem dX8_inserts_44 : decode cX8_inserts 44 = .ok (.iload_n 2, 1) := dk_28 (dk_at dksX8_inserts_1 21 rfl rfl)
theorem dX8_inserts_45 : decode cX8_inserts 45 = .ok (.invokevirtual 76, 3) := dk_182 0 76 (dk_at dksX8_inserts_2 0 rfl rfl)
theorem dX8_inserts_48 : decode cX8_inserts 48 = .ok (.checkcast 79, 3) := dk_192 0 79 (dk_at dksX8_inserts_2 3 rfl rfl)
theorem dX8_inserts_51 : decode cX8_inserts 51 = .ok (.aload_n 1, 1) := dk_43 (dk_at dksX8_inserts_2 6 rfl rfl)
theorem dX8_inserts_52 : decode cX8_inserts 52 = .ok (.invokeinterface 81 2, 5) := by decide +kernel
theorem dX8_inserts_57 : decode cX8_inserts 57 = .ok (.astore_n 3, 1) := dk_78 (dk_at dksX8_inserts_2 12 rfl rfl)
theorem dX8_inserts_58 : decode cX8_inserts 58 = .ok (.aload_n 3, 1) := dk_45 (dk_at dksX8_inserts_2 13 rfl rfl)
theorem dX8_inserts_59 : decode cX8_inserts 59 = .ok (.ifnull 16, 3) := dk_198 0 16 (dk_at dksX8_inserts_2 14 rfl rfl)
theorem dX8_inserts_62 : decode cX8_inserts 62 = .ok (.aload_n 0, 1) := dk_42 (dk_at dksX8_inserts_2 17 rfl rfl)
theorem dX8_inserts_63 : decode cX8_inserts 63 = .ok (.getfield 12, 3) := dk_180 0 12 (dk_at dksX8_inserts_2 18 rfl rfl)
theorem dX8_inserts_66 : decode cX8_inserts 66 = .ok (.iload_n 2, 1) := dk_28 (dk_at dksX8_inserts_2 21 rfl rfl)
theorem dX8_inserts_67 : decode cX8_inserts 67 = .ok (.aload_n 3, 1) := dk_45 (dk_at dksX8_inserts_2 22 rfl rfl)
theorem dX8_inserts_68 : decode cX8_inserts 68 = .ok (.invokevirtual 85, 3) := dk_182 0 85 (dk_at dksX8_inserts_3 0 rfl rfl)
theorem dX8_inserts_71 : decode cX8_inserts 71 = .ok (.pop, 1) := dk_87 (dk_at dksX8_inserts_3 3 rfl rfl)
theorem dX8_inserts_72 : decode cX8_inserts 72 = .ok (.goto 12, 3) := dk_167 0 12 (dk_at dksX8_inserts_3 4 rfl rfl)
theorem dX8_inserts_75 : decode cX8_inserts 75 = .ok (.aload_n 0, 1) := dk_42 (dk_at dksX8_inserts_3 7 rfl rfl)
theorem dX8_inserts_76 : decode cX8_inserts 76 = .ok (.getfield 12, 3) := dk_180 0 12 (dk_at dksX8_inserts_3 8 rfl rfl)
theorem dX8_inserts_79 : decode cX8_inserts 79 = .ok (.aload_n 1, 1) := dk_43 (dk_at dksX8_inserts_3 11 rfl rfl)
theorem dX8_inserts_80 : decode cX8_inserts 80 = .ok (.invokevirtual 47, 3) := dk_182 0 47 (dk_at dksX8_inserts_3 12 rfl rfl)
theorem dX8_inserts_83 : decode cX8_inserts 83 = .ok (.pop, 1) := dk_87 (dk_at dksX8_inserts_3 15 rfl rfl)
theorem dX8_inserts_84 : decode cX8_inserts 84 = .ok (.return_, 1) := dk_177 (dk_at dksX8_inserts_3 16 rfl rfl)
abbrev cX8_from : ByteArray := prog_6_method_16_code
def yX8_from : MethodName := ⟨RX8, "from", "()I"⟩
def dkwX8_from_0 : List UInt8 := [42, 186, 0, 122, 0, 0, 182, 0, 125, 172]
abbrev dktX8_from_0 : List UInt8 := dkwX8_from_0 ++ []
theorem dksX8_from_0 : cX8_from.data.toList.drop 0 = dktX8_from_0 := by decide +kernel
theorem dX8_from_0 : decode cX8_from 0 = .ok (.aload_n 0, 1) := dk_42 (dk_at dksX8_from_0 0 rfl rfl)
theorem dX8_from_1 : decode cX8_from 1 = .ok (.invokedynamic 122, 5) := by decide +kernel
theorem dX8_from_6 : decode cX8_from 6 = .ok (.invokevirtual 125, 3) := dk_182 0 125 (dk_at dksX8_from_0 6 rfl rfl)
theorem dX8_from_9 : decode cX8_from 9 = .ok (.ireturn, 1) := dk_172 (dk_at dksX8_from_0 9 rfl rfl)
abbrev cX8_lambda_from_0 : ByteArray := prog_6_method_21_code
def yX8_lambda_from_0 : MethodName := ⟨RX8, "lambda$from$0", "(LEditsMeet$Part;)I"⟩
theorem dX8_lambda_from_0_0 : decode cX8_lambda_from_0 0 = .ok (.aload_n 0, 1) := by decide +kernel
theorem dX8_lambda_from_0_1 : decode cX8_lambda_from_0 1 = .ok (.invokeinterface 166 1, 5) := by decide +kernel
theorem dX8_lambda_from_0_6 : decode cX8_lambda_from_0 6 = .ok (.ireturn, 1) := by decide +kernel
abbrev cX8_sum : ByteArray := prog_6_method_15_code
def yX8_sum : MethodName := ⟨RX8, "sum", "(LEditsMeet$Counted;)I"⟩
def dkwX8_sum_1 : List UInt8 := [182, 0, 76, 192, 0, 79, 185, 0, 116, 2, 0, 96, 61, 132, 3, 1, 167, 255, 222, 28, 172]
abbrev dktX8_sum_1 : List UInt8 := dkwX8_sum_1 ++ []
def dkwX8_sum_0 : List UInt8 := [3, 61, 3, 62, 29, 42, 180, 0, 12, 182, 0, 73, 162, 0, 29, 28, 43, 42, 180, 0, 12, 29]
abbrev dktX8_sum_0 : List UInt8 := dkwX8_sum_0 ++ dktX8_sum_1
theorem dksX8_sum_0 : cX8_sum.data.toList.drop 0 = dktX8_sum_0 := by decide +kernel
theorem dksX8_sum_1 : cX8_sum.data.toList.drop 22 = dktX8_sum_1 := dk_seg dksX8_sum_0 22 rfl rfl
theorem dX8_sum_0 : decode cX8_sum 0 = .ok (.iconst 0, 1) := dk_3 (dk_at dksX8_sum_0 0 rfl rfl)
theorem dX8_sum_1 : decode cX8_sum 1 = .ok (.istore_n 2, 1) := dk_61 (dk_at dksX8_sum_0 1 rfl rfl)
theorem dX8_sum_2 : decode cX8_sum 2 = .ok (.iconst 0, 1) := dk_3 (dk_at dksX8_sum_0 2 rfl rfl)
theorem dX8_sum_3 : decode cX8_sum 3 = .ok (.istore_n 3, 1) := dk_62 (dk_at dksX8_sum_0 3 rfl rfl)
theorem dX8_sum_4 : decode cX8_sum 4 = .ok (.iload_n 3, 1) := dk_29 (dk_at dksX8_sum_0 4 rfl rfl)
theorem dX8_sum_5 : decode cX8_sum 5 = .ok (.aload_n 0, 1) := dk_42 (dk_at dksX8_sum_0 5 rfl rfl)
theorem dX8_sum_6 : decode cX8_sum 6 = .ok (.getfield 12, 3) := dk_180 0 12 (dk_at dksX8_sum_0 6 rfl rfl)
theorem dX8_sum_9 : decode cX8_sum 9 = .ok (.invokevirtual 73, 3) := dk_182 0 73 (dk_at dksX8_sum_0 9 rfl rfl)
theorem dX8_sum_12 : decode cX8_sum 12 = .ok (.if_icmp .ge 29, 3) := dk_162 0 29 (dk_at dksX8_sum_0 12 rfl rfl)
theorem dX8_sum_15 : decode cX8_sum 15 = .ok (.iload_n 2, 1) := dk_28 (dk_at dksX8_sum_0 15 rfl rfl)
theorem dX8_sum_16 : decode cX8_sum 16 = .ok (.aload_n 1, 1) := dk_43 (dk_at dksX8_sum_0 16 rfl rfl)
theorem dX8_sum_17 : decode cX8_sum 17 = .ok (.aload_n 0, 1) := dk_42 (dk_at dksX8_sum_0 17 rfl rfl)
theorem dX8_sum_18 : decode cX8_sum 18 = .ok (.getfield 12, 3) := dk_180 0 12 (dk_at dksX8_sum_0 18 rfl rfl)
theorem dX8_sum_21 : decode cX8_sum 21 = .ok (.iload_n 3, 1) := dk_29 (dk_at dksX8_sum_0 21 rfl rfl)
theorem dX8_sum_22 : decode cX8_sum 22 = .ok (.invokevirtual 76, 3) := dk_182 0 76 (dk_at dksX8_sum_1 0 rfl rfl)
theorem dX8_sum_25 : decode cX8_sum 25 = .ok (.checkcast 79, 3) := dk_192 0 79 (dk_at dksX8_sum_1 3 rfl rfl)
theorem dX8_sum_28 : decode cX8_sum 28 = .ok (.invokeinterface 116 2, 5) := by decide +kernel
theorem dX8_sum_33 : decode cX8_sum 33 = .ok (.iadd, 1) := dk_96 (dk_at dksX8_sum_1 11 rfl rfl)
theorem dX8_sum_34 : decode cX8_sum 34 = .ok (.istore_n 2, 1) := dk_61 (dk_at dksX8_sum_1 12 rfl rfl)
theorem dX8_sum_35 : decode cX8_sum 35 = .ok (.iinc 3 1, 3) := dk_132 3 1 (dk_at dksX8_sum_1 13 rfl rfl)
theorem dX8_sum_38 : decode cX8_sum 38 = .ok (.goto (-34), 3) := dk_167 255 222 (dk_at dksX8_sum_1 16 rfl rfl)
theorem dX8_sum_41 : decode cX8_sum 41 = .ok (.iload_n 2, 1) := dk_28 (dk_at dksX8_sum_1 19 rfl rfl)
theorem dX8_sum_42 : decode cX8_sum 42 = .ok (.ireturn, 1) := dk_172 (dk_at dksX8_sum_1 20 rfl rfl)
abbrev cX8_to : ByteArray := prog_6_method_17_code
def yX8_to : MethodName := ⟨RX8, "to", "()I"⟩
def dkwX8_to_0 : List UInt8 := [42, 186, 0, 129, 0, 0, 182, 0, 125, 172]
abbrev dktX8_to_0 : List UInt8 := dkwX8_to_0 ++ []
theorem dksX8_to_0 : cX8_to.data.toList.drop 0 = dktX8_to_0 := by decide +kernel
theorem dX8_to_0 : decode cX8_to 0 = .ok (.aload_n 0, 1) := dk_42 (dk_at dksX8_to_0 0 rfl rfl)
theorem dX8_to_1 : decode cX8_to 1 = .ok (.invokedynamic 129, 5) := by decide +kernel
theorem dX8_to_6 : decode cX8_to 6 = .ok (.invokevirtual 125, 3) := dk_182 0 125 (dk_at dksX8_to_0 6 rfl rfl)
theorem dX8_to_9 : decode cX8_to 9 = .ok (.ireturn, 1) := dk_172 (dk_at dksX8_to_0 9 rfl rfl)
abbrev cX8_lambda_to_1 : ByteArray := prog_6_method_20_code
def yX8_lambda_to_1 : MethodName := ⟨RX8, "lambda$to$1", "(LEditsMeet$Part;)I"⟩
theorem dX8_lambda_to_1_0 : decode cX8_lambda_to_1 0 = .ok (.aload_n 0, 1) := by decide +kernel
theorem dX8_lambda_to_1_1 : decode cX8_lambda_to_1 1 = .ok (.invokeinterface 169 1, 5) := by decide +kernel
theorem dX8_lambda_to_1_6 : decode cX8_lambda_to_1 6 = .ok (.ireturn, 1) := by decide +kernel
abbrev cX8_spelled : ByteArray := prog_6_method_18_code
def yX8_spelled : MethodName := ⟨RX8, "spelled", "()Ljava/lang/String;"⟩
def dkwX8_spelled_1 : List UInt8 := [185, 0, 142, 1, 0, 192, 0, 79, 78, 45, 43, 185, 0, 146, 2, 0, 167, 255, 230, 43, 182, 0, 150, 176]
abbrev dktX8_spelled_1 : List UInt8 := dkwX8_spelled_1 ++ []
def dkwX8_spelled_0 : List UInt8 := [187, 0, 130, 89, 183, 0, 132, 76, 42, 182, 0, 133, 77, 44, 185, 0, 137, 1, 0, 153, 0, 23, 44]
abbrev dktX8_spelled_0 : List UInt8 := dkwX8_spelled_0 ++ dktX8_spelled_1
theorem dksX8_spelled_0 : cX8_spelled.data.toList.drop 0 = dktX8_spelled_0 := by decide +kernel
theorem dksX8_spelled_1 : cX8_spelled.data.toList.drop 23 = dktX8_spelled_1 := dk_seg dksX8_spelled_0 23 rfl rfl
theorem dX8_spelled_0 : decode cX8_spelled 0 = .ok (.new 130, 3) := dk_187 0 130 (dk_at dksX8_spelled_0 0 rfl rfl)
theorem dX8_spelled_3 : decode cX8_spelled 3 = .ok (.dup, 1) := dk_89 (dk_at dksX8_spelled_0 3 rfl rfl)
theorem dX8_spelled_4 : decode cX8_spelled 4 = .ok (.invokespecial 132, 3) := dk_183 0 132 (dk_at dksX8_spelled_0 4 rfl rfl)
theorem dX8_spelled_7 : decode cX8_spelled 7 = .ok (.astore_n 1, 1) := dk_76 (dk_at dksX8_spelled_0 7 rfl rfl)
theorem dX8_spelled_8 : decode cX8_spelled 8 = .ok (.aload_n 0, 1) := dk_42 (dk_at dksX8_spelled_0 8 rfl rfl)
theorem dX8_spelled_9 : decode cX8_spelled 9 = .ok (.invokevirtual 133, 3) := dk_182 0 133 (dk_at dksX8_spelled_0 9 rfl rfl)
theorem dX8_spelled_12 : decode cX8_spelled 12 = .ok (.astore_n 2, 1) := dk_77 (dk_at dksX8_spelled_0 12 rfl rfl)
theorem dX8_spelled_13 : decode cX8_spelled 13 = .ok (.aload_n 2, 1) := dk_44 (dk_at dksX8_spelled_0 13 rfl rfl)
theorem dX8_spelled_14 : decode cX8_spelled 14 = .ok (.invokeinterface 137 1, 5) := by decide +kernel
theorem dX8_spelled_19 : decode cX8_spelled 19 = .ok (.ifCond .eq 23, 3) := dk_153 0 23 (dk_at dksX8_spelled_0 19 rfl rfl)
theorem dX8_spelled_22 : decode cX8_spelled 22 = .ok (.aload_n 2, 1) := dk_44 (dk_at dksX8_spelled_0 22 rfl rfl)
theorem dX8_spelled_23 : decode cX8_spelled 23 = .ok (.invokeinterface 142 1, 5) := by decide +kernel
theorem dX8_spelled_28 : decode cX8_spelled 28 = .ok (.checkcast 79, 3) := dk_192 0 79 (dk_at dksX8_spelled_1 5 rfl rfl)
theorem dX8_spelled_31 : decode cX8_spelled 31 = .ok (.astore_n 3, 1) := dk_78 (dk_at dksX8_spelled_1 8 rfl rfl)
theorem dX8_spelled_32 : decode cX8_spelled 32 = .ok (.aload_n 3, 1) := dk_45 (dk_at dksX8_spelled_1 9 rfl rfl)
theorem dX8_spelled_33 : decode cX8_spelled 33 = .ok (.aload_n 1, 1) := dk_43 (dk_at dksX8_spelled_1 10 rfl rfl)
theorem dX8_spelled_34 : decode cX8_spelled 34 = .ok (.invokeinterface 146 2, 5) := by decide +kernel
theorem dX8_spelled_39 : decode cX8_spelled 39 = .ok (.goto (-26), 3) := dk_167 255 230 (dk_at dksX8_spelled_1 16 rfl rfl)
theorem dX8_spelled_42 : decode cX8_spelled 42 = .ok (.aload_n 1, 1) := dk_43 (dk_at dksX8_spelled_1 19 rfl rfl)
theorem dX8_spelled_43 : decode cX8_spelled 43 = .ok (.invokevirtual 150, 3) := dk_182 0 150 (dk_at dksX8_spelled_1 20 rfl rfl)
theorem dX8_spelled_46 : decode cX8_spelled 46 = .ok (.areturn, 1) := dk_176 (dk_at dksX8_spelled_1 23 rfl rfl)
abbrev cX8_iterator : ByteArray := prog_6_method_2_code
def yX8_iterator : MethodName := ⟨RX8, "iterator", "()Ljava/util/Iterator;"⟩
def dkwX8_iterator_0 : List UInt8 := [187, 0, 18, 89, 183, 0, 20, 42, 182, 0, 21, 176]
abbrev dktX8_iterator_0 : List UInt8 := dkwX8_iterator_0 ++ []
theorem dksX8_iterator_0 : cX8_iterator.data.toList.drop 0 = dktX8_iterator_0 := by decide +kernel
theorem dX8_iterator_0 : decode cX8_iterator 0 = .ok (.new 18, 3) := dk_187 0 18 (dk_at dksX8_iterator_0 0 rfl rfl)
theorem dX8_iterator_3 : decode cX8_iterator 3 = .ok (.dup, 1) := dk_89 (dk_at dksX8_iterator_0 3 rfl rfl)
theorem dX8_iterator_4 : decode cX8_iterator 4 = .ok (.invokespecial 20, 3) := dk_183 0 20 (dk_at dksX8_iterator_0 4 rfl rfl)
theorem dX8_iterator_7 : decode cX8_iterator 7 = .ok (.aload_n 0, 1) := dk_42 (dk_at dksX8_iterator_0 7 rfl rfl)
theorem dX8_iterator_8 : decode cX8_iterator 8 = .ok (.invokevirtual 21, 3) := dk_182 0 21 (dk_at dksX8_iterator_0 8 rfl rfl)
theorem dX8_iterator_11 : decode cX8_iterator 11 = .ok (.areturn, 1) := dk_176 (dk_at dksX8_iterator_0 11 rfl rfl)
abbrev cX8_empties : ByteArray := prog_6_method_3_code
def yX8_empties : MethodName := ⟨RX8, "empties", "()V"⟩
def dkwX8_empties_0 : List UInt8 := [42, 180, 0, 12, 182, 0, 25, 42, 1, 181, 0, 28, 42, 3, 181, 0, 32, 177]
abbrev dktX8_empties_0 : List UInt8 := dkwX8_empties_0 ++ []
theorem dksX8_empties_0 : cX8_empties.data.toList.drop 0 = dktX8_empties_0 := by decide +kernel
theorem dX8_empties_0 : decode cX8_empties 0 = .ok (.aload_n 0, 1) := dk_42 (dk_at dksX8_empties_0 0 rfl rfl)
theorem dX8_empties_1 : decode cX8_empties 1 = .ok (.getfield 12, 3) := dk_180 0 12 (dk_at dksX8_empties_0 1 rfl rfl)
theorem dX8_empties_4 : decode cX8_empties 4 = .ok (.invokevirtual 25, 3) := dk_182 0 25 (dk_at dksX8_empties_0 4 rfl rfl)
theorem dX8_empties_7 : decode cX8_empties 7 = .ok (.aload_n 0, 1) := dk_42 (dk_at dksX8_empties_0 7 rfl rfl)
theorem dX8_empties_8 : decode cX8_empties 8 = .ok (.aconst_null, 1) := dk_1 (dk_at dksX8_empties_0 8 rfl rfl)
theorem dX8_empties_9 : decode cX8_empties 9 = .ok (.putfield 28, 3) := dk_181 0 28 (dk_at dksX8_empties_0 9 rfl rfl)
theorem dX8_empties_12 : decode cX8_empties 12 = .ok (.aload_n 0, 1) := dk_42 (dk_at dksX8_empties_0 12 rfl rfl)
theorem dX8_empties_13 : decode cX8_empties 13 = .ok (.iconst 0, 1) := dk_3 (dk_at dksX8_empties_0 13 rfl rfl)
theorem dX8_empties_14 : decode cX8_empties 14 = .ok (.putfield 32, 3) := dk_181 0 32 (dk_at dksX8_empties_0 14 rfl rfl)
theorem dX8_empties_17 : decode cX8_empties 17 = .ok (.return_, 1) := dk_177 (dk_at dksX8_empties_0 17 rfl rfl)
abbrev cX8_turns : ByteArray := prog_6_method_12_code
def yX8_turns : MethodName := ⟨RX8, "turns", "(II)V"⟩
def dkwX8_turns_2 : List UInt8 := [153, 0, 10, 42, 180, 0, 28, 167, 0, 9, 4, 27, 28, 184, 0, 112, 4, 182, 0, 102, 87, 177]
abbrev dktX8_turns_2 : List UInt8 := dkwX8_turns_2 ++ []
def dkwX8_turns_1 : List UInt8 := [27, 160, 0, 18, 42, 180, 0, 28, 182, 0, 109, 28, 160, 0, 7, 4, 167, 0, 4, 3, 62, 42, 29]
abbrev dktX8_turns_1 : List UInt8 := dkwX8_turns_1 ++ dktX8_turns_2
def dkwX8_turns_0 : List UInt8 := [42, 180, 0, 28, 198, 0, 39, 42, 180, 0, 28, 182, 0, 69, 154, 0, 29, 42, 180, 0, 28, 182, 0, 106]
abbrev dktX8_turns_0 : List UInt8 := dkwX8_turns_0 ++ dktX8_turns_1
theorem dksX8_turns_0 : cX8_turns.data.toList.drop 0 = dktX8_turns_0 := by decide +kernel
theorem dksX8_turns_1 : cX8_turns.data.toList.drop 24 = dktX8_turns_1 := dk_seg dksX8_turns_0 24 rfl rfl
theorem dksX8_turns_2 : cX8_turns.data.toList.drop 47 = dktX8_turns_2 := dk_seg dksX8_turns_1 23 rfl rfl
theorem dX8_turns_0 : decode cX8_turns 0 = .ok (.aload_n 0, 1) := dk_42 (dk_at dksX8_turns_0 0 rfl rfl)
theorem dX8_turns_1 : decode cX8_turns 1 = .ok (.getfield 28, 3) := dk_180 0 28 (dk_at dksX8_turns_0 1 rfl rfl)
theorem dX8_turns_4 : decode cX8_turns 4 = .ok (.ifnull 39, 3) := dk_198 0 39 (dk_at dksX8_turns_0 4 rfl rfl)
theorem dX8_turns_7 : decode cX8_turns 7 = .ok (.aload_n 0, 1) := dk_42 (dk_at dksX8_turns_0 7 rfl rfl)
theorem dX8_turns_8 : decode cX8_turns 8 = .ok (.getfield 28, 3) := dk_180 0 28 (dk_at dksX8_turns_0 8 rfl rfl)
theorem dX8_turns_11 : decode cX8_turns 11 = .ok (.invokevirtual 69, 3) := dk_182 0 69 (dk_at dksX8_turns_0 11 rfl rfl)
theorem dX8_turns_14 : decode cX8_turns 14 = .ok (.ifCond .ne 29, 3) := dk_154 0 29 (dk_at dksX8_turns_0 14 rfl rfl)
theorem dX8_turns_17 : decode cX8_turns 17 = .ok (.aload_n 0, 1) := dk_42 (dk_at dksX8_turns_0 17 rfl rfl)
theorem dX8_turns_18 : decode cX8_turns 18 = .ok (.getfield 28, 3) := dk_180 0 28 (dk_at dksX8_turns_0 18 rfl rfl)
theorem dX8_turns_21 : decode cX8_turns 21 = .ok (.invokevirtual 106, 3) := dk_182 0 106 (dk_at dksX8_turns_0 21 rfl rfl)
theorem dX8_turns_24 : decode cX8_turns 24 = .ok (.iload_n 1, 1) := dk_27 (dk_at dksX8_turns_1 0 rfl rfl)
theorem dX8_turns_25 : decode cX8_turns 25 = .ok (.if_icmp .ne 18, 3) := dk_160 0 18 (dk_at dksX8_turns_1 1 rfl rfl)
theorem dX8_turns_28 : decode cX8_turns 28 = .ok (.aload_n 0, 1) := dk_42 (dk_at dksX8_turns_1 4 rfl rfl)
theorem dX8_turns_29 : decode cX8_turns 29 = .ok (.getfield 28, 3) := dk_180 0 28 (dk_at dksX8_turns_1 5 rfl rfl)
theorem dX8_turns_32 : decode cX8_turns 32 = .ok (.invokevirtual 109, 3) := dk_182 0 109 (dk_at dksX8_turns_1 8 rfl rfl)
theorem dX8_turns_35 : decode cX8_turns 35 = .ok (.iload_n 2, 1) := dk_28 (dk_at dksX8_turns_1 11 rfl rfl)
theorem dX8_turns_36 : decode cX8_turns 36 = .ok (.if_icmp .ne 7, 3) := dk_160 0 7 (dk_at dksX8_turns_1 12 rfl rfl)
theorem dX8_turns_39 : decode cX8_turns 39 = .ok (.iconst 1, 1) := dk_4 (dk_at dksX8_turns_1 15 rfl rfl)
theorem dX8_turns_40 : decode cX8_turns 40 = .ok (.goto 4, 3) := dk_167 0 4 (dk_at dksX8_turns_1 16 rfl rfl)
theorem dX8_turns_43 : decode cX8_turns 43 = .ok (.iconst 0, 1) := dk_3 (dk_at dksX8_turns_1 19 rfl rfl)
theorem dX8_turns_44 : decode cX8_turns 44 = .ok (.istore_n 3, 1) := dk_62 (dk_at dksX8_turns_1 20 rfl rfl)
theorem dX8_turns_45 : decode cX8_turns 45 = .ok (.aload_n 0, 1) := dk_42 (dk_at dksX8_turns_1 21 rfl rfl)
theorem dX8_turns_46 : decode cX8_turns 46 = .ok (.iload_n 3, 1) := dk_29 (dk_at dksX8_turns_1 22 rfl rfl)
theorem dX8_turns_47 : decode cX8_turns 47 = .ok (.ifCond .eq 10, 3) := dk_153 0 10 (dk_at dksX8_turns_2 0 rfl rfl)
theorem dX8_turns_50 : decode cX8_turns 50 = .ok (.aload_n 0, 1) := dk_42 (dk_at dksX8_turns_2 3 rfl rfl)
theorem dX8_turns_51 : decode cX8_turns 51 = .ok (.getfield 28, 3) := dk_180 0 28 (dk_at dksX8_turns_2 4 rfl rfl)
theorem dX8_turns_54 : decode cX8_turns 54 = .ok (.goto 9, 3) := dk_167 0 9 (dk_at dksX8_turns_2 7 rfl rfl)
theorem dX8_turns_57 : decode cX8_turns 57 = .ok (.iconst 1, 1) := dk_4 (dk_at dksX8_turns_2 10 rfl rfl)
theorem dX8_turns_58 : decode cX8_turns 58 = .ok (.iload_n 1, 1) := dk_27 (dk_at dksX8_turns_2 11 rfl rfl)
theorem dX8_turns_59 : decode cX8_turns 59 = .ok (.iload_n 2, 1) := dk_28 (dk_at dksX8_turns_2 12 rfl rfl)
theorem dX8_turns_60 : decode cX8_turns 60 = .ok (.invokestatic 112, 3) := dk_184 0 112 (dk_at dksX8_turns_2 13 rfl rfl)
theorem dX8_turns_63 : decode cX8_turns 63 = .ok (.iconst 1, 1) := dk_4 (dk_at dksX8_turns_2 16 rfl rfl)
theorem dX8_turns_64 : decode cX8_turns 64 = .ok (.invokevirtual 102, 3) := dk_182 0 102 (dk_at dksX8_turns_2 17 rfl rfl)
theorem dX8_turns_67 : decode cX8_turns 67 = .ok (.pop, 1) := dk_87 (dk_at dksX8_turns_2 20 rfl rfl)
theorem dX8_turns_68 : decode cX8_turns 68 = .ok (.return_, 1) := dk_177 (dk_at dksX8_turns_2 21 rfl rfl)
abbrev cX8_moved : ByteArray := prog_6_method_19_code
def yX8_moved : MethodName := ⟨RX8, "moved", "(IZ)I"⟩
def dkwX8_moved_5 : List UInt8 := [100, 54, 4, 29, 25, 6, 185, 0, 166, 1, 0, 96, 62, 132, 5, 1, 167, 255, 129, 21, 4, 172]
abbrev dktX8_moved_5 : List UInt8 := dkwX8_moved_5 ++ []
def dkwX8_moved_4 : List UInt8 := [153, 0, 23, 3, 25, 6, 185, 0, 99, 1, 0, 27, 29, 100, 184, 0, 157, 184, 0, 163, 167, 0, 4, 3]
abbrev dktX8_moved_4 : List UInt8 := dkwX8_moved_4 ++ dktX8_moved_5
def dkwX8_moved_3 : List UInt8 := [25, 6, 185, 0, 99, 1, 0, 167, 0, 4, 3, 96, 54, 4, 21, 4, 25, 6, 185, 0, 156, 1, 0]
abbrev dktX8_moved_3 : List UInt8 := dkwX8_moved_3 ++ dktX8_moved_4
def dkwX8_moved_2 : List UInt8 := [4, 167, 0, 4, 3, 54, 7, 21, 4, 25, 6, 185, 0, 154, 1, 0, 153, 0, 18, 21, 7, 153, 0, 13]
abbrev dktX8_moved_2 : List UInt8 := dkwX8_moved_2 ++ dktX8_moved_3
def dkwX8_moved_1 : List UInt8 := [21, 5, 182, 0, 76, 192, 0, 79, 58, 6, 29, 27, 161, 0, 12, 29, 27, 160, 0, 11, 28, 153, 0, 7]
abbrev dktX8_moved_1 : List UInt8 := dkwX8_moved_1 ++ dktX8_moved_2
def dkwX8_moved_0 : List UInt8 := [3, 62, 27, 54, 4, 3, 54, 5, 21, 5, 42, 180, 0, 12, 182, 0, 73, 162, 0, 121, 42, 180, 0, 12]
abbrev dktX8_moved_0 : List UInt8 := dkwX8_moved_0 ++ dktX8_moved_1
theorem dksX8_moved_0 : cX8_moved.data.toList.drop 0 = dktX8_moved_0 := by decide +kernel
theorem dksX8_moved_1 : cX8_moved.data.toList.drop 24 = dktX8_moved_1 := dk_seg dksX8_moved_0 24 rfl rfl
theorem dksX8_moved_2 : cX8_moved.data.toList.drop 48 = dktX8_moved_2 := dk_seg dksX8_moved_1 24 rfl rfl
theorem dksX8_moved_3 : cX8_moved.data.toList.drop 72 = dktX8_moved_3 := dk_seg dksX8_moved_2 24 rfl rfl
theorem dksX8_moved_4 : cX8_moved.data.toList.drop 95 = dktX8_moved_4 := dk_seg dksX8_moved_3 23 rfl rfl
theorem dksX8_moved_5 : cX8_moved.data.toList.drop 119 = dktX8_moved_5 := dk_seg dksX8_moved_4 24 rfl rfl
theorem dX8_moved_0 : decode cX8_moved 0 = .ok (.iconst 0, 1) := dk_3 (dk_at dksX8_moved_0 0 rfl rfl)
theorem dX8_moved_1 : decode cX8_moved 1 = .ok (.istore_n 3, 1) := dk_62 (dk_at dksX8_moved_0 1 rfl rfl)
theorem dX8_moved_2 : decode cX8_moved 2 = .ok (.iload_n 1, 1) := dk_27 (dk_at dksX8_moved_0 2 rfl rfl)
theorem dX8_moved_3 : decode cX8_moved 3 = .ok (.istore 4, 2) := dk_54 4 (dk_at dksX8_moved_0 3 rfl rfl)
theorem dX8_moved_5 : decode cX8_moved 5 = .ok (.iconst 0, 1) := dk_3 (dk_at dksX8_moved_0 5 rfl rfl)
theorem dX8_moved_6 : decode cX8_moved 6 = .ok (.istore 5, 2) := dk_54 5 (dk_at dksX8_moved_0 6 rfl rfl)
theorem dX8_moved_8 : decode cX8_moved 8 = .ok (.iload 5, 2) := dk_21 5 (dk_at dksX8_moved_0 8 rfl rfl)
theorem dX8_moved_10 : decode cX8_moved 10 = .ok (.aload_n 0, 1) := dk_42 (dk_at dksX8_moved_0 10 rfl rfl)
theorem dX8_moved_11 : decode cX8_moved 11 = .ok (.getfield 12, 3) := dk_180 0 12 (dk_at dksX8_moved_0 11 rfl rfl)
theorem dX8_moved_14 : decode cX8_moved 14 = .ok (.invokevirtual 73, 3) := dk_182 0 73 (dk_at dksX8_moved_0 14 rfl rfl)
theorem dX8_moved_17 : decode cX8_moved 17 = .ok (.if_icmp .ge 121, 3) := dk_162 0 121 (dk_at dksX8_moved_0 17 rfl rfl)
theorem dX8_moved_20 : decode cX8_moved 20 = .ok (.aload_n 0, 1) := dk_42 (dk_at dksX8_moved_0 20 rfl rfl)
theorem dX8_moved_21 : decode cX8_moved 21 = .ok (.getfield 12, 3) := dk_180 0 12 (dk_at dksX8_moved_0 21 rfl rfl)
theorem dX8_moved_24 : decode cX8_moved 24 = .ok (.iload 5, 2) := dk_21 5 (dk_at dksX8_moved_1 0 rfl rfl)
theorem dX8_moved_26 : decode cX8_moved 26 = .ok (.invokevirtual 76, 3) := dk_182 0 76 (dk_at dksX8_moved_1 2 rfl rfl)
theorem dX8_moved_29 : decode cX8_moved 29 = .ok (.checkcast 79, 3) := dk_192 0 79 (dk_at dksX8_moved_1 5 rfl rfl)
theorem dX8_moved_32 : decode cX8_moved 32 = .ok (.astore 6, 2) := dk_58 6 (dk_at dksX8_moved_1 8 rfl rfl)
theorem dX8_moved_34 : decode cX8_moved 34 = .ok (.iload_n 3, 1) := dk_29 (dk_at dksX8_moved_1 10 rfl rfl)
theorem dX8_moved_35 : decode cX8_moved 35 = .ok (.iload_n 1, 1) := dk_27 (dk_at dksX8_moved_1 11 rfl rfl)
theorem dX8_moved_36 : decode cX8_moved 36 = .ok (.if_icmp .lt 12, 3) := dk_161 0 12 (dk_at dksX8_moved_1 12 rfl rfl)
theorem dX8_moved_39 : decode cX8_moved 39 = .ok (.iload_n 3, 1) := dk_29 (dk_at dksX8_moved_1 15 rfl rfl)
theorem dX8_moved_40 : decode cX8_moved 40 = .ok (.iload_n 1, 1) := dk_27 (dk_at dksX8_moved_1 16 rfl rfl)
theorem dX8_moved_41 : decode cX8_moved 41 = .ok (.if_icmp .ne 11, 3) := dk_160 0 11 (dk_at dksX8_moved_1 17 rfl rfl)
theorem dX8_moved_44 : decode cX8_moved 44 = .ok (.iload_n 2, 1) := dk_28 (dk_at dksX8_moved_1 20 rfl rfl)
theorem dX8_moved_45 : decode cX8_moved 45 = .ok (.ifCond .eq 7, 3) := dk_153 0 7 (dk_at dksX8_moved_1 21 rfl rfl)
theorem dX8_moved_48 : decode cX8_moved 48 = .ok (.iconst 1, 1) := dk_4 (dk_at dksX8_moved_2 0 rfl rfl)
theorem dX8_moved_49 : decode cX8_moved 49 = .ok (.goto 4, 3) := dk_167 0 4 (dk_at dksX8_moved_2 1 rfl rfl)
theorem dX8_moved_52 : decode cX8_moved 52 = .ok (.iconst 0, 1) := dk_3 (dk_at dksX8_moved_2 4 rfl rfl)
theorem dX8_moved_53 : decode cX8_moved 53 = .ok (.istore 7, 2) := dk_54 7 (dk_at dksX8_moved_2 5 rfl rfl)
theorem dX8_moved_55 : decode cX8_moved 55 = .ok (.iload 4, 2) := dk_21 4 (dk_at dksX8_moved_2 7 rfl rfl)
theorem dX8_moved_57 : decode cX8_moved 57 = .ok (.aload 6, 2) := dk_25 6 (dk_at dksX8_moved_2 9 rfl rfl)
theorem dX8_moved_59 : decode cX8_moved 59 = .ok (.invokeinterface 154 1, 5) := by decide +kernel
theorem dX8_moved_64 : decode cX8_moved 64 = .ok (.ifCond .eq 18, 3) := dk_153 0 18 (dk_at dksX8_moved_2 16 rfl rfl)
theorem dX8_moved_67 : decode cX8_moved 67 = .ok (.iload 7, 2) := dk_21 7 (dk_at dksX8_moved_2 19 rfl rfl)
theorem dX8_moved_69 : decode cX8_moved 69 = .ok (.ifCond .eq 13, 3) := dk_153 0 13 (dk_at dksX8_moved_2 21 rfl rfl)
theorem dX8_moved_72 : decode cX8_moved 72 = .ok (.aload 6, 2) := dk_25 6 (dk_at dksX8_moved_3 0 rfl rfl)
theorem dX8_moved_74 : decode cX8_moved 74 = .ok (.invokeinterface 99 1, 5) := by decide +kernel
theorem dX8_moved_79 : decode cX8_moved 79 = .ok (.goto 4, 3) := dk_167 0 4 (dk_at dksX8_moved_3 7 rfl rfl)
theorem dX8_moved_82 : decode cX8_moved 82 = .ok (.iconst 0, 1) := dk_3 (dk_at dksX8_moved_3 10 rfl rfl)
theorem dX8_moved_83 : decode cX8_moved 83 = .ok (.iadd, 1) := dk_96 (dk_at dksX8_moved_3 11 rfl rfl)
theorem dX8_moved_84 : decode cX8_moved 84 = .ok (.istore 4, 2) := dk_54 4 (dk_at dksX8_moved_3 12 rfl rfl)
theorem dX8_moved_86 : decode cX8_moved 86 = .ok (.iload 4, 2) := dk_21 4 (dk_at dksX8_moved_3 14 rfl rfl)
theorem dX8_moved_88 : decode cX8_moved 88 = .ok (.aload 6, 2) := dk_25 6 (dk_at dksX8_moved_3 16 rfl rfl)
theorem dX8_moved_90 : decode cX8_moved 90 = .ok (.invokeinterface 156 1, 5) := by decide +kernel
theorem dX8_moved_95 : decode cX8_moved 95 = .ok (.ifCond .eq 23, 3) := dk_153 0 23 (dk_at dksX8_moved_4 0 rfl rfl)
theorem dX8_moved_98 : decode cX8_moved 98 = .ok (.iconst 0, 1) := dk_3 (dk_at dksX8_moved_4 3 rfl rfl)
theorem dX8_moved_99 : decode cX8_moved 99 = .ok (.aload 6, 2) := dk_25 6 (dk_at dksX8_moved_4 4 rfl rfl)
theorem dX8_moved_101 : decode cX8_moved 101 = .ok (.invokeinterface 99 1, 5) := by decide +kernel
theorem dX8_moved_106 : decode cX8_moved 106 = .ok (.iload_n 1, 1) := dk_27 (dk_at dksX8_moved_4 11 rfl rfl)
theorem dX8_moved_107 : decode cX8_moved 107 = .ok (.iload_n 3, 1) := dk_29 (dk_at dksX8_moved_4 12 rfl rfl)
theorem dX8_moved_108 : decode cX8_moved 108 = .ok (.isub, 1) := dk_100 (dk_at dksX8_moved_4 13 rfl rfl)
theorem dX8_moved_109 : decode cX8_moved 109 = .ok (.invokestatic 157, 3) := dk_184 0 157 (dk_at dksX8_moved_4 14 rfl rfl)
theorem dX8_moved_112 : decode cX8_moved 112 = .ok (.invokestatic 163, 3) := dk_184 0 163 (dk_at dksX8_moved_4 17 rfl rfl)
theorem dX8_moved_115 : decode cX8_moved 115 = .ok (.goto 4, 3) := dk_167 0 4 (dk_at dksX8_moved_4 20 rfl rfl)
theorem dX8_moved_118 : decode cX8_moved 118 = .ok (.iconst 0, 1) := dk_3 (dk_at dksX8_moved_4 23 rfl rfl)
theorem dX8_moved_119 : decode cX8_moved 119 = .ok (.isub, 1) := dk_100 (dk_at dksX8_moved_5 0 rfl rfl)
theorem dX8_moved_120 : decode cX8_moved 120 = .ok (.istore 4, 2) := dk_54 4 (dk_at dksX8_moved_5 1 rfl rfl)
theorem dX8_moved_122 : decode cX8_moved 122 = .ok (.iload_n 3, 1) := dk_29 (dk_at dksX8_moved_5 3 rfl rfl)
theorem dX8_moved_123 : decode cX8_moved 123 = .ok (.aload 6, 2) := dk_25 6 (dk_at dksX8_moved_5 4 rfl rfl)
theorem dX8_moved_125 : decode cX8_moved 125 = .ok (.invokeinterface 166 1, 5) := by decide +kernel
theorem dX8_moved_130 : decode cX8_moved 130 = .ok (.iadd, 1) := dk_96 (dk_at dksX8_moved_5 11 rfl rfl)
theorem dX8_moved_131 : decode cX8_moved 131 = .ok (.istore_n 3, 1) := dk_62 (dk_at dksX8_moved_5 12 rfl rfl)
theorem dX8_moved_132 : decode cX8_moved 132 = .ok (.iinc 5 1, 3) := dk_132 5 1 (dk_at dksX8_moved_5 13 rfl rfl)
theorem dX8_moved_135 : decode cX8_moved 135 = .ok (.goto (-127), 3) := dk_167 255 129 (dk_at dksX8_moved_5 16 rfl rfl)
theorem dX8_moved_138 : decode cX8_moved 138 = .ok (.iload 4, 2) := dk_21 4 (dk_at dksX8_moved_5 19 rfl rfl)
theorem dX8_moved_140 : decode cX8_moved 140 = .ok (.ireturn, 1) := dk_172 (dk_at dksX8_moved_5 21 rfl rfl)
abbrev cX8_swaps : ByteArray := prog_6_method_6_code
def yX8_swaps : MethodName := ⟨RX8, "swaps", "(LEditsMeet$Edit;)V"⟩
def dkwX8_swaps_0 : List UInt8 := [42, 180, 0, 12, 77, 42, 43, 180, 0, 12, 181, 0, 12, 43, 44, 181, 0, 12, 177]
abbrev dktX8_swaps_0 : List UInt8 := dkwX8_swaps_0 ++ []
theorem dksX8_swaps_0 : cX8_swaps.data.toList.drop 0 = dktX8_swaps_0 := by decide +kernel
theorem dX8_swaps_0 : decode cX8_swaps 0 = .ok (.aload_n 0, 1) := dk_42 (dk_at dksX8_swaps_0 0 rfl rfl)
theorem dX8_swaps_1 : decode cX8_swaps 1 = .ok (.getfield 12, 3) := dk_180 0 12 (dk_at dksX8_swaps_0 1 rfl rfl)
theorem dX8_swaps_4 : decode cX8_swaps 4 = .ok (.astore_n 2, 1) := dk_77 (dk_at dksX8_swaps_0 4 rfl rfl)
theorem dX8_swaps_5 : decode cX8_swaps 5 = .ok (.aload_n 0, 1) := dk_42 (dk_at dksX8_swaps_0 5 rfl rfl)
theorem dX8_swaps_6 : decode cX8_swaps 6 = .ok (.aload_n 1, 1) := dk_43 (dk_at dksX8_swaps_0 6 rfl rfl)
theorem dX8_swaps_7 : decode cX8_swaps 7 = .ok (.getfield 12, 3) := dk_180 0 12 (dk_at dksX8_swaps_0 7 rfl rfl)
theorem dX8_swaps_10 : decode cX8_swaps 10 = .ok (.putfield 12, 3) := dk_181 0 12 (dk_at dksX8_swaps_0 10 rfl rfl)
theorem dX8_swaps_13 : decode cX8_swaps 13 = .ok (.aload_n 1, 1) := dk_43 (dk_at dksX8_swaps_0 13 rfl rfl)
theorem dX8_swaps_14 : decode cX8_swaps 14 = .ok (.aload_n 2, 1) := dk_44 (dk_at dksX8_swaps_0 14 rfl rfl)
theorem dX8_swaps_15 : decode cX8_swaps 15 = .ok (.putfield 12, 3) := dk_181 0 12 (dk_at dksX8_swaps_0 15 rfl rfl)
theorem dX8_swaps_18 : decode cX8_swaps 18 = .ok (.return_, 1) := dk_177 (dk_at dksX8_swaps_0 18 rfl rfl)
abbrev cX8_becomes : ByteArray := prog_6_method_4_code
def yX8_becomes : MethodName := ⟨RX8, "becomes", "(LEditsMeet$Edit;)LEditsMeet$Edit;"⟩
def dkwX8_becomes_1 : List UInt8 := [182, 0, 47, 87, 132, 2, 1, 167, 255, 232, 42, 176]
abbrev dktX8_becomes_1 : List UInt8 := dkwX8_becomes_1 ++ []
def dkwX8_becomes_0 : List UInt8 := [42, 182, 0, 36, 3, 61, 28, 43, 182, 0, 39, 162, 0, 22, 42, 180, 0, 12, 43, 28, 182, 0, 43]
abbrev dktX8_becomes_0 : List UInt8 := dkwX8_becomes_0 ++ dktX8_becomes_1
theorem dksX8_becomes_0 : cX8_becomes.data.toList.drop 0 = dktX8_becomes_0 := by decide +kernel
theorem dksX8_becomes_1 : cX8_becomes.data.toList.drop 23 = dktX8_becomes_1 := dk_seg dksX8_becomes_0 23 rfl rfl
theorem dX8_becomes_0 : decode cX8_becomes 0 = .ok (.aload_n 0, 1) := dk_42 (dk_at dksX8_becomes_0 0 rfl rfl)
theorem dX8_becomes_1 : decode cX8_becomes 1 = .ok (.invokevirtual 36, 3) := dk_182 0 36 (dk_at dksX8_becomes_0 1 rfl rfl)
theorem dX8_becomes_4 : decode cX8_becomes 4 = .ok (.iconst 0, 1) := dk_3 (dk_at dksX8_becomes_0 4 rfl rfl)
theorem dX8_becomes_5 : decode cX8_becomes 5 = .ok (.istore_n 2, 1) := dk_61 (dk_at dksX8_becomes_0 5 rfl rfl)
theorem dX8_becomes_6 : decode cX8_becomes 6 = .ok (.iload_n 2, 1) := dk_28 (dk_at dksX8_becomes_0 6 rfl rfl)
theorem dX8_becomes_7 : decode cX8_becomes 7 = .ok (.aload_n 1, 1) := dk_43 (dk_at dksX8_becomes_0 7 rfl rfl)
theorem dX8_becomes_8 : decode cX8_becomes 8 = .ok (.invokevirtual 39, 3) := dk_182 0 39 (dk_at dksX8_becomes_0 8 rfl rfl)
theorem dX8_becomes_11 : decode cX8_becomes 11 = .ok (.if_icmp .ge 22, 3) := dk_162 0 22 (dk_at dksX8_becomes_0 11 rfl rfl)
theorem dX8_becomes_14 : decode cX8_becomes 14 = .ok (.aload_n 0, 1) := dk_42 (dk_at dksX8_becomes_0 14 rfl rfl)
theorem dX8_becomes_15 : decode cX8_becomes 15 = .ok (.getfield 12, 3) := dk_180 0 12 (dk_at dksX8_becomes_0 15 rfl rfl)
theorem dX8_becomes_18 : decode cX8_becomes 18 = .ok (.aload_n 1, 1) := dk_43 (dk_at dksX8_becomes_0 18 rfl rfl)
theorem dX8_becomes_19 : decode cX8_becomes 19 = .ok (.iload_n 2, 1) := dk_28 (dk_at dksX8_becomes_0 19 rfl rfl)
theorem dX8_becomes_20 : decode cX8_becomes 20 = .ok (.invokevirtual 43, 3) := dk_182 0 43 (dk_at dksX8_becomes_0 20 rfl rfl)
theorem dX8_becomes_23 : decode cX8_becomes 23 = .ok (.invokevirtual 47, 3) := dk_182 0 47 (dk_at dksX8_becomes_1 0 rfl rfl)
theorem dX8_becomes_26 : decode cX8_becomes 26 = .ok (.pop, 1) := dk_87 (dk_at dksX8_becomes_1 3 rfl rfl)
theorem dX8_becomes_27 : decode cX8_becomes 27 = .ok (.iinc 2 1, 3) := dk_132 2 1 (dk_at dksX8_becomes_1 4 rfl rfl)
theorem dX8_becomes_30 : decode cX8_becomes 30 = .ok (.goto (-24), 3) := dk_167 255 232 (dk_at dksX8_becomes_1 7 rfl rfl)
theorem dX8_becomes_33 : decode cX8_becomes 33 = .ok (.aload_n 0, 1) := dk_42 (dk_at dksX8_becomes_1 10 rfl rfl)
theorem dX8_becomes_34 : decode cX8_becomes 34 = .ok (.areturn, 1) := dk_176 (dk_at dksX8_becomes_1 11 rfl rfl)
abbrev cX8_copied : ByteArray := prog_6_method_5_code
def yX8_copied : MethodName := ⟨RX8, "copied", "()LEditsMeet$Edit;"⟩
def dkwX8_copied_0 : List UInt8 := [187, 0, 13, 89, 183, 0, 51, 42, 182, 0, 52, 176]
abbrev dktX8_copied_0 : List UInt8 := dkwX8_copied_0 ++ []
theorem dksX8_copied_0 : cX8_copied.data.toList.drop 0 = dktX8_copied_0 := by decide +kernel
theorem dX8_copied_0 : decode cX8_copied 0 = .ok (.new 13, 3) := dk_187 0 13 (dk_at dksX8_copied_0 0 rfl rfl)
theorem dX8_copied_3 : decode cX8_copied 3 = .ok (.dup, 1) := dk_89 (dk_at dksX8_copied_0 3 rfl rfl)
theorem dX8_copied_4 : decode cX8_copied 4 = .ok (.invokespecial 51, 3) := dk_183 0 51 (dk_at dksX8_copied_0 4 rfl rfl)
theorem dX8_copied_7 : decode cX8_copied 7 = .ok (.aload_n 0, 1) := dk_42 (dk_at dksX8_copied_0 7 rfl rfl)
theorem dX8_copied_8 : decode cX8_copied 8 = .ok (.invokevirtual 52, 3) := dk_182 0 52 (dk_at dksX8_copied_0 8 rfl rfl)
theorem dX8_copied_11 : decode cX8_copied 11 = .ok (.areturn, 1) := dk_176 (dk_at dksX8_copied_0 11 rfl rfl)
theorem q140 : (Jvm.Cond.initialized "EditsMeet$Edit") ∈ lw_all := lw_g (lw_at lw_m1 20 rfl) rfl
theorem q395 : (Jvm.Cond.instantiable "EditsMeet$Edit" (3 : Nat)) ∈ lw_all := lw_g (lw_at lw_m2 35 rfl) rfl
theorem q397 : (Jvm.Cond.instanceMethod ({ cls := "EditsMeet$Edit", name := "<init>", desc := "()V" } : Jvm.MethodName)) ∈ lw_all := lw_g (lw_at lw_m2 37 rfl) rfl
theorem q398 : (Jvm.Cond.code ({ cls := "EditsMeet$Edit", name := "<init>", desc := "()V" } : Jvm.MethodName) prog_6_method_1_code (1 : Nat) (Option.none : Option Jvm.ClassFile.FieldType)) ∈ lw_all := lw_g (lw_at lw_m2 38 rfl) rfl
theorem q399 : (Jvm.Cond.methodLink "EditsMeet$Edit" (1 : Nat) ({ cls := "java/lang/Object", name := "<init>", desc := "()V" } : Jvm.MethodName)) ∈ lw_all := lw_g (lw_at lw_m2 39 rfl) rfl
theorem q400 : (Jvm.Cond.classLink "EditsMeet$Edit" (7 : Nat) "java/util/ArrayList") ∈ lw_all := lw_g (lw_at lw_m2 40 rfl) rfl
theorem q401 : (Jvm.Cond.methodLink "EditsMeet$Edit" (9 : Nat) ({ cls := "java/util/ArrayList", name := "<init>", desc := "(I)V" } : Jvm.MethodName)) ∈ lw_all := lw_g (lw_at lw_m2 41 rfl) rfl
theorem q408 : (Jvm.Cond.fieldLink "EditsMeet$Edit" (12 : Nat) "EditsMeet$Edit" "parts" "Ljava/util/ArrayList;") ∈ lw_all := lw_g (lw_at lw_m2 48 rfl) rfl
theorem q409 : (Jvm.Cond.fieldLink "EditsMeet$Edit" (28 : Nat) "EditsMeet$Edit" "open" "LEditsMeet$Over;") ∈ lw_all := lw_g (lw_at lw_m2 49 rfl) rfl
theorem q410 : (Jvm.Cond.fieldLink "EditsMeet$Edit" (32 : Nat) "EditsMeet$Edit" "opened" "I") ∈ lw_all := lw_g (lw_at lw_m2 50 rfl) rfl
theorem q411 : (Jvm.Cond.lays "EditsMeet$Edit" "EditsMeet$Edit" "parts" "Ljava/util/ArrayList;") ∈ lw_all := lw_g (lw_at lw_m2 51 rfl) rfl
theorem q412 : (Jvm.Cond.soleField "EditsMeet$Edit" "parts") ∈ lw_all := lw_g (lw_at lw_m2 52 rfl) rfl
theorem q413 : (Jvm.Cond.lays "EditsMeet$Edit" "EditsMeet$Edit" "open" "LEditsMeet$Over;") ∈ lw_all := lw_g (lw_at lw_m2 53 rfl) rfl
theorem q414 : (Jvm.Cond.soleField "EditsMeet$Edit" "open") ∈ lw_all := lw_g (lw_at lw_m2 54 rfl) rfl
theorem q415 : (Jvm.Cond.lays "EditsMeet$Edit" "EditsMeet$Edit" "opened" "I") ∈ lw_all := lw_g (lw_at lw_m2 55 rfl) rfl
theorem q416 : (Jvm.Cond.soleField "EditsMeet$Edit" "opened") ∈ lw_all := lw_g (lw_at lw_m2 56 rfl) rfl
theorem q417 : (Jvm.Cond.superclass "EditsMeet$Edit" "java/lang/Object") ∈ lw_all := lw_g (lw_at lw_m2 57 rfl) rfl
theorem q807 : (Jvm.Cond.instanceMethod ({ cls := "EditsMeet$Edit", name := "many", desc := "()I" } : Jvm.MethodName)) ∈ lw_all := lw_g (lw_at lw_m3 207 rfl) rfl
theorem q808 : (Jvm.Cond.selects "EditsMeet$Edit" ({ cls := "EditsMeet$Edit", name := "many", desc := "()I" } : Jvm.MethodName) ({ cls := "EditsMeet$Edit", name := "many", desc := "()I" } : Jvm.MethodName)) ∈ lw_all := lw_g (lw_at lw_m3 208 rfl) rfl
theorem q809 : (Jvm.Cond.code ({ cls := "EditsMeet$Edit", name := "many", desc := "()I" } : Jvm.MethodName) prog_6_method_13_code (1 : Nat) (Option.some Jvm.ClassFile.FieldType.int)) ∈ lw_all := lw_g (lw_at lw_m3 209 rfl) rfl
theorem q810 : (Jvm.Cond.methodLink "EditsMeet$Edit" (73 : Nat) ({ cls := "java/util/ArrayList", name := "size", desc := "()I" } : Jvm.MethodName)) ∈ lw_all := lw_g (lw_at lw_m3 210 rfl) rfl
theorem q815 : (Jvm.Cond.instanceMethod ({ cls := "EditsMeet$Edit", name := "get", desc := "(I)LEditsMeet$Part;" } : Jvm.MethodName)) ∈ lw_all := lw_g (lw_at lw_m3 215 rfl) rfl
theorem q816 : (Jvm.Cond.selects "EditsMeet$Edit" ({ cls := "EditsMeet$Edit", name := "get", desc := "(I)LEditsMeet$Part;" } : Jvm.MethodName) ({ cls := "EditsMeet$Edit", name := "get", desc := "(I)LEditsMeet$Part;" } : Jvm.MethodName)) ∈ lw_all := lw_g (lw_at lw_m3 216 rfl) rfl
theorem q817 : (Jvm.Cond.code ({ cls := "EditsMeet$Edit", name := "get", desc := "(I)LEditsMeet$Part;" } : Jvm.MethodName) prog_6_method_14_code (2 : Nat) (Option.some (Jvm.ClassFile.FieldType.object "EditsMeet$Part"))) ∈ lw_all := lw_g (lw_at lw_m3 217 rfl) rfl
theorem q818 : (Jvm.Cond.methodLink "EditsMeet$Edit" (76 : Nat) ({ cls := "java/util/ArrayList", name := "get", desc := "(I)Ljava/lang/Object;" } : Jvm.MethodName)) ∈ lw_all := lw_g (lw_at lw_m3 218 rfl) rfl
theorem q832 : (Jvm.Cond.classLink "EditsMeet$Edit" (79 : Nat) "EditsMeet$Part") ∈ lw_all := lw_g (lw_at lw_m3 232 rfl) rfl
theorem q1354 : (Jvm.Cond.instanceMethod ({ cls := "EditsMeet$Edit", name := "adds", desc := "(LEditsMeet$Part;)LEditsMeet$Edit;" } : Jvm.MethodName)) ∈ lw_all := lw_g (lw_at lw_m6 34 rfl) rfl
theorem q1355 : (Jvm.Cond.selects "EditsMeet$Edit" ({ cls := "EditsMeet$Edit", name := "adds", desc := "(LEditsMeet$Part;)LEditsMeet$Edit;" } : Jvm.MethodName) ({ cls := "EditsMeet$Edit", name := "adds", desc := "(LEditsMeet$Part;)LEditsMeet$Edit;" } : Jvm.MethodName)) ∈ lw_all := lw_g (lw_at lw_m6 35 rfl) rfl
theorem q1356 : (Jvm.Cond.code ({ cls := "EditsMeet$Edit", name := "adds", desc := "(LEditsMeet$Part;)LEditsMeet$Edit;" } : Jvm.MethodName) prog_6_method_11_code (2 : Nat) (Option.some (Jvm.ClassFile.FieldType.object "EditsMeet$Edit"))) ∈ lw_all := lw_g (lw_at lw_m6 36 rfl) rfl
theorem q1357 : (Jvm.Cond.interfaceEntry "EditsMeet$Edit" (99 : Nat)) ∈ lw_tbl := lw_at lw_m6 37 rfl
theorem q1358 : (Jvm.Cond.methodLink "EditsMeet$Edit" (99 : Nat) ({ cls := "EditsMeet$Part", name := "n", desc := "()I" } : Jvm.MethodName)) ∈ lw_all := lw_g (lw_at lw_m6 38 rfl) rfl
theorem q1359 : (Jvm.Cond.methodLink "EditsMeet$Edit" (102 : Nat) ({ cls := "EditsMeet$Edit", name := "adds", desc := "(LEditsMeet$Part;I)LEditsMeet$Edit;" } : Jvm.MethodName)) ∈ lw_all := lw_g (lw_at lw_m6 39 rfl) rfl
theorem q1360 : (Jvm.Cond.instanceMethod ({ cls := "EditsMeet$Edit", name := "adds", desc := "(LEditsMeet$Part;I)LEditsMeet$Edit;" } : Jvm.MethodName)) ∈ lw_all := lw_g (lw_at lw_m6 40 rfl) rfl
theorem q1361 : (Jvm.Cond.selects "EditsMeet$Edit" ({ cls := "EditsMeet$Edit", name := "adds", desc := "(LEditsMeet$Part;I)LEditsMeet$Edit;" } : Jvm.MethodName) ({ cls := "EditsMeet$Edit", name := "adds", desc := "(LEditsMeet$Part;I)LEditsMeet$Edit;" } : Jvm.MethodName)) ∈ lw_all := lw_g (lw_at lw_m6 41 rfl) rfl
theorem q1362 : (Jvm.Cond.code ({ cls := "EditsMeet$Edit", name := "adds", desc := "(LEditsMeet$Part;I)LEditsMeet$Edit;" } : Jvm.MethodName) prog_6_method_10_code (5 : Nat) (Option.some (Jvm.ClassFile.FieldType.object "EditsMeet$Edit"))) ∈ lw_all := lw_g (lw_at lw_m6 42 rfl) rfl
theorem q1363 : (Jvm.Cond.classLink "EditsMeet$Edit" (57 : Nat) "EditsMeet$Over") ∈ lw_all := lw_g (lw_at lw_m6 43 rfl) rfl
theorem q1364 : (Jvm.Cond.methodLink "EditsMeet$Edit" (89 : Nat) ({ cls := "EditsMeet$Edit", name := "goesOn", desc := "(LEditsMeet$Over;I)V" } : Jvm.MethodName)) ∈ lw_all := lw_g (lw_at lw_m6 44 rfl) rfl
theorem q1365 : (Jvm.Cond.privateMethod ({ cls := "EditsMeet$Edit", name := "goesOn", desc := "(LEditsMeet$Over;I)V" } : Jvm.MethodName)) ∈ lw_tbl := lw_at lw_m6 45 rfl
theorem q1366 : (Jvm.Cond.instanceMethod ({ cls := "EditsMeet$Edit", name := "goesOn", desc := "(LEditsMeet$Over;I)V" } : Jvm.MethodName)) ∈ lw_all := lw_g (lw_at lw_m6 46 rfl) rfl
theorem q1367 : (Jvm.Cond.code ({ cls := "EditsMeet$Edit", name := "goesOn", desc := "(LEditsMeet$Over;I)V" } : Jvm.MethodName) prog_6_method_8_code (3 : Nat) (Option.none : Option Jvm.ClassFile.FieldType)) ∈ lw_all := lw_g (lw_at lw_m6 47 rfl) rfl
theorem q1368 : (Jvm.Cond.methodLink "EditsMeet$Edit" (61 : Nat) ({ cls := "EditsMeet$Over", name := "isLike", desc := "(LEditsMeet$Part;)Z" } : Jvm.MethodName)) ∈ lw_all := lw_g (lw_at lw_m6 48 rfl) rfl
theorem q1393 : (Jvm.Cond.methodLink "EditsMeet$Edit" (65 : Nat) ({ cls := "EditsMeet$Edit", name := "ends", desc := "()LEditsMeet$Edit;" } : Jvm.MethodName)) ∈ lw_all := lw_g (lw_at lw_m6 73 rfl) rfl
theorem q1394 : (Jvm.Cond.instanceMethod ({ cls := "EditsMeet$Edit", name := "ends", desc := "()LEditsMeet$Edit;" } : Jvm.MethodName)) ∈ lw_all := lw_g (lw_at lw_m6 74 rfl) rfl
theorem q1395 : (Jvm.Cond.selects "EditsMeet$Edit" ({ cls := "EditsMeet$Edit", name := "ends", desc := "()LEditsMeet$Edit;" } : Jvm.MethodName) ({ cls := "EditsMeet$Edit", name := "ends", desc := "()LEditsMeet$Edit;" } : Jvm.MethodName)) ∈ lw_all := lw_g (lw_at lw_m6 75 rfl) rfl
theorem q1396 : (Jvm.Cond.code ({ cls := "EditsMeet$Edit", name := "ends", desc := "()LEditsMeet$Edit;" } : Jvm.MethodName) prog_6_method_7_code (1 : Nat) (Option.some (Jvm.ClassFile.FieldType.object "EditsMeet$Edit"))) ∈ lw_all := lw_g (lw_at lw_m6 76 rfl) rfl
theorem q1397 : (Jvm.Cond.methodLink "EditsMeet$Edit" (56 : Nat) ({ cls := "EditsMeet$Over", name := "so", desc := "(I)LEditsMeet$Part;" } : Jvm.MethodName)) ∈ lw_all := lw_g (lw_at lw_m6 77 rfl) rfl
theorem q1419 : (Jvm.Cond.methodLink "EditsMeet$Edit" (47 : Nat) ({ cls := "java/util/ArrayList", name := "add", desc := "(Ljava/lang/Object;)Z" } : Jvm.MethodName)) ∈ lw_all := lw_g (lw_at lw_m6 99 rfl) rfl
theorem q1445 : (Jvm.Cond.selects "EditsMeet$Edit" ({ cls := "java/lang/Object", name := "getClass", desc := "()Ljava/lang/Class;" } : Jvm.MethodName) ({ cls := "java/lang/Object", name := "getClass", desc := "()Ljava/lang/Class;" } : Jvm.MethodName)) ∈ lw_all := lw_g (lw_at lw_m6 125 rfl) rfl
theorem q1485 : (Jvm.Cond.classLink "EditsMeet$Edit" (93 : Nat) "EditsMeet$Insert") ∈ lw_all := lw_g (lw_at lw_m6 165 rfl) rfl
theorem q1486 : (Jvm.Cond.methodLink "EditsMeet$Edit" (95 : Nat) ({ cls := "EditsMeet$Edit", name := "inserts", desc := "(LEditsMeet$Insert;)V" } : Jvm.MethodName)) ∈ lw_all := lw_g (lw_at lw_m6 166 rfl) rfl
theorem q1487 : (Jvm.Cond.privateMethod ({ cls := "EditsMeet$Edit", name := "inserts", desc := "(LEditsMeet$Insert;)V" } : Jvm.MethodName)) ∈ lw_tbl := lw_at lw_m6 167 rfl
theorem q1488 : (Jvm.Cond.instanceMethod ({ cls := "EditsMeet$Edit", name := "inserts", desc := "(LEditsMeet$Insert;)V" } : Jvm.MethodName)) ∈ lw_all := lw_g (lw_at lw_m6 168 rfl) rfl
theorem q1489 : (Jvm.Cond.code ({ cls := "EditsMeet$Edit", name := "inserts", desc := "(LEditsMeet$Insert;)V" } : Jvm.MethodName) prog_6_method_9_code (4 : Nat) (Option.none : Option Jvm.ClassFile.FieldType)) ∈ lw_all := lw_g (lw_at lw_m6 169 rfl) rfl
theorem q1514 : (Jvm.Cond.interfaceEntry "EditsMeet$Edit" (81 : Nat)) ∈ lw_tbl := lw_at lw_m6 194 rfl
theorem q1515 : (Jvm.Cond.methodLink "EditsMeet$Edit" (81 : Nat) ({ cls := "EditsMeet$Part", name := "joined", desc := "(LEditsMeet$Part;)LEditsMeet$Part;" } : Jvm.MethodName)) ∈ lw_all := lw_g (lw_at lw_m6 195 rfl) rfl
theorem q1541 : (Jvm.Cond.methodLink "EditsMeet$Edit" (85 : Nat) ({ cls := "java/util/ArrayList", name := "set", desc := "(ILjava/lang/Object;)Ljava/lang/Object;" } : Jvm.MethodName)) ∈ lw_all := lw_g (lw_at lw_m6 221 rfl) rfl
theorem q1562 : (Jvm.Cond.instanceMethod ({ cls := "EditsMeet$Edit", name := "from", desc := "()I" } : Jvm.MethodName)) ∈ lw_all := lw_g (lw_at lw_m7 2 rfl) rfl
theorem q1563 : (Jvm.Cond.selects "EditsMeet$Edit" ({ cls := "EditsMeet$Edit", name := "from", desc := "()I" } : Jvm.MethodName) ({ cls := "EditsMeet$Edit", name := "from", desc := "()I" } : Jvm.MethodName)) ∈ lw_all := lw_g (lw_at lw_m7 3 rfl) rfl
theorem q1564 : (Jvm.Cond.code ({ cls := "EditsMeet$Edit", name := "from", desc := "()I" } : Jvm.MethodName) prog_6_method_16_code (1 : Nat) (Option.some Jvm.ClassFile.FieldType.int)) ∈ lw_all := lw_g (lw_at lw_m7 4 rfl) rfl
theorem q1565 : (Jvm.Cond.static ({ cls := "EditsMeet$Edit", name := "lambda$from$0", desc := "(LEditsMeet$Part;)I" } : Jvm.MethodName)) ∈ lw_all := lw_g (lw_at lw_m7 5 rfl) rfl
theorem q1566 : (Jvm.Cond.code ({ cls := "EditsMeet$Edit", name := "lambda$from$0", desc := "(LEditsMeet$Part;)I" } : Jvm.MethodName) prog_6_method_21_code (1 : Nat) (Option.some Jvm.ClassFile.FieldType.int)) ∈ lw_all := lw_g (lw_at lw_m7 6 rfl) rfl
theorem q1567 : (Jvm.Cond.interfaceEntry "EditsMeet$Edit" (166 : Nat)) ∈ lw_tbl := lw_at lw_m7 7 rfl
theorem q1568 : (Jvm.Cond.methodLink "EditsMeet$Edit" (166 : Nat) ({ cls := "EditsMeet$Part", name := "takes", desc := "()I" } : Jvm.MethodName)) ∈ lw_all := lw_g (lw_at lw_m7 8 rfl) rfl
theorem q1582 : (Jvm.Cond.methodLink "EditsMeet$Edit" (125 : Nat) ({ cls := "EditsMeet$Edit", name := "sum", desc := "(LEditsMeet$Counted;)I" } : Jvm.MethodName)) ∈ lw_all := lw_g (lw_at lw_m7 22 rfl) rfl
theorem q1583 : (Jvm.Cond.instanceMethod ({ cls := "EditsMeet$Edit", name := "sum", desc := "(LEditsMeet$Counted;)I" } : Jvm.MethodName)) ∈ lw_all := lw_g (lw_at lw_m7 23 rfl) rfl
theorem q1584 : (Jvm.Cond.selects "EditsMeet$Edit" ({ cls := "EditsMeet$Edit", name := "sum", desc := "(LEditsMeet$Counted;)I" } : Jvm.MethodName) ({ cls := "EditsMeet$Edit", name := "sum", desc := "(LEditsMeet$Counted;)I" } : Jvm.MethodName)) ∈ lw_all := lw_g (lw_at lw_m7 24 rfl) rfl
theorem q1585 : (Jvm.Cond.code ({ cls := "EditsMeet$Edit", name := "sum", desc := "(LEditsMeet$Counted;)I" } : Jvm.MethodName) prog_6_method_15_code (4 : Nat) (Option.some Jvm.ClassFile.FieldType.int)) ∈ lw_all := lw_g (lw_at lw_m7 25 rfl) rfl
theorem q1586 : (Jvm.Cond.interfaceEntry "EditsMeet$Edit" (116 : Nat)) ∈ lw_tbl := lw_at lw_m7 26 rfl
theorem q1587 : (Jvm.Cond.methodLink "EditsMeet$Edit" (116 : Nat) ({ cls := "EditsMeet$Counted", name := "of", desc := "(LEditsMeet$Part;)I" } : Jvm.MethodName)) ∈ lw_all := lw_g (lw_at lw_m7 27 rfl) rfl
theorem q1591 : (Jvm.Cond.instanceMethod ({ cls := "EditsMeet$Edit", name := "to", desc := "()I" } : Jvm.MethodName)) ∈ lw_all := lw_g (lw_at lw_m7 31 rfl) rfl
theorem q1592 : (Jvm.Cond.selects "EditsMeet$Edit" ({ cls := "EditsMeet$Edit", name := "to", desc := "()I" } : Jvm.MethodName) ({ cls := "EditsMeet$Edit", name := "to", desc := "()I" } : Jvm.MethodName)) ∈ lw_all := lw_g (lw_at lw_m7 32 rfl) rfl
theorem q1593 : (Jvm.Cond.code ({ cls := "EditsMeet$Edit", name := "to", desc := "()I" } : Jvm.MethodName) prog_6_method_17_code (1 : Nat) (Option.some Jvm.ClassFile.FieldType.int)) ∈ lw_all := lw_g (lw_at lw_m7 33 rfl) rfl
theorem q1594 : (Jvm.Cond.static ({ cls := "EditsMeet$Edit", name := "lambda$to$1", desc := "(LEditsMeet$Part;)I" } : Jvm.MethodName)) ∈ lw_all := lw_g (lw_at lw_m7 34 rfl) rfl
theorem q1595 : (Jvm.Cond.code ({ cls := "EditsMeet$Edit", name := "lambda$to$1", desc := "(LEditsMeet$Part;)I" } : Jvm.MethodName) prog_6_method_20_code (1 : Nat) (Option.some Jvm.ClassFile.FieldType.int)) ∈ lw_all := lw_g (lw_at lw_m7 35 rfl) rfl
theorem q1596 : (Jvm.Cond.interfaceEntry "EditsMeet$Edit" (169 : Nat)) ∈ lw_tbl := lw_at lw_m7 36 rfl
theorem q1597 : (Jvm.Cond.methodLink "EditsMeet$Edit" (169 : Nat) ({ cls := "EditsMeet$Part", name := "gives", desc := "()I" } : Jvm.MethodName)) ∈ lw_all := lw_g (lw_at lw_m7 37 rfl) rfl
theorem q1656 : (Jvm.Cond.instanceMethod ({ cls := "EditsMeet$Edit", name := "spelled", desc := "()Ljava/lang/String;" } : Jvm.MethodName)) ∈ lw_all := lw_g (lw_at lw_m7 96 rfl) rfl
theorem q1657 : (Jvm.Cond.selects "EditsMeet$Edit" ({ cls := "EditsMeet$Edit", name := "spelled", desc := "()Ljava/lang/String;" } : Jvm.MethodName) ({ cls := "EditsMeet$Edit", name := "spelled", desc := "()Ljava/lang/String;" } : Jvm.MethodName)) ∈ lw_all := lw_g (lw_at lw_m7 97 rfl) rfl
theorem q1658 : (Jvm.Cond.code ({ cls := "EditsMeet$Edit", name := "spelled", desc := "()Ljava/lang/String;" } : Jvm.MethodName) prog_6_method_18_code (4 : Nat) (Option.some (Jvm.ClassFile.FieldType.object "java/lang/String"))) ∈ lw_all := lw_g (lw_at lw_m7 98 rfl) rfl
theorem q1659 : (Jvm.Cond.classLink "EditsMeet$Edit" (130 : Nat) "java/lang/StringBuilder") ∈ lw_all := lw_g (lw_at lw_m7 99 rfl) rfl
theorem q1660 : (Jvm.Cond.methodLink "EditsMeet$Edit" (132 : Nat) ({ cls := "java/lang/StringBuilder", name := "<init>", desc := "()V" } : Jvm.MethodName)) ∈ lw_all := lw_g (lw_at lw_m7 100 rfl) rfl
theorem q1661 : (Jvm.Cond.methodLink "EditsMeet$Edit" (133 : Nat) ({ cls := "EditsMeet$Edit", name := "iterator", desc := "()Ljava/util/Iterator;" } : Jvm.MethodName)) ∈ lw_all := lw_g (lw_at lw_m7 101 rfl) rfl
theorem q1662 : (Jvm.Cond.instanceMethod ({ cls := "EditsMeet$Edit", name := "iterator", desc := "()Ljava/util/Iterator;" } : Jvm.MethodName)) ∈ lw_all := lw_g (lw_at lw_m7 102 rfl) rfl
theorem q1663 : (Jvm.Cond.selects "EditsMeet$Edit" ({ cls := "EditsMeet$Edit", name := "iterator", desc := "()Ljava/util/Iterator;" } : Jvm.MethodName) ({ cls := "EditsMeet$Edit", name := "iterator", desc := "()Ljava/util/Iterator;" } : Jvm.MethodName)) ∈ lw_all := lw_g (lw_at lw_m7 103 rfl) rfl
theorem q1664 : (Jvm.Cond.code ({ cls := "EditsMeet$Edit", name := "iterator", desc := "()Ljava/util/Iterator;" } : Jvm.MethodName) prog_6_method_2_code (1 : Nat) (Option.some (Jvm.ClassFile.FieldType.object "java/util/Iterator"))) ∈ lw_all := lw_g (lw_at lw_m7 104 rfl) rfl
theorem q1665 : (Jvm.Cond.classLink "EditsMeet$Edit" (18 : Nat) "EditsMeet$Goes") ∈ lw_all := lw_g (lw_at lw_m7 105 rfl) rfl
theorem q1666 : (Jvm.Cond.methodLinkNest "EditsMeet$Edit" (20 : Nat) ({ cls := "EditsMeet$Goes", name := "<init>", desc := "()V" } : Jvm.MethodName) "EditsMeet") ∈ lw_tbl := lw_at lw_m7 106 rfl
theorem q1667 : (Jvm.Cond.methodLink "EditsMeet$Edit" (21 : Nat) ({ cls := "EditsMeet$Goes", name := "along", desc := "(LEditsMeet$Edit;)LEditsMeet$Goes;" } : Jvm.MethodName)) ∈ lw_all := lw_g (lw_at lw_m7 107 rfl) rfl
theorem q1671 : (Jvm.Cond.interfaceEntry "EditsMeet$Edit" (137 : Nat)) ∈ lw_tbl := lw_at lw_m7 111 rfl
theorem q1672 : (Jvm.Cond.methodLink "EditsMeet$Edit" (137 : Nat) ({ cls := "java/util/Iterator", name := "hasNext", desc := "()Z" } : Jvm.MethodName)) ∈ lw_all := lw_g (lw_at lw_m7 112 rfl) rfl
theorem q1717 : (Jvm.Cond.interfaceEntry "EditsMeet$Edit" (142 : Nat)) ∈ lw_tbl := lw_at lw_m7 157 rfl
theorem q1718 : (Jvm.Cond.methodLink "EditsMeet$Edit" (142 : Nat) ({ cls := "java/util/Iterator", name := "next", desc := "()Ljava/lang/Object;" } : Jvm.MethodName)) ∈ lw_all := lw_g (lw_at lw_m7 158 rfl) rfl
theorem q1975 : (Jvm.Cond.interfaceEntry "EditsMeet$Edit" (146 : Nat)) ∈ lw_tbl := lw_at lw_m8 175 rfl
theorem q1976 : (Jvm.Cond.methodLink "EditsMeet$Edit" (146 : Nat) ({ cls := "EditsMeet$Part", name := "spells", desc := "(Ljava/lang/StringBuilder;)V" } : Jvm.MethodName)) ∈ lw_all := lw_g (lw_at lw_m8 176 rfl) rfl
theorem q2014 : (Jvm.Cond.methodLink "EditsMeet$Edit" (150 : Nat) ({ cls := "java/lang/StringBuilder", name := "toString", desc := "()Ljava/lang/String;" } : Jvm.MethodName)) ∈ lw_all := lw_g (lw_at lw_m8 214 rfl) rfl
theorem q2056 : (Jvm.Cond.instanceMethod ({ cls := "EditsMeet$Edit", name := "empties", desc := "()V" } : Jvm.MethodName)) ∈ lw_all := lw_g (lw_at lw_m9 16 rfl) rfl
theorem q2057 : (Jvm.Cond.selects "EditsMeet$Edit" ({ cls := "EditsMeet$Edit", name := "empties", desc := "()V" } : Jvm.MethodName) ({ cls := "EditsMeet$Edit", name := "empties", desc := "()V" } : Jvm.MethodName)) ∈ lw_all := lw_g (lw_at lw_m9 17 rfl) rfl
theorem q2058 : (Jvm.Cond.code ({ cls := "EditsMeet$Edit", name := "empties", desc := "()V" } : Jvm.MethodName) prog_6_method_3_code (1 : Nat) (Option.none : Option Jvm.ClassFile.FieldType)) ∈ lw_all := lw_g (lw_at lw_m9 18 rfl) rfl
theorem q2059 : (Jvm.Cond.methodLink "EditsMeet$Edit" (25 : Nat) ({ cls := "java/util/ArrayList", name := "clear", desc := "()V" } : Jvm.MethodName)) ∈ lw_all := lw_g (lw_at lw_m9 19 rfl) rfl
theorem q2214 : (Jvm.Cond.instanceMethod ({ cls := "EditsMeet$Edit", name := "turns", desc := "(II)V" } : Jvm.MethodName)) ∈ lw_all := lw_g (lw_at lw_m9 174 rfl) rfl
theorem q2215 : (Jvm.Cond.selects "EditsMeet$Edit" ({ cls := "EditsMeet$Edit", name := "turns", desc := "(II)V" } : Jvm.MethodName) ({ cls := "EditsMeet$Edit", name := "turns", desc := "(II)V" } : Jvm.MethodName)) ∈ lw_all := lw_g (lw_at lw_m9 175 rfl) rfl
theorem q2216 : (Jvm.Cond.code ({ cls := "EditsMeet$Edit", name := "turns", desc := "(II)V" } : Jvm.MethodName) prog_6_method_12_code (4 : Nat) (Option.none : Option Jvm.ClassFile.FieldType)) ∈ lw_all := lw_g (lw_at lw_m9 176 rfl) rfl
theorem q2217 : (Jvm.Cond.methodLink "EditsMeet$Edit" (112 : Nat) ({ cls := "EditsMeet$Part", name := "mark", desc := "(III)LEditsMeet$Part;" } : Jvm.MethodName)) ∈ lw_all := lw_g (lw_at lw_m9 177 rfl) rfl
theorem q2385 : (Jvm.Cond.instanceMethod ({ cls := "EditsMeet$Edit", name := "moved", desc := "(IZ)I" } : Jvm.MethodName)) ∈ lw_all := lw_g (lw_at lw_m10 105 rfl) rfl
theorem q2386 : (Jvm.Cond.selects "EditsMeet$Edit" ({ cls := "EditsMeet$Edit", name := "moved", desc := "(IZ)I" } : Jvm.MethodName) ({ cls := "EditsMeet$Edit", name := "moved", desc := "(IZ)I" } : Jvm.MethodName)) ∈ lw_all := lw_g (lw_at lw_m10 106 rfl) rfl
theorem q2387 : (Jvm.Cond.code ({ cls := "EditsMeet$Edit", name := "moved", desc := "(IZ)I" } : Jvm.MethodName) prog_6_method_19_code (8 : Nat) (Option.some Jvm.ClassFile.FieldType.int)) ∈ lw_all := lw_g (lw_at lw_m10 107 rfl) rfl
theorem q2388 : (Jvm.Cond.interfaceEntry "EditsMeet$Edit" (154 : Nat)) ∈ lw_tbl := lw_at lw_m10 108 rfl
theorem q2389 : (Jvm.Cond.methodLink "EditsMeet$Edit" (154 : Nat) ({ cls := "EditsMeet$Part", name := "inserts", desc := "()Z" } : Jvm.MethodName)) ∈ lw_all := lw_g (lw_at lw_m10 109 rfl) rfl
theorem q2390 : (Jvm.Cond.interfaceEntry "EditsMeet$Edit" (156 : Nat)) ∈ lw_tbl := lw_at lw_m10 110 rfl
theorem q2391 : (Jvm.Cond.methodLink "EditsMeet$Edit" (156 : Nat) ({ cls := "EditsMeet$Part", name := "deletes", desc := "()Z" } : Jvm.MethodName)) ∈ lw_all := lw_g (lw_at lw_m10 111 rfl) rfl
theorem q2392 : (Jvm.Cond.methodLink "EditsMeet$Edit" (157 : Nat) ({ cls := "java/lang/Math", name := "min", desc := "(II)I" } : Jvm.MethodName)) ∈ lw_all := lw_g (lw_at lw_m10 112 rfl) rfl
theorem q2393 : (Jvm.Cond.methodLink "EditsMeet$Edit" (163 : Nat) ({ cls := "java/lang/Math", name := "max", desc := "(II)I" } : Jvm.MethodName)) ∈ lw_all := lw_g (lw_at lw_m10 113 rfl) rfl
theorem q2400 : (Jvm.Cond.instanceMethod ({ cls := "EditsMeet$Edit", name := "swaps", desc := "(LEditsMeet$Edit;)V" } : Jvm.MethodName)) ∈ lw_all := lw_g (lw_at lw_m10 120 rfl) rfl
theorem q2401 : (Jvm.Cond.selects "EditsMeet$Edit" ({ cls := "EditsMeet$Edit", name := "swaps", desc := "(LEditsMeet$Edit;)V" } : Jvm.MethodName) ({ cls := "EditsMeet$Edit", name := "swaps", desc := "(LEditsMeet$Edit;)V" } : Jvm.MethodName)) ∈ lw_all := lw_g (lw_at lw_m10 121 rfl) rfl
theorem q2402 : (Jvm.Cond.code ({ cls := "EditsMeet$Edit", name := "swaps", desc := "(LEditsMeet$Edit;)V" } : Jvm.MethodName) prog_6_method_6_code (3 : Nat) (Option.none : Option Jvm.ClassFile.FieldType)) ∈ lw_all := lw_g (lw_at lw_m10 122 rfl) rfl
theorem q2404 : (Jvm.Cond.instanceMethod ({ cls := "EditsMeet$Edit", name := "becomes", desc := "(LEditsMeet$Edit;)LEditsMeet$Edit;" } : Jvm.MethodName)) ∈ lw_all := lw_g (lw_at lw_m10 124 rfl) rfl
theorem q2405 : (Jvm.Cond.selects "EditsMeet$Edit" ({ cls := "EditsMeet$Edit", name := "becomes", desc := "(LEditsMeet$Edit;)LEditsMeet$Edit;" } : Jvm.MethodName) ({ cls := "EditsMeet$Edit", name := "becomes", desc := "(LEditsMeet$Edit;)LEditsMeet$Edit;" } : Jvm.MethodName)) ∈ lw_all := lw_g (lw_at lw_m10 125 rfl) rfl
theorem q2406 : (Jvm.Cond.code ({ cls := "EditsMeet$Edit", name := "becomes", desc := "(LEditsMeet$Edit;)LEditsMeet$Edit;" } : Jvm.MethodName) prog_6_method_4_code (3 : Nat) (Option.some (Jvm.ClassFile.FieldType.object "EditsMeet$Edit"))) ∈ lw_all := lw_g (lw_at lw_m10 126 rfl) rfl
theorem q2407 : (Jvm.Cond.methodLink "EditsMeet$Edit" (36 : Nat) ({ cls := "EditsMeet$Edit", name := "empties", desc := "()V" } : Jvm.MethodName)) ∈ lw_all := lw_g (lw_at lw_m10 127 rfl) rfl
theorem q2408 : (Jvm.Cond.methodLink "EditsMeet$Edit" (39 : Nat) ({ cls := "EditsMeet$Edit", name := "many", desc := "()I" } : Jvm.MethodName)) ∈ lw_all := lw_g (lw_at lw_m10 128 rfl) rfl
theorem q2409 : (Jvm.Cond.methodLink "EditsMeet$Edit" (43 : Nat) ({ cls := "EditsMeet$Edit", name := "get", desc := "(I)LEditsMeet$Part;" } : Jvm.MethodName)) ∈ lw_all := lw_g (lw_at lw_m10 129 rfl) rfl
theorem q2505 : (Jvm.Cond.instanceMethod ({ cls := "EditsMeet$Edit", name := "copied", desc := "()LEditsMeet$Edit;" } : Jvm.MethodName)) ∈ lw_all := lw_g (lw_at lw_m10 225 rfl) rfl
theorem q2506 : (Jvm.Cond.selects "EditsMeet$Edit" ({ cls := "EditsMeet$Edit", name := "copied", desc := "()LEditsMeet$Edit;" } : Jvm.MethodName) ({ cls := "EditsMeet$Edit", name := "copied", desc := "()LEditsMeet$Edit;" } : Jvm.MethodName)) ∈ lw_all := lw_g (lw_at lw_m10 226 rfl) rfl
theorem q2507 : (Jvm.Cond.code ({ cls := "EditsMeet$Edit", name := "copied", desc := "()LEditsMeet$Edit;" } : Jvm.MethodName) prog_6_method_5_code (1 : Nat) (Option.some (Jvm.ClassFile.FieldType.object "EditsMeet$Edit"))) ∈ lw_all := lw_g (lw_at lw_m10 227 rfl) rfl
theorem q2508 : (Jvm.Cond.classLink "EditsMeet$Edit" (13 : Nat) "EditsMeet$Edit") ∈ lw_all := lw_g (lw_at lw_m10 228 rfl) rfl
theorem q2509 : (Jvm.Cond.methodLink "EditsMeet$Edit" (51 : Nat) ({ cls := "EditsMeet$Edit", name := "<init>", desc := "()V" } : Jvm.MethodName)) ∈ lw_all := lw_g (lw_at lw_m10 229 rfl) rfl
theorem q2510 : (Jvm.Cond.methodLink "EditsMeet$Edit" (52 : Nat) ({ cls := "EditsMeet$Edit", name := "becomes", desc := "(LEditsMeet$Edit;)LEditsMeet$Edit;" } : Jvm.MethodName)) ∈ lw_all := lw_g (lw_at lw_m10 230 rfl) rfl
theorem q3626 : (Jvm.Cond.castable "EditsMeet$Edit" "java/lang/Object") ∈ lw_tbl := lw_at lw_m15 146 rfl
theorem in_X8 : ∀ w ∈ wsX80, w ∈ lw_all := lw_in wsX80 [411, 413, 415] (by decide +kernel) (by decide +kernel)

/-! EditsMeet$Client -/
set_option maxRecDepth 100000
def RX9 : String := "EditsMeet$Client"
def TX9 : u_T := fun k => match k with
  | 0 => ("EditsMeet$Client", "text", "LEditsMeet$Text;", true)
  | 1 => ("EditsMeet$Client", "cursor", "[I", true)
  | 2 => ("EditsMeet$Client", "undo", "LEditsMeet$Pile;", true)
  | 3 => ("EditsMeet$Client", "redo", "LEditsMeet$Pile;", true)
  | 4 => ("EditsMeet$Client", "weaver", "LEditsMeet$Weaver;", true)
  | 5 => ("EditsMeet$Client", "revision", "I", false)
  | 6 => ("EditsMeet$Client", "sent", "LEditsMeet$Edit;", true)
  | 7 => ("EditsMeet$Client", "isSent", "Z", false)
  | 8 => ("EditsMeet$Client", "asSent", "LEditsMeet$Edit;", false)
  | 9 => ("EditsMeet$Client", "sentFor", "I", false)
  | 10 => ("EditsMeet$Client", "isServed", "Z", false)
  | 11 => ("EditsMeet$Client", "waits", "LEditsMeet$Edit;", true)
  | 12 => ("EditsMeet$Client", "beside", "LEditsMeet$Edit;", true)
  | _ => ("EditsMeet$Client", "isWaiting", "Z", false)
def tyX9 : Nat → FieldType := fun k => match k with
  | 0 => .object "EditsMeet$Text"
  | 1 => .array .int
  | 2 => .object "EditsMeet$Pile"
  | 3 => .object "EditsMeet$Pile"
  | 4 => .object "EditsMeet$Weaver"
  | 5 => .int
  | 6 => .object "EditsMeet$Edit"
  | 7 => .boolean
  | 8 => .object "EditsMeet$Edit"
  | 9 => .int
  | 10 => .boolean
  | 11 => .object "EditsMeet$Edit"
  | 12 => .object "EditsMeet$Edit"
  | _ => .boolean
abbrev wsX90 : List Cond := u_ws RX9 TX9 14
set_option maxRecDepth 100000 in
theorem nmX9 : ∀ a, a < 14 → ∀ b, b < 14 → a ≠ b → (TX9 a).2.1 ≠ (TX9 b).2.1 := by decide +kernel
set_option maxRecDepth 100000 in
theorem tyX9_ok : ∀ k, k < 14 → parseFieldDescriptor (TX9 k).2.2.1 = some (tyX9 k) := by decide +kernel
abbrev cX9_init : ByteArray := prog_3_method_1_code
def yX9_init : MethodName := ⟨RX9, "<init>", "(LEditsMeet$Weaver;)V"⟩
def dkwX9_init_3 : List UInt8 := [187, 0, 30, 89, 183, 0, 32, 181, 0, 40, 42, 43, 181, 0, 43, 177]
abbrev dktX9_init_3 : List UInt8 := dkwX9_init_3 ++ []
def dkwX9_init_2 : List UInt8 := [187, 0, 30, 89, 183, 0, 32, 181, 0, 33, 42, 187, 0, 30, 89, 183, 0, 32, 181, 0, 37, 42]
abbrev dktX9_init_2 : List UInt8 := dkwX9_init_2 ++ dktX9_init_3
def dkwX9_init_1 : List UInt8 := [187, 0, 20, 89, 183, 0, 22, 181, 0, 23, 42, 187, 0, 20, 89, 183, 0, 22, 181, 0, 27, 42]
abbrev dktX9_init_1 : List UInt8 := dkwX9_init_1 ++ dktX9_init_2
def dkwX9_init_0 : List UInt8 := [42, 183, 0, 1, 42, 187, 0, 7, 89, 183, 0, 9, 181, 0, 10, 42, 5, 188, 10, 181, 0, 16, 42]
abbrev dktX9_init_0 : List UInt8 := dkwX9_init_0 ++ dktX9_init_1
theorem dksX9_init_0 : cX9_init.data.toList.drop 0 = dktX9_init_0 := by decide +kernel
theorem dksX9_init_1 : cX9_init.data.toList.drop 23 = dktX9_init_1 := dk_seg dksX9_init_0 23 rfl rfl
theorem dksX9_init_2 : cX9_init.data.toList.drop 45 = dktX9_init_2 := dk_seg dksX9_init_1 22 rfl rfl
theorem dksX9_init_3 : cX9_init.data.toList.drop 67 = dktX9_init_3 := dk_seg dksX9_init_2 22 rfl rfl
theorem dX9_init_0 : decode cX9_init 0 = .ok (.aload_n 0, 1) := dk_42 (dk_at dksX9_init_0 0 rfl rfl)
theorem dX9_init_1 : decode cX9_init 1 = .ok (.invokespecial 1, 3) := dk_183 0 1 (dk_at dksX9_init_0 1 rfl rfl)
theorem dX9_init_4 : decode cX9_init 4 = .ok (.aload_n 0, 1) := dk_42 (dk_at dksX9_init_0 4 rfl rfl)
theorem dX9_init_5 : decode cX9_init 5 = .ok (.new 7, 3) := dk_187 0 7 (dk_at dksX9_init_0 5 rfl rfl)
theorem dX9_init_8 : decode cX9_init 8 = .ok (.dup, 1) := dk_89 (dk_at dksX9_init_0 8 rfl rfl)
theorem dX9_init_9 : decode cX9_init 9 = .ok (.invokespecial 9, 3) := dk_183 0 9 (dk_at dksX9_init_0 9 rfl rfl)
theorem dX9_init_12 : decode cX9_init 12 = .ok (.putfield 10, 3) := dk_181 0 10 (dk_at dksX9_init_0 12 rfl rfl)
theorem dX9_init_15 : decode cX9_init 15 = .ok (.aload_n 0, 1) := dk_42 (dk_at dksX9_init_0 15 rfl rfl)
theorem dX9_init_16 : decode cX9_init 16 = .ok (.iconst 2, 1) := dk_5 (dk_at dksX9_init_0 16 rfl rfl)
theorem dX9_init_17 : decode cX9_init 17 = .ok (.newarray .int, 2) := dk_188_10 (dk_at dksX9_init_0 17 rfl rfl)
theorem dX9_init_19 : decode cX9_init 19 = .ok (.putfield 16, 3) := dk_181 0 16 (dk_at dksX9_init_0 19 rfl rfl)
theorem dX9_init_22 : decode cX9_init 22 = .ok (.aload_n 0, 1) := dk_42 (dk_at dksX9_init_0 22 rfl rfl)
theorem dX9_init_23 : decode cX9_init 23 = .ok (.new 20, 3) := dk_187 0 20 (dk_at dksX9_init_1 0 rfl rfl)
theorem dX9_init_26 : decode cX9_init 26 = .ok (.dup, 1) := dk_89 (dk_at dksX9_init_1 3 rfl rfl)
theorem dX9_init_27 : decode cX9_init 27 = .ok (.invokespecial 22, 3) := dk_183 0 22 (dk_at dksX9_init_1 4 rfl rfl)
theorem dX9_init_30 : decode cX9_init 30 = .ok (.putfield 23, 3) := dk_181 0 23 (dk_at dksX9_init_1 7 rfl rfl)
theorem dX9_init_33 : decode cX9_init 33 = .ok (.aload_n 0, 1) := dk_42 (dk_at dksX9_init_1 10 rfl rfl)
theorem dX9_init_34 : decode cX9_init 34 = .ok (.new 20, 3) := dk_187 0 20 (dk_at dksX9_init_1 11 rfl rfl)
theorem dX9_init_37 : decode cX9_init 37 = .ok (.dup, 1) := dk_89 (dk_at dksX9_init_1 14 rfl rfl)
theorem dX9_init_38 : decode cX9_init 38 = .ok (.invokespecial 22, 3) := dk_183 0 22 (dk_at dksX9_init_1 15 rfl rfl)
theorem dX9_init_41 : decode cX9_init 41 = .ok (.putfield 27, 3) := dk_181 0 27 (dk_at dksX9_init_1 18 rfl rfl)
theorem dX9_init_44 : decode cX9_init 44 = .ok (.aload_n 0, 1) := dk_42 (dk_at dksX9_init_1 21 rfl rfl)
theorem dX9_init_45 : decode cX9_init 45 = .ok (.new 30, 3) := dk_187 0 30 (dk_at dksX9_init_2 0 rfl rfl)
theorem dX9_init_48 : decode cX9_init 48 = .ok (.dup, 1) := dk_89 (dk_at dksX9_init_2 3 rfl rfl)
theorem dX9_init_49 : decode cX9_init 49 = .ok (.invokespecial 32, 3) := dk_183 0 32 (dk_at dksX9_init_2 4 rfl rfl)
theorem dX9_init_52 : decode cX9_init 52 = .ok (.putfield 33, 3) := dk_181 0 33 (dk_at dksX9_init_2 7 rfl rfl)
theorem dX9_init_55 : decode cX9_init 55 = .ok (.aload_n 0, 1) := dk_42 (dk_at dksX9_init_2 10 rfl rfl)
theorem dX9_init_56 : decode cX9_init 56 = .ok (.new 30, 3) := dk_187 0 30 (dk_at dksX9_init_2 11 rfl rfl)
theorem dX9_init_59 : decode cX9_init 59 = .ok (.dup, 1) := dk_89 (dk_at dksX9_init_2 14 rfl rfl)
theorem dX9_init_60 : decode cX9_init 60 = .ok (.invokespecial 32, 3) := dk_183 0 32 (dk_at dksX9_init_2 15 rfl rfl)
theorem dX9_init_63 : decode cX9_init 63 = .ok (.putfield 37, 3) := dk_181 0 37 (dk_at dksX9_init_2 18 rfl rfl)
theorem dX9_init_66 : decode cX9_init 66 = .ok (.aload_n 0, 1) := dk_42 (dk_at dksX9_init_2 21 rfl rfl)
theorem dX9_init_67 : decode cX9_init 67 = .ok (.new 30, 3) := dk_187 0 30 (dk_at dksX9_init_3 0 rfl rfl)
theorem dX9_init_70 : decode cX9_init 70 = .ok (.dup, 1) := dk_89 (dk_at dksX9_init_3 3 rfl rfl)
theorem dX9_init_71 : decode cX9_init 71 = .ok (.invokespecial 32, 3) := dk_183 0 32 (dk_at dksX9_init_3 4 rfl rfl)
theorem dX9_init_74 : decode cX9_init 74 = .ok (.putfield 40, 3) := dk_181 0 40 (dk_at dksX9_init_3 7 rfl rfl)
theorem dX9_init_77 : decode cX9_init 77 = .ok (.aload_n 0, 1) := dk_42 (dk_at dksX9_init_3 10 rfl rfl)
theorem dX9_init_78 : decode cX9_init 78 = .ok (.aload_n 1, 1) := dk_43 (dk_at dksX9_init_3 11 rfl rfl)
theorem dX9_init_79 : decode cX9_init 79 = .ok (.putfield 43, 3) := dk_181 0 43 (dk_at dksX9_init_3 12 rfl rfl)
theorem dX9_init_82 : decode cX9_init 82 = .ok (.return_, 1) := dk_177 (dk_at dksX9_init_3 15 rfl rfl)
abbrev cX9_does : ByteArray := prog_3_method_8_code
def yX9_does : MethodName := ⟨RX9, "does", "(LEditsMeet$Edit;LEditsMeet$Pile;)V"⟩
def dkwX9_does_1 : List UInt8 := [153, 0, 11, 42, 43, 182, 0, 106, 167, 0, 8, 42, 43, 182, 0, 109, 177]
abbrev dktX9_does_1 : List UInt8 := dkwX9_does_1 ++ []
def dkwX9_does_0 : List UInt8 := [42, 180, 0, 10, 44, 182, 0, 94, 43, 182, 0, 98, 87, 42, 43, 4, 182, 0, 102, 42, 180, 0, 61]
abbrev dktX9_does_0 : List UInt8 := dkwX9_does_0 ++ dktX9_does_1
theorem dksX9_does_0 : cX9_does.data.toList.drop 0 = dktX9_does_0 := by decide +kernel
theorem dksX9_does_1 : cX9_does.data.toList.drop 23 = dktX9_does_1 := dk_seg dksX9_does_0 23 rfl rfl
theorem dX9_does_0 : decode cX9_does 0 = .ok (.aload_n 0, 1) := dk_42 (dk_at dksX9_does_0 0 rfl rfl)
theorem dX9_does_1 : decode cX9_does 1 = .ok (.getfield 10, 3) := dk_180 0 10 (dk_at dksX9_does_0 1 rfl rfl)
theorem dX9_does_4 : decode cX9_does 4 = .ok (.aload_n 2, 1) := dk_44 (dk_at dksX9_does_0 4 rfl rfl)
theorem dX9_does_5 : decode cX9_does 5 = .ok (.invokevirtual 94, 3) := dk_182 0 94 (dk_at dksX9_does_0 5 rfl rfl)
theorem dX9_does_8 : decode cX9_does 8 = .ok (.aload_n 1, 1) := dk_43 (dk_at dksX9_does_0 8 rfl rfl)
theorem dX9_does_9 : decode cX9_does 9 = .ok (.invokevirtual 98, 3) := dk_182 0 98 (dk_at dksX9_does_0 9 rfl rfl)
theorem dX9_does_12 : decode cX9_does 12 = .ok (.pop, 1) := dk_87 (dk_at dksX9_does_0 12 rfl rfl)
theorem dX9_does_13 : decode cX9_does 13 = .ok (.aload_n 0, 1) := dk_42 (dk_at dksX9_does_0 13 rfl rfl)
theorem dX9_does_14 : decode cX9_does 14 = .ok (.aload_n 1, 1) := dk_43 (dk_at dksX9_does_0 14 rfl rfl)
theorem dX9_does_15 : decode cX9_does 15 = .ok (.iconst 1, 1) := dk_4 (dk_at dksX9_does_0 15 rfl rfl)
theorem dX9_does_16 : decode cX9_does 16 = .ok (.invokevirtual 102, 3) := dk_182 0 102 (dk_at dksX9_does_0 16 rfl rfl)
theorem dX9_does_19 : decode cX9_does 19 = .ok (.aload_n 0, 1) := dk_42 (dk_at dksX9_does_0 19 rfl rfl)
theorem dX9_does_20 : decode cX9_does 20 = .ok (.getfield 61, 3) := dk_180 0 61 (dk_at dksX9_does_0 20 rfl rfl)
theorem dX9_does_23 : decode cX9_does 23 = .ok (.ifCond .eq 11, 3) := dk_153 0 11 (dk_at dksX9_does_1 0 rfl rfl)
theorem dX9_does_26 : decode cX9_does 26 = .ok (.aload_n 0, 1) := dk_42 (dk_at dksX9_does_1 3 rfl rfl)
theorem dX9_does_27 : decode cX9_does 27 = .ok (.aload_n 1, 1) := dk_43 (dk_at dksX9_does_1 4 rfl rfl)
theorem dX9_does_28 : decode cX9_does 28 = .ok (.invokevirtual 106, 3) := dk_182 0 106 (dk_at dksX9_does_1 5 rfl rfl)
theorem dX9_does_31 : decode cX9_does 31 = .ok (.goto 8, 3) := dk_167 0 8 (dk_at dksX9_does_1 8 rfl rfl)
theorem dX9_does_34 : decode cX9_does 34 = .ok (.aload_n 0, 1) := dk_42 (dk_at dksX9_does_1 11 rfl rfl)
theorem dX9_does_35 : decode cX9_does 35 = .ok (.aload_n 1, 1) := dk_43 (dk_at dksX9_does_1 12 rfl rfl)
theorem dX9_does_36 : decode cX9_does 36 = .ok (.invokevirtual 109, 3) := dk_182 0 109 (dk_at dksX9_does_1 13 rfl rfl)
theorem dX9_does_39 : decode cX9_does 39 = .ok (.return_, 1) := dk_177 (dk_at dksX9_does_1 16 rfl rfl)
abbrev cX9_moves : ByteArray := prog_3_method_6_code
def yX9_moves : MethodName := ⟨RX9, "moves", "(LEditsMeet$Edit;Z)V"⟩
def dkwX9_moves_1 : List UInt8 := [79, 42, 180, 0, 16, 4, 43, 42, 180, 0, 16, 4, 46, 28, 182, 0, 81, 79, 177]
abbrev dktX9_moves_1 : List UInt8 := dkwX9_moves_1 ++ []
def dkwX9_moves_0 : List UInt8 := [42, 180, 0, 10, 43, 182, 0, 77, 42, 180, 0, 16, 3, 43, 42, 180, 0, 16, 3, 46, 28, 182, 0, 81]
abbrev dktX9_moves_0 : List UInt8 := dkwX9_moves_0 ++ dktX9_moves_1
theorem dksX9_moves_0 : cX9_moves.data.toList.drop 0 = dktX9_moves_0 := by decide +kernel
theorem dksX9_moves_1 : cX9_moves.data.toList.drop 24 = dktX9_moves_1 := dk_seg dksX9_moves_0 24 rfl rfl
theorem dX9_moves_0 : decode cX9_moves 0 = .ok (.aload_n 0, 1) := dk_42 (dk_at dksX9_moves_0 0 rfl rfl)
theorem dX9_moves_1 : decode cX9_moves 1 = .ok (.getfield 10, 3) := dk_180 0 10 (dk_at dksX9_moves_0 1 rfl rfl)
theorem dX9_moves_4 : decode cX9_moves 4 = .ok (.aload_n 1, 1) := dk_43 (dk_at dksX9_moves_0 4 rfl rfl)
theorem dX9_moves_5 : decode cX9_moves 5 = .ok (.invokevirtual 77, 3) := dk_182 0 77 (dk_at dksX9_moves_0 5 rfl rfl)
theorem dX9_moves_8 : decode cX9_moves 8 = .ok (.aload_n 0, 1) := dk_42 (dk_at dksX9_moves_0 8 rfl rfl)
theorem dX9_moves_9 : decode cX9_moves 9 = .ok (.getfield 16, 3) := dk_180 0 16 (dk_at dksX9_moves_0 9 rfl rfl)
theorem dX9_moves_12 : decode cX9_moves 12 = .ok (.iconst 0, 1) := dk_3 (dk_at dksX9_moves_0 12 rfl rfl)
theorem dX9_moves_13 : decode cX9_moves 13 = .ok (.aload_n 1, 1) := dk_43 (dk_at dksX9_moves_0 13 rfl rfl)
theorem dX9_moves_14 : decode cX9_moves 14 = .ok (.aload_n 0, 1) := dk_42 (dk_at dksX9_moves_0 14 rfl rfl)
theorem dX9_moves_15 : decode cX9_moves 15 = .ok (.getfield 16, 3) := dk_180 0 16 (dk_at dksX9_moves_0 15 rfl rfl)
theorem dX9_moves_18 : decode cX9_moves 18 = .ok (.iconst 0, 1) := dk_3 (dk_at dksX9_moves_0 18 rfl rfl)
theorem dX9_moves_19 : decode cX9_moves 19 = .ok (.iaload, 1) := dk_46 (dk_at dksX9_moves_0 19 rfl rfl)
theorem dX9_moves_20 : decode cX9_moves 20 = .ok (.iload_n 2, 1) := dk_28 (dk_at dksX9_moves_0 20 rfl rfl)
theorem dX9_moves_21 : decode cX9_moves 21 = .ok (.invokevirtual 81, 3) := dk_182 0 81 (dk_at dksX9_moves_0 21 rfl rfl)
theorem dX9_moves_24 : decode cX9_moves 24 = .ok (.iastore, 1) := dk_79 (dk_at dksX9_moves_1 0 rfl rfl)
theorem dX9_moves_25 : decode cX9_moves 25 = .ok (.aload_n 0, 1) := dk_42 (dk_at dksX9_moves_1 1 rfl rfl)
theorem dX9_moves_26 : decode cX9_moves 26 = .ok (.getfield 16, 3) := dk_180 0 16 (dk_at dksX9_moves_1 2 rfl rfl)
theorem dX9_moves_29 : decode cX9_moves 29 = .ok (.iconst 1, 1) := dk_4 (dk_at dksX9_moves_1 5 rfl rfl)
theorem dX9_moves_30 : decode cX9_moves 30 = .ok (.aload_n 1, 1) := dk_43 (dk_at dksX9_moves_1 6 rfl rfl)
theorem dX9_moves_31 : decode cX9_moves 31 = .ok (.aload_n 0, 1) := dk_42 (dk_at dksX9_moves_1 7 rfl rfl)
theorem dX9_moves_32 : decode cX9_moves 32 = .ok (.getfield 16, 3) := dk_180 0 16 (dk_at dksX9_moves_1 8 rfl rfl)
theorem dX9_moves_35 : decode cX9_moves 35 = .ok (.iconst 1, 1) := dk_4 (dk_at dksX9_moves_1 11 rfl rfl)
theorem dX9_moves_36 : decode cX9_moves 36 = .ok (.iaload, 1) := dk_46 (dk_at dksX9_moves_1 12 rfl rfl)
theorem dX9_moves_37 : decode cX9_moves 37 = .ok (.iload_n 2, 1) := dk_28 (dk_at dksX9_moves_1 13 rfl rfl)
theorem dX9_moves_38 : decode cX9_moves 38 = .ok (.invokevirtual 81, 3) := dk_182 0 81 (dk_at dksX9_moves_1 14 rfl rfl)
theorem dX9_moves_41 : decode cX9_moves 41 = .ok (.iastore, 1) := dk_79 (dk_at dksX9_moves_1 17 rfl rfl)
theorem dX9_moves_42 : decode cX9_moves 42 = .ok (.return_, 1) := dk_177 (dk_at dksX9_moves_1 18 rfl rfl)
abbrev cX9_waitsFor : ByteArray := prog_3_method_7_code
def yX9_waitsFor : MethodName := ⟨RX9, "waitsFor", "(LEditsMeet$Edit;)V"⟩
def dkwX9_waitsFor_2 : List UInt8 := [4, 181, 0, 74, 177]
abbrev dktX9_waitsFor_2 : List UInt8 := dkwX9_waitsFor_2 ++ []
def dkwX9_waitsFor_1 : List UInt8 := [42, 180, 0, 37, 42, 180, 0, 40, 182, 0, 91, 167, 0, 12, 42, 180, 0, 37, 43, 182, 0, 58, 87, 42]
abbrev dktX9_waitsFor_1 : List UInt8 := dkwX9_waitsFor_1 ++ dktX9_waitsFor_2
def dkwX9_waitsFor_0 : List UInt8 := [42, 180, 0, 74, 153, 0, 34, 42, 180, 0, 43, 42, 180, 0, 40, 42, 180, 0, 37, 43, 182, 0, 85, 87]
abbrev dktX9_waitsFor_0 : List UInt8 := dkwX9_waitsFor_0 ++ dktX9_waitsFor_1
theorem dksX9_waitsFor_0 : cX9_waitsFor.data.toList.drop 0 = dktX9_waitsFor_0 := by decide +kernel
theorem dksX9_waitsFor_1 : cX9_waitsFor.data.toList.drop 24 = dktX9_waitsFor_1 := dk_seg dksX9_waitsFor_0 24 rfl rfl
theorem dksX9_waitsFor_2 : cX9_waitsFor.data.toList.drop 48 = dktX9_waitsFor_2 := dk_seg dksX9_waitsFor_1 24 rfl rfl
theorem dX9_waitsFor_0 : decode cX9_waitsFor 0 = .ok (.aload_n 0, 1) := dk_42 (dk_at dksX9_waitsFor_0 0 rfl rfl)
theorem dX9_waitsFor_1 : decode cX9_waitsFor 1 = .ok (.getfield 74, 3) := dk_180 0 74 (dk_at dksX9_waitsFor_0 1 rfl rfl)
theorem dX9_waitsFor_4 : decode cX9_waitsFor 4 = .ok (.ifCond .eq 34, 3) := dk_153 0 34 (dk_at dksX9_waitsFor_0 4 rfl rfl)
theorem dX9_waitsFor_7 : decode cX9_waitsFor 7 = .ok (.aload_n 0, 1) := dk_42 (dk_at dksX9_waitsFor_0 7 rfl rfl)
theorem dX9_waitsFor_8 : decode cX9_waitsFor 8 = .ok (.getfield 43, 3) := dk_180 0 43 (dk_at dksX9_waitsFor_0 8 rfl rfl)
theorem dX9_waitsFor_11 : decode cX9_waitsFor 11 = .ok (.aload_n 0, 1) := dk_42 (dk_at dksX9_waitsFor_0 11 rfl rfl)
theorem dX9_waitsFor_12 : decode cX9_waitsFor 12 = .ok (.getfield 40, 3) := dk_180 0 40 (dk_at dksX9_waitsFor_0 12 rfl rfl)
theorem dX9_waitsFor_15 : decode cX9_waitsFor 15 = .ok (.aload_n 0, 1) := dk_42 (dk_at dksX9_waitsFor_0 15 rfl rfl)
theorem dX9_waitsFor_16 : decode cX9_waitsFor 16 = .ok (.getfield 37, 3) := dk_180 0 37 (dk_at dksX9_waitsFor_0 16 rfl rfl)
theorem dX9_waitsFor_19 : decode cX9_waitsFor 19 = .ok (.aload_n 1, 1) := dk_43 (dk_at dksX9_waitsFor_0 19 rfl rfl)
theorem dX9_waitsFor_20 : decode cX9_waitsFor 20 = .ok (.invokevirtual 85, 3) := dk_182 0 85 (dk_at dksX9_waitsFor_0 20 rfl rfl)
theorem dX9_waitsFor_23 : decode cX9_waitsFor 23 = .ok (.pop, 1) := dk_87 (dk_at dksX9_waitsFor_0 23 rfl rfl)
theorem dX9_waitsFor_24 : decode cX9_waitsFor 24 = .ok (.aload_n 0, 1) := dk_42 (dk_at dksX9_waitsFor_1 0 rfl rfl)
theorem dX9_waitsFor_25 : decode cX9_waitsFor 25 = .ok (.getfield 37, 3) := dk_180 0 37 (dk_at dksX9_waitsFor_1 1 rfl rfl)
theorem dX9_waitsFor_28 : decode cX9_waitsFor 28 = .ok (.aload_n 0, 1) := dk_42 (dk_at dksX9_waitsFor_1 4 rfl rfl)
theorem dX9_waitsFor_29 : decode cX9_waitsFor 29 = .ok (.getfield 40, 3) := dk_180 0 40 (dk_at dksX9_waitsFor_1 5 rfl rfl)
theorem dX9_waitsFor_32 : decode cX9_waitsFor 32 = .ok (.invokevirtual 91, 3) := dk_182 0 91 (dk_at dksX9_waitsFor_1 8 rfl rfl)
theorem dX9_waitsFor_35 : decode cX9_waitsFor 35 = .ok (.goto 12, 3) := dk_167 0 12 (dk_at dksX9_waitsFor_1 11 rfl rfl)
theorem dX9_waitsFor_38 : decode cX9_waitsFor 38 = .ok (.aload_n 0, 1) := dk_42 (dk_at dksX9_waitsFor_1 14 rfl rfl)
theorem dX9_waitsFor_39 : decode cX9_waitsFor 39 = .ok (.getfield 37, 3) := dk_180 0 37 (dk_at dksX9_waitsFor_1 15 rfl rfl)
theorem dX9_waitsFor_42 : decode cX9_waitsFor 42 = .ok (.aload_n 1, 1) := dk_43 (dk_at dksX9_waitsFor_1 18 rfl rfl)
theorem dX9_waitsFor_43 : decode cX9_waitsFor 43 = .ok (.invokevirtual 58, 3) := dk_182 0 58 (dk_at dksX9_waitsFor_1 19 rfl rfl)
theorem dX9_waitsFor_46 : decode cX9_waitsFor 46 = .ok (.pop, 1) := dk_87 (dk_at dksX9_waitsFor_1 22 rfl rfl)
theorem dX9_waitsFor_47 : decode cX9_waitsFor 47 = .ok (.aload_n 0, 1) := dk_42 (dk_at dksX9_waitsFor_1 23 rfl rfl)
theorem dX9_waitsFor_48 : decode cX9_waitsFor 48 = .ok (.iconst 1, 1) := dk_4 (dk_at dksX9_waitsFor_2 0 rfl rfl)
theorem dX9_waitsFor_49 : decode cX9_waitsFor 49 = .ok (.putfield 74, 3) := dk_181 0 74 (dk_at dksX9_waitsFor_2 1 rfl rfl)
theorem dX9_waitsFor_52 : decode cX9_waitsFor 52 = .ok (.return_, 1) := dk_177 (dk_at dksX9_waitsFor_2 4 rfl rfl)
abbrev cX9_sends : ByteArray := prog_3_method_5_code
def yX9_sends : MethodName := ⟨RX9, "sends", "(LEditsMeet$Edit;)V"⟩
def dkwX9_sends_1 : List UInt8 := [181, 0, 68, 42, 3, 181, 0, 71, 177]
abbrev dktX9_sends_1 : List UInt8 := dkwX9_sends_1 ++ []
def dkwX9_sends_0 : List UInt8 := [42, 180, 0, 33, 43, 182, 0, 58, 87, 42, 4, 181, 0, 61, 42, 43, 181, 0, 65, 42, 42, 180, 0, 54]
abbrev dktX9_sends_0 : List UInt8 := dkwX9_sends_0 ++ dktX9_sends_1
theorem dksX9_sends_0 : cX9_sends.data.toList.drop 0 = dktX9_sends_0 := by decide +kernel
theorem dksX9_sends_1 : cX9_sends.data.toList.drop 24 = dktX9_sends_1 := dk_seg dksX9_sends_0 24 rfl rfl
theorem dX9_sends_0 : decode cX9_sends 0 = .ok (.aload_n 0, 1) := dk_42 (dk_at dksX9_sends_0 0 rfl rfl)
theorem dX9_sends_1 : decode cX9_sends 1 = .ok (.getfield 33, 3) := dk_180 0 33 (dk_at dksX9_sends_0 1 rfl rfl)
theorem dX9_sends_4 : decode cX9_sends 4 = .ok (.aload_n 1, 1) := dk_43 (dk_at dksX9_sends_0 4 rfl rfl)
theorem dX9_sends_5 : decode cX9_sends 5 = .ok (.invokevirtual 58, 3) := dk_182 0 58 (dk_at dksX9_sends_0 5 rfl rfl)
theorem dX9_sends_8 : decode cX9_sends 8 = .ok (.pop, 1) := dk_87 (dk_at dksX9_sends_0 8 rfl rfl)
theorem dX9_sends_9 : decode cX9_sends 9 = .ok (.aload_n 0, 1) := dk_42 (dk_at dksX9_sends_0 9 rfl rfl)
theorem dX9_sends_10 : decode cX9_sends 10 = .ok (.iconst 1, 1) := dk_4 (dk_at dksX9_sends_0 10 rfl rfl)
theorem dX9_sends_11 : decode cX9_sends 11 = .ok (.putfield 61, 3) := dk_181 0 61 (dk_at dksX9_sends_0 11 rfl rfl)
theorem dX9_sends_14 : decode cX9_sends 14 = .ok (.aload_n 0, 1) := dk_42 (dk_at dksX9_sends_0 14 rfl rfl)
theorem dX9_sends_15 : decode cX9_sends 15 = .ok (.aload_n 1, 1) := dk_43 (dk_at dksX9_sends_0 15 rfl rfl)
theorem dX9_sends_16 : decode cX9_sends 16 = .ok (.putfield 65, 3) := dk_181 0 65 (dk_at dksX9_sends_0 16 rfl rfl)
theorem dX9_sends_19 : decode cX9_sends 19 = .ok (.aload_n 0, 1) := dk_42 (dk_at dksX9_sends_0 19 rfl rfl)
theorem dX9_sends_20 : decode cX9_sends 20 = .ok (.aload_n 0, 1) := dk_42 (dk_at dksX9_sends_0 20 rfl rfl)
theorem dX9_sends_21 : decode cX9_sends 21 = .ok (.getfield 54, 3) := dk_180 0 54 (dk_at dksX9_sends_0 21 rfl rfl)
theorem dX9_sends_24 : decode cX9_sends 24 = .ok (.putfield 68, 3) := dk_181 0 68 (dk_at dksX9_sends_1 0 rfl rfl)
theorem dX9_sends_27 : decode cX9_sends 27 = .ok (.aload_n 0, 1) := dk_42 (dk_at dksX9_sends_1 3 rfl rfl)
theorem dX9_sends_28 : decode cX9_sends 28 = .ok (.iconst 0, 1) := dk_3 (dk_at dksX9_sends_1 4 rfl rfl)
theorem dX9_sends_29 : decode cX9_sends 29 = .ok (.putfield 71, 3) := dk_181 0 71 (dk_at dksX9_sends_1 5 rfl rfl)
theorem dX9_sends_32 : decode cX9_sends 32 = .ok (.return_, 1) := dk_177 (dk_at dksX9_sends_1 8 rfl rfl)
abbrev cX9_isDue : ByteArray := prog_3_method_9_code
def yX9_isDue : MethodName := ⟨RX9, "isDue", "()Z"⟩
def dkwX9_isDue_0 : List UInt8 := [42, 180, 0, 61, 153, 0, 14, 42, 180, 0, 71, 154, 0, 7, 4, 167, 0, 4, 3, 172]
abbrev dktX9_isDue_0 : List UInt8 := dkwX9_isDue_0 ++ []
theorem dksX9_isDue_0 : cX9_isDue.data.toList.drop 0 = dktX9_isDue_0 := by decide +kernel
theorem dX9_isDue_0 : decode cX9_isDue 0 = .ok (.aload_n 0, 1) := dk_42 (dk_at dksX9_isDue_0 0 rfl rfl)
theorem dX9_isDue_1 : decode cX9_isDue 1 = .ok (.getfield 61, 3) := dk_180 0 61 (dk_at dksX9_isDue_0 1 rfl rfl)
theorem dX9_isDue_4 : decode cX9_isDue 4 = .ok (.ifCond .eq 14, 3) := dk_153 0 14 (dk_at dksX9_isDue_0 4 rfl rfl)
theorem dX9_isDue_7 : decode cX9_isDue 7 = .ok (.aload_n 0, 1) := dk_42 (dk_at dksX9_isDue_0 7 rfl rfl)
theorem dX9_isDue_8 : decode cX9_isDue 8 = .ok (.getfield 71, 3) := dk_180 0 71 (dk_at dksX9_isDue_0 8 rfl rfl)
theorem dX9_isDue_11 : decode cX9_isDue 11 = .ok (.ifCond .ne 7, 3) := dk_154 0 7 (dk_at dksX9_isDue_0 11 rfl rfl)
theorem dX9_isDue_14 : decode cX9_isDue 14 = .ok (.iconst 1, 1) := dk_4 (dk_at dksX9_isDue_0 14 rfl rfl)
theorem dX9_isDue_15 : decode cX9_isDue 15 = .ok (.goto 4, 3) := dk_167 0 4 (dk_at dksX9_isDue_0 15 rfl rfl)
theorem dX9_isDue_18 : decode cX9_isDue 18 = .ok (.iconst 0, 1) := dk_3 (dk_at dksX9_isDue_0 18 rfl rfl)
theorem dX9_isDue_19 : decode cX9_isDue 19 = .ok (.ireturn, 1) := dk_172 (dk_at dksX9_isDue_0 19 rfl rfl)
abbrev cX9_hearsOwn : ByteArray := prog_3_method_10_code
def yX9_hearsOwn : MethodName := ⟨RX9, "hearsOwn", "()V"⟩
def dkwX9_hearsOwn_1 : List UInt8 := [180, 0, 37, 182, 0, 112, 182, 0, 109, 42, 3, 181, 0, 74, 177]
abbrev dktX9_hearsOwn_1 : List UInt8 := dkwX9_hearsOwn_1 ++ []
def dkwX9_hearsOwn_0 : List UInt8 := [42, 89, 180, 0, 54, 4, 96, 181, 0, 54, 42, 3, 181, 0, 61, 42, 180, 0, 74, 153, 0, 19, 42, 42]
abbrev dktX9_hearsOwn_0 : List UInt8 := dkwX9_hearsOwn_0 ++ dktX9_hearsOwn_1
theorem dksX9_hearsOwn_0 : cX9_hearsOwn.data.toList.drop 0 = dktX9_hearsOwn_0 := by decide +kernel
theorem dksX9_hearsOwn_1 : cX9_hearsOwn.data.toList.drop 24 = dktX9_hearsOwn_1 := dk_seg dksX9_hearsOwn_0 24 rfl rfl
theorem dX9_hearsOwn_0 : decode cX9_hearsOwn 0 = .ok (.aload_n 0, 1) := dk_42 (dk_at dksX9_hearsOwn_0 0 rfl rfl)
theorem dX9_hearsOwn_1 : decode cX9_hearsOwn 1 = .ok (.dup, 1) := dk_89 (dk_at dksX9_hearsOwn_0 1 rfl rfl)
theorem dX9_hearsOwn_2 : decode cX9_hearsOwn 2 = .ok (.getfield 54, 3) := dk_180 0 54 (dk_at dksX9_hearsOwn_0 2 rfl rfl)
theorem dX9_hearsOwn_5 : decode cX9_hearsOwn 5 = .ok (.iconst 1, 1) := dk_4 (dk_at dksX9_hearsOwn_0 5 rfl rfl)
theorem dX9_hearsOwn_6 : decode cX9_hearsOwn 6 = .ok (.iadd, 1) := dk_96 (dk_at dksX9_hearsOwn_0 6 rfl rfl)
theorem dX9_hearsOwn_7 : decode cX9_hearsOwn 7 = .ok (.putfield 54, 3) := dk_181 0 54 (dk_at dksX9_hearsOwn_0 7 rfl rfl)
theorem dX9_hearsOwn_10 : decode cX9_hearsOwn 10 = .ok (.aload_n 0, 1) := dk_42 (dk_at dksX9_hearsOwn_0 10 rfl rfl)
theorem dX9_hearsOwn_11 : decode cX9_hearsOwn 11 = .ok (.iconst 0, 1) := dk_3 (dk_at dksX9_hearsOwn_0 11 rfl rfl)
theorem dX9_hearsOwn_12 : decode cX9_hearsOwn 12 = .ok (.putfield 61, 3) := dk_181 0 61 (dk_at dksX9_hearsOwn_0 12 rfl rfl)
theorem dX9_hearsOwn_15 : decode cX9_hearsOwn 15 = .ok (.aload_n 0, 1) := dk_42 (dk_at dksX9_hearsOwn_0 15 rfl rfl)
theorem dX9_hearsOwn_16 : decode cX9_hearsOwn 16 = .ok (.getfield 74, 3) := dk_180 0 74 (dk_at dksX9_hearsOwn_0 16 rfl rfl)
theorem dX9_hearsOwn_19 : decode cX9_hearsOwn 19 = .ok (.ifCond .eq 19, 3) := dk_153 0 19 (dk_at dksX9_hearsOwn_0 19 rfl rfl)
theorem dX9_hearsOwn_22 : decode cX9_hearsOwn 22 = .ok (.aload_n 0, 1) := dk_42 (dk_at dksX9_hearsOwn_0 22 rfl rfl)
theorem dX9_hearsOwn_23 : decode cX9_hearsOwn 23 = .ok (.aload_n 0, 1) := dk_42 (dk_at dksX9_hearsOwn_0 23 rfl rfl)
theorem dX9_hearsOwn_24 : decode cX9_hearsOwn 24 = .ok (.getfield 37, 3) := dk_180 0 37 (dk_at dksX9_hearsOwn_1 0 rfl rfl)
theorem dX9_hearsOwn_27 : decode cX9_hearsOwn 27 = .ok (.invokevirtual 112, 3) := dk_182 0 112 (dk_at dksX9_hearsOwn_1 3 rfl rfl)
theorem dX9_hearsOwn_30 : decode cX9_hearsOwn 30 = .ok (.invokevirtual 109, 3) := dk_182 0 109 (dk_at dksX9_hearsOwn_1 6 rfl rfl)
theorem dX9_hearsOwn_33 : decode cX9_hearsOwn 33 = .ok (.aload_n 0, 1) := dk_42 (dk_at dksX9_hearsOwn_1 9 rfl rfl)
theorem dX9_hearsOwn_34 : decode cX9_hearsOwn 34 = .ok (.iconst 0, 1) := dk_3 (dk_at dksX9_hearsOwn_1 10 rfl rfl)
theorem dX9_hearsOwn_35 : decode cX9_hearsOwn 35 = .ok (.putfield 74, 3) := dk_181 0 74 (dk_at dksX9_hearsOwn_1 11 rfl rfl)
theorem dX9_hearsOwn_38 : decode cX9_hearsOwn 38 = .ok (.return_, 1) := dk_177 (dk_at dksX9_hearsOwn_1 14 rfl rfl)
abbrev cX9_hears : ByteArray := prog_3_method_11_code
def yX9_hears : MethodName := ⟨RX9, "hears", "(LEditsMeet$Edit;)V"⟩
def dkwX9_hears_4 : List UInt8 := [180, 0, 54, 4, 96, 181, 0, 54, 177]
abbrev dktX9_hears_4 : List UInt8 := dkwX9_hears_4 ++ []
def dkwX9_hears_3 : List UInt8 := [180, 0, 43, 182, 0, 118, 42, 180, 0, 27, 42, 180, 0, 40, 42, 180, 0, 43, 182, 0, 118, 42, 89]
abbrev dktX9_hears_3 : List UInt8 := dkwX9_hears_3 ++ dktX9_hears_4
def dkwX9_hears_2 : List UInt8 := [42, 44, 3, 182, 0, 102, 42, 180, 0, 40, 44, 182, 0, 58, 87, 42, 180, 0, 23, 42, 180, 0, 40, 42]
abbrev dktX9_hears_2 : List UInt8 := dkwX9_hears_2 ++ dktX9_hears_3
def dkwX9_hears_1 : List UInt8 := [42, 180, 0, 74, 153, 0, 18, 42, 180, 0, 43, 42, 180, 0, 37, 44, 182, 0, 115, 167, 0, 4, 44, 77]
abbrev dktX9_hears_1 : List UInt8 := dkwX9_hears_1 ++ dktX9_hears_2
def dkwX9_hears_0 : List UInt8 := [42, 180, 0, 61, 153, 0, 18, 42, 180, 0, 43, 42, 180, 0, 33, 43, 182, 0, 115, 167, 0, 4, 43, 77]
abbrev dktX9_hears_0 : List UInt8 := dkwX9_hears_0 ++ dktX9_hears_1
theorem dksX9_hears_0 : cX9_hears.data.toList.drop 0 = dktX9_hears_0 := by decide +kernel
theorem dksX9_hears_1 : cX9_hears.data.toList.drop 24 = dktX9_hears_1 := dk_seg dksX9_hears_0 24 rfl rfl
theorem dksX9_hears_2 : cX9_hears.data.toList.drop 48 = dktX9_hears_2 := dk_seg dksX9_hears_1 24 rfl rfl
theorem dksX9_hears_3 : cX9_hears.data.toList.drop 72 = dktX9_hears_3 := dk_seg dksX9_hears_2 24 rfl rfl
theorem dksX9_hears_4 : cX9_hears.data.toList.drop 95 = dktX9_hears_4 := dk_seg dksX9_hears_3 23 rfl rfl
theorem dX9_hears_0 : decode cX9_hears 0 = .ok (.aload_n 0, 1) := dk_42 (dk_at dksX9_hears_0 0 rfl rfl)
theorem dX9_hears_1 : decode cX9_hears 1 = .ok (.getfield 61, 3) := dk_180 0 61 (dk_at dksX9_hears_0 1 rfl rfl)
theorem dX9_hears_4 : decode cX9_hears 4 = .ok (.ifCond .eq 18, 3) := dk_153 0 18 (dk_at dksX9_hears_0 4 rfl rfl)
theorem dX9_hears_7 : decode cX9_hears 7 = .ok (.aload_n 0, 1) := dk_42 (dk_at dksX9_hears_0 7 rfl rfl)
theorem dX9_hears_8 : decode cX9_hears 8 = .ok (.getfield 43, 3) := dk_180 0 43 (dk_at dksX9_hears_0 8 rfl rfl)
theorem dX9_hears_11 : decode cX9_hears 11 = .ok (.aload_n 0, 1) := dk_42 (dk_at dksX9_hears_0 11 rfl rfl)
theorem dX9_hears_12 : decode cX9_hears 12 = .ok (.getfield 33, 3) := dk_180 0 33 (dk_at dksX9_hears_0 12 rfl rfl)
theorem dX9_hears_15 : decode cX9_hears 15 = .ok (.aload_n 1, 1) := dk_43 (dk_at dksX9_hears_0 15 rfl rfl)
theorem dX9_hears_16 : decode cX9_hears 16 = .ok (.invokevirtual 115, 3) := dk_182 0 115 (dk_at dksX9_hears_0 16 rfl rfl)
theorem dX9_hears_19 : decode cX9_hears 19 = .ok (.goto 4, 3) := dk_167 0 4 (dk_at dksX9_hears_0 19 rfl rfl)
theorem dX9_hears_22 : decode cX9_hears 22 = .ok (.aload_n 1, 1) := dk_43 (dk_at dksX9_hears_0 22 rfl rfl)
theorem dX9_hears_23 : decode cX9_hears 23 = .ok (.astore_n 2, 1) := dk_77 (dk_at dksX9_hears_0 23 rfl rfl)
theorem dX9_hears_24 : decode cX9_hears 24 = .ok (.aload_n 0, 1) := dk_42 (dk_at dksX9_hears_1 0 rfl rfl)
theorem dX9_hears_25 : decode cX9_hears 25 = .ok (.getfield 74, 3) := dk_180 0 74 (dk_at dksX9_hears_1 1 rfl rfl)
theorem dX9_hears_28 : decode cX9_hears 28 = .ok (.ifCond .eq 18, 3) := dk_153 0 18 (dk_at dksX9_hears_1 4 rfl rfl)
theorem dX9_hears_31 : decode cX9_hears 31 = .ok (.aload_n 0, 1) := dk_42 (dk_at dksX9_hears_1 7 rfl rfl)
theorem dX9_hears_32 : decode cX9_hears 32 = .ok (.getfield 43, 3) := dk_180 0 43 (dk_at dksX9_hears_1 8 rfl rfl)
theorem dX9_hears_35 : decode cX9_hears 35 = .ok (.aload_n 0, 1) := dk_42 (dk_at dksX9_hears_1 11 rfl rfl)
theorem dX9_hears_36 : decode cX9_hears 36 = .ok (.getfield 37, 3) := dk_180 0 37 (dk_at dksX9_hears_1 12 rfl rfl)
theorem dX9_hears_39 : decode cX9_hears 39 = .ok (.aload_n 2, 1) := dk_44 (dk_at dksX9_hears_1 15 rfl rfl)
theorem dX9_hears_40 : decode cX9_hears 40 = .ok (.invokevirtual 115, 3) := dk_182 0 115 (dk_at dksX9_hears_1 16 rfl rfl)
theorem dX9_hears_43 : decode cX9_hears 43 = .ok (.goto 4, 3) := dk_167 0 4 (dk_at dksX9_hears_1 19 rfl rfl)
theorem dX9_hears_46 : decode cX9_hears 46 = .ok (.aload_n 2, 1) := dk_44 (dk_at dksX9_hears_1 22 rfl rfl)
theorem dX9_hears_47 : decode cX9_hears 47 = .ok (.astore_n 2, 1) := dk_77 (dk_at dksX9_hears_1 23 rfl rfl)
theorem dX9_hears_48 : decode cX9_hears 48 = .ok (.aload_n 0, 1) := dk_42 (dk_at dksX9_hears_2 0 rfl rfl)
theorem dX9_hears_49 : decode cX9_hears 49 = .ok (.aload_n 2, 1) := dk_44 (dk_at dksX9_hears_2 1 rfl rfl)
theorem dX9_hears_50 : decode cX9_hears 50 = .ok (.iconst 0, 1) := dk_3 (dk_at dksX9_hears_2 2 rfl rfl)
theorem dX9_hears_51 : decode cX9_hears 51 = .ok (.invokevirtual 102, 3) := dk_182 0 102 (dk_at dksX9_hears_2 3 rfl rfl)
theorem dX9_hears_54 : decode cX9_hears 54 = .ok (.aload_n 0, 1) := dk_42 (dk_at dksX9_hears_2 6 rfl rfl)
theorem dX9_hears_55 : decode cX9_hears 55 = .ok (.getfield 40, 3) := dk_180 0 40 (dk_at dksX9_hears_2 7 rfl rfl)
theorem dX9_hears_58 : decode cX9_hears 58 = .ok (.aload_n 2, 1) := dk_44 (dk_at dksX9_hears_2 10 rfl rfl)
theorem dX9_hears_59 : decode cX9_hears 59 = .ok (.invokevirtual 58, 3) := dk_182 0 58 (dk_at dksX9_hears_2 11 rfl rfl)
theorem dX9_hears_62 : decode cX9_hears 62 = .ok (.pop, 1) := dk_87 (dk_at dksX9_hears_2 14 rfl rfl)
theorem dX9_hears_63 : decode cX9_hears 63 = .ok (.aload_n 0, 1) := dk_42 (dk_at dksX9_hears_2 15 rfl rfl)
theorem dX9_hears_64 : decode cX9_hears 64 = .ok (.getfield 23, 3) := dk_180 0 23 (dk_at dksX9_hears_2 16 rfl rfl)
theorem dX9_hears_67 : decode cX9_hears 67 = .ok (.aload_n 0, 1) := dk_42 (dk_at dksX9_hears_2 19 rfl rfl)
theorem dX9_hears_68 : decode cX9_hears 68 = .ok (.getfield 40, 3) := dk_180 0 40 (dk_at dksX9_hears_2 20 rfl rfl)
theorem dX9_hears_71 : decode cX9_hears 71 = .ok (.aload_n 0, 1) := dk_42 (dk_at dksX9_hears_2 23 rfl rfl)
theorem dX9_hears_72 : decode cX9_hears 72 = .ok (.getfield 43, 3) := dk_180 0 43 (dk_at dksX9_hears_3 0 rfl rfl)
theorem dX9_hears_75 : decode cX9_hears 75 = .ok (.invokevirtual 118, 3) := dk_182 0 118 (dk_at dksX9_hears_3 3 rfl rfl)
theorem dX9_hears_78 : decode cX9_hears 78 = .ok (.aload_n 0, 1) := dk_42 (dk_at dksX9_hears_3 6 rfl rfl)
theorem dX9_hears_79 : decode cX9_hears 79 = .ok (.getfield 27, 3) := dk_180 0 27 (dk_at dksX9_hears_3 7 rfl rfl)
theorem dX9_hears_82 : decode cX9_hears 82 = .ok (.aload_n 0, 1) := dk_42 (dk_at dksX9_hears_3 10 rfl rfl)
theorem dX9_hears_83 : decode cX9_hears 83 = .ok (.getfield 40, 3) := dk_180 0 40 (dk_at dksX9_hears_3 11 rfl rfl)
theorem dX9_hears_86 : decode cX9_hears 86 = .ok (.aload_n 0, 1) := dk_42 (dk_at dksX9_hears_3 14 rfl rfl)
theorem dX9_hears_87 : decode cX9_hears 87 = .ok (.getfield 43, 3) := dk_180 0 43 (dk_at dksX9_hears_3 15 rfl rfl)
theorem dX9_hears_90 : decode cX9_hears 90 = .ok (.invokevirtual 118, 3) := dk_182 0 118 (dk_at dksX9_hears_3 18 rfl rfl)
theorem dX9_hears_93 : decode cX9_hears 93 = .ok (.aload_n 0, 1) := dk_42 (dk_at dksX9_hears_3 21 rfl rfl)
theorem dX9_hears_94 : decode cX9_hears 94 = .ok (.dup, 1) := dk_89 (dk_at dksX9_hears_3 22 rfl rfl)
theorem dX9_hears_95 : decode cX9_hears 95 = .ok (.getfield 54, 3) := dk_180 0 54 (dk_at dksX9_hears_4 0 rfl rfl)
theorem dX9_hears_98 : decode cX9_hears 98 = .ok (.iconst 1, 1) := dk_4 (dk_at dksX9_hears_4 3 rfl rfl)
theorem dX9_hears_99 : decode cX9_hears 99 = .ok (.iadd, 1) := dk_96 (dk_at dksX9_hears_4 4 rfl rfl)
theorem dX9_hears_100 : decode cX9_hears 100 = .ok (.putfield 54, 3) := dk_181 0 54 (dk_at dksX9_hears_4 5 rfl rfl)
theorem dX9_hears_103 : decode cX9_hears 103 = .ok (.return_, 1) := dk_177 (dk_at dksX9_hears_4 8 rfl rfl)
abbrev cX9_sent : ByteArray := prog_3_method_3_code
def yX9_sent : MethodName := ⟨RX9, "sent", "()LEditsMeet$Edit;"⟩
def dkwX9_sent_0 : List UInt8 := [42, 180, 0, 61, 153, 0, 10, 42, 180, 0, 33, 167, 0, 4, 1, 176]
abbrev dktX9_sent_0 : List UInt8 := dkwX9_sent_0 ++ []
theorem dksX9_sent_0 : cX9_sent.data.toList.drop 0 = dktX9_sent_0 := by decide +kernel
theorem dX9_sent_0 : decode cX9_sent 0 = .ok (.aload_n 0, 1) := dk_42 (dk_at dksX9_sent_0 0 rfl rfl)
theorem dX9_sent_1 : decode cX9_sent 1 = .ok (.getfield 61, 3) := dk_180 0 61 (dk_at dksX9_sent_0 1 rfl rfl)
theorem dX9_sent_4 : decode cX9_sent 4 = .ok (.ifCond .eq 10, 3) := dk_153 0 10 (dk_at dksX9_sent_0 4 rfl rfl)
theorem dX9_sent_7 : decode cX9_sent 7 = .ok (.aload_n 0, 1) := dk_42 (dk_at dksX9_sent_0 7 rfl rfl)
theorem dX9_sent_8 : decode cX9_sent 8 = .ok (.getfield 33, 3) := dk_180 0 33 (dk_at dksX9_sent_0 8 rfl rfl)
theorem dX9_sent_11 : decode cX9_sent 11 = .ok (.goto 4, 3) := dk_167 0 4 (dk_at dksX9_sent_0 11 rfl rfl)
theorem dX9_sent_14 : decode cX9_sent 14 = .ok (.aconst_null, 1) := dk_1 (dk_at dksX9_sent_0 14 rfl rfl)
theorem dX9_sent_15 : decode cX9_sent 15 = .ok (.areturn, 1) := dk_176 (dk_at dksX9_sent_0 15 rfl rfl)
abbrev cX9_waits : ByteArray := prog_3_method_4_code
def yX9_waits : MethodName := ⟨RX9, "waits", "()LEditsMeet$Edit;"⟩
def dkwX9_waits_0 : List UInt8 := [42, 180, 0, 74, 153, 0, 10, 42, 180, 0, 37, 167, 0, 4, 1, 176]
abbrev dktX9_waits_0 : List UInt8 := dkwX9_waits_0 ++ []
theorem dksX9_waits_0 : cX9_waits.data.toList.drop 0 = dktX9_waits_0 := by decide +kernel
theorem dX9_waits_0 : decode cX9_waits 0 = .ok (.aload_n 0, 1) := dk_42 (dk_at dksX9_waits_0 0 rfl rfl)
theorem dX9_waits_1 : decode cX9_waits 1 = .ok (.getfield 74, 3) := dk_180 0 74 (dk_at dksX9_waits_0 1 rfl rfl)
theorem dX9_waits_4 : decode cX9_waits 4 = .ok (.ifCond .eq 10, 3) := dk_153 0 10 (dk_at dksX9_waits_0 4 rfl rfl)
theorem dX9_waits_7 : decode cX9_waits 7 = .ok (.aload_n 0, 1) := dk_42 (dk_at dksX9_waits_0 7 rfl rfl)
theorem dX9_waits_8 : decode cX9_waits 8 = .ok (.getfield 37, 3) := dk_180 0 37 (dk_at dksX9_waits_0 8 rfl rfl)
theorem dX9_waits_11 : decode cX9_waits 11 = .ok (.goto 4, 3) := dk_167 0 4 (dk_at dksX9_waits_0 11 rfl rfl)
theorem dX9_waits_14 : decode cX9_waits 14 = .ok (.aconst_null, 1) := dk_1 (dk_at dksX9_waits_0 14 rfl rfl)
theorem dX9_waits_15 : decode cX9_waits 15 = .ok (.areturn, 1) := dk_176 (dk_at dksX9_waits_0 15 rfl rfl)
abbrev cX9_becomes : ByteArray := prog_3_method_2_code
def yX9_becomes : MethodName := ⟨RX9, "becomes", "(LEditsMeet$Client;)V"⟩
def dkwX9_becomes_5 : List UInt8 := [182, 0, 58, 87, 42, 43, 180, 0, 74, 181, 0, 74, 177]
abbrev dktX9_becomes_5 : List UInt8 := dkwX9_becomes_5 ++ []
def dkwX9_becomes_4 : List UInt8 := [43, 180, 0, 68, 181, 0, 68, 42, 43, 180, 0, 71, 181, 0, 71, 42, 180, 0, 37, 43, 180, 0, 37]
abbrev dktX9_becomes_4 : List UInt8 := dkwX9_becomes_4 ++ dktX9_becomes_5
def dkwX9_becomes_3 : List UInt8 := [180, 0, 33, 182, 0, 58, 87, 42, 43, 180, 0, 61, 181, 0, 61, 42, 43, 180, 0, 65, 181, 0, 65, 42]
abbrev dktX9_becomes_3 : List UInt8 := dkwX9_becomes_3 ++ dktX9_becomes_4
def dkwX9_becomes_2 : List UInt8 := [180, 0, 27, 43, 180, 0, 27, 182, 0, 51, 42, 43, 180, 0, 54, 181, 0, 54, 42, 180, 0, 33, 43]
abbrev dktX9_becomes_2 : List UInt8 := dkwX9_becomes_2 ++ dktX9_becomes_3
def dkwX9_becomes_1 : List UInt8 := [42, 180, 0, 16, 4, 43, 180, 0, 16, 4, 46, 79, 42, 180, 0, 23, 43, 180, 0, 23, 182, 0, 51, 42]
abbrev dktX9_becomes_1 : List UInt8 := dkwX9_becomes_1 ++ dktX9_becomes_2
def dkwX9_becomes_0 : List UInt8 := [42, 180, 0, 10, 43, 180, 0, 10, 182, 0, 47, 87, 42, 180, 0, 16, 3, 43, 180, 0, 16, 3, 46, 79]
abbrev dktX9_becomes_0 : List UInt8 := dkwX9_becomes_0 ++ dktX9_becomes_1
theorem dksX9_becomes_0 : cX9_becomes.data.toList.drop 0 = dktX9_becomes_0 := by decide +kernel
theorem dksX9_becomes_1 : cX9_becomes.data.toList.drop 24 = dktX9_becomes_1 := dk_seg dksX9_becomes_0 24 rfl rfl
theorem dksX9_becomes_2 : cX9_becomes.data.toList.drop 48 = dktX9_becomes_2 := dk_seg dksX9_becomes_1 24 rfl rfl
theorem dksX9_becomes_3 : cX9_becomes.data.toList.drop 71 = dktX9_becomes_3 := dk_seg dksX9_becomes_2 23 rfl rfl
theorem dksX9_becomes_4 : cX9_becomes.data.toList.drop 95 = dktX9_becomes_4 := dk_seg dksX9_becomes_3 24 rfl rfl
theorem dksX9_becomes_5 : cX9_becomes.data.toList.drop 118 = dktX9_becomes_5 := dk_seg dksX9_becomes_4 23 rfl rfl
theorem dX9_becomes_0 : decode cX9_becomes 0 = .ok (.aload_n 0, 1) := dk_42 (dk_at dksX9_becomes_0 0 rfl rfl)
theorem dX9_becomes_1 : decode cX9_becomes 1 = .ok (.getfield 10, 3) := dk_180 0 10 (dk_at dksX9_becomes_0 1 rfl rfl)
theorem dX9_becomes_4 : decode cX9_becomes 4 = .ok (.aload_n 1, 1) := dk_43 (dk_at dksX9_becomes_0 4 rfl rfl)
theorem dX9_becomes_5 : decode cX9_becomes 5 = .ok (.getfield 10, 3) := dk_180 0 10 (dk_at dksX9_becomes_0 5 rfl rfl)
theorem dX9_becomes_8 : decode cX9_becomes 8 = .ok (.invokevirtual 47, 3) := dk_182 0 47 (dk_at dksX9_becomes_0 8 rfl rfl)
theorem dX9_becomes_11 : decode cX9_becomes 11 = .ok (.pop, 1) := dk_87 (dk_at dksX9_becomes_0 11 rfl rfl)
theorem dX9_becomes_12 : decode cX9_becomes 12 = .ok (.aload_n 0, 1) := dk_42 (dk_at dksX9_becomes_0 12 rfl rfl)
theorem dX9_becomes_13 : decode cX9_becomes 13 = .ok (.getfield 16, 3) := dk_180 0 16 (dk_at dksX9_becomes_0 13 rfl rfl)
theorem dX9_becomes_16 : decode cX9_becomes 16 = .ok (.iconst 0, 1) := dk_3 (dk_at dksX9_becomes_0 16 rfl rfl)
theorem dX9_becomes_17 : decode cX9_becomes 17 = .ok (.aload_n 1, 1) := dk_43 (dk_at dksX9_becomes_0 17 rfl rfl)
theorem dX9_becomes_18 : decode cX9_becomes 18 = .ok (.getfield 16, 3) := dk_180 0 16 (dk_at dksX9_becomes_0 18 rfl rfl)
theorem dX9_becomes_21 : decode cX9_becomes 21 = .ok (.iconst 0, 1) := dk_3 (dk_at dksX9_becomes_0 21 rfl rfl)
theorem dX9_becomes_22 : decode cX9_becomes 22 = .ok (.iaload, 1) := dk_46 (dk_at dksX9_becomes_0 22 rfl rfl)
theorem dX9_becomes_23 : decode cX9_becomes 23 = .ok (.iastore, 1) := dk_79 (dk_at dksX9_becomes_0 23 rfl rfl)
theorem dX9_becomes_24 : decode cX9_becomes 24 = .ok (.aload_n 0, 1) := dk_42 (dk_at dksX9_becomes_1 0 rfl rfl)
theorem dX9_becomes_25 : decode cX9_becomes 25 = .ok (.getfield 16, 3) := dk_180 0 16 (dk_at dksX9_becomes_1 1 rfl rfl)
theorem dX9_becomes_28 : decode cX9_becomes 28 = .ok (.iconst 1, 1) := dk_4 (dk_at dksX9_becomes_1 4 rfl rfl)
theorem dX9_becomes_29 : decode cX9_becomes 29 = .ok (.aload_n 1, 1) := dk_43 (dk_at dksX9_becomes_1 5 rfl rfl)
theorem dX9_becomes_30 : decode cX9_becomes 30 = .ok (.getfield 16, 3) := dk_180 0 16 (dk_at dksX9_becomes_1 6 rfl rfl)
theorem dX9_becomes_33 : decode cX9_becomes 33 = .ok (.iconst 1, 1) := dk_4 (dk_at dksX9_becomes_1 9 rfl rfl)
theorem dX9_becomes_34 : decode cX9_becomes 34 = .ok (.iaload, 1) := dk_46 (dk_at dksX9_becomes_1 10 rfl rfl)
theorem dX9_becomes_35 : decode cX9_becomes 35 = .ok (.iastore, 1) := dk_79 (dk_at dksX9_becomes_1 11 rfl rfl)
theorem dX9_becomes_36 : decode cX9_becomes 36 = .ok (.aload_n 0, 1) := dk_42 (dk_at dksX9_becomes_1 12 rfl rfl)
theorem dX9_becomes_37 : decode cX9_becomes 37 = .ok (.getfield 23, 3) := dk_180 0 23 (dk_at dksX9_becomes_1 13 rfl rfl)
theorem dX9_becomes_40 : decode cX9_becomes 40 = .ok (.aload_n 1, 1) := dk_43 (dk_at dksX9_becomes_1 16 rfl rfl)
theorem dX9_becomes_41 : decode cX9_becomes 41 = .ok (.getfield 23, 3) := dk_180 0 23 (dk_at dksX9_becomes_1 17 rfl rfl)
theorem dX9_becomes_44 : decode cX9_becomes 44 = .ok (.invokevirtual 51, 3) := dk_182 0 51 (dk_at dksX9_becomes_1 20 rfl rfl)
theorem dX9_becomes_47 : decode cX9_becomes 47 = .ok (.aload_n 0, 1) := dk_42 (dk_at dksX9_becomes_1 23 rfl rfl)
theorem dX9_becomes_48 : decode cX9_becomes 48 = .ok (.getfield 27, 3) := dk_180 0 27 (dk_at dksX9_becomes_2 0 rfl rfl)
theorem dX9_becomes_51 : decode cX9_becomes 51 = .ok (.aload_n 1, 1) := dk_43 (dk_at dksX9_becomes_2 3 rfl rfl)
theorem dX9_becomes_52 : decode cX9_becomes 52 = .ok (.getfield 27, 3) := dk_180 0 27 (dk_at dksX9_becomes_2 4 rfl rfl)
theorem dX9_becomes_55 : decode cX9_becomes 55 = .ok (.invokevirtual 51, 3) := dk_182 0 51 (dk_at dksX9_becomes_2 7 rfl rfl)
theorem dX9_becomes_58 : decode cX9_becomes 58 = .ok (.aload_n 0, 1) := dk_42 (dk_at dksX9_becomes_2 10 rfl rfl)
theorem dX9_becomes_59 : decode cX9_becomes 59 = .ok (.aload_n 1, 1) := dk_43 (dk_at dksX9_becomes_2 11 rfl rfl)
theorem dX9_becomes_60 : decode cX9_becomes 60 = .ok (.getfield 54, 3) := dk_180 0 54 (dk_at dksX9_becomes_2 12 rfl rfl)
theorem dX9_becomes_63 : decode cX9_becomes 63 = .ok (.putfield 54, 3) := dk_181 0 54 (dk_at dksX9_becomes_2 15 rfl rfl)
theorem dX9_becomes_66 : decode cX9_becomes 66 = .ok (.aload_n 0, 1) := dk_42 (dk_at dksX9_becomes_2 18 rfl rfl)
theorem dX9_becomes_67 : decode cX9_becomes 67 = .ok (.getfield 33, 3) := dk_180 0 33 (dk_at dksX9_becomes_2 19 rfl rfl)
theorem dX9_becomes_70 : decode cX9_becomes 70 = .ok (.aload_n 1, 1) := dk_43 (dk_at dksX9_becomes_2 22 rfl rfl)
theorem dX9_becomes_71 : decode cX9_becomes 71 = .ok (.getfield 33, 3) := dk_180 0 33 (dk_at dksX9_becomes_3 0 rfl rfl)
theorem dX9_becomes_74 : decode cX9_becomes 74 = .ok (.invokevirtual 58, 3) := dk_182 0 58 (dk_at dksX9_becomes_3 3 rfl rfl)
theorem dX9_becomes_77 : decode cX9_becomes 77 = .ok (.pop, 1) := dk_87 (dk_at dksX9_becomes_3 6 rfl rfl)
theorem dX9_becomes_78 : decode cX9_becomes 78 = .ok (.aload_n 0, 1) := dk_42 (dk_at dksX9_becomes_3 7 rfl rfl)
theorem dX9_becomes_79 : decode cX9_becomes 79 = .ok (.aload_n 1, 1) := dk_43 (dk_at dksX9_becomes_3 8 rfl rfl)
theorem dX9_becomes_80 : decode cX9_becomes 80 = .ok (.getfield 61, 3) := dk_180 0 61 (dk_at dksX9_becomes_3 9 rfl rfl)
theorem dX9_becomes_83 : decode cX9_becomes 83 = .ok (.putfield 61, 3) := dk_181 0 61 (dk_at dksX9_becomes_3 12 rfl rfl)
theorem dX9_becomes_86 : decode cX9_becomes 86 = .ok (.aload_n 0, 1) := dk_42 (dk_at dksX9_becomes_3 15 rfl rfl)
theorem dX9_becomes_87 : decode cX9_becomes 87 = .ok (.aload_n 1, 1) := dk_43 (dk_at dksX9_becomes_3 16 rfl rfl)
theorem dX9_becomes_88 : decode cX9_becomes 88 = .ok (.getfield 65, 3) := dk_180 0 65 (dk_at dksX9_becomes_3 17 rfl rfl)
theorem dX9_becomes_91 : decode cX9_becomes 91 = .ok (.putfield 65, 3) := dk_181 0 65 (dk_at dksX9_becomes_3 20 rfl rfl)
theorem dX9_becomes_94 : decode cX9_becomes 94 = .ok (.aload_n 0, 1) := dk_42 (dk_at dksX9_becomes_3 23 rfl rfl)
theorem dX9_becomes_95 : decode cX9_becomes 95 = .ok (.aload_n 1, 1) := dk_43 (dk_at dksX9_becomes_4 0 rfl rfl)
theorem dX9_becomes_96 : decode cX9_becomes 96 = .ok (.getfield 68, 3) := dk_180 0 68 (dk_at dksX9_becomes_4 1 rfl rfl)
theorem dX9_becomes_99 : decode cX9_becomes 99 = .ok (.putfield 68, 3) := dk_181 0 68 (dk_at dksX9_becomes_4 4 rfl rfl)
theorem dX9_becomes_102 : decode cX9_becomes 102 = .ok (.aload_n 0, 1) := dk_42 (dk_at dksX9_becomes_4 7 rfl rfl)
theorem dX9_becomes_103 : decode cX9_becomes 103 = .ok (.aload_n 1, 1) := dk_43 (dk_at dksX9_becomes_4 8 rfl rfl)
theorem dX9_becomes_104 : decode cX9_becomes 104 = .ok (.getfield 71, 3) := dk_180 0 71 (dk_at dksX9_becomes_4 9 rfl rfl)
theorem dX9_becomes_107 : decode cX9_becomes 107 = .ok (.putfield 71, 3) := dk_181 0 71 (dk_at dksX9_becomes_4 12 rfl rfl)
theorem dX9_becomes_110 : decode cX9_becomes 110 = .ok (.aload_n 0, 1) := dk_42 (dk_at dksX9_becomes_4 15 rfl rfl)
theorem dX9_becomes_111 : decode cX9_becomes 111 = .ok (.getfield 37, 3) := dk_180 0 37 (dk_at dksX9_becomes_4 16 rfl rfl)
theorem dX9_becomes_114 : decode cX9_becomes 114 = .ok (.aload_n 1, 1) := dk_43 (dk_at dksX9_becomes_4 19 rfl rfl)
theorem dX9_becomes_115 : decode cX9_becomes 115 = .ok (.getfield 37, 3) := dk_180 0 37 (dk_at dksX9_becomes_4 20 rfl rfl)
theorem dX9_becomes_118 : decode cX9_becomes 118 = .ok (.invokevirtual 58, 3) := dk_182 0 58 (dk_at dksX9_becomes_5 0 rfl rfl)
theorem dX9_becomes_121 : decode cX9_becomes 121 = .ok (.pop, 1) := dk_87 (dk_at dksX9_becomes_5 3 rfl rfl)
theorem dX9_becomes_122 : decode cX9_becomes 122 = .ok (.aload_n 0, 1) := dk_42 (dk_at dksX9_becomes_5 4 rfl rfl)
theorem dX9_becomes_123 : decode cX9_becomes 123 = .ok (.aload_n 1, 1) := dk_43 (dk_at dksX9_becomes_5 5 rfl rfl)
theorem dX9_becomes_124 : decode cX9_becomes 124 = .ok (.getfield 74, 3) := dk_180 0 74 (dk_at dksX9_becomes_5 6 rfl rfl)
theorem dX9_becomes_127 : decode cX9_becomes 127 = .ok (.putfield 74, 3) := dk_181 0 74 (dk_at dksX9_becomes_5 9 rfl rfl)
theorem dX9_becomes_130 : decode cX9_becomes 130 = .ok (.return_, 1) := dk_177 (dk_at dksX9_becomes_5 12 rfl rfl)
theorem q141 : (Jvm.Cond.initialized "EditsMeet$Client") ∈ lw_all := lw_g (lw_at lw_m1 21 rfl) rfl
theorem q437 : (Jvm.Cond.instantiable "EditsMeet$Client" (14 : Nat)) ∈ lw_all := lw_g (lw_at lw_m2 77 rfl) rfl
theorem q439 : (Jvm.Cond.instanceMethod ({ cls := "EditsMeet$Client", name := "<init>", desc := "(LEditsMeet$Weaver;)V" } : Jvm.MethodName)) ∈ lw_all := lw_g (lw_at lw_m2 79 rfl) rfl
theorem q440 : (Jvm.Cond.code ({ cls := "EditsMeet$Client", name := "<init>", desc := "(LEditsMeet$Weaver;)V" } : Jvm.MethodName) prog_3_method_1_code (2 : Nat) (Option.none : Option Jvm.ClassFile.FieldType)) ∈ lw_all := lw_g (lw_at lw_m2 80 rfl) rfl
theorem q441 : (Jvm.Cond.methodLink "EditsMeet$Client" (1 : Nat) ({ cls := "java/lang/Object", name := "<init>", desc := "()V" } : Jvm.MethodName)) ∈ lw_all := lw_g (lw_at lw_m2 81 rfl) rfl
theorem q442 : (Jvm.Cond.classLink "EditsMeet$Client" (7 : Nat) "EditsMeet$Text") ∈ lw_all := lw_g (lw_at lw_m2 82 rfl) rfl
theorem q443 : (Jvm.Cond.methodLinkNest "EditsMeet$Client" (9 : Nat) ({ cls := "EditsMeet$Text", name := "<init>", desc := "()V" } : Jvm.MethodName) "EditsMeet") ∈ lw_tbl := lw_at lw_m2 83 rfl
theorem q444 : (Jvm.Cond.classLink "EditsMeet$Client" (20 : Nat) "EditsMeet$Pile") ∈ lw_all := lw_g (lw_at lw_m2 84 rfl) rfl
theorem q446 : (Jvm.Cond.methodLinkNest "EditsMeet$Client" (22 : Nat) ({ cls := "EditsMeet$Pile", name := "<init>", desc := "()V" } : Jvm.MethodName) "EditsMeet") ∈ lw_tbl := lw_at lw_m2 86 rfl
theorem q482 : (Jvm.Cond.classLink "EditsMeet$Client" (30 : Nat) "EditsMeet$Edit") ∈ lw_all := lw_g (lw_at lw_m2 122 rfl) rfl
theorem q483 : (Jvm.Cond.methodLinkNest "EditsMeet$Client" (32 : Nat) ({ cls := "EditsMeet$Edit", name := "<init>", desc := "()V" } : Jvm.MethodName) "EditsMeet") ∈ lw_tbl := lw_at lw_m2 123 rfl
theorem q484 : (Jvm.Cond.fieldLink "EditsMeet$Client" (10 : Nat) "EditsMeet$Client" "text" "LEditsMeet$Text;") ∈ lw_all := lw_g (lw_at lw_m2 124 rfl) rfl
theorem q487 : (Jvm.Cond.fieldLink "EditsMeet$Client" (16 : Nat) "EditsMeet$Client" "cursor" "[I") ∈ lw_all := lw_g (lw_at lw_m2 127 rfl) rfl
theorem q489 : (Jvm.Cond.fieldLink "EditsMeet$Client" (23 : Nat) "EditsMeet$Client" "undo" "LEditsMeet$Pile;") ∈ lw_all := lw_g (lw_at lw_m2 129 rfl) rfl
theorem q491 : (Jvm.Cond.fieldLink "EditsMeet$Client" (27 : Nat) "EditsMeet$Client" "redo" "LEditsMeet$Pile;") ∈ lw_all := lw_g (lw_at lw_m2 131 rfl) rfl
theorem q493 : (Jvm.Cond.fieldLink "EditsMeet$Client" (43 : Nat) "EditsMeet$Client" "weaver" "LEditsMeet$Weaver;") ∈ lw_all := lw_g (lw_at lw_m2 133 rfl) rfl
theorem q494 : (Jvm.Cond.fieldLink "EditsMeet$Client" (54 : Nat) "EditsMeet$Client" "revision" "I") ∈ lw_all := lw_g (lw_at lw_m2 134 rfl) rfl
theorem q497 : (Jvm.Cond.fieldLink "EditsMeet$Client" (33 : Nat) "EditsMeet$Client" "sent" "LEditsMeet$Edit;") ∈ lw_all := lw_g (lw_at lw_m2 137 rfl) rfl
theorem q498 : (Jvm.Cond.fieldLink "EditsMeet$Client" (61 : Nat) "EditsMeet$Client" "isSent" "Z") ∈ lw_all := lw_g (lw_at lw_m2 138 rfl) rfl
theorem q500 : (Jvm.Cond.fieldLink "EditsMeet$Client" (65 : Nat) "EditsMeet$Client" "asSent" "LEditsMeet$Edit;") ∈ lw_all := lw_g (lw_at lw_m2 140 rfl) rfl
theorem q502 : (Jvm.Cond.fieldLink "EditsMeet$Client" (68 : Nat) "EditsMeet$Client" "sentFor" "I") ∈ lw_all := lw_g (lw_at lw_m2 142 rfl) rfl
theorem q504 : (Jvm.Cond.fieldLink "EditsMeet$Client" (71 : Nat) "EditsMeet$Client" "isServed" "Z") ∈ lw_all := lw_g (lw_at lw_m2 144 rfl) rfl
theorem q507 : (Jvm.Cond.fieldLink "EditsMeet$Client" (37 : Nat) "EditsMeet$Client" "waits" "LEditsMeet$Edit;") ∈ lw_all := lw_g (lw_at lw_m2 147 rfl) rfl
theorem q508 : (Jvm.Cond.fieldLink "EditsMeet$Client" (40 : Nat) "EditsMeet$Client" "beside" "LEditsMeet$Edit;") ∈ lw_all := lw_g (lw_at lw_m2 148 rfl) rfl
theorem q509 : (Jvm.Cond.fieldLink "EditsMeet$Client" (74 : Nat) "EditsMeet$Client" "isWaiting" "Z") ∈ lw_all := lw_g (lw_at lw_m2 149 rfl) rfl
theorem q510 : (Jvm.Cond.laysFinal "EditsMeet$Client" "EditsMeet$Client" "text" "LEditsMeet$Text;") ∈ lw_all := lw_g (lw_at lw_m2 150 rfl) rfl
theorem q511 : (Jvm.Cond.soleField "EditsMeet$Client" "text") ∈ lw_all := lw_g (lw_at lw_m2 151 rfl) rfl
theorem q512 : (Jvm.Cond.laysFinal "EditsMeet$Client" "EditsMeet$Client" "cursor" "[I") ∈ lw_all := lw_g (lw_at lw_m2 152 rfl) rfl
theorem q513 : (Jvm.Cond.soleField "EditsMeet$Client" "cursor") ∈ lw_all := lw_g (lw_at lw_m2 153 rfl) rfl
theorem q514 : (Jvm.Cond.laysFinal "EditsMeet$Client" "EditsMeet$Client" "undo" "LEditsMeet$Pile;") ∈ lw_all := lw_g (lw_at lw_m2 154 rfl) rfl
theorem q515 : (Jvm.Cond.soleField "EditsMeet$Client" "undo") ∈ lw_all := lw_g (lw_at lw_m2 155 rfl) rfl
theorem q516 : (Jvm.Cond.laysFinal "EditsMeet$Client" "EditsMeet$Client" "redo" "LEditsMeet$Pile;") ∈ lw_all := lw_g (lw_at lw_m2 156 rfl) rfl
theorem q517 : (Jvm.Cond.soleField "EditsMeet$Client" "redo") ∈ lw_all := lw_g (lw_at lw_m2 157 rfl) rfl
theorem q518 : (Jvm.Cond.laysFinal "EditsMeet$Client" "EditsMeet$Client" "weaver" "LEditsMeet$Weaver;") ∈ lw_all := lw_g (lw_at lw_m2 158 rfl) rfl
theorem q519 : (Jvm.Cond.soleField "EditsMeet$Client" "weaver") ∈ lw_all := lw_g (lw_at lw_m2 159 rfl) rfl
theorem q520 : (Jvm.Cond.lays "EditsMeet$Client" "EditsMeet$Client" "revision" "I") ∈ lw_all := lw_g (lw_at lw_m2 160 rfl) rfl
theorem q521 : (Jvm.Cond.soleField "EditsMeet$Client" "revision") ∈ lw_all := lw_g (lw_at lw_m2 161 rfl) rfl
theorem q522 : (Jvm.Cond.laysFinal "EditsMeet$Client" "EditsMeet$Client" "sent" "LEditsMeet$Edit;") ∈ lw_all := lw_g (lw_at lw_m2 162 rfl) rfl
theorem q523 : (Jvm.Cond.soleField "EditsMeet$Client" "sent") ∈ lw_all := lw_g (lw_at lw_m2 163 rfl) rfl
theorem q524 : (Jvm.Cond.lays "EditsMeet$Client" "EditsMeet$Client" "isSent" "Z") ∈ lw_all := lw_g (lw_at lw_m2 164 rfl) rfl
theorem q525 : (Jvm.Cond.soleField "EditsMeet$Client" "isSent") ∈ lw_all := lw_g (lw_at lw_m2 165 rfl) rfl
theorem q526 : (Jvm.Cond.lays "EditsMeet$Client" "EditsMeet$Client" "asSent" "LEditsMeet$Edit;") ∈ lw_all := lw_g (lw_at lw_m2 166 rfl) rfl
theorem q527 : (Jvm.Cond.soleField "EditsMeet$Client" "asSent") ∈ lw_all := lw_g (lw_at lw_m2 167 rfl) rfl
theorem q528 : (Jvm.Cond.lays "EditsMeet$Client" "EditsMeet$Client" "sentFor" "I") ∈ lw_all := lw_g (lw_at lw_m2 168 rfl) rfl
theorem q529 : (Jvm.Cond.soleField "EditsMeet$Client" "sentFor") ∈ lw_all := lw_g (lw_at lw_m2 169 rfl) rfl
theorem q530 : (Jvm.Cond.lays "EditsMeet$Client" "EditsMeet$Client" "isServed" "Z") ∈ lw_all := lw_g (lw_at lw_m2 170 rfl) rfl
theorem q531 : (Jvm.Cond.soleField "EditsMeet$Client" "isServed") ∈ lw_all := lw_g (lw_at lw_m2 171 rfl) rfl
theorem q532 : (Jvm.Cond.laysFinal "EditsMeet$Client" "EditsMeet$Client" "waits" "LEditsMeet$Edit;") ∈ lw_all := lw_g (lw_at lw_m2 172 rfl) rfl
theorem q533 : (Jvm.Cond.soleField "EditsMeet$Client" "waits") ∈ lw_all := lw_g (lw_at lw_m2 173 rfl) rfl
theorem q534 : (Jvm.Cond.laysFinal "EditsMeet$Client" "EditsMeet$Client" "beside" "LEditsMeet$Edit;") ∈ lw_all := lw_g (lw_at lw_m2 174 rfl) rfl
theorem q535 : (Jvm.Cond.soleField "EditsMeet$Client" "beside") ∈ lw_all := lw_g (lw_at lw_m2 175 rfl) rfl
theorem q536 : (Jvm.Cond.lays "EditsMeet$Client" "EditsMeet$Client" "isWaiting" "Z") ∈ lw_all := lw_g (lw_at lw_m2 176 rfl) rfl
theorem q537 : (Jvm.Cond.soleField "EditsMeet$Client" "isWaiting") ∈ lw_all := lw_g (lw_at lw_m2 177 rfl) rfl
theorem q538 : (Jvm.Cond.superclass "EditsMeet$Client" "java/lang/Object") ∈ lw_all := lw_g (lw_at lw_m2 178 rfl) rfl
theorem q1443 : (Jvm.Cond.selects "EditsMeet$Client" ({ cls := "java/lang/Object", name := "getClass", desc := "()Ljava/lang/Class;" } : Jvm.MethodName) ({ cls := "java/lang/Object", name := "getClass", desc := "()Ljava/lang/Class;" } : Jvm.MethodName)) ∈ lw_all := lw_g (lw_at lw_m6 123 rfl) rfl
theorem q2277 : (Jvm.Cond.instanceMethod ({ cls := "EditsMeet$Client", name := "does", desc := "(LEditsMeet$Edit;LEditsMeet$Pile;)V" } : Jvm.MethodName)) ∈ lw_all := lw_g (lw_at lw_m9 237 rfl) rfl
theorem q2278 : (Jvm.Cond.selects "EditsMeet$Client" ({ cls := "EditsMeet$Client", name := "does", desc := "(LEditsMeet$Edit;LEditsMeet$Pile;)V" } : Jvm.MethodName) ({ cls := "EditsMeet$Client", name := "does", desc := "(LEditsMeet$Edit;LEditsMeet$Pile;)V" } : Jvm.MethodName)) ∈ lw_all := lw_g (lw_at lw_m9 238 rfl) rfl
theorem q2279 : (Jvm.Cond.code ({ cls := "EditsMeet$Client", name := "does", desc := "(LEditsMeet$Edit;LEditsMeet$Pile;)V" } : Jvm.MethodName) prog_3_method_8_code (3 : Nat) (Option.none : Option Jvm.ClassFile.FieldType)) ∈ lw_all := lw_g (lw_at lw_m9 239 rfl) rfl
theorem q2280 : (Jvm.Cond.methodLink "EditsMeet$Client" (94 : Nat) ({ cls := "EditsMeet$Pile", name := "puts", desc := "()LEditsMeet$Edit;" } : Jvm.MethodName)) ∈ lw_all := lw_g (lw_at lw_m10 0 rfl) rfl
theorem q2342 : (Jvm.Cond.methodLink "EditsMeet$Client" (98 : Nat) ({ cls := "EditsMeet$Text", name := "turned", desc := "(LEditsMeet$Edit;LEditsMeet$Edit;)LEditsMeet$Edit;" } : Jvm.MethodName)) ∈ lw_all := lw_g (lw_at lw_m10 62 rfl) rfl
theorem q2343 : (Jvm.Cond.methodLink "EditsMeet$Client" (102 : Nat) ({ cls := "EditsMeet$Client", name := "moves", desc := "(LEditsMeet$Edit;Z)V" } : Jvm.MethodName)) ∈ lw_all := lw_g (lw_at lw_m10 63 rfl) rfl
theorem q2344 : (Jvm.Cond.privateMethod ({ cls := "EditsMeet$Client", name := "moves", desc := "(LEditsMeet$Edit;Z)V" } : Jvm.MethodName)) ∈ lw_tbl := lw_at lw_m10 64 rfl
theorem q2345 : (Jvm.Cond.instanceMethod ({ cls := "EditsMeet$Client", name := "moves", desc := "(LEditsMeet$Edit;Z)V" } : Jvm.MethodName)) ∈ lw_all := lw_g (lw_at lw_m10 65 rfl) rfl
theorem q2346 : (Jvm.Cond.code ({ cls := "EditsMeet$Client", name := "moves", desc := "(LEditsMeet$Edit;Z)V" } : Jvm.MethodName) prog_3_method_6_code (3 : Nat) (Option.none : Option Jvm.ClassFile.FieldType)) ∈ lw_all := lw_g (lw_at lw_m10 66 rfl) rfl
theorem q2347 : (Jvm.Cond.methodLink "EditsMeet$Client" (77 : Nat) ({ cls := "EditsMeet$Text", name := "does", desc := "(LEditsMeet$Edit;)V" } : Jvm.MethodName)) ∈ lw_all := lw_g (lw_at lw_m10 67 rfl) rfl
theorem q2384 : (Jvm.Cond.methodLink "EditsMeet$Client" (81 : Nat) ({ cls := "EditsMeet$Edit", name := "moved", desc := "(IZ)I" } : Jvm.MethodName)) ∈ lw_all := lw_g (lw_at lw_m10 104 rfl) rfl
theorem q2394 : (Jvm.Cond.methodLink "EditsMeet$Client" (106 : Nat) ({ cls := "EditsMeet$Client", name := "waitsFor", desc := "(LEditsMeet$Edit;)V" } : Jvm.MethodName)) ∈ lw_all := lw_g (lw_at lw_m10 114 rfl) rfl
theorem q2395 : (Jvm.Cond.privateMethod ({ cls := "EditsMeet$Client", name := "waitsFor", desc := "(LEditsMeet$Edit;)V" } : Jvm.MethodName)) ∈ lw_tbl := lw_at lw_m10 115 rfl
theorem q2396 : (Jvm.Cond.instanceMethod ({ cls := "EditsMeet$Client", name := "waitsFor", desc := "(LEditsMeet$Edit;)V" } : Jvm.MethodName)) ∈ lw_all := lw_g (lw_at lw_m10 116 rfl) rfl
theorem q2397 : (Jvm.Cond.code ({ cls := "EditsMeet$Client", name := "waitsFor", desc := "(LEditsMeet$Edit;)V" } : Jvm.MethodName) prog_3_method_7_code (2 : Nat) (Option.none : Option Jvm.ClassFile.FieldType)) ∈ lw_all := lw_g (lw_at lw_m10 117 rfl) rfl
theorem q2398 : (Jvm.Cond.methodLink "EditsMeet$Client" (85 : Nat) ({ cls := "EditsMeet$Weaver", name := "behind", desc := "(LEditsMeet$Edit;LEditsMeet$Edit;LEditsMeet$Edit;)LEditsMeet$Edit;" } : Jvm.MethodName)) ∈ lw_all := lw_g (lw_at lw_m10 118 rfl) rfl
theorem q2399 : (Jvm.Cond.methodLink "EditsMeet$Client" (91 : Nat) ({ cls := "EditsMeet$Edit", name := "swaps", desc := "(LEditsMeet$Edit;)V" } : Jvm.MethodName)) ∈ lw_all := lw_g (lw_at lw_m10 119 rfl) rfl
theorem q2403 : (Jvm.Cond.methodLink "EditsMeet$Client" (58 : Nat) ({ cls := "EditsMeet$Edit", name := "becomes", desc := "(LEditsMeet$Edit;)LEditsMeet$Edit;" } : Jvm.MethodName)) ∈ lw_all := lw_g (lw_at lw_m10 123 rfl) rfl
theorem q2410 : (Jvm.Cond.methodLink "EditsMeet$Client" (109 : Nat) ({ cls := "EditsMeet$Client", name := "sends", desc := "(LEditsMeet$Edit;)V" } : Jvm.MethodName)) ∈ lw_all := lw_g (lw_at lw_m10 130 rfl) rfl
theorem q2411 : (Jvm.Cond.privateMethod ({ cls := "EditsMeet$Client", name := "sends", desc := "(LEditsMeet$Edit;)V" } : Jvm.MethodName)) ∈ lw_tbl := lw_at lw_m10 131 rfl
theorem q2412 : (Jvm.Cond.instanceMethod ({ cls := "EditsMeet$Client", name := "sends", desc := "(LEditsMeet$Edit;)V" } : Jvm.MethodName)) ∈ lw_all := lw_g (lw_at lw_m10 132 rfl) rfl
theorem q2413 : (Jvm.Cond.code ({ cls := "EditsMeet$Client", name := "sends", desc := "(LEditsMeet$Edit;)V" } : Jvm.MethodName) prog_3_method_5_code (2 : Nat) (Option.none : Option Jvm.ClassFile.FieldType)) ∈ lw_all := lw_g (lw_at lw_m10 133 rfl) rfl
theorem q2484 : (Jvm.Cond.instanceMethod ({ cls := "EditsMeet$Client", name := "isDue", desc := "()Z" } : Jvm.MethodName)) ∈ lw_all := lw_g (lw_at lw_m10 204 rfl) rfl
theorem q2485 : (Jvm.Cond.selects "EditsMeet$Client" ({ cls := "EditsMeet$Client", name := "isDue", desc := "()Z" } : Jvm.MethodName) ({ cls := "EditsMeet$Client", name := "isDue", desc := "()Z" } : Jvm.MethodName)) ∈ lw_all := lw_g (lw_at lw_m10 205 rfl) rfl
theorem q2486 : (Jvm.Cond.code ({ cls := "EditsMeet$Client", name := "isDue", desc := "()Z" } : Jvm.MethodName) prog_3_method_9_code (1 : Nat) (Option.some Jvm.ClassFile.FieldType.boolean)) ∈ lw_all := lw_g (lw_at lw_m10 206 rfl) rfl
theorem q2553 : (Jvm.Cond.instanceMethod ({ cls := "EditsMeet$Client", name := "hearsOwn", desc := "()V" } : Jvm.MethodName)) ∈ lw_all := lw_g (lw_at lw_m11 33 rfl) rfl
theorem q2554 : (Jvm.Cond.selects "EditsMeet$Client" ({ cls := "EditsMeet$Client", name := "hearsOwn", desc := "()V" } : Jvm.MethodName) ({ cls := "EditsMeet$Client", name := "hearsOwn", desc := "()V" } : Jvm.MethodName)) ∈ lw_all := lw_g (lw_at lw_m11 34 rfl) rfl
theorem q2555 : (Jvm.Cond.code ({ cls := "EditsMeet$Client", name := "hearsOwn", desc := "()V" } : Jvm.MethodName) prog_3_method_10_code (1 : Nat) (Option.none : Option Jvm.ClassFile.FieldType)) ∈ lw_all := lw_g (lw_at lw_m11 35 rfl) rfl
theorem q2556 : (Jvm.Cond.methodLink "EditsMeet$Client" (112 : Nat) ({ cls := "EditsMeet$Edit", name := "copied", desc := "()LEditsMeet$Edit;" } : Jvm.MethodName)) ∈ lw_all := lw_g (lw_at lw_m11 36 rfl) rfl
theorem q2558 : (Jvm.Cond.instanceMethod ({ cls := "EditsMeet$Client", name := "hears", desc := "(LEditsMeet$Edit;)V" } : Jvm.MethodName)) ∈ lw_all := lw_g (lw_at lw_m11 38 rfl) rfl
theorem q2559 : (Jvm.Cond.selects "EditsMeet$Client" ({ cls := "EditsMeet$Client", name := "hears", desc := "(LEditsMeet$Edit;)V" } : Jvm.MethodName) ({ cls := "EditsMeet$Client", name := "hears", desc := "(LEditsMeet$Edit;)V" } : Jvm.MethodName)) ∈ lw_all := lw_g (lw_at lw_m11 39 rfl) rfl
theorem q2560 : (Jvm.Cond.code ({ cls := "EditsMeet$Client", name := "hears", desc := "(LEditsMeet$Edit;)V" } : Jvm.MethodName) prog_3_method_11_code (3 : Nat) (Option.none : Option Jvm.ClassFile.FieldType)) ∈ lw_all := lw_g (lw_at lw_m11 40 rfl) rfl
theorem q2561 : (Jvm.Cond.methodLink "EditsMeet$Client" (115 : Nat) ({ cls := "EditsMeet$Weaver", name := "passes", desc := "(LEditsMeet$Edit;LEditsMeet$Edit;)LEditsMeet$Edit;" } : Jvm.MethodName)) ∈ lw_all := lw_g (lw_at lw_m11 41 rfl) rfl
theorem q2566 : (Jvm.Cond.methodLink "EditsMeet$Client" (118 : Nat) ({ cls := "EditsMeet$Pile", name := "goesOver", desc := "(LEditsMeet$Edit;LEditsMeet$Weaver;)V" } : Jvm.MethodName)) ∈ lw_all := lw_g (lw_at lw_m11 46 rfl) rfl
theorem q2697 : (Jvm.Cond.instanceMethod ({ cls := "EditsMeet$Client", name := "sent", desc := "()LEditsMeet$Edit;" } : Jvm.MethodName)) ∈ lw_all := lw_g (lw_at lw_m11 177 rfl) rfl
theorem q2698 : (Jvm.Cond.selects "EditsMeet$Client" ({ cls := "EditsMeet$Client", name := "sent", desc := "()LEditsMeet$Edit;" } : Jvm.MethodName) ({ cls := "EditsMeet$Client", name := "sent", desc := "()LEditsMeet$Edit;" } : Jvm.MethodName)) ∈ lw_all := lw_g (lw_at lw_m11 178 rfl) rfl
theorem q2699 : (Jvm.Cond.code ({ cls := "EditsMeet$Client", name := "sent", desc := "()LEditsMeet$Edit;" } : Jvm.MethodName) prog_3_method_3_code (1 : Nat) (Option.some (Jvm.ClassFile.FieldType.object "EditsMeet$Edit"))) ∈ lw_all := lw_g (lw_at lw_m11 179 rfl) rfl
theorem q2704 : (Jvm.Cond.instanceMethod ({ cls := "EditsMeet$Client", name := "waits", desc := "()LEditsMeet$Edit;" } : Jvm.MethodName)) ∈ lw_all := lw_g (lw_at lw_m11 184 rfl) rfl
theorem q2705 : (Jvm.Cond.selects "EditsMeet$Client" ({ cls := "EditsMeet$Client", name := "waits", desc := "()LEditsMeet$Edit;" } : Jvm.MethodName) ({ cls := "EditsMeet$Client", name := "waits", desc := "()LEditsMeet$Edit;" } : Jvm.MethodName)) ∈ lw_all := lw_g (lw_at lw_m11 185 rfl) rfl
theorem q2706 : (Jvm.Cond.code ({ cls := "EditsMeet$Client", name := "waits", desc := "()LEditsMeet$Edit;" } : Jvm.MethodName) prog_3_method_4_code (1 : Nat) (Option.some (Jvm.ClassFile.FieldType.object "EditsMeet$Edit"))) ∈ lw_all := lw_g (lw_at lw_m11 186 rfl) rfl
theorem q2802 : (Jvm.Cond.instanceMethod ({ cls := "EditsMeet$Client", name := "becomes", desc := "(LEditsMeet$Client;)V" } : Jvm.MethodName)) ∈ lw_all := lw_g (lw_at lw_m12 42 rfl) rfl
theorem q2803 : (Jvm.Cond.selects "EditsMeet$Client" ({ cls := "EditsMeet$Client", name := "becomes", desc := "(LEditsMeet$Client;)V" } : Jvm.MethodName) ({ cls := "EditsMeet$Client", name := "becomes", desc := "(LEditsMeet$Client;)V" } : Jvm.MethodName)) ∈ lw_all := lw_g (lw_at lw_m12 43 rfl) rfl
theorem q2804 : (Jvm.Cond.code ({ cls := "EditsMeet$Client", name := "becomes", desc := "(LEditsMeet$Client;)V" } : Jvm.MethodName) prog_3_method_2_code (2 : Nat) (Option.none : Option Jvm.ClassFile.FieldType)) ∈ lw_all := lw_g (lw_at lw_m12 44 rfl) rfl
theorem q2805 : (Jvm.Cond.methodLink "EditsMeet$Client" (47 : Nat) ({ cls := "EditsMeet$Text", name := "becomes", desc := "(LEditsMeet$Text;)LEditsMeet$Text;" } : Jvm.MethodName)) ∈ lw_all := lw_g (lw_at lw_m12 45 rfl) rfl
theorem q2928 : (Jvm.Cond.methodLink "EditsMeet$Client" (51 : Nat) ({ cls := "EditsMeet$Pile", name := "becomes", desc := "(LEditsMeet$Pile;)V" } : Jvm.MethodName)) ∈ lw_all := lw_g (lw_at lw_m12 168 rfl) rfl
theorem q3625 : (Jvm.Cond.castable "EditsMeet$Client" "java/lang/Object") ∈ lw_tbl := lw_at lw_m15 145 rfl
theorem in_X9 : ∀ w ∈ wsX90, w ∈ lw_all := lw_in wsX90 [510, 512, 514, 516, 518, 520, 522, 524, 526, 528, 530, 532, 534, 536] (by decide +kernel) (by decide +kernel)

/-! EditsMeet$Pile -/
set_option maxRecDepth 100000
def RX10 : String := "EditsMeet$Pile"
def TX10 : u_T := fun k => match k with
  | 0 => ("EditsMeet$Pile", "edits", "Ljava/util/LinkedList;", true)
  | _ => ("EditsMeet$Pile", "places", "Ljava/util/ArrayList;", true)
def tyX10 : Nat → FieldType := fun k => match k with
  | 0 => .object "java/util/LinkedList"
  | _ => .object "java/util/ArrayList"
abbrev wsX100 : List Cond := u_ws RX10 TX10 2
theorem nmX10 : ∀ a, a < 2 → ∀ b, b < 2 → a ≠ b → (TX10 a).2.1 ≠ (TX10 b).2.1 := by decide +kernel
theorem tyX10_ok : ∀ k, k < 2 → parseFieldDescriptor (TX10 k).2.2.1 = some (tyX10 k) := by decide +kernel
abbrev cX10_init : ByteArray := prog_14_method_1_code
def yX10_init : MethodName := ⟨RX10, "<init>", "()V"⟩
def dkwX10_init_1 : List UInt8 := [181, 0, 21, 177]
abbrev dktX10_init_1 : List UInt8 := dkwX10_init_1 ++ []
def dkwX10_init_0 : List UInt8 := [42, 183, 0, 3, 42, 187, 0, 9, 89, 183, 0, 11, 181, 0, 12, 42, 187, 0, 18, 89, 183, 0, 20]
abbrev dktX10_init_0 : List UInt8 := dkwX10_init_0 ++ dktX10_init_1
theorem dksX10_init_0 : cX10_init.data.toList.drop 0 = dktX10_init_0 := by decide +kernel
theorem dksX10_init_1 : cX10_init.data.toList.drop 23 = dktX10_init_1 := dk_seg dksX10_init_0 23 rfl rfl
theorem dX10_init_0 : decode cX10_init 0 = .ok (.aload_n 0, 1) := dk_42 (dk_at dksX10_init_0 0 rfl rfl)
theorem dX10_init_1 : decode cX10_init 1 = .ok (.invokespecial 3, 3) := dk_183 0 3 (dk_at dksX10_init_0 1 rfl rfl)
theorem dX10_init_4 : decode cX10_init 4 = .ok (.aload_n 0, 1) := dk_42 (dk_at dksX10_init_0 4 rfl rfl)
theorem dX10_init_5 : decode cX10_init 5 = .ok (.new 9, 3) := dk_187 0 9 (dk_at dksX10_init_0 5 rfl rfl)
theorem dX10_init_8 : decode cX10_init 8 = .ok (.dup, 1) := dk_89 (dk_at dksX10_init_0 8 rfl rfl)
theorem dX10_init_9 : decode cX10_init 9 = .ok (.invokespecial 11, 3) := dk_183 0 11 (dk_at dksX10_init_0 9 rfl rfl)
theorem dX10_init_12 : decode cX10_init 12 = .ok (.putfield 12, 3) := dk_181 0 12 (dk_at dksX10_init_0 12 rfl rfl)
theorem dX10_init_15 : decode cX10_init 15 = .ok (.aload_n 0, 1) := dk_42 (dk_at dksX10_init_0 15 rfl rfl)
theorem dX10_init_16 : decode cX10_init 16 = .ok (.new 18, 3) := dk_187 0 18 (dk_at dksX10_init_0 16 rfl rfl)
theorem dX10_init_19 : decode cX10_init 19 = .ok (.dup, 1) := dk_89 (dk_at dksX10_init_0 19 rfl rfl)
theorem dX10_init_20 : decode cX10_init 20 = .ok (.invokespecial 20, 3) := dk_183 0 20 (dk_at dksX10_init_0 20 rfl rfl)
theorem dX10_init_23 : decode cX10_init 23 = .ok (.putfield 21, 3) := dk_181 0 21 (dk_at dksX10_init_1 0 rfl rfl)
theorem dX10_init_26 : decode cX10_init 26 = .ok (.return_, 1) := dk_177 (dk_at dksX10_init_1 3 rfl rfl)
abbrev cX10_empties : ByteArray := prog_14_method_7_code
def yX10_empties : MethodName := ⟨RX10, "empties", "()V"⟩
def dkwX10_empties_0 : List UInt8 := [42, 180, 0, 21, 42, 180, 0, 12, 182, 0, 86, 87, 42, 180, 0, 12, 182, 0, 90, 177]
abbrev dktX10_empties_0 : List UInt8 := dkwX10_empties_0 ++ []
theorem dksX10_empties_0 : cX10_empties.data.toList.drop 0 = dktX10_empties_0 := by decide +kernel
theorem dX10_empties_0 : decode cX10_empties 0 = .ok (.aload_n 0, 1) := dk_42 (dk_at dksX10_empties_0 0 rfl rfl)
theorem dX10_empties_1 : decode cX10_empties 1 = .ok (.getfield 21, 3) := dk_180 0 21 (dk_at dksX10_empties_0 1 rfl rfl)
theorem dX10_empties_4 : decode cX10_empties 4 = .ok (.aload_n 0, 1) := dk_42 (dk_at dksX10_empties_0 4 rfl rfl)
theorem dX10_empties_5 : decode cX10_empties 5 = .ok (.getfield 12, 3) := dk_180 0 12 (dk_at dksX10_empties_0 5 rfl rfl)
theorem dX10_empties_8 : decode cX10_empties 8 = .ok (.invokevirtual 86, 3) := dk_182 0 86 (dk_at dksX10_empties_0 8 rfl rfl)
theorem dX10_empties_11 : decode cX10_empties 11 = .ok (.pop, 1) := dk_87 (dk_at dksX10_empties_0 11 rfl rfl)
theorem dX10_empties_12 : decode cX10_empties 12 = .ok (.aload_n 0, 1) := dk_42 (dk_at dksX10_empties_0 12 rfl rfl)
theorem dX10_empties_13 : decode cX10_empties 13 = .ok (.getfield 12, 3) := dk_180 0 12 (dk_at dksX10_empties_0 13 rfl rfl)
theorem dX10_empties_16 : decode cX10_empties 16 = .ok (.invokevirtual 90, 3) := dk_182 0 90 (dk_at dksX10_empties_0 16 rfl rfl)
theorem dX10_empties_19 : decode cX10_empties 19 = .ok (.return_, 1) := dk_177 (dk_at dksX10_empties_0 19 rfl rfl)
abbrev cX10_puts : ByteArray := prog_14_method_4_code
def yX10_puts : MethodName := ⟨RX10, "puts", "()LEditsMeet$Edit;"⟩
def dkwX10_puts_1 : List UInt8 := [167, 0, 7, 42, 182, 0, 56, 76, 42, 180, 0, 12, 43, 182, 0, 64, 43, 176]
abbrev dktX10_puts_1 : List UInt8 := dkwX10_puts_1 ++ []
def dkwX10_puts_0 : List UInt8 := [42, 180, 0, 12, 182, 0, 68, 16, 20, 160, 0, 16, 42, 180, 0, 12, 182, 0, 69, 192, 0, 29]
abbrev dktX10_puts_0 : List UInt8 := dkwX10_puts_0 ++ dktX10_puts_1
theorem dksX10_puts_0 : cX10_puts.data.toList.drop 0 = dktX10_puts_0 := by decide +kernel
theorem dksX10_puts_1 : cX10_puts.data.toList.drop 22 = dktX10_puts_1 := dk_seg dksX10_puts_0 22 rfl rfl
theorem dX10_puts_0 : decode cX10_puts 0 = .ok (.aload_n 0, 1) := dk_42 (dk_at dksX10_puts_0 0 rfl rfl)
theorem dX10_puts_1 : decode cX10_puts 1 = .ok (.getfield 12, 3) := dk_180 0 12 (dk_at dksX10_puts_0 1 rfl rfl)
theorem dX10_puts_4 : decode cX10_puts 4 = .ok (.invokevirtual 68, 3) := dk_182 0 68 (dk_at dksX10_puts_0 4 rfl rfl)
theorem dX10_puts_7 : decode cX10_puts 7 = .ok (.bipush 20, 2) := dk_16 20 (dk_at dksX10_puts_0 7 rfl rfl)
theorem dX10_puts_9 : decode cX10_puts 9 = .ok (.if_icmp .ne 16, 3) := dk_160 0 16 (dk_at dksX10_puts_0 9 rfl rfl)
theorem dX10_puts_12 : decode cX10_puts 12 = .ok (.aload_n 0, 1) := dk_42 (dk_at dksX10_puts_0 12 rfl rfl)
theorem dX10_puts_13 : decode cX10_puts 13 = .ok (.getfield 12, 3) := dk_180 0 12 (dk_at dksX10_puts_0 13 rfl rfl)
theorem dX10_puts_16 : decode cX10_puts 16 = .ok (.invokevirtual 69, 3) := dk_182 0 69 (dk_at dksX10_puts_0 16 rfl rfl)
theorem dX10_puts_19 : decode cX10_puts 19 = .ok (.checkcast 29, 3) := dk_192 0 29 (dk_at dksX10_puts_0 19 rfl rfl)
theorem dX10_puts_22 : decode cX10_puts 22 = .ok (.goto 7, 3) := dk_167 0 7 (dk_at dksX10_puts_1 0 rfl rfl)
theorem dX10_puts_25 : decode cX10_puts 25 = .ok (.aload_n 0, 1) := dk_42 (dk_at dksX10_puts_1 3 rfl rfl)
theorem dX10_puts_26 : decode cX10_puts 26 = .ok (.invokevirtual 56, 3) := dk_182 0 56 (dk_at dksX10_puts_1 4 rfl rfl)
theorem dX10_puts_29 : decode cX10_puts 29 = .ok (.astore_n 1, 1) := dk_76 (dk_at dksX10_puts_1 7 rfl rfl)
theorem dX10_puts_30 : decode cX10_puts 30 = .ok (.aload_n 0, 1) := dk_42 (dk_at dksX10_puts_1 8 rfl rfl)
theorem dX10_puts_31 : decode cX10_puts 31 = .ok (.getfield 12, 3) := dk_180 0 12 (dk_at dksX10_puts_1 9 rfl rfl)
theorem dX10_puts_34 : decode cX10_puts 34 = .ok (.aload_n 1, 1) := dk_43 (dk_at dksX10_puts_1 12 rfl rfl)
theorem dX10_puts_35 : decode cX10_puts 35 = .ok (.invokevirtual 64, 3) := dk_182 0 64 (dk_at dksX10_puts_1 13 rfl rfl)
theorem dX10_puts_38 : decode cX10_puts 38 = .ok (.aload_n 1, 1) := dk_43 (dk_at dksX10_puts_1 16 rfl rfl)
theorem dX10_puts_39 : decode cX10_puts 39 = .ok (.areturn, 1) := dk_176 (dk_at dksX10_puts_1 17 rfl rfl)
abbrev cX10_place : ByteArray := prog_14_method_2_code
def yX10_place : MethodName := ⟨RX10, "place", "()LEditsMeet$Edit;"⟩
def dkwX10_place_1 : List UInt8 := [42, 180, 0, 21, 182, 0, 32, 4, 100, 182, 0, 36, 192, 0, 29, 176]
abbrev dktX10_place_1 : List UInt8 := dkwX10_place_1 ++ []
def dkwX10_place_0 : List UInt8 := [42, 180, 0, 21, 182, 0, 25, 153, 0, 13, 187, 0, 29, 89, 183, 0, 31, 167, 0, 22, 42, 180, 0, 21]
abbrev dktX10_place_0 : List UInt8 := dkwX10_place_0 ++ dktX10_place_1
theorem dksX10_place_0 : cX10_place.data.toList.drop 0 = dktX10_place_0 := by decide +kernel
theorem dksX10_place_1 : cX10_place.data.toList.drop 24 = dktX10_place_1 := dk_seg dksX10_place_0 24 rfl rfl
theorem dX10_place_0 : decode cX10_place 0 = .ok (.aload_n 0, 1) := dk_42 (dk_at dksX10_place_0 0 rfl rfl)
theorem dX10_place_1 : decode cX10_place 1 = .ok (.getfield 21, 3) := dk_180 0 21 (dk_at dksX10_place_0 1 rfl rfl)
theorem dX10_place_4 : decode cX10_place 4 = .ok (.invokevirtual 25, 3) := dk_182 0 25 (dk_at dksX10_place_0 4 rfl rfl)
theorem dX10_place_7 : decode cX10_place 7 = .ok (.ifCond .eq 13, 3) := dk_153 0 13 (dk_at dksX10_place_0 7 rfl rfl)
theorem dX10_place_10 : decode cX10_place 10 = .ok (.new 29, 3) := dk_187 0 29 (dk_at dksX10_place_0 10 rfl rfl)
theorem dX10_place_13 : decode cX10_place 13 = .ok (.dup, 1) := dk_89 (dk_at dksX10_place_0 13 rfl rfl)
theorem dX10_place_14 : decode cX10_place 14 = .ok (.invokespecial 31, 3) := dk_183 0 31 (dk_at dksX10_place_0 14 rfl rfl)
theorem dX10_place_17 : decode cX10_place 17 = .ok (.goto 22, 3) := dk_167 0 22 (dk_at dksX10_place_0 17 rfl rfl)
theorem dX10_place_20 : decode cX10_place 20 = .ok (.aload_n 0, 1) := dk_42 (dk_at dksX10_place_0 20 rfl rfl)
theorem dX10_place_21 : decode cX10_place 21 = .ok (.getfield 21, 3) := dk_180 0 21 (dk_at dksX10_place_0 21 rfl rfl)
theorem dX10_place_24 : decode cX10_place 24 = .ok (.aload_n 0, 1) := dk_42 (dk_at dksX10_place_1 0 rfl rfl)
theorem dX10_place_25 : decode cX10_place 25 = .ok (.getfield 21, 3) := dk_180 0 21 (dk_at dksX10_place_1 1 rfl rfl)
theorem dX10_place_28 : decode cX10_place 28 = .ok (.invokevirtual 32, 3) := dk_182 0 32 (dk_at dksX10_place_1 4 rfl rfl)
theorem dX10_place_31 : decode cX10_place 31 = .ok (.iconst 1, 1) := dk_4 (dk_at dksX10_place_1 7 rfl rfl)
theorem dX10_place_32 : decode cX10_place 32 = .ok (.isub, 1) := dk_100 (dk_at dksX10_place_1 8 rfl rfl)
theorem dX10_place_33 : decode cX10_place 33 = .ok (.invokevirtual 36, 3) := dk_182 0 36 (dk_at dksX10_place_1 9 rfl rfl)
theorem dX10_place_36 : decode cX10_place 36 = .ok (.checkcast 29, 3) := dk_192 0 29 (dk_at dksX10_place_1 12 rfl rfl)
theorem dX10_place_39 : decode cX10_place 39 = .ok (.areturn, 1) := dk_176 (dk_at dksX10_place_1 15 rfl rfl)
abbrev cX10_goesOver : ByteArray := prog_14_method_9_code
def yX10_goesOver : MethodName := ⟨RX10, "goesOver", "(LEditsMeet$Edit;LEditsMeet$Weaver;)V"⟩
def dkwX10_goesOver_1 : List UInt8 := [185, 0, 52, 1, 0, 192, 0, 29, 45, 182, 0, 96, 78, 167, 255, 230, 177]
abbrev dktX10_goesOver_1 : List UInt8 := dkwX10_goesOver_1 ++ []
def dkwX10_goesOver_0 : List UInt8 := [43, 78, 42, 180, 0, 12, 182, 0, 93, 58, 4, 25, 4, 185, 0, 47, 1, 0, 153, 0, 22, 44, 25, 4]
abbrev dktX10_goesOver_0 : List UInt8 := dkwX10_goesOver_0 ++ dktX10_goesOver_1
theorem dksX10_goesOver_0 : cX10_goesOver.data.toList.drop 0 = dktX10_goesOver_0 := by decide +kernel
theorem dksX10_goesOver_1 : cX10_goesOver.data.toList.drop 24 = dktX10_goesOver_1 := dk_seg dksX10_goesOver_0 24 rfl rfl
theorem dX10_goesOver_0 : decode cX10_goesOver 0 = .ok (.aload_n 1, 1) := dk_43 (dk_at dksX10_goesOver_0 0 rfl rfl)
theorem dX10_goesOver_1 : decode cX10_goesOver 1 = .ok (.astore_n 3, 1) := dk_78 (dk_at dksX10_goesOver_0 1 rfl rfl)
theorem dX10_goesOver_2 : decode cX10_goesOver 2 = .ok (.aload_n 0, 1) := dk_42 (dk_at dksX10_goesOver_0 2 rfl rfl)
theorem dX10_goesOver_3 : decode cX10_goesOver 3 = .ok (.getfield 12, 3) := dk_180 0 12 (dk_at dksX10_goesOver_0 3 rfl rfl)
theorem dX10_goesOver_6 : decode cX10_goesOver 6 = .ok (.invokevirtual 93, 3) := dk_182 0 93 (dk_at dksX10_goesOver_0 6 rfl rfl)
theorem dX10_goesOver_9 : decode cX10_goesOver 9 = .ok (.astore 4, 2) := dk_58 4 (dk_at dksX10_goesOver_0 9 rfl rfl)
theorem dX10_goesOver_11 : decode cX10_goesOver 11 = .ok (.aload 4, 2) := dk_25 4 (dk_at dksX10_goesOver_0 11 rfl rfl)
theorem dX10_goesOver_13 : decode cX10_goesOver 13 = .ok (.invokeinterface 47 1, 5) := by decide +kernel
theorem dX10_goesOver_18 : decode cX10_goesOver 18 = .ok (.ifCond .eq 22, 3) := dk_153 0 22 (dk_at dksX10_goesOver_0 18 rfl rfl)
theorem dX10_goesOver_21 : decode cX10_goesOver 21 = .ok (.aload_n 2, 1) := dk_44 (dk_at dksX10_goesOver_0 21 rfl rfl)
theorem dX10_goesOver_22 : decode cX10_goesOver 22 = .ok (.aload 4, 2) := dk_25 4 (dk_at dksX10_goesOver_0 22 rfl rfl)
theorem dX10_goesOver_24 : decode cX10_goesOver 24 = .ok (.invokeinterface 52 1, 5) := by decide +kernel
theorem dX10_goesOver_29 : decode cX10_goesOver 29 = .ok (.checkcast 29, 3) := dk_192 0 29 (dk_at dksX10_goesOver_1 5 rfl rfl)
theorem dX10_goesOver_32 : decode cX10_goesOver 32 = .ok (.aload_n 3, 1) := dk_45 (dk_at dksX10_goesOver_1 8 rfl rfl)
theorem dX10_goesOver_33 : decode cX10_goesOver 33 = .ok (.invokevirtual 96, 3) := dk_182 0 96 (dk_at dksX10_goesOver_1 9 rfl rfl)
theorem dX10_goesOver_36 : decode cX10_goesOver 36 = .ok (.astore_n 3, 1) := dk_78 (dk_at dksX10_goesOver_1 12 rfl rfl)
theorem dX10_goesOver_37 : decode cX10_goesOver 37 = .ok (.goto (-26), 3) := dk_167 255 230 (dk_at dksX10_goesOver_1 13 rfl rfl)
theorem dX10_goesOver_40 : decode cX10_goesOver 40 = .ok (.return_, 1) := dk_177 (dk_at dksX10_goesOver_1 16 rfl rfl)
abbrev cX10_size : ByteArray := prog_14_method_8_code
def yX10_size : MethodName := ⟨RX10, "size", "()I"⟩
def dkwX10_size_0 : List UInt8 := [42, 180, 0, 12, 182, 0, 68, 172]
abbrev dktX10_size_0 : List UInt8 := dkwX10_size_0 ++ []
theorem dksX10_size_0 : cX10_size.data.toList.drop 0 = dktX10_size_0 := by decide +kernel
theorem dX10_size_0 : decode cX10_size 0 = .ok (.aload_n 0, 1) := dk_42 (dk_at dksX10_size_0 0 rfl rfl)
theorem dX10_size_1 : decode cX10_size 1 = .ok (.getfield 12, 3) := dk_180 0 12 (dk_at dksX10_size_0 1 rfl rfl)
theorem dX10_size_4 : decode cX10_size 4 = .ok (.invokevirtual 68, 3) := dk_182 0 68 (dk_at dksX10_size_0 4 rfl rfl)
theorem dX10_size_7 : decode cX10_size 7 = .ok (.ireturn, 1) := dk_172 (dk_at dksX10_size_0 7 rfl rfl)
abbrev cX10_latest : ByteArray := prog_14_method_5_code
def yX10_latest : MethodName := ⟨RX10, "latest", "()LEditsMeet$Edit;"⟩
def dkwX10_latest_1 : List UInt8 := [176]
abbrev dktX10_latest_1 : List UInt8 := dkwX10_latest_1 ++ []
def dkwX10_latest_0 : List UInt8 := [42, 180, 0, 12, 182, 0, 72, 153, 0, 7, 1, 167, 0, 13, 42, 180, 0, 12, 182, 0, 73, 192, 0, 29]
abbrev dktX10_latest_0 : List UInt8 := dkwX10_latest_0 ++ dktX10_latest_1
theorem dksX10_latest_0 : cX10_latest.data.toList.drop 0 = dktX10_latest_0 := by decide +kernel
theorem dksX10_latest_1 : cX10_latest.data.toList.drop 24 = dktX10_latest_1 := dk_seg dksX10_latest_0 24 rfl rfl
theorem dX10_latest_0 : decode cX10_latest 0 = .ok (.aload_n 0, 1) := dk_42 (dk_at dksX10_latest_0 0 rfl rfl)
theorem dX10_latest_1 : decode cX10_latest 1 = .ok (.getfield 12, 3) := dk_180 0 12 (dk_at dksX10_latest_0 1 rfl rfl)
theorem dX10_latest_4 : decode cX10_latest 4 = .ok (.invokevirtual 72, 3) := dk_182 0 72 (dk_at dksX10_latest_0 4 rfl rfl)
theorem dX10_latest_7 : decode cX10_latest 7 = .ok (.ifCond .eq 7, 3) := dk_153 0 7 (dk_at dksX10_latest_0 7 rfl rfl)
theorem dX10_latest_10 : decode cX10_latest 10 = .ok (.aconst_null, 1) := dk_1 (dk_at dksX10_latest_0 10 rfl rfl)
theorem dX10_latest_11 : decode cX10_latest 11 = .ok (.goto 13, 3) := dk_167 0 13 (dk_at dksX10_latest_0 11 rfl rfl)
theorem dX10_latest_14 : decode cX10_latest 14 = .ok (.aload_n 0, 1) := dk_42 (dk_at dksX10_latest_0 14 rfl rfl)
theorem dX10_latest_15 : decode cX10_latest 15 = .ok (.getfield 12, 3) := dk_180 0 12 (dk_at dksX10_latest_0 15 rfl rfl)
theorem dX10_latest_18 : decode cX10_latest 18 = .ok (.invokevirtual 73, 3) := dk_182 0 73 (dk_at dksX10_latest_0 18 rfl rfl)
theorem dX10_latest_21 : decode cX10_latest 21 = .ok (.checkcast 29, 3) := dk_192 0 29 (dk_at dksX10_latest_0 21 rfl rfl)
theorem dX10_latest_24 : decode cX10_latest 24 = .ok (.areturn, 1) := dk_176 (dk_at dksX10_latest_1 0 rfl rfl)
abbrev cX10_takes : ByteArray := prog_14_method_6_code
def yX10_takes : MethodName := ⟨RX10, "takes", "()LEditsMeet$Edit;"⟩
def dkwX10_takes_1 : List UInt8 := [176]
abbrev dktX10_takes_1 : List UInt8 := dkwX10_takes_1 ++ []
def dkwX10_takes_0 : List UInt8 := [42, 180, 0, 12, 182, 0, 76, 192, 0, 29, 76, 42, 180, 0, 21, 43, 182, 0, 79, 87, 43, 182, 0, 83]
abbrev dktX10_takes_0 : List UInt8 := dkwX10_takes_0 ++ dktX10_takes_1
theorem dksX10_takes_0 : cX10_takes.data.toList.drop 0 = dktX10_takes_0 := by decide +kernel
theorem dksX10_takes_1 : cX10_takes.data.toList.drop 24 = dktX10_takes_1 := dk_seg dksX10_takes_0 24 rfl rfl
theorem dX10_takes_0 : decode cX10_takes 0 = .ok (.aload_n 0, 1) := dk_42 (dk_at dksX10_takes_0 0 rfl rfl)
theorem dX10_takes_1 : decode cX10_takes 1 = .ok (.getfield 12, 3) := dk_180 0 12 (dk_at dksX10_takes_0 1 rfl rfl)
theorem dX10_takes_4 : decode cX10_takes 4 = .ok (.invokevirtual 76, 3) := dk_182 0 76 (dk_at dksX10_takes_0 4 rfl rfl)
theorem dX10_takes_7 : decode cX10_takes 7 = .ok (.checkcast 29, 3) := dk_192 0 29 (dk_at dksX10_takes_0 7 rfl rfl)
theorem dX10_takes_10 : decode cX10_takes 10 = .ok (.astore_n 1, 1) := dk_76 (dk_at dksX10_takes_0 10 rfl rfl)
theorem dX10_takes_11 : decode cX10_takes 11 = .ok (.aload_n 0, 1) := dk_42 (dk_at dksX10_takes_0 11 rfl rfl)
theorem dX10_takes_12 : decode cX10_takes 12 = .ok (.getfield 21, 3) := dk_180 0 21 (dk_at dksX10_takes_0 12 rfl rfl)
theorem dX10_takes_15 : decode cX10_takes 15 = .ok (.aload_n 1, 1) := dk_43 (dk_at dksX10_takes_0 15 rfl rfl)
theorem dX10_takes_16 : decode cX10_takes 16 = .ok (.invokevirtual 79, 3) := dk_182 0 79 (dk_at dksX10_takes_0 16 rfl rfl)
theorem dX10_takes_19 : decode cX10_takes 19 = .ok (.pop, 1) := dk_87 (dk_at dksX10_takes_0 19 rfl rfl)
theorem dX10_takes_20 : decode cX10_takes 20 = .ok (.aload_n 1, 1) := dk_43 (dk_at dksX10_takes_0 20 rfl rfl)
theorem dX10_takes_21 : decode cX10_takes 21 = .ok (.invokevirtual 83, 3) := dk_182 0 83 (dk_at dksX10_takes_0 21 rfl rfl)
theorem dX10_takes_24 : decode cX10_takes 24 = .ok (.areturn, 1) := dk_176 (dk_at dksX10_takes_1 0 rfl rfl)
abbrev cX10_becomes : ByteArray := prog_14_method_3_code
def yX10_becomes : MethodName := ⟨RX10, "becomes", "(LEditsMeet$Pile;)V"⟩
def dkwX10_becomes_2 : List UInt8 := [167, 255, 222, 177]
abbrev dktX10_becomes_2 : List UInt8 := dkwX10_becomes_2 ++ []
def dkwX10_becomes_1 : List UInt8 := [185, 0, 52, 1, 0, 192, 0, 29, 78, 42, 180, 0, 12, 42, 182, 0, 56, 45, 182, 0, 60, 182, 0, 64]
abbrev dktX10_becomes_1 : List UInt8 := dkwX10_becomes_1 ++ dktX10_becomes_2
def dkwX10_becomes_0 : List UInt8 := [42, 182, 0, 40, 43, 180, 0, 12, 182, 0, 43, 77, 44, 185, 0, 47, 1, 0, 153, 0, 31, 44]
abbrev dktX10_becomes_0 : List UInt8 := dkwX10_becomes_0 ++ dktX10_becomes_1
theorem dksX10_becomes_0 : cX10_becomes.data.toList.drop 0 = dktX10_becomes_0 := by decide +kernel
theorem dksX10_becomes_1 : cX10_becomes.data.toList.drop 22 = dktX10_becomes_1 := dk_seg dksX10_becomes_0 22 rfl rfl
theorem dksX10_becomes_2 : cX10_becomes.data.toList.drop 46 = dktX10_becomes_2 := dk_seg dksX10_becomes_1 24 rfl rfl
theorem dX10_becomes_0 : decode cX10_becomes 0 = .ok (.aload_n 0, 1) := dk_42 (dk_at dksX10_becomes_0 0 rfl rfl)
theorem dX10_becomes_1 : decode cX10_becomes 1 = .ok (.invokevirtual 40, 3) := dk_182 0 40 (dk_at dksX10_becomes_0 1 rfl rfl)
theorem dX10_becomes_4 : decode cX10_becomes 4 = .ok (.aload_n 1, 1) := dk_43 (dk_at dksX10_becomes_0 4 rfl rfl)
theorem dX10_becomes_5 : decode cX10_becomes 5 = .ok (.getfield 12, 3) := dk_180 0 12 (dk_at dksX10_becomes_0 5 rfl rfl)
theorem dX10_becomes_8 : decode cX10_becomes 8 = .ok (.invokevirtual 43, 3) := dk_182 0 43 (dk_at dksX10_becomes_0 8 rfl rfl)
theorem dX10_becomes_11 : decode cX10_becomes 11 = .ok (.astore_n 2, 1) := dk_77 (dk_at dksX10_becomes_0 11 rfl rfl)
theorem dX10_becomes_12 : decode cX10_becomes 12 = .ok (.aload_n 2, 1) := dk_44 (dk_at dksX10_becomes_0 12 rfl rfl)
theorem dX10_becomes_13 : decode cX10_becomes 13 = .ok (.invokeinterface 47 1, 5) := by decide +kernel
theorem dX10_becomes_18 : decode cX10_becomes 18 = .ok (.ifCond .eq 31, 3) := dk_153 0 31 (dk_at dksX10_becomes_0 18 rfl rfl)
theorem dX10_becomes_21 : decode cX10_becomes 21 = .ok (.aload_n 2, 1) := dk_44 (dk_at dksX10_becomes_0 21 rfl rfl)
theorem dX10_becomes_22 : decode cX10_becomes 22 = .ok (.invokeinterface 52 1, 5) := by decide +kernel
theorem dX10_becomes_27 : decode cX10_becomes 27 = .ok (.checkcast 29, 3) := dk_192 0 29 (dk_at dksX10_becomes_1 5 rfl rfl)
theorem dX10_becomes_30 : decode cX10_becomes 30 = .ok (.astore_n 3, 1) := dk_78 (dk_at dksX10_becomes_1 8 rfl rfl)
theorem dX10_becomes_31 : decode cX10_becomes 31 = .ok (.aload_n 0, 1) := dk_42 (dk_at dksX10_becomes_1 9 rfl rfl)
theorem dX10_becomes_32 : decode cX10_becomes 32 = .ok (.getfield 12, 3) := dk_180 0 12 (dk_at dksX10_becomes_1 10 rfl rfl)
theorem dX10_becomes_35 : decode cX10_becomes 35 = .ok (.aload_n 0, 1) := dk_42 (dk_at dksX10_becomes_1 13 rfl rfl)
theorem dX10_becomes_36 : decode cX10_becomes 36 = .ok (.invokevirtual 56, 3) := dk_182 0 56 (dk_at dksX10_becomes_1 14 rfl rfl)
theorem dX10_becomes_39 : decode cX10_becomes 39 = .ok (.aload_n 3, 1) := dk_45 (dk_at dksX10_becomes_1 17 rfl rfl)
theorem dX10_becomes_40 : decode cX10_becomes 40 = .ok (.invokevirtual 60, 3) := dk_182 0 60 (dk_at dksX10_becomes_1 18 rfl rfl)
theorem dX10_becomes_43 : decode cX10_becomes 43 = .ok (.invokevirtual 64, 3) := dk_182 0 64 (dk_at dksX10_becomes_1 21 rfl rfl)
theorem dX10_becomes_46 : decode cX10_becomes 46 = .ok (.goto (-34), 3) := dk_167 255 222 (dk_at dksX10_becomes_2 0 rfl rfl)
theorem dX10_becomes_49 : decode cX10_becomes 49 = .ok (.return_, 1) := dk_177 (dk_at dksX10_becomes_2 3 rfl rfl)
theorem q142 : (Jvm.Cond.initialized "EditsMeet$Pile") ∈ lw_all := lw_g (lw_at lw_m1 22 rfl) rfl
theorem q445 : (Jvm.Cond.instantiable "EditsMeet$Pile" (2 : Nat)) ∈ lw_all := lw_g (lw_at lw_m2 85 rfl) rfl
theorem q447 : (Jvm.Cond.instanceMethod ({ cls := "EditsMeet$Pile", name := "<init>", desc := "()V" } : Jvm.MethodName)) ∈ lw_all := lw_g (lw_at lw_m2 87 rfl) rfl
theorem q448 : (Jvm.Cond.code ({ cls := "EditsMeet$Pile", name := "<init>", desc := "()V" } : Jvm.MethodName) prog_14_method_1_code (1 : Nat) (Option.none : Option Jvm.ClassFile.FieldType)) ∈ lw_all := lw_g (lw_at lw_m2 88 rfl) rfl
theorem q449 : (Jvm.Cond.methodLink "EditsMeet$Pile" (3 : Nat) ({ cls := "java/lang/Object", name := "<init>", desc := "()V" } : Jvm.MethodName)) ∈ lw_all := lw_g (lw_at lw_m2 89 rfl) rfl
theorem q450 : (Jvm.Cond.classLink "EditsMeet$Pile" (9 : Nat) "java/util/LinkedList") ∈ lw_all := lw_g (lw_at lw_m2 90 rfl) rfl
theorem q452 : (Jvm.Cond.methodLink "EditsMeet$Pile" (11 : Nat) ({ cls := "java/util/LinkedList", name := "<init>", desc := "()V" } : Jvm.MethodName)) ∈ lw_all := lw_g (lw_at lw_m2 92 rfl) rfl
theorem q473 : (Jvm.Cond.classLink "EditsMeet$Pile" (18 : Nat) "java/util/ArrayList") ∈ lw_all := lw_g (lw_at lw_m2 113 rfl) rfl
theorem q474 : (Jvm.Cond.methodLink "EditsMeet$Pile" (20 : Nat) ({ cls := "java/util/ArrayList", name := "<init>", desc := "()V" } : Jvm.MethodName)) ∈ lw_all := lw_g (lw_at lw_m2 114 rfl) rfl
theorem q475 : (Jvm.Cond.fieldLink "EditsMeet$Pile" (12 : Nat) "EditsMeet$Pile" "edits" "Ljava/util/LinkedList;") ∈ lw_all := lw_g (lw_at lw_m2 115 rfl) rfl
theorem q476 : (Jvm.Cond.fieldLink "EditsMeet$Pile" (21 : Nat) "EditsMeet$Pile" "places" "Ljava/util/ArrayList;") ∈ lw_all := lw_g (lw_at lw_m2 116 rfl) rfl
theorem q477 : (Jvm.Cond.laysFinal "EditsMeet$Pile" "EditsMeet$Pile" "edits" "Ljava/util/LinkedList;") ∈ lw_all := lw_g (lw_at lw_m2 117 rfl) rfl
theorem q478 : (Jvm.Cond.soleField "EditsMeet$Pile" "edits") ∈ lw_all := lw_g (lw_at lw_m2 118 rfl) rfl
theorem q479 : (Jvm.Cond.laysFinal "EditsMeet$Pile" "EditsMeet$Pile" "places" "Ljava/util/ArrayList;") ∈ lw_all := lw_g (lw_at lw_m2 119 rfl) rfl
theorem q480 : (Jvm.Cond.soleField "EditsMeet$Pile" "places") ∈ lw_all := lw_g (lw_at lw_m2 120 rfl) rfl
theorem q481 : (Jvm.Cond.superclass "EditsMeet$Pile" "java/lang/Object") ∈ lw_all := lw_g (lw_at lw_m2 121 rfl) rfl
theorem q1451 : (Jvm.Cond.selects "EditsMeet$Pile" ({ cls := "java/lang/Object", name := "getClass", desc := "()Ljava/lang/Class;" } : Jvm.MethodName) ({ cls := "java/lang/Object", name := "getClass", desc := "()Ljava/lang/Class;" } : Jvm.MethodName)) ∈ lw_all := lw_g (lw_at lw_m6 131 rfl) rfl
theorem q2247 : (Jvm.Cond.instanceMethod ({ cls := "EditsMeet$Pile", name := "empties", desc := "()V" } : Jvm.MethodName)) ∈ lw_all := lw_g (lw_at lw_m9 207 rfl) rfl
theorem q2248 : (Jvm.Cond.selects "EditsMeet$Pile" ({ cls := "EditsMeet$Pile", name := "empties", desc := "()V" } : Jvm.MethodName) ({ cls := "EditsMeet$Pile", name := "empties", desc := "()V" } : Jvm.MethodName)) ∈ lw_all := lw_g (lw_at lw_m9 208 rfl) rfl
theorem q2249 : (Jvm.Cond.code ({ cls := "EditsMeet$Pile", name := "empties", desc := "()V" } : Jvm.MethodName) prog_14_method_7_code (1 : Nat) (Option.none : Option Jvm.ClassFile.FieldType)) ∈ lw_all := lw_g (lw_at lw_m9 209 rfl) rfl
theorem q2250 : (Jvm.Cond.methodLink "EditsMeet$Pile" (86 : Nat) ({ cls := "java/util/ArrayList", name := "addAll", desc := "(Ljava/util/Collection;)Z" } : Jvm.MethodName)) ∈ lw_all := lw_g (lw_at lw_m9 210 rfl) rfl
theorem q2272 : (Jvm.Cond.methodLink "EditsMeet$Pile" (90 : Nat) ({ cls := "java/util/LinkedList", name := "clear", desc := "()V" } : Jvm.MethodName)) ∈ lw_all := lw_g (lw_at lw_m9 232 rfl) rfl
theorem q2281 : (Jvm.Cond.instanceMethod ({ cls := "EditsMeet$Pile", name := "puts", desc := "()LEditsMeet$Edit;" } : Jvm.MethodName)) ∈ lw_all := lw_g (lw_at lw_m10 1 rfl) rfl
theorem q2282 : (Jvm.Cond.selects "EditsMeet$Pile" ({ cls := "EditsMeet$Pile", name := "puts", desc := "()LEditsMeet$Edit;" } : Jvm.MethodName) ({ cls := "EditsMeet$Pile", name := "puts", desc := "()LEditsMeet$Edit;" } : Jvm.MethodName)) ∈ lw_all := lw_g (lw_at lw_m10 2 rfl) rfl
theorem q2283 : (Jvm.Cond.code ({ cls := "EditsMeet$Pile", name := "puts", desc := "()LEditsMeet$Edit;" } : Jvm.MethodName) prog_14_method_4_code (2 : Nat) (Option.some (Jvm.ClassFile.FieldType.object "EditsMeet$Edit"))) ∈ lw_all := lw_g (lw_at lw_m10 3 rfl) rfl
theorem q2284 : (Jvm.Cond.methodLink "EditsMeet$Pile" (68 : Nat) ({ cls := "java/util/LinkedList", name := "size", desc := "()I" } : Jvm.MethodName)) ∈ lw_all := lw_g (lw_at lw_m10 4 rfl) rfl
theorem q2285 : (Jvm.Cond.methodLink "EditsMeet$Pile" (69 : Nat) ({ cls := "java/util/LinkedList", name := "removeFirst", desc := "()Ljava/lang/Object;" } : Jvm.MethodName)) ∈ lw_all := lw_g (lw_at lw_m10 5 rfl) rfl
theorem q2293 : (Jvm.Cond.classLink "EditsMeet$Pile" (29 : Nat) "EditsMeet$Edit") ∈ lw_all := lw_g (lw_at lw_m10 13 rfl) rfl
theorem q2294 : (Jvm.Cond.methodLink "EditsMeet$Pile" (56 : Nat) ({ cls := "EditsMeet$Pile", name := "place", desc := "()LEditsMeet$Edit;" } : Jvm.MethodName)) ∈ lw_all := lw_g (lw_at lw_m10 14 rfl) rfl
theorem q2295 : (Jvm.Cond.privateMethod ({ cls := "EditsMeet$Pile", name := "place", desc := "()LEditsMeet$Edit;" } : Jvm.MethodName)) ∈ lw_tbl := lw_at lw_m10 15 rfl
theorem q2296 : (Jvm.Cond.instanceMethod ({ cls := "EditsMeet$Pile", name := "place", desc := "()LEditsMeet$Edit;" } : Jvm.MethodName)) ∈ lw_all := lw_g (lw_at lw_m10 16 rfl) rfl
theorem q2297 : (Jvm.Cond.code ({ cls := "EditsMeet$Pile", name := "place", desc := "()LEditsMeet$Edit;" } : Jvm.MethodName) prog_14_method_2_code (1 : Nat) (Option.some (Jvm.ClassFile.FieldType.object "EditsMeet$Edit"))) ∈ lw_all := lw_g (lw_at lw_m10 17 rfl) rfl
theorem q2298 : (Jvm.Cond.methodLink "EditsMeet$Pile" (25 : Nat) ({ cls := "java/util/ArrayList", name := "isEmpty", desc := "()Z" } : Jvm.MethodName)) ∈ lw_all := lw_g (lw_at lw_m10 18 rfl) rfl
theorem q2302 : (Jvm.Cond.methodLinkNest "EditsMeet$Pile" (31 : Nat) ({ cls := "EditsMeet$Edit", name := "<init>", desc := "()V" } : Jvm.MethodName) "EditsMeet") ∈ lw_tbl := lw_at lw_m10 22 rfl
theorem q2303 : (Jvm.Cond.methodLink "EditsMeet$Pile" (32 : Nat) ({ cls := "java/util/ArrayList", name := "size", desc := "()I" } : Jvm.MethodName)) ∈ lw_all := lw_g (lw_at lw_m10 23 rfl) rfl
theorem q2304 : (Jvm.Cond.methodLink "EditsMeet$Pile" (36 : Nat) ({ cls := "java/util/ArrayList", name := "remove", desc := "(I)Ljava/lang/Object;" } : Jvm.MethodName)) ∈ lw_all := lw_g (lw_at lw_m10 24 rfl) rfl
theorem q2312 : (Jvm.Cond.methodLink "EditsMeet$Pile" (64 : Nat) ({ cls := "java/util/LinkedList", name := "addLast", desc := "(Ljava/lang/Object;)V" } : Jvm.MethodName)) ∈ lw_all := lw_g (lw_at lw_m10 32 rfl) rfl
theorem q2567 : (Jvm.Cond.instanceMethod ({ cls := "EditsMeet$Pile", name := "goesOver", desc := "(LEditsMeet$Edit;LEditsMeet$Weaver;)V" } : Jvm.MethodName)) ∈ lw_all := lw_g (lw_at lw_m11 47 rfl) rfl
theorem q2568 : (Jvm.Cond.selects "EditsMeet$Pile" ({ cls := "EditsMeet$Pile", name := "goesOver", desc := "(LEditsMeet$Edit;LEditsMeet$Weaver;)V" } : Jvm.MethodName) ({ cls := "EditsMeet$Pile", name := "goesOver", desc := "(LEditsMeet$Edit;LEditsMeet$Weaver;)V" } : Jvm.MethodName)) ∈ lw_all := lw_g (lw_at lw_m11 48 rfl) rfl
theorem q2569 : (Jvm.Cond.code ({ cls := "EditsMeet$Pile", name := "goesOver", desc := "(LEditsMeet$Edit;LEditsMeet$Weaver;)V" } : Jvm.MethodName) prog_14_method_9_code (5 : Nat) (Option.none : Option Jvm.ClassFile.FieldType)) ∈ lw_all := lw_g (lw_at lw_m11 49 rfl) rfl
theorem q2570 : (Jvm.Cond.methodLink "EditsMeet$Pile" (93 : Nat) ({ cls := "java/util/LinkedList", name := "descendingIterator", desc := "()Ljava/util/Iterator;" } : Jvm.MethodName)) ∈ lw_all := lw_g (lw_at lw_m11 50 rfl) rfl
theorem q2611 : (Jvm.Cond.interfaceEntry "EditsMeet$Pile" (47 : Nat)) ∈ lw_tbl := lw_at lw_m11 91 rfl
theorem q2612 : (Jvm.Cond.methodLink "EditsMeet$Pile" (47 : Nat) ({ cls := "java/util/Iterator", name := "hasNext", desc := "()Z" } : Jvm.MethodName)) ∈ lw_all := lw_g (lw_at lw_m11 92 rfl) rfl
theorem q2613 : (Jvm.Cond.interfaceEntry "EditsMeet$Pile" (52 : Nat)) ∈ lw_tbl := lw_at lw_m11 93 rfl
theorem q2614 : (Jvm.Cond.methodLink "EditsMeet$Pile" (52 : Nat) ({ cls := "java/util/Iterator", name := "next", desc := "()Ljava/lang/Object;" } : Jvm.MethodName)) ∈ lw_all := lw_g (lw_at lw_m11 94 rfl) rfl
theorem q2615 : (Jvm.Cond.methodLink "EditsMeet$Pile" (96 : Nat) ({ cls := "EditsMeet$Weaver", name := "passes", desc := "(LEditsMeet$Edit;LEditsMeet$Edit;)LEditsMeet$Edit;" } : Jvm.MethodName)) ∈ lw_all := lw_g (lw_at lw_m11 95 rfl) rfl
theorem q2642 : (Jvm.Cond.instanceMethod ({ cls := "EditsMeet$Pile", name := "size", desc := "()I" } : Jvm.MethodName)) ∈ lw_all := lw_g (lw_at lw_m11 122 rfl) rfl
theorem q2643 : (Jvm.Cond.selects "EditsMeet$Pile" ({ cls := "EditsMeet$Pile", name := "size", desc := "()I" } : Jvm.MethodName) ({ cls := "EditsMeet$Pile", name := "size", desc := "()I" } : Jvm.MethodName)) ∈ lw_all := lw_g (lw_at lw_m11 123 rfl) rfl
theorem q2644 : (Jvm.Cond.code ({ cls := "EditsMeet$Pile", name := "size", desc := "()I" } : Jvm.MethodName) prog_14_method_8_code (1 : Nat) (Option.some Jvm.ClassFile.FieldType.int)) ∈ lw_all := lw_g (lw_at lw_m11 124 rfl) rfl
theorem q2646 : (Jvm.Cond.instanceMethod ({ cls := "EditsMeet$Pile", name := "latest", desc := "()LEditsMeet$Edit;" } : Jvm.MethodName)) ∈ lw_all := lw_g (lw_at lw_m11 126 rfl) rfl
theorem q2647 : (Jvm.Cond.selects "EditsMeet$Pile" ({ cls := "EditsMeet$Pile", name := "latest", desc := "()LEditsMeet$Edit;" } : Jvm.MethodName) ({ cls := "EditsMeet$Pile", name := "latest", desc := "()LEditsMeet$Edit;" } : Jvm.MethodName)) ∈ lw_all := lw_g (lw_at lw_m11 127 rfl) rfl
theorem q2648 : (Jvm.Cond.code ({ cls := "EditsMeet$Pile", name := "latest", desc := "()LEditsMeet$Edit;" } : Jvm.MethodName) prog_14_method_5_code (1 : Nat) (Option.some (Jvm.ClassFile.FieldType.object "EditsMeet$Edit"))) ∈ lw_all := lw_g (lw_at lw_m11 128 rfl) rfl
theorem q2649 : (Jvm.Cond.methodLink "EditsMeet$Pile" (72 : Nat) ({ cls := "java/util/LinkedList", name := "isEmpty", desc := "()Z" } : Jvm.MethodName)) ∈ lw_all := lw_g (lw_at lw_m11 129 rfl) rfl
theorem q2656 : (Jvm.Cond.methodLink "EditsMeet$Pile" (73 : Nat) ({ cls := "java/util/LinkedList", name := "getLast", desc := "()Ljava/lang/Object;" } : Jvm.MethodName)) ∈ lw_all := lw_g (lw_at lw_m11 136 rfl) rfl
theorem q2661 : (Jvm.Cond.instanceMethod ({ cls := "EditsMeet$Pile", name := "takes", desc := "()LEditsMeet$Edit;" } : Jvm.MethodName)) ∈ lw_all := lw_g (lw_at lw_m11 141 rfl) rfl
theorem q2662 : (Jvm.Cond.selects "EditsMeet$Pile" ({ cls := "EditsMeet$Pile", name := "takes", desc := "()LEditsMeet$Edit;" } : Jvm.MethodName) ({ cls := "EditsMeet$Pile", name := "takes", desc := "()LEditsMeet$Edit;" } : Jvm.MethodName)) ∈ lw_all := lw_g (lw_at lw_m11 142 rfl) rfl
theorem q2663 : (Jvm.Cond.code ({ cls := "EditsMeet$Pile", name := "takes", desc := "()LEditsMeet$Edit;" } : Jvm.MethodName) prog_14_method_6_code (2 : Nat) (Option.some (Jvm.ClassFile.FieldType.object "EditsMeet$Edit"))) ∈ lw_all := lw_g (lw_at lw_m11 143 rfl) rfl
theorem q2664 : (Jvm.Cond.methodLink "EditsMeet$Pile" (76 : Nat) ({ cls := "java/util/LinkedList", name := "removeLast", desc := "()Ljava/lang/Object;" } : Jvm.MethodName)) ∈ lw_all := lw_g (lw_at lw_m11 144 rfl) rfl
theorem q2672 : (Jvm.Cond.methodLink "EditsMeet$Pile" (79 : Nat) ({ cls := "java/util/ArrayList", name := "add", desc := "(Ljava/lang/Object;)Z" } : Jvm.MethodName)) ∈ lw_all := lw_g (lw_at lw_m11 152 rfl) rfl
theorem q2673 : (Jvm.Cond.methodLink "EditsMeet$Pile" (83 : Nat) ({ cls := "EditsMeet$Edit", name := "copied", desc := "()LEditsMeet$Edit;" } : Jvm.MethodName)) ∈ lw_all := lw_g (lw_at lw_m11 153 rfl) rfl
theorem q2929 : (Jvm.Cond.instanceMethod ({ cls := "EditsMeet$Pile", name := "becomes", desc := "(LEditsMeet$Pile;)V" } : Jvm.MethodName)) ∈ lw_all := lw_g (lw_at lw_m12 169 rfl) rfl
theorem q2930 : (Jvm.Cond.selects "EditsMeet$Pile" ({ cls := "EditsMeet$Pile", name := "becomes", desc := "(LEditsMeet$Pile;)V" } : Jvm.MethodName) ({ cls := "EditsMeet$Pile", name := "becomes", desc := "(LEditsMeet$Pile;)V" } : Jvm.MethodName)) ∈ lw_all := lw_g (lw_at lw_m12 170 rfl) rfl
theorem q2931 : (Jvm.Cond.code ({ cls := "EditsMeet$Pile", name := "becomes", desc := "(LEditsMeet$Pile;)V" } : Jvm.MethodName) prog_14_method_3_code (4 : Nat) (Option.none : Option Jvm.ClassFile.FieldType)) ∈ lw_all := lw_g (lw_at lw_m12 171 rfl) rfl
theorem q2932 : (Jvm.Cond.methodLink "EditsMeet$Pile" (40 : Nat) ({ cls := "EditsMeet$Pile", name := "empties", desc := "()V" } : Jvm.MethodName)) ∈ lw_all := lw_g (lw_at lw_m12 172 rfl) rfl
theorem q2933 : (Jvm.Cond.methodLink "EditsMeet$Pile" (43 : Nat) ({ cls := "java/util/LinkedList", name := "iterator", desc := "()Ljava/util/Iterator;" } : Jvm.MethodName)) ∈ lw_all := lw_g (lw_at lw_m12 173 rfl) rfl
theorem q3009 : (Jvm.Cond.methodLink "EditsMeet$Pile" (60 : Nat) ({ cls := "EditsMeet$Edit", name := "becomes", desc := "(LEditsMeet$Edit;)LEditsMeet$Edit;" } : Jvm.MethodName)) ∈ lw_all := lw_g (lw_at lw_m13 9 rfl) rfl
theorem q3637 : (Jvm.Cond.castable "EditsMeet$Pile" "java/lang/Object") ∈ lw_tbl := lw_at lw_m15 157 rfl
theorem in_X10 : ∀ w ∈ wsX100, w ∈ lw_all := lw_in wsX100 [477, 479] (by decide +kernel) (by decide +kernel)

/-! EditsMeet$Sheet -/
set_option maxRecDepth 100000
def RX11 : String := "EditsMeet$Sheet"
def TX11 : u_T := fun k => match k with
  | _ => ("EditsMeet$Sheet", "held", "Ljava/lang/Object;", false)
def tyX11 : Nat → FieldType := fun k => match k with
  | _ => .object "java/lang/Object"
abbrev wsX110 : List Cond := u_ws RX11 TX11 1
theorem nmX11 : ∀ a, a < 1 → ∀ b, b < 1 → a ≠ b → (TX11 a).2.1 ≠ (TX11 b).2.1 := by decide +kernel
theorem tyX11_ok : ∀ k, k < 1 → parseFieldDescriptor (TX11 k).2.2.1 = some (tyX11 k) := by decide +kernel
abbrev cX11_init : ByteArray := prog_18_method_1_code
def yX11_init : MethodName := ⟨RX11, "<init>", "()V"⟩
theorem dX11_init_0 : decode cX11_init 0 = .ok (.aload_n 0, 1) := by decide +kernel
theorem dX11_init_1 : decode cX11_init 1 = .ok (.invokespecial 1, 3) := by decide +kernel
theorem dX11_init_4 : decode cX11_init 4 = .ok (.return_, 1) := by decide +kernel
theorem q145 : (Jvm.Cond.initialized "EditsMeet$Sheet") ∈ lw_all := lw_g (lw_at lw_m1 25 rfl) rfl
theorem q564 : (Jvm.Cond.instantiable "EditsMeet$Sheet" (1 : Nat)) ∈ lw_all := lw_g (lw_at lw_m2 204 rfl) rfl
theorem q566 : (Jvm.Cond.instanceMethod ({ cls := "EditsMeet$Sheet", name := "<init>", desc := "()V" } : Jvm.MethodName)) ∈ lw_all := lw_g (lw_at lw_m2 206 rfl) rfl
theorem q567 : (Jvm.Cond.code ({ cls := "EditsMeet$Sheet", name := "<init>", desc := "()V" } : Jvm.MethodName) prog_18_method_1_code (1 : Nat) (Option.none : Option Jvm.ClassFile.FieldType)) ∈ lw_all := lw_g (lw_at lw_m2 207 rfl) rfl
theorem q568 : (Jvm.Cond.methodLink "EditsMeet$Sheet" (1 : Nat) ({ cls := "java/lang/Object", name := "<init>", desc := "()V" } : Jvm.MethodName)) ∈ lw_all := lw_g (lw_at lw_m2 208 rfl) rfl
theorem q570 : (Jvm.Cond.lays "EditsMeet$Sheet" "EditsMeet$Sheet" "held" "Ljava/lang/Object;") ∈ lw_all := lw_g (lw_at lw_m2 210 rfl) rfl
theorem q571 : (Jvm.Cond.soleField "EditsMeet$Sheet" "held") ∈ lw_all := lw_g (lw_at lw_m2 211 rfl) rfl
theorem q572 : (Jvm.Cond.superclass "EditsMeet$Sheet" "java/lang/Object") ∈ lw_all := lw_g (lw_at lw_m2 212 rfl) rfl
theorem q1455 : (Jvm.Cond.selects "EditsMeet$Sheet" ({ cls := "java/lang/Object", name := "getClass", desc := "()Ljava/lang/Class;" } : Jvm.MethodName) ({ cls := "java/lang/Object", name := "getClass", desc := "()Ljava/lang/Class;" } : Jvm.MethodName)) ∈ lw_all := lw_g (lw_at lw_m6 135 rfl) rfl
theorem q3627 : (Jvm.Cond.castable "EditsMeet$Sheet" "java/lang/Object") ∈ lw_tbl := lw_at lw_m15 147 rfl
theorem in_X11 : ∀ w ∈ wsX110, w ∈ lw_all := lw_in wsX110 [570] (by decide +kernel) (by decide +kernel)

/-! EditsMeet$Refused -/
set_option maxRecDepth 100000
def RX13 : String := "EditsMeet$Refused"
def TX13 : u_T := fun k => match k with
  | 0 => ("java/lang/Throwable", "cause", "Ljava/lang/Throwable;", false)
  | 1 => ("java/lang/Throwable", "stackTrace", "[Ljava/lang/StackTraceElement;", false)
  | 2 => ("java/lang/Throwable", "suppressedExceptions", "Ljava/util/List;", false)
  | 3 => ("java/lang/Throwable", "detailMessage", "Ljava/lang/String;", false)
  | 4 => ("java/lang/Throwable", "backtrace", "Ljava/lang/Object;", false)
  | 5 => ("java/lang/Throwable", "depth", "I", false)
  | _ => ("EditsMeet$Refused", "by", "I", true)
def tyX13 : Nat → FieldType := fun k => match k with
  | 0 => .object "java/lang/Throwable"
  | 1 => .array (.object "java/lang/StackTraceElement")
  | 2 => .object "java/util/List"
  | 3 => .object "java/lang/String"
  | 4 => .object "java/lang/Object"
  | 5 => .int
  | _ => .int
abbrev wsX130 : List Cond := u_ws RX13 TX13 7
theorem nmX13 : ∀ a, a < 7 → ∀ b, b < 7 → a ≠ b → (TX13 a).2.1 ≠ (TX13 b).2.1 := by decide +kernel
theorem tyX13_ok : ∀ k, k < 7 → parseFieldDescriptor (TX13 k).2.2.1 = some (tyX13 k) := by decide +kernel
abbrev cX13_init : ByteArray := prog_16_method_1_code
def yX13_init : MethodName := ⟨RX13, "<init>", "(I)V"⟩
def dkwX13_init_0 : List UInt8 := [42, 1, 1, 3, 3, 183, 0, 1, 42, 27, 181, 0, 7, 177]
abbrev dktX13_init_0 : List UInt8 := dkwX13_init_0 ++ []
theorem dksX13_init_0 : cX13_init.data.toList.drop 0 = dktX13_init_0 := by decide +kernel
theorem dX13_init_0 : decode cX13_init 0 = .ok (.aload_n 0, 1) := dk_42 (dk_at dksX13_init_0 0 rfl rfl)
theorem dX13_init_1 : decode cX13_init 1 = .ok (.aconst_null, 1) := dk_1 (dk_at dksX13_init_0 1 rfl rfl)
theorem dX13_init_2 : decode cX13_init 2 = .ok (.aconst_null, 1) := dk_1 (dk_at dksX13_init_0 2 rfl rfl)
theorem dX13_init_3 : decode cX13_init 3 = .ok (.iconst 0, 1) := dk_3 (dk_at dksX13_init_0 3 rfl rfl)
theorem dX13_init_4 : decode cX13_init 4 = .ok (.iconst 0, 1) := dk_3 (dk_at dksX13_init_0 4 rfl rfl)
theorem dX13_init_5 : decode cX13_init 5 = .ok (.invokespecial 1, 3) := dk_183 0 1 (dk_at dksX13_init_0 5 rfl rfl)
theorem dX13_init_8 : decode cX13_init 8 = .ok (.aload_n 0, 1) := dk_42 (dk_at dksX13_init_0 8 rfl rfl)
theorem dX13_init_9 : decode cX13_init 9 = .ok (.iload_n 1, 1) := dk_27 (dk_at dksX13_init_0 9 rfl rfl)
theorem dX13_init_10 : decode cX13_init 10 = .ok (.putfield 7, 3) := dk_181 0 7 (dk_at dksX13_init_0 10 rfl rfl)
theorem dX13_init_13 : decode cX13_init 13 = .ok (.return_, 1) := dk_177 (dk_at dksX13_init_0 13 rfl rfl)
theorem q149 : (Jvm.Cond.initialized "EditsMeet$Refused") ∈ lw_all := lw_g (lw_at lw_m1 29 rfl) rfl
theorem q250 : (Jvm.Cond.selects "EditsMeet$Refused" ({ cls := "java/lang/Throwable", name := "fillInStackTrace", desc := "()Ljava/lang/Throwable;" } : Jvm.MethodName) ({ cls := "java/lang/Throwable", name := "fillInStackTrace", desc := "()Ljava/lang/Throwable;" } : Jvm.MethodName)) ∈ lw_all := lw_g (lw_at lw_m1 130 rfl) rfl
theorem q666 : (Jvm.Cond.instantiable "EditsMeet$Refused" (7 : Nat)) ∈ lw_all := lw_g (lw_at lw_m3 66 rfl) rfl
theorem q667 : (Jvm.Cond.castable "EditsMeet$Refused" "EditsMeet$Refused") ∈ lw_tbl := lw_at lw_m3 67 rfl
theorem q668 : (Jvm.Cond.selects "EditsMeet$Refused" ({ cls := "java/lang/Throwable", name := "fillInStackTrace", desc := "(I)Ljava/lang/Throwable;" } : Jvm.MethodName) ({ cls := "java/lang/Throwable", name := "fillInStackTrace", desc := "(I)Ljava/lang/Throwable;" } : Jvm.MethodName)) ∈ lw_all := lw_g (lw_at lw_m3 68 rfl) rfl
theorem q669 : (Jvm.Cond.lays "EditsMeet$Refused" "java/lang/Throwable" "cause" "Ljava/lang/Throwable;") ∈ lw_all := lw_g (lw_at lw_m3 69 rfl) rfl
theorem q670 : (Jvm.Cond.lays "EditsMeet$Refused" "java/lang/Throwable" "stackTrace" "[Ljava/lang/StackTraceElement;") ∈ lw_all := lw_g (lw_at lw_m3 70 rfl) rfl
theorem q671 : (Jvm.Cond.lays "EditsMeet$Refused" "java/lang/Throwable" "suppressedExceptions" "Ljava/util/List;") ∈ lw_all := lw_g (lw_at lw_m3 71 rfl) rfl
theorem q672 : (Jvm.Cond.lays "EditsMeet$Refused" "java/lang/Throwable" "detailMessage" "Ljava/lang/String;") ∈ lw_all := lw_g (lw_at lw_m3 72 rfl) rfl
theorem q673 : (Jvm.Cond.lays "EditsMeet$Refused" "java/lang/Throwable" "backtrace" "Ljava/lang/Object;") ∈ lw_all := lw_g (lw_at lw_m3 73 rfl) rfl
theorem q675 : (Jvm.Cond.instanceMethod ({ cls := "EditsMeet$Refused", name := "<init>", desc := "(I)V" } : Jvm.MethodName)) ∈ lw_all := lw_g (lw_at lw_m3 75 rfl) rfl
theorem q676 : (Jvm.Cond.code ({ cls := "EditsMeet$Refused", name := "<init>", desc := "(I)V" } : Jvm.MethodName) prog_16_method_1_code (2 : Nat) (Option.none : Option Jvm.ClassFile.FieldType)) ∈ lw_all := lw_g (lw_at lw_m3 76 rfl) rfl
theorem q677 : (Jvm.Cond.methodLink "EditsMeet$Refused" (1 : Nat) ({ cls := "java/lang/RuntimeException", name := "<init>", desc := "(Ljava/lang/String;Ljava/lang/Throwable;ZZ)V" } : Jvm.MethodName)) ∈ lw_all := lw_g (lw_at lw_m3 77 rfl) rfl
theorem q686 : (Jvm.Cond.fieldLink "EditsMeet$Refused" (7 : Nat) "EditsMeet$Refused" "by" "I") ∈ lw_all := lw_g (lw_at lw_m3 86 rfl) rfl
theorem q688 : (Jvm.Cond.laysFinal "EditsMeet$Refused" "EditsMeet$Refused" "by" "I") ∈ lw_all := lw_g (lw_at lw_m3 88 rfl) rfl
theorem q689 : (Jvm.Cond.soleField "EditsMeet$Refused" "by") ∈ lw_all := lw_g (lw_at lw_m3 89 rfl) rfl
theorem q690 : (Jvm.Cond.lays "EditsMeet$Refused" "java/lang/Throwable" "depth" "I") ∈ lw_all := lw_g (lw_at lw_m3 90 rfl) rfl
theorem q691 : (Jvm.Cond.superclass "EditsMeet$Refused" "java/lang/RuntimeException") ∈ lw_all := lw_g (lw_at lw_m3 91 rfl) rfl
theorem q1453 : (Jvm.Cond.selects "EditsMeet$Refused" ({ cls := "java/lang/Object", name := "getClass", desc := "()Ljava/lang/Class;" } : Jvm.MethodName) ({ cls := "java/lang/Object", name := "getClass", desc := "()Ljava/lang/Class;" } : Jvm.MethodName)) ∈ lw_all := lw_g (lw_at lw_m6 133 rfl) rfl
theorem q1894 : (Jvm.Cond.selects "EditsMeet$Refused" ({ cls := "java/lang/Throwable", name := "toString", desc := "()Ljava/lang/String;" } : Jvm.MethodName) ({ cls := "java/lang/Throwable", name := "toString", desc := "()Ljava/lang/String;" } : Jvm.MethodName)) ∈ lw_all := lw_g (lw_at lw_m8 94 rfl) rfl
theorem q1909 : (Jvm.Cond.selects "EditsMeet$Refused" ({ cls := "java/lang/Throwable", name := "getLocalizedMessage", desc := "()Ljava/lang/String;" } : Jvm.MethodName) ({ cls := "java/lang/Throwable", name := "getLocalizedMessage", desc := "()Ljava/lang/String;" } : Jvm.MethodName)) ∈ lw_all := lw_g (lw_at lw_m8 109 rfl) rfl
theorem q1923 : (Jvm.Cond.selects "EditsMeet$Refused" ({ cls := "java/lang/Throwable", name := "getMessage", desc := "()Ljava/lang/String;" } : Jvm.MethodName) ({ cls := "java/lang/Throwable", name := "getMessage", desc := "()Ljava/lang/String;" } : Jvm.MethodName)) ∈ lw_all := lw_g (lw_at lw_m8 123 rfl) rfl
theorem q3641 : (Jvm.Cond.castable "EditsMeet$Refused" "java/lang/Object") ∈ lw_tbl := lw_at lw_m15 161 rfl
theorem in_X13 : ∀ w ∈ wsX130, w ∈ lw_all := lw_in wsX130 [669, 670, 671, 672, 673, 690, 688] (by decide +kernel) (by decide +kernel)

/-! EditsMeet$Reader -/
set_option maxRecDepth 100000
def RX14 : String := "EditsMeet$Reader"
def TX14 : u_T := fun k => match k with
  | 0 => ("EditsMeet$Reader", "at", "I", false)
  | _ => ("EditsMeet$Reader", "this$0", "LEditsMeet;", true)
def tyX14 : Nat → FieldType := fun k => match k with
  | 0 => .int
  | _ => .object "EditsMeet"
abbrev wsX140 : List Cond := u_ws RX14 TX14 2
theorem nmX14 : ∀ a, a < 2 → ∀ b, b < 2 → a ≠ b → (TX14 a).2.1 ≠ (TX14 b).2.1 := by decide +kernel
theorem tyX14_ok : ∀ k, k < 2 → parseFieldDescriptor (TX14 k).2.2.1 = some (tyX14 k) := by decide +kernel
abbrev cX14_init : ByteArray := prog_15_method_1_code
def yX14_init : MethodName := ⟨RX14, "<init>", "(LEditsMeet;)V"⟩
def dkwX14_init_0 : List UInt8 := [42, 43, 181, 0, 1, 42, 183, 0, 7, 177]
abbrev dktX14_init_0 : List UInt8 := dkwX14_init_0 ++ []
theorem dksX14_init_0 : cX14_init.data.toList.drop 0 = dktX14_init_0 := by decide +kernel
theorem dX14_init_0 : decode cX14_init 0 = .ok (.aload_n 0, 1) := dk_42 (dk_at dksX14_init_0 0 rfl rfl)
theorem dX14_init_1 : decode cX14_init 1 = .ok (.aload_n 1, 1) := dk_43 (dk_at dksX14_init_0 1 rfl rfl)
theorem dX14_init_2 : decode cX14_init 2 = .ok (.putfield 1, 3) := dk_181 0 1 (dk_at dksX14_init_0 2 rfl rfl)
theorem dX14_init_5 : decode cX14_init 5 = .ok (.aload_n 0, 1) := dk_42 (dk_at dksX14_init_0 5 rfl rfl)
theorem dX14_init_6 : decode cX14_init 6 = .ok (.invokespecial 7, 3) := dk_183 0 7 (dk_at dksX14_init_0 6 rfl rfl)
theorem dX14_init_9 : decode cX14_init 9 = .ok (.return_, 1) := dk_177 (dk_at dksX14_init_0 9 rfl rfl)
abbrev cX14_edit : ByteArray := prog_15_method_10_code
def yX14_edit : MethodName := ⟨RX14, "edit", "()LEditsMeet$Edit;"⟩
def dkwX14_edit_1 : List UInt8 := [180, 0, 1, 180, 0, 17, 161, 255, 236, 43, 182, 0, 124, 176]
abbrev dktX14_edit_1 : List UInt8 := dkwX14_edit_1 ++ []
def dkwX14_edit_0 : List UInt8 := [187, 0, 113, 89, 183, 0, 115, 76, 43, 42, 182, 0, 116, 182, 0, 120, 87, 42, 180, 0, 13, 42]
abbrev dktX14_edit_0 : List UInt8 := dkwX14_edit_0 ++ dktX14_edit_1
theorem dksX14_edit_0 : cX14_edit.data.toList.drop 0 = dktX14_edit_0 := by decide +kernel
theorem dksX14_edit_1 : cX14_edit.data.toList.drop 22 = dktX14_edit_1 := dk_seg dksX14_edit_0 22 rfl rfl
theorem dX14_edit_0 : decode cX14_edit 0 = .ok (.new 113, 3) := dk_187 0 113 (dk_at dksX14_edit_0 0 rfl rfl)
theorem dX14_edit_3 : decode cX14_edit 3 = .ok (.dup, 1) := dk_89 (dk_at dksX14_edit_0 3 rfl rfl)
theorem dX14_edit_4 : decode cX14_edit 4 = .ok (.invokespecial 115, 3) := dk_183 0 115 (dk_at dksX14_edit_0 4 rfl rfl)
theorem dX14_edit_7 : decode cX14_edit 7 = .ok (.astore_n 1, 1) := dk_76 (dk_at dksX14_edit_0 7 rfl rfl)
theorem dX14_edit_8 : decode cX14_edit 8 = .ok (.aload_n 1, 1) := dk_43 (dk_at dksX14_edit_0 8 rfl rfl)
theorem dX14_edit_9 : decode cX14_edit 9 = .ok (.aload_n 0, 1) := dk_42 (dk_at dksX14_edit_0 9 rfl rfl)
theorem dX14_edit_10 : decode cX14_edit 10 = .ok (.invokevirtual 116, 3) := dk_182 0 116 (dk_at dksX14_edit_0 10 rfl rfl)
theorem dX14_edit_13 : decode cX14_edit 13 = .ok (.invokevirtual 120, 3) := dk_182 0 120 (dk_at dksX14_edit_0 13 rfl rfl)
theorem dX14_edit_16 : decode cX14_edit 16 = .ok (.pop, 1) := dk_87 (dk_at dksX14_edit_0 16 rfl rfl)
theorem dX14_edit_17 : decode cX14_edit 17 = .ok (.aload_n 0, 1) := dk_42 (dk_at dksX14_edit_0 17 rfl rfl)
theorem dX14_edit_18 : decode cX14_edit 18 = .ok (.getfield 13, 3) := dk_180 0 13 (dk_at dksX14_edit_0 18 rfl rfl)
theorem dX14_edit_21 : decode cX14_edit 21 = .ok (.aload_n 0, 1) := dk_42 (dk_at dksX14_edit_0 21 rfl rfl)
theorem dX14_edit_22 : decode cX14_edit 22 = .ok (.getfield 1, 3) := dk_180 0 1 (dk_at dksX14_edit_1 0 rfl rfl)
theorem dX14_edit_25 : decode cX14_edit 25 = .ok (.getfield 17, 3) := dk_180 0 17 (dk_at dksX14_edit_1 3 rfl rfl)
theorem dX14_edit_28 : decode cX14_edit 28 = .ok (.if_icmp .lt (-20), 3) := dk_161 255 236 (dk_at dksX14_edit_1 6 rfl rfl)
theorem dX14_edit_31 : decode cX14_edit 31 = .ok (.aload_n 1, 1) := dk_43 (dk_at dksX14_edit_1 9 rfl rfl)
theorem dX14_edit_32 : decode cX14_edit 32 = .ok (.invokevirtual 124, 3) := dk_182 0 124 (dk_at dksX14_edit_1 10 rfl rfl)
theorem dX14_edit_35 : decode cX14_edit 35 = .ok (.areturn, 1) := dk_176 (dk_at dksX14_edit_1 13 rfl rfl)
abbrev cX14_part : ByteArray := prog_15_method_9_code
def yX14_part : MethodName := ⟨RX14, "part", "()LEditsMeet$Part;"⟩
def dkwX14_part_13 : List UInt8 := [182, 0, 66, 100, 182, 0, 35, 191, 176]
abbrev dktX14_part_13 : List UInt8 := dkwX14_part_13 ++ []
def dkwX14_part_12 : List UInt8 := [182, 0, 57, 54, 4, 21, 4, 3, 42, 182, 0, 106, 184, 0, 109, 167, 0, 17, 42, 42, 180, 0, 13, 43]
abbrev dktX14_part_12 : List UInt8 := dkwX14_part_12 ++ dktX14_part_13
def dkwX14_part_11 : List UInt8 := [16, 99, 182, 0, 57, 54, 4, 21, 4, 42, 182, 0, 106, 3, 184, 0, 109, 167, 0, 38, 42, 16, 99]
abbrev dktX14_part_11 : List UInt8 := dkwX14_part_11 ++ dktX14_part_12
def dkwX14_part_10 : List UInt8 := [42, 182, 0, 95, 58, 4, 25, 4, 42, 25, 4, 182, 0, 66, 182, 0, 98, 184, 0, 102, 167, 0, 59, 42]
abbrev dktX14_part_10 : List UInt8 := dkwX14_part_10 ++ dktX14_part_11
def dkwX14_part_9 : List UInt8 := [42, 16, 99, 182, 0, 57, 184, 0, 86, 167, 0, 94, 42, 16, 99, 182, 0, 57, 184, 0, 92, 167, 0, 82]
abbrev dktX14_part_9 : List UInt8 := dkwX14_part_9 ++ dktX14_part_10
def dkwX14_part_8 : List UInt8 := [170, 0, 0, 0, 0, 0, 0, 125, 0, 0, 0, 0, 0, 0, 0, 4, 0, 0, 0, 36, 0, 0, 0, 48, 0, 0, 0, 60, 0, 0, 0, 83, 0, 0, 0, 104]
abbrev dktX14_part_8 : List UInt8 := dkwX14_part_8 ++ dktX14_part_9
def dkwX14_part_7 : List UInt8 := [153, 0, 19, 6, 62, 167, 0, 14, 44, 18, 84, 182, 0, 74, 153, 0, 5, 7, 62, 29]
abbrev dktX14_part_7 : List UInt8 := dkwX14_part_7 ++ dktX14_part_8
def dkwX14_part_6 : List UInt8 := [62, 167, 0, 42, 44, 18, 80, 182, 0, 74, 153, 0, 33, 5, 62, 167, 0, 28, 44, 18, 82, 182, 0, 74]
abbrev dktX14_part_6 : List UInt8 := dkwX14_part_6 ++ dktX14_part_7
def dkwX14_part_5 : List UInt8 := [44, 18, 72, 182, 0, 74, 153, 0, 61, 3, 62, 167, 0, 56, 44, 18, 78, 182, 0, 74, 153, 0, 47, 4]
abbrev dktX14_part_5 : List UInt8 := dkwX14_part_5 ++ dktX14_part_6
def dkwX14_part_4 : List UInt8 := [171, 0, 0, 0, 0, 0, 0, 119, 0, 0, 0, 5, 0, 0, 0, 43, 0, 0, 0, 80, 0, 0, 0, 45, 0, 0, 0, 66, 0, 0, 0, 61, 0, 0, 0, 52, 0, 0, 0, 94, 0, 0, 0, 94, 0, 0, 0, 95, 0, 0, 0, 108]
abbrev dktX14_part_4 : List UInt8 := dkwX14_part_4 ++ dktX14_part_5
def dkwX14_part_3 : List UInt8 := [182, 0, 69]
abbrev dktX14_part_3 : List UInt8 := dkwX14_part_3 ++ dktX14_part_4
def dkwX14_part_2 : List UInt8 := [167, 0, 5, 18, 61, 76, 42, 89, 180, 0, 13, 43, 182, 0, 66, 96, 181, 0, 13, 43, 77, 2, 62, 44]
abbrev dktX14_part_2 : List UInt8 := dkwX14_part_2 ++ dktX14_part_3
def dkwX14_part_1 : List UInt8 := [182, 0, 63, 42, 180, 0, 1, 180, 0, 22, 42, 180, 0, 13, 46, 146, 182, 0, 42, 182, 0, 50]
abbrev dktX14_part_1 : List UInt8 := dkwX14_part_1 ++ dktX14_part_2
def dkwX14_part_0 : List UInt8 := [42, 180, 0, 13, 42, 180, 0, 1, 180, 0, 17, 162, 0, 37, 187, 0, 39, 89, 183, 0, 41, 18, 61]
abbrev dktX14_part_0 : List UInt8 := dkwX14_part_0 ++ dktX14_part_1
theorem dksX14_part_0 : cX14_part.data.toList.drop 0 = dktX14_part_0 := by decide +kernel
theorem dksX14_part_1 : cX14_part.data.toList.drop 23 = dktX14_part_1 := dk_seg dksX14_part_0 23 rfl rfl
theorem dksX14_part_2 : cX14_part.data.toList.drop 45 = dktX14_part_2 := dk_seg dksX14_part_1 22 rfl rfl
theorem dksX14_part_3 : cX14_part.data.toList.drop 69 = dktX14_part_3 := dk_seg dksX14_part_2 24 rfl rfl
theorem dksX14_part_4 : cX14_part.data.toList.drop 72 = dktX14_part_4 := dk_seg dksX14_part_3 3 rfl rfl
theorem dksX14_part_5 : cX14_part.data.toList.drop 124 = dktX14_part_5 := dk_seg dksX14_part_4 52 rfl rfl
theorem dksX14_part_6 : cX14_part.data.toList.drop 148 = dktX14_part_6 := dk_seg dksX14_part_5 24 rfl rfl
theorem dksX14_part_7 : cX14_part.data.toList.drop 172 = dktX14_part_7 := dk_seg dksX14_part_6 24 rfl rfl
theorem dksX14_part_8 : cX14_part.data.toList.drop 192 = dktX14_part_8 := dk_seg dksX14_part_7 20 rfl rfl
theorem dksX14_part_9 : cX14_part.data.toList.drop 228 = dktX14_part_9 := dk_seg dksX14_part_8 36 rfl rfl
theorem dksX14_part_10 : cX14_part.data.toList.drop 252 = dktX14_part_10 := dk_seg dksX14_part_9 24 rfl rfl
theorem dksX14_part_11 : cX14_part.data.toList.drop 276 = dktX14_part_11 := dk_seg dksX14_part_10 24 rfl rfl
theorem dksX14_part_12 : cX14_part.data.toList.drop 299 = dktX14_part_12 := dk_seg dksX14_part_11 23 rfl rfl
theorem dksX14_part_13 : cX14_part.data.toList.drop 323 = dktX14_part_13 := dk_seg dksX14_part_12 24 rfl rfl
theorem dX14_part_0 : decode cX14_part 0 = .ok (.aload_n 0, 1) := dk_42 (dk_at dksX14_part_0 0 rfl rfl)
theorem dX14_part_1 : decode cX14_part 1 = .ok (.getfield 13, 3) := dk_180 0 13 (dk_at dksX14_part_0 1 rfl rfl)
theorem dX14_part_4 : decode cX14_part 4 = .ok (.aload_n 0, 1) := dk_42 (dk_at dksX14_part_0 4 rfl rfl)
theorem dX14_part_5 : decode cX14_part 5 = .ok (.getfield 1, 3) := dk_180 0 1 (dk_at dksX14_part_0 5 rfl rfl)
theorem dX14_part_8 : decode cX14_part 8 = .ok (.getfield 17, 3) := dk_180 0 17 (dk_at dksX14_part_0 8 rfl rfl)
theorem dX14_part_11 : decode cX14_part 11 = .ok (.if_icmp .ge 37, 3) := dk_162 0 37 (dk_at dksX14_part_0 11 rfl rfl)
theorem dX14_part_14 : decode cX14_part 14 = .ok (.new 39, 3) := dk_187 0 39 (dk_at dksX14_part_0 14 rfl rfl)
theorem dX14_part_17 : decode cX14_part 17 = .ok (.dup, 1) := dk_89 (dk_at dksX14_part_0 17 rfl rfl)
theorem dX14_part_18 : decode cX14_part 18 = .ok (.invokespecial 41, 3) := dk_183 0 41 (dk_at dksX14_part_0 18 rfl rfl)
theorem dX14_part_21 : decode cX14_part 21 = .ok (.ldc 61, 2) := dk_18 61 (dk_at dksX14_part_0 21 rfl rfl)
theorem dX14_part_23 : decode cX14_part 23 = .ok (.invokevirtual 63, 3) := dk_182 0 63 (dk_at dksX14_part_1 0 rfl rfl)
theorem dX14_part_26 : decode cX14_part 26 = .ok (.aload_n 0, 1) := dk_42 (dk_at dksX14_part_1 3 rfl rfl)
theorem dX14_part_27 : decode cX14_part 27 = .ok (.getfield 1, 3) := dk_180 0 1 (dk_at dksX14_part_1 4 rfl rfl)
theorem dX14_part_30 : decode cX14_part 30 = .ok (.getfield 22, 3) := dk_180 0 22 (dk_at dksX14_part_1 7 rfl rfl)
theorem dX14_part_33 : decode cX14_part 33 = .ok (.aload_n 0, 1) := dk_42 (dk_at dksX14_part_1 10 rfl rfl)
theorem dX14_part_34 : decode cX14_part 34 = .ok (.getfield 13, 3) := dk_180 0 13 (dk_at dksX14_part_1 11 rfl rfl)
theorem dX14_part_37 : decode cX14_part 37 = .ok (.iaload, 1) := dk_46 (dk_at dksX14_part_1 14 rfl rfl)
theorem dX14_part_38 : decode cX14_part 38 = .ok (.i2c, 1) := dk_146 (dk_at dksX14_part_1 15 rfl rfl)
theorem dX14_part_39 : decode cX14_part 39 = .ok (.invokevirtual 42, 3) := dk_182 0 42 (dk_at dksX14_part_1 16 rfl rfl)
theorem dX14_part_42 : decode cX14_part 42 = .ok (.invokevirtual 50, 3) := dk_182 0 50 (dk_at dksX14_part_1 19 rfl rfl)
theorem dX14_part_45 : decode cX14_part 45 = .ok (.goto 5, 3) := dk_167 0 5 (dk_at dksX14_part_2 0 rfl rfl)
theorem dX14_part_48 : decode cX14_part 48 = .ok (.ldc 61, 2) := dk_18 61 (dk_at dksX14_part_2 3 rfl rfl)
theorem dX14_part_50 : decode cX14_part 50 = .ok (.astore_n 1, 1) := dk_76 (dk_at dksX14_part_2 5 rfl rfl)
theorem dX14_part_51 : decode cX14_part 51 = .ok (.aload_n 0, 1) := dk_42 (dk_at dksX14_part_2 6 rfl rfl)
theorem dX14_part_52 : decode cX14_part 52 = .ok (.dup, 1) := dk_89 (dk_at dksX14_part_2 7 rfl rfl)
theorem dX14_part_53 : decode cX14_part 53 = .ok (.getfield 13, 3) := dk_180 0 13 (dk_at dksX14_part_2 8 rfl rfl)
theorem dX14_part_56 : decode cX14_part 56 = .ok (.aload_n 1, 1) := dk_43 (dk_at dksX14_part_2 11 rfl rfl)
theorem dX14_part_57 : decode cX14_part 57 = .ok (.invokevirtual 66, 3) := dk_182 0 66 (dk_at dksX14_part_2 12 rfl rfl)
theorem dX14_part_60 : decode cX14_part 60 = .ok (.iadd, 1) := dk_96 (dk_at dksX14_part_2 15 rfl rfl)
theorem dX14_part_61 : decode cX14_part 61 = .ok (.putfield 13, 3) := dk_181 0 13 (dk_at dksX14_part_2 16 rfl rfl)
theorem dX14_part_64 : decode cX14_part 64 = .ok (.aload_n 1, 1) := dk_43 (dk_at dksX14_part_2 19 rfl rfl)
theorem dX14_part_65 : decode cX14_part 65 = .ok (.astore_n 2, 1) := dk_77 (dk_at dksX14_part_2 20 rfl rfl)
theorem dX14_part_66 : decode cX14_part 66 = .ok (.iconst (-1), 1) := dk_2 (dk_at dksX14_part_2 21 rfl rfl)
theorem dX14_part_67 : decode cX14_part 67 = .ok (.istore_n 3, 1) := dk_62 (dk_at dksX14_part_2 22 rfl rfl)
theorem dX14_part_68 : decode cX14_part 68 = .ok (.aload_n 2, 1) := dk_44 (dk_at dksX14_part_2 23 rfl rfl)
theorem dX14_part_69 : decode cX14_part 69 = .ok (.invokevirtual 69, 3) := dk_182 0 69 (dk_at dksX14_part_3 0 rfl rfl)
theorem dX14_part_72 : decode cX14_part 72 = .ok (.lookupswitch 119 #[(43, 80), (45, 66), (61, 52), (94, 94), (95, 108)], 52) := by decide +kernel
theorem dX14_part_124 : decode cX14_part 124 = .ok (.aload_n 2, 1) := dk_44 (dk_at dksX14_part_5 0 rfl rfl)
theorem dX14_part_125 : decode cX14_part 125 = .ok (.ldc 72, 2) := dk_18 72 (dk_at dksX14_part_5 1 rfl rfl)
theorem dX14_part_127 : decode cX14_part 127 = .ok (.invokevirtual 74, 3) := dk_182 0 74 (dk_at dksX14_part_5 3 rfl rfl)
theorem dX14_part_130 : decode cX14_part 130 = .ok (.ifCond .eq 61, 3) := dk_153 0 61 (dk_at dksX14_part_5 6 rfl rfl)
theorem dX14_part_133 : decode cX14_part 133 = .ok (.iconst 0, 1) := dk_3 (dk_at dksX14_part_5 9 rfl rfl)
theorem dX14_part_134 : decode cX14_part 134 = .ok (.istore_n 3, 1) := dk_62 (dk_at dksX14_part_5 10 rfl rfl)
theorem dX14_part_135 : decode cX14_part 135 = .ok (.goto 56, 3) := dk_167 0 56 (dk_at dksX14_part_5 11 rfl rfl)
theorem dX14_part_138 : decode cX14_part 138 = .ok (.aload_n 2, 1) := dk_44 (dk_at dksX14_part_5 14 rfl rfl)
theorem dX14_part_139 : decode cX14_part 139 = .ok (.ldc 78, 2) := dk_18 78 (dk_at dksX14_part_5 15 rfl rfl)
theorem dX14_part_141 : decode cX14_part 141 = .ok (.invokevirtual 74, 3) := dk_182 0 74 (dk_at dksX14_part_5 17 rfl rfl)
theorem dX14_part_144 : decode cX14_part 144 = .ok (.ifCond .eq 47, 3) := dk_153 0 47 (dk_at dksX14_part_5 20 rfl rfl)
theorem dX14_part_147 : decode cX14_part 147 = .ok (.iconst 1, 1) := dk_4 (dk_at dksX14_part_5 23 rfl rfl)
theorem dX14_part_148 : decode cX14_part 148 = .ok (.istore_n 3, 1) := dk_62 (dk_at dksX14_part_6 0 rfl rfl)
theorem dX14_part_149 : decode cX14_part 149 = .ok (.goto 42, 3) := dk_167 0 42 (dk_at dksX14_part_6 1 rfl rfl)
theorem dX14_part_152 : decode cX14_part 152 = .ok (.aload_n 2, 1) := dk_44 (dk_at dksX14_part_6 4 rfl rfl)
theorem dX14_part_153 : decode cX14_part 153 = .ok (.ldc 80, 2) := dk_18 80 (dk_at dksX14_part_6 5 rfl rfl)
theorem dX14_part_155 : decode cX14_part 155 = .ok (.invokevirtual 74, 3) := dk_182 0 74 (dk_at dksX14_part_6 7 rfl rfl)
theorem dX14_part_158 : decode cX14_part 158 = .ok (.ifCond .eq 33, 3) := dk_153 0 33 (dk_at dksX14_part_6 10 rfl rfl)
theorem dX14_part_161 : decode cX14_part 161 = .ok (.iconst 2, 1) := dk_5 (dk_at dksX14_part_6 13 rfl rfl)
theorem dX14_part_162 : decode cX14_part 162 = .ok (.istore_n 3, 1) := dk_62 (dk_at dksX14_part_6 14 rfl rfl)
theorem dX14_part_163 : decode cX14_part 163 = .ok (.goto 28, 3) := dk_167 0 28 (dk_at dksX14_part_6 15 rfl rfl)
theorem dX14_part_166 : decode cX14_part 166 = .ok (.aload_n 2, 1) := dk_44 (dk_at dksX14_part_6 18 rfl rfl)
theorem dX14_part_167 : decode cX14_part 167 = .ok (.ldc 82, 2) := dk_18 82 (dk_at dksX14_part_6 19 rfl rfl)
theorem dX14_part_169 : decode cX14_part 169 = .ok (.invokevirtual 74, 3) := dk_182 0 74 (dk_at dksX14_part_6 21 rfl rfl)
theorem dX14_part_172 : decode cX14_part 172 = .ok (.ifCond .eq 19, 3) := dk_153 0 19 (dk_at dksX14_part_7 0 rfl rfl)
theorem dX14_part_175 : decode cX14_part 175 = .ok (.iconst 3, 1) := dk_6 (dk_at dksX14_part_7 3 rfl rfl)
theorem dX14_part_176 : decode cX14_part 176 = .ok (.istore_n 3, 1) := dk_62 (dk_at dksX14_part_7 4 rfl rfl)
theorem dX14_part_177 : decode cX14_part 177 = .ok (.goto 14, 3) := dk_167 0 14 (dk_at dksX14_part_7 5 rfl rfl)
theorem dX14_part_180 : decode cX14_part 180 = .ok (.aload_n 2, 1) := dk_44 (dk_at dksX14_part_7 8 rfl rfl)
theorem dX14_part_181 : decode cX14_part 181 = .ok (.ldc 84, 2) := dk_18 84 (dk_at dksX14_part_7 9 rfl rfl)
theorem dX14_part_183 : decode cX14_part 183 = .ok (.invokevirtual 74, 3) := dk_182 0 74 (dk_at dksX14_part_7 11 rfl rfl)
theorem dX14_part_186 : decode cX14_part 186 = .ok (.ifCond .eq 5, 3) := dk_153 0 5 (dk_at dksX14_part_7 14 rfl rfl)
theorem dX14_part_189 : decode cX14_part 189 = .ok (.iconst 4, 1) := dk_7 (dk_at dksX14_part_7 17 rfl rfl)
theorem dX14_part_190 : decode cX14_part 190 = .ok (.istore_n 3, 1) := dk_62 (dk_at dksX14_part_7 18 rfl rfl)
theorem dX14_part_191 : decode cX14_part 191 = .ok (.iload_n 3, 1) := dk_29 (dk_at dksX14_part_7 19 rfl rfl)
theorem dX14_part_192 : decode cX14_part 192 = .ok (.tableswitch 125 0 4 #[36, 48, 60, 83, 104], 36) := by decide +kernel
theorem dX14_part_228 : decode cX14_part 228 = .ok (.aload_n 0, 1) := dk_42 (dk_at dksX14_part_9 0 rfl rfl)
theorem dX14_part_229 : decode cX14_part 229 = .ok (.bipush 99, 2) := dk_16 99 (dk_at dksX14_part_9 1 rfl rfl)
theorem dX14_part_231 : decode cX14_part 231 = .ok (.invokevirtual 57, 3) := dk_182 0 57 (dk_at dksX14_part_9 3 rfl rfl)
theorem dX14_part_234 : decode cX14_part 234 = .ok (.invokestatic 86, 3) := dk_184 0 86 (dk_at dksX14_part_9 6 rfl rfl)
theorem dX14_part_237 : decode cX14_part 237 = .ok (.goto 94, 3) := dk_167 0 94 (dk_at dksX14_part_9 9 rfl rfl)
theorem dX14_part_240 : decode cX14_part 240 = .ok (.aload_n 0, 1) := dk_42 (dk_at dksX14_part_9 12 rfl rfl)
theorem dX14_part_241 : decode cX14_part 241 = .ok (.bipush 99, 2) := dk_16 99 (dk_at dksX14_part_9 13 rfl rfl)
theorem dX14_part_243 : decode cX14_part 243 = .ok (.invokevirtual 57, 3) := dk_182 0 57 (dk_at dksX14_part_9 15 rfl rfl)
theorem dX14_part_246 : decode cX14_part 246 = .ok (.invokestatic 92, 3) := dk_184 0 92 (dk_at dksX14_part_9 18 rfl rfl)
theorem dX14_part_249 : decode cX14_part 249 = .ok (.goto 82, 3) := dk_167 0 82 (dk_at dksX14_part_9 21 rfl rfl)
theorem dX14_part_252 : decode cX14_part 252 = .ok (.aload_n 0, 1) := dk_42 (dk_at dksX14_part_10 0 rfl rfl)
theorem dX14_part_253 : decode cX14_part 253 = .ok (.invokevirtual 95, 3) := dk_182 0 95 (dk_at dksX14_part_10 1 rfl rfl)
theorem dX14_part_256 : decode cX14_part 256 = .ok (.astore 4, 2) := dk_58 4 (dk_at dksX14_part_10 4 rfl rfl)
theorem dX14_part_258 : decode cX14_part 258 = .ok (.aload 4, 2) := dk_25 4 (dk_at dksX14_part_10 6 rfl rfl)
theorem dX14_part_260 : decode cX14_part 260 = .ok (.aload_n 0, 1) := dk_42 (dk_at dksX14_part_10 8 rfl rfl)
theorem dX14_part_261 : decode cX14_part 261 = .ok (.aload 4, 2) := dk_25 4 (dk_at dksX14_part_10 9 rfl rfl)
theorem dX14_part_263 : decode cX14_part 263 = .ok (.invokevirtual 66, 3) := dk_182 0 66 (dk_at dksX14_part_10 11 rfl rfl)
theorem dX14_part_266 : decode cX14_part 266 = .ok (.invokevirtual 98, 3) := dk_182 0 98 (dk_at dksX14_part_10 14 rfl rfl)
theorem dX14_part_269 : decode cX14_part 269 = .ok (.invokestatic 102, 3) := dk_184 0 102 (dk_at dksX14_part_10 17 rfl rfl)
theorem dX14_part_272 : decode cX14_part 272 = .ok (.goto 59, 3) := dk_167 0 59 (dk_at dksX14_part_10 20 rfl rfl)
theorem dX14_part_275 : decode cX14_part 275 = .ok (.aload_n 0, 1) := dk_42 (dk_at dksX14_part_10 23 rfl rfl)
theorem dX14_part_276 : decode cX14_part 276 = .ok (.bipush 99, 2) := dk_16 99 (dk_at dksX14_part_11 0 rfl rfl)
theorem dX14_part_278 : decode cX14_part 278 = .ok (.invokevirtual 57, 3) := dk_182 0 57 (dk_at dksX14_part_11 2 rfl rfl)
theorem dX14_part_281 : decode cX14_part 281 = .ok (.istore 4, 2) := dk_54 4 (dk_at dksX14_part_11 5 rfl rfl)
theorem dX14_part_283 : decode cX14_part 283 = .ok (.iload 4, 2) := dk_21 4 (dk_at dksX14_part_11 7 rfl rfl)
theorem dX14_part_285 : decode cX14_part 285 = .ok (.aload_n 0, 1) := dk_42 (dk_at dksX14_part_11 9 rfl rfl)
theorem dX14_part_286 : decode cX14_part 286 = .ok (.invokevirtual 106, 3) := dk_182 0 106 (dk_at dksX14_part_11 10 rfl rfl)
theorem dX14_part_289 : decode cX14_part 289 = .ok (.iconst 0, 1) := dk_3 (dk_at dksX14_part_11 13 rfl rfl)
theorem dX14_part_290 : decode cX14_part 290 = .ok (.invokestatic 109, 3) := dk_184 0 109 (dk_at dksX14_part_11 14 rfl rfl)
theorem dX14_part_293 : decode cX14_part 293 = .ok (.goto 38, 3) := dk_167 0 38 (dk_at dksX14_part_11 17 rfl rfl)
theorem dX14_part_296 : decode cX14_part 296 = .ok (.aload_n 0, 1) := dk_42 (dk_at dksX14_part_11 20 rfl rfl)
theorem dX14_part_297 : decode cX14_part 297 = .ok (.bipush 99, 2) := dk_16 99 (dk_at dksX14_part_11 21 rfl rfl)
theorem dX14_part_299 : decode cX14_part 299 = .ok (.invokevirtual 57, 3) := dk_182 0 57 (dk_at dksX14_part_12 0 rfl rfl)
theorem dX14_part_302 : decode cX14_part 302 = .ok (.istore 4, 2) := dk_54 4 (dk_at dksX14_part_12 3 rfl rfl)
theorem dX14_part_304 : decode cX14_part 304 = .ok (.iload 4, 2) := dk_21 4 (dk_at dksX14_part_12 5 rfl rfl)
theorem dX14_part_306 : decode cX14_part 306 = .ok (.iconst 0, 1) := dk_3 (dk_at dksX14_part_12 7 rfl rfl)
theorem dX14_part_307 : decode cX14_part 307 = .ok (.aload_n 0, 1) := dk_42 (dk_at dksX14_part_12 8 rfl rfl)
theorem dX14_part_308 : decode cX14_part 308 = .ok (.invokevirtual 106, 3) := dk_182 0 106 (dk_at dksX14_part_12 9 rfl rfl)
theorem dX14_part_311 : decode cX14_part 311 = .ok (.invokestatic 109, 3) := dk_184 0 109 (dk_at dksX14_part_12 12 rfl rfl)
theorem dX14_part_314 : decode cX14_part 314 = .ok (.goto 17, 3) := dk_167 0 17 (dk_at dksX14_part_12 15 rfl rfl)
theorem dX14_part_317 : decode cX14_part 317 = .ok (.aload_n 0, 1) := dk_42 (dk_at dksX14_part_12 18 rfl rfl)
theorem dX14_part_318 : decode cX14_part 318 = .ok (.aload_n 0, 1) := dk_42 (dk_at dksX14_part_12 19 rfl rfl)
theorem dX14_part_319 : decode cX14_part 319 = .ok (.getfield 13, 3) := dk_180 0 13 (dk_at dksX14_part_12 20 rfl rfl)
theorem dX14_part_322 : decode cX14_part 322 = .ok (.aload_n 1, 1) := dk_43 (dk_at dksX14_part_12 23 rfl rfl)
theorem dX14_part_323 : decode cX14_part 323 = .ok (.invokevirtual 66, 3) := dk_182 0 66 (dk_at dksX14_part_13 0 rfl rfl)
theorem dX14_part_326 : decode cX14_part 326 = .ok (.isub, 1) := dk_100 (dk_at dksX14_part_13 3 rfl rfl)
theorem dX14_part_327 : decode cX14_part 327 = .ok (.invokevirtual 35, 3) := dk_182 0 35 (dk_at dksX14_part_13 4 rfl rfl)
theorem dX14_part_330 : decode cX14_part 330 = .ok (.athrow, 1) := dk_191 (dk_at dksX14_part_13 7 rfl rfl)
theorem dX14_part_331 : decode cX14_part 331 = .ok (.areturn, 1) := dk_176 (dk_at dksX14_part_13 8 rfl rfl)
abbrev cX14_number : ByteArray := prog_15_method_4_code
def yX14_number : MethodName := ⟨RX14, "number", "(I)I"⟩
def dkwX14_number_3 : List UInt8 := [161, 0, 8, 29, 27, 164, 0, 9, 42, 28, 182, 0, 35, 191, 29, 172]
abbrev dktX14_number_3 : List UInt8 := dkwX14_number_3 ++ []
def dkwX14_number_2 : List UInt8 := [62, 42, 89, 180, 0, 13, 4, 96, 181, 0, 13, 167, 255, 204, 42, 180, 0, 13, 28, 159, 0, 13, 29, 4]
abbrev dktX14_number_2 : List UInt8 := dkwX14_number_2 ++ dktX14_number_3
def dkwX14_number_1 : List UInt8 := [5, 162, 0, 37, 16, 10, 29, 104, 42, 180, 0, 1, 180, 0, 22, 42, 180, 0, 13, 46, 96, 16, 48, 100]
abbrev dktX14_number_1 : List UInt8 := dkwX14_number_1 ++ dktX14_number_2
def dkwX14_number_0 : List UInt8 := [42, 180, 0, 13, 61, 3, 62, 42, 16, 48, 16, 57, 182, 0, 31, 153, 0, 47, 42, 180, 0, 13, 28, 100]
abbrev dktX14_number_0 : List UInt8 := dkwX14_number_0 ++ dktX14_number_1
theorem dksX14_number_0 : cX14_number.data.toList.drop 0 = dktX14_number_0 := by decide +kernel
theorem dksX14_number_1 : cX14_number.data.toList.drop 24 = dktX14_number_1 := dk_seg dksX14_number_0 24 rfl rfl
theorem dksX14_number_2 : cX14_number.data.toList.drop 48 = dktX14_number_2 := dk_seg dksX14_number_1 24 rfl rfl
theorem dksX14_number_3 : cX14_number.data.toList.drop 72 = dktX14_number_3 := dk_seg dksX14_number_2 24 rfl rfl
theorem dX14_number_0 : decode cX14_number 0 = .ok (.aload_n 0, 1) := dk_42 (dk_at dksX14_number_0 0 rfl rfl)
theorem dX14_number_1 : decode cX14_number 1 = .ok (.getfield 13, 3) := dk_180 0 13 (dk_at dksX14_number_0 1 rfl rfl)
theorem dX14_number_4 : decode cX14_number 4 = .ok (.istore_n 2, 1) := dk_61 (dk_at dksX14_number_0 4 rfl rfl)
theorem dX14_number_5 : decode cX14_number 5 = .ok (.iconst 0, 1) := dk_3 (dk_at dksX14_number_0 5 rfl rfl)
theorem dX14_number_6 : decode cX14_number 6 = .ok (.istore_n 3, 1) := dk_62 (dk_at dksX14_number_0 6 rfl rfl)
theorem dX14_number_7 : decode cX14_number 7 = .ok (.aload_n 0, 1) := dk_42 (dk_at dksX14_number_0 7 rfl rfl)
theorem dX14_number_8 : decode cX14_number 8 = .ok (.bipush 48, 2) := dk_16 48 (dk_at dksX14_number_0 8 rfl rfl)
theorem dX14_number_10 : decode cX14_number 10 = .ok (.bipush 57, 2) := dk_16 57 (dk_at dksX14_number_0 10 rfl rfl)
theorem dX14_number_12 : decode cX14_number 12 = .ok (.invokevirtual 31, 3) := dk_182 0 31 (dk_at dksX14_number_0 12 rfl rfl)
theorem dX14_number_15 : decode cX14_number 15 = .ok (.ifCond .eq 47, 3) := dk_153 0 47 (dk_at dksX14_number_0 15 rfl rfl)
theorem dX14_number_18 : decode cX14_number 18 = .ok (.aload_n 0, 1) := dk_42 (dk_at dksX14_number_0 18 rfl rfl)
theorem dX14_number_19 : decode cX14_number 19 = .ok (.getfield 13, 3) := dk_180 0 13 (dk_at dksX14_number_0 19 rfl rfl)
theorem dX14_number_22 : decode cX14_number 22 = .ok (.iload_n 2, 1) := dk_28 (dk_at dksX14_number_0 22 rfl rfl)
theorem dX14_number_23 : decode cX14_number 23 = .ok (.isub, 1) := dk_100 (dk_at dksX14_number_0 23 rfl rfl)
theorem dX14_number_24 : decode cX14_number 24 = .ok (.iconst 2, 1) := dk_5 (dk_at dksX14_number_1 0 rfl rfl)
theorem dX14_number_25 : decode cX14_number 25 = .ok (.if_icmp .ge 37, 3) := dk_162 0 37 (dk_at dksX14_number_1 1 rfl rfl)
theorem dX14_number_28 : decode cX14_number 28 = .ok (.bipush 10, 2) := dk_16 10 (dk_at dksX14_number_1 4 rfl rfl)
theorem dX14_number_30 : decode cX14_number 30 = .ok (.iload_n 3, 1) := dk_29 (dk_at dksX14_number_1 6 rfl rfl)
theorem dX14_number_31 : decode cX14_number 31 = .ok (.imul, 1) := dk_104 (dk_at dksX14_number_1 7 rfl rfl)
theorem dX14_number_32 : decode cX14_number 32 = .ok (.aload_n 0, 1) := dk_42 (dk_at dksX14_number_1 8 rfl rfl)
theorem dX14_number_33 : decode cX14_number 33 = .ok (.getfield 1, 3) := dk_180 0 1 (dk_at dksX14_number_1 9 rfl rfl)
theorem dX14_number_36 : decode cX14_number 36 = .ok (.getfield 22, 3) := dk_180 0 22 (dk_at dksX14_number_1 12 rfl rfl)
theorem dX14_number_39 : decode cX14_number 39 = .ok (.aload_n 0, 1) := dk_42 (dk_at dksX14_number_1 15 rfl rfl)
theorem dX14_number_40 : decode cX14_number 40 = .ok (.getfield 13, 3) := dk_180 0 13 (dk_at dksX14_number_1 16 rfl rfl)
theorem dX14_number_43 : decode cX14_number 43 = .ok (.iaload, 1) := dk_46 (dk_at dksX14_number_1 19 rfl rfl)
theorem dX14_number_44 : decode cX14_number 44 = .ok (.iadd, 1) := dk_96 (dk_at dksX14_number_1 20 rfl rfl)
theorem dX14_number_45 : decode cX14_number 45 = .ok (.bipush 48, 2) := dk_16 48 (dk_at dksX14_number_1 21 rfl rfl)
theorem dX14_number_47 : decode cX14_number 47 = .ok (.isub, 1) := dk_100 (dk_at dksX14_number_1 23 rfl rfl)
theorem dX14_number_48 : decode cX14_number 48 = .ok (.istore_n 3, 1) := dk_62 (dk_at dksX14_number_2 0 rfl rfl)
theorem dX14_number_49 : decode cX14_number 49 = .ok (.aload_n 0, 1) := dk_42 (dk_at dksX14_number_2 1 rfl rfl)
theorem dX14_number_50 : decode cX14_number 50 = .ok (.dup, 1) := dk_89 (dk_at dksX14_number_2 2 rfl rfl)
theorem dX14_number_51 : decode cX14_number 51 = .ok (.getfield 13, 3) := dk_180 0 13 (dk_at dksX14_number_2 3 rfl rfl)
theorem dX14_number_54 : decode cX14_number 54 = .ok (.iconst 1, 1) := dk_4 (dk_at dksX14_number_2 6 rfl rfl)
theorem dX14_number_55 : decode cX14_number 55 = .ok (.iadd, 1) := dk_96 (dk_at dksX14_number_2 7 rfl rfl)
theorem dX14_number_56 : decode cX14_number 56 = .ok (.putfield 13, 3) := dk_181 0 13 (dk_at dksX14_number_2 8 rfl rfl)
theorem dX14_number_59 : decode cX14_number 59 = .ok (.goto (-52), 3) := dk_167 255 204 (dk_at dksX14_number_2 11 rfl rfl)
theorem dX14_number_62 : decode cX14_number 62 = .ok (.aload_n 0, 1) := dk_42 (dk_at dksX14_number_2 14 rfl rfl)
theorem dX14_number_63 : decode cX14_number 63 = .ok (.getfield 13, 3) := dk_180 0 13 (dk_at dksX14_number_2 15 rfl rfl)
theorem dX14_number_66 : decode cX14_number 66 = .ok (.iload_n 2, 1) := dk_28 (dk_at dksX14_number_2 18 rfl rfl)
theorem dX14_number_67 : decode cX14_number 67 = .ok (.if_icmp .eq 13, 3) := dk_159 0 13 (dk_at dksX14_number_2 19 rfl rfl)
theorem dX14_number_70 : decode cX14_number 70 = .ok (.iload_n 3, 1) := dk_29 (dk_at dksX14_number_2 22 rfl rfl)
theorem dX14_number_71 : decode cX14_number 71 = .ok (.iconst 1, 1) := dk_4 (dk_at dksX14_number_2 23 rfl rfl)
theorem dX14_number_72 : decode cX14_number 72 = .ok (.if_icmp .lt 8, 3) := dk_161 0 8 (dk_at dksX14_number_3 0 rfl rfl)
theorem dX14_number_75 : decode cX14_number 75 = .ok (.iload_n 3, 1) := dk_29 (dk_at dksX14_number_3 3 rfl rfl)
theorem dX14_number_76 : decode cX14_number 76 = .ok (.iload_n 1, 1) := dk_27 (dk_at dksX14_number_3 4 rfl rfl)
theorem dX14_number_77 : decode cX14_number 77 = .ok (.if_icmp .le 9, 3) := dk_164 0 9 (dk_at dksX14_number_3 5 rfl rfl)
theorem dX14_number_80 : decode cX14_number 80 = .ok (.aload_n 0, 1) := dk_42 (dk_at dksX14_number_3 8 rfl rfl)
theorem dX14_number_81 : decode cX14_number 81 = .ok (.iload_n 2, 1) := dk_28 (dk_at dksX14_number_3 9 rfl rfl)
theorem dX14_number_82 : decode cX14_number 82 = .ok (.invokevirtual 35, 3) := dk_182 0 35 (dk_at dksX14_number_3 10 rfl rfl)
theorem dX14_number_85 : decode cX14_number 85 = .ok (.athrow, 1) := dk_191 (dk_at dksX14_number_3 13 rfl rfl)
theorem dX14_number_86 : decode cX14_number 86 = .ok (.iload_n 3, 1) := dk_29 (dk_at dksX14_number_3 14 rfl rfl)
theorem dX14_number_87 : decode cX14_number 87 = .ok (.ireturn, 1) := dk_172 (dk_at dksX14_number_3 15 rfl rfl)
abbrev cX14_is : ByteArray := prog_15_method_2_code
def yX14_is : MethodName := ⟨RX14, "is", "(II)Z"⟩
def dkwX14_is_2 : List UInt8 := [4, 167, 0, 4, 3, 172]
abbrev dktX14_is_2 : List UInt8 := dkwX14_is_2 ++ []
def dkwX14_is_1 : List UInt8 := [180, 0, 13, 46, 27, 161, 0, 23, 42, 180, 0, 1, 180, 0, 22, 42, 180, 0, 13, 46, 28, 163, 0, 7]
abbrev dktX14_is_1 : List UInt8 := dkwX14_is_1 ++ dktX14_is_2
def dkwX14_is_0 : List UInt8 := [42, 180, 0, 13, 42, 180, 0, 1, 180, 0, 17, 162, 0, 39, 42, 180, 0, 1, 180, 0, 22, 42]
abbrev dktX14_is_0 : List UInt8 := dkwX14_is_0 ++ dktX14_is_1
theorem dksX14_is_0 : cX14_is.data.toList.drop 0 = dktX14_is_0 := by decide +kernel
theorem dksX14_is_1 : cX14_is.data.toList.drop 22 = dktX14_is_1 := dk_seg dksX14_is_0 22 rfl rfl
theorem dksX14_is_2 : cX14_is.data.toList.drop 46 = dktX14_is_2 := dk_seg dksX14_is_1 24 rfl rfl
theorem dX14_is_0 : decode cX14_is 0 = .ok (.aload_n 0, 1) := dk_42 (dk_at dksX14_is_0 0 rfl rfl)
theorem dX14_is_1 : decode cX14_is 1 = .ok (.getfield 13, 3) := dk_180 0 13 (dk_at dksX14_is_0 1 rfl rfl)
theorem dX14_is_4 : decode cX14_is 4 = .ok (.aload_n 0, 1) := dk_42 (dk_at dksX14_is_0 4 rfl rfl)
theorem dX14_is_5 : decode cX14_is 5 = .ok (.getfield 1, 3) := dk_180 0 1 (dk_at dksX14_is_0 5 rfl rfl)
theorem dX14_is_8 : decode cX14_is 8 = .ok (.getfield 17, 3) := dk_180 0 17 (dk_at dksX14_is_0 8 rfl rfl)
theorem dX14_is_11 : decode cX14_is 11 = .ok (.if_icmp .ge 39, 3) := dk_162 0 39 (dk_at dksX14_is_0 11 rfl rfl)
theorem dX14_is_14 : decode cX14_is 14 = .ok (.aload_n 0, 1) := dk_42 (dk_at dksX14_is_0 14 rfl rfl)
theorem dX14_is_15 : decode cX14_is 15 = .ok (.getfield 1, 3) := dk_180 0 1 (dk_at dksX14_is_0 15 rfl rfl)
theorem dX14_is_18 : decode cX14_is 18 = .ok (.getfield 22, 3) := dk_180 0 22 (dk_at dksX14_is_0 18 rfl rfl)
theorem dX14_is_21 : decode cX14_is 21 = .ok (.aload_n 0, 1) := dk_42 (dk_at dksX14_is_0 21 rfl rfl)
theorem dX14_is_22 : decode cX14_is 22 = .ok (.getfield 13, 3) := dk_180 0 13 (dk_at dksX14_is_1 0 rfl rfl)
theorem dX14_is_25 : decode cX14_is 25 = .ok (.iaload, 1) := dk_46 (dk_at dksX14_is_1 3 rfl rfl)
theorem dX14_is_26 : decode cX14_is 26 = .ok (.iload_n 1, 1) := dk_27 (dk_at dksX14_is_1 4 rfl rfl)
theorem dX14_is_27 : decode cX14_is 27 = .ok (.if_icmp .lt 23, 3) := dk_161 0 23 (dk_at dksX14_is_1 5 rfl rfl)
theorem dX14_is_30 : decode cX14_is 30 = .ok (.aload_n 0, 1) := dk_42 (dk_at dksX14_is_1 8 rfl rfl)
theorem dX14_is_31 : decode cX14_is 31 = .ok (.getfield 1, 3) := dk_180 0 1 (dk_at dksX14_is_1 9 rfl rfl)
theorem dX14_is_34 : decode cX14_is 34 = .ok (.getfield 22, 3) := dk_180 0 22 (dk_at dksX14_is_1 12 rfl rfl)
theorem dX14_is_37 : decode cX14_is 37 = .ok (.aload_n 0, 1) := dk_42 (dk_at dksX14_is_1 15 rfl rfl)
theorem dX14_is_38 : decode cX14_is 38 = .ok (.getfield 13, 3) := dk_180 0 13 (dk_at dksX14_is_1 16 rfl rfl)
theorem dX14_is_41 : decode cX14_is 41 = .ok (.iaload, 1) := dk_46 (dk_at dksX14_is_1 19 rfl rfl)
theorem dX14_is_42 : decode cX14_is 42 = .ok (.iload_n 2, 1) := dk_28 (dk_at dksX14_is_1 20 rfl rfl)
theorem dX14_is_43 : decode cX14_is 43 = .ok (.if_icmp .gt 7, 3) := dk_163 0 7 (dk_at dksX14_is_1 21 rfl rfl)
theorem dX14_is_46 : decode cX14_is 46 = .ok (.iconst 1, 1) := dk_4 (dk_at dksX14_is_2 0 rfl rfl)
theorem dX14_is_47 : decode cX14_is 47 = .ok (.goto 4, 3) := dk_167 0 4 (dk_at dksX14_is_2 1 rfl rfl)
theorem dX14_is_50 : decode cX14_is 50 = .ok (.iconst 0, 1) := dk_3 (dk_at dksX14_is_2 4 rfl rfl)
theorem dX14_is_51 : decode cX14_is 51 = .ok (.ireturn, 1) := dk_172 (dk_at dksX14_is_2 5 rfl rfl)
abbrev cX14_wrong : ByteArray := prog_15_method_3_code
def yX14_wrong : MethodName := ⟨RX14, "wrong", "(I)LEditsMeet$Fault;"⟩
def dkwX14_wrong_0 : List UInt8 := [187, 0, 26, 89, 27, 183, 0, 28, 176]
abbrev dktX14_wrong_0 : List UInt8 := dkwX14_wrong_0 ++ []
theorem dksX14_wrong_0 : cX14_wrong.data.toList.drop 0 = dktX14_wrong_0 := by decide +kernel
theorem dX14_wrong_0 : decode cX14_wrong 0 = .ok (.new 26, 3) := dk_187 0 26 (dk_at dksX14_wrong_0 0 rfl rfl)
theorem dX14_wrong_3 : decode cX14_wrong 3 = .ok (.dup, 1) := dk_89 (dk_at dksX14_wrong_0 3 rfl rfl)
theorem dX14_wrong_4 : decode cX14_wrong 4 = .ok (.iload_n 1, 1) := dk_27 (dk_at dksX14_wrong_0 4 rfl rfl)
theorem dX14_wrong_5 : decode cX14_wrong 5 = .ok (.invokespecial 28, 3) := dk_183 0 28 (dk_at dksX14_wrong_0 5 rfl rfl)
theorem dX14_wrong_8 : decode cX14_wrong 8 = .ok (.areturn, 1) := dk_176 (dk_at dksX14_wrong_0 8 rfl rfl)
abbrev cX14_letters : ByteArray := prog_15_method_6_code
def yX14_letters : MethodName := ⟨RX14, "letters", "()Ljava/lang/String;"⟩
def dkwX14_letters_2 : List UInt8 := [167, 255, 217, 43, 182, 0, 46, 154, 0, 12, 42, 42, 180, 0, 13, 182, 0, 35, 191, 43, 182, 0, 50, 176]
abbrev dktX14_letters_2 : List UInt8 := dkwX14_letters_2 ++ []
def dkwX14_letters_1 : List UInt8 := [180, 0, 22, 42, 180, 0, 13, 46, 146, 182, 0, 42, 87, 42, 89, 180, 0, 13, 4, 96, 181, 0, 13]
abbrev dktX14_letters_1 : List UInt8 := dkwX14_letters_1 ++ dktX14_letters_2
def dkwX14_letters_0 : List UInt8 := [187, 0, 39, 89, 183, 0, 41, 76, 42, 16, 97, 16, 122, 182, 0, 31, 153, 0, 34, 43, 42, 180, 0, 1]
abbrev dktX14_letters_0 : List UInt8 := dkwX14_letters_0 ++ dktX14_letters_1
theorem dksX14_letters_0 : cX14_letters.data.toList.drop 0 = dktX14_letters_0 := by decide +kernel
theorem dksX14_letters_1 : cX14_letters.data.toList.drop 24 = dktX14_letters_1 := dk_seg dksX14_letters_0 24 rfl rfl
theorem dksX14_letters_2 : cX14_letters.data.toList.drop 47 = dktX14_letters_2 := dk_seg dksX14_letters_1 23 rfl rfl
theorem dX14_letters_0 : decode cX14_letters 0 = .ok (.new 39, 3) := dk_187 0 39 (dk_at dksX14_letters_0 0 rfl rfl)
theorem dX14_letters_3 : decode cX14_letters 3 = .ok (.dup, 1) := dk_89 (dk_at dksX14_letters_0 3 rfl rfl)
theorem dX14_letters_4 : decode cX14_letters 4 = .ok (.invokespecial 41, 3) := dk_183 0 41 (dk_at dksX14_letters_0 4 rfl rfl)
theorem dX14_letters_7 : decode cX14_letters 7 = .ok (.astore_n 1, 1) := dk_76 (dk_at dksX14_letters_0 7 rfl rfl)
theorem dX14_letters_8 : decode cX14_letters 8 = .ok (.aload_n 0, 1) := dk_42 (dk_at dksX14_letters_0 8 rfl rfl)
theorem dX14_letters_9 : decode cX14_letters 9 = .ok (.bipush 97, 2) := dk_16 97 (dk_at dksX14_letters_0 9 rfl rfl)
theorem dX14_letters_11 : decode cX14_letters 11 = .ok (.bipush 122, 2) := dk_16 122 (dk_at dksX14_letters_0 11 rfl rfl)
theorem dX14_letters_13 : decode cX14_letters 13 = .ok (.invokevirtual 31, 3) := dk_182 0 31 (dk_at dksX14_letters_0 13 rfl rfl)
theorem dX14_letters_16 : decode cX14_letters 16 = .ok (.ifCond .eq 34, 3) := dk_153 0 34 (dk_at dksX14_letters_0 16 rfl rfl)
theorem dX14_letters_19 : decode cX14_letters 19 = .ok (.aload_n 1, 1) := dk_43 (dk_at dksX14_letters_0 19 rfl rfl)
theorem dX14_letters_20 : decode cX14_letters 20 = .ok (.aload_n 0, 1) := dk_42 (dk_at dksX14_letters_0 20 rfl rfl)
theorem dX14_letters_21 : decode cX14_letters 21 = .ok (.getfield 1, 3) := dk_180 0 1 (dk_at dksX14_letters_0 21 rfl rfl)
theorem dX14_letters_24 : decode cX14_letters 24 = .ok (.getfield 22, 3) := dk_180 0 22 (dk_at dksX14_letters_1 0 rfl rfl)
theorem dX14_letters_27 : decode cX14_letters 27 = .ok (.aload_n 0, 1) := dk_42 (dk_at dksX14_letters_1 3 rfl rfl)
theorem dX14_letters_28 : decode cX14_letters 28 = .ok (.getfield 13, 3) := dk_180 0 13 (dk_at dksX14_letters_1 4 rfl rfl)
theorem dX14_letters_31 : decode cX14_letters 31 = .ok (.iaload, 1) := dk_46 (dk_at dksX14_letters_1 7 rfl rfl)
theorem dX14_letters_32 : decode cX14_letters 32 = .ok (.i2c, 1) := dk_146 (dk_at dksX14_letters_1 8 rfl rfl)
theorem dX14_letters_33 : decode cX14_letters 33 = .ok (.invokevirtual 42, 3) := dk_182 0 42 (dk_at dksX14_letters_1 9 rfl rfl)
theorem dX14_letters_36 : decode cX14_letters 36 = .ok (.pop, 1) := dk_87 (dk_at dksX14_letters_1 12 rfl rfl)
theorem dX14_letters_37 : decode cX14_letters 37 = .ok (.aload_n 0, 1) := dk_42 (dk_at dksX14_letters_1 13 rfl rfl)
theorem dX14_letters_38 : decode cX14_letters 38 = .ok (.dup, 1) := dk_89 (dk_at dksX14_letters_1 14 rfl rfl)
theorem dX14_letters_39 : decode cX14_letters 39 = .ok (.getfield 13, 3) := dk_180 0 13 (dk_at dksX14_letters_1 15 rfl rfl)
theorem dX14_letters_42 : decode cX14_letters 42 = .ok (.iconst 1, 1) := dk_4 (dk_at dksX14_letters_1 18 rfl rfl)
theorem dX14_letters_43 : decode cX14_letters 43 = .ok (.iadd, 1) := dk_96 (dk_at dksX14_letters_1 19 rfl rfl)
theorem dX14_letters_44 : decode cX14_letters 44 = .ok (.putfield 13, 3) := dk_181 0 13 (dk_at dksX14_letters_1 20 rfl rfl)
theorem dX14_letters_47 : decode cX14_letters 47 = .ok (.goto (-39), 3) := dk_167 255 217 (dk_at dksX14_letters_2 0 rfl rfl)
theorem dX14_letters_50 : decode cX14_letters 50 = .ok (.aload_n 1, 1) := dk_43 (dk_at dksX14_letters_2 3 rfl rfl)
theorem dX14_letters_51 : decode cX14_letters 51 = .ok (.invokevirtual 46, 3) := dk_182 0 46 (dk_at dksX14_letters_2 4 rfl rfl)
theorem dX14_letters_54 : decode cX14_letters 54 = .ok (.ifCond .ne 12, 3) := dk_154 0 12 (dk_at dksX14_letters_2 7 rfl rfl)
theorem dX14_letters_57 : decode cX14_letters 57 = .ok (.aload_n 0, 1) := dk_42 (dk_at dksX14_letters_2 10 rfl rfl)
theorem dX14_letters_58 : decode cX14_letters 58 = .ok (.aload_n 0, 1) := dk_42 (dk_at dksX14_letters_2 11 rfl rfl)
theorem dX14_letters_59 : decode cX14_letters 59 = .ok (.getfield 13, 3) := dk_180 0 13 (dk_at dksX14_letters_2 12 rfl rfl)
theorem dX14_letters_62 : decode cX14_letters 62 = .ok (.invokevirtual 35, 3) := dk_182 0 35 (dk_at dksX14_letters_2 15 rfl rfl)
theorem dX14_letters_65 : decode cX14_letters 65 = .ok (.athrow, 1) := dk_191 (dk_at dksX14_letters_2 18 rfl rfl)
theorem dX14_letters_66 : decode cX14_letters 66 = .ok (.aload_n 1, 1) := dk_43 (dk_at dksX14_letters_2 19 rfl rfl)
theorem dX14_letters_67 : decode cX14_letters 67 = .ok (.invokevirtual 50, 3) := dk_182 0 50 (dk_at dksX14_letters_2 20 rfl rfl)
theorem dX14_letters_70 : decode cX14_letters 70 = .ok (.areturn, 1) := dk_176 (dk_at dksX14_letters_2 23 rfl rfl)
abbrev cX14_none : ByteArray := prog_15_method_7_code
def yX14_none : MethodName := ⟨RX14, "none", "(I)Ljava/lang/String;"⟩
def dkwX14_none_1 : List UInt8 := [167, 255, 242, 44, 182, 0, 50, 176]
abbrev dktX14_none_1 : List UInt8 := dkwX14_none_1 ++ []
def dkwX14_none_0 : List UInt8 := [187, 0, 39, 89, 183, 0, 41, 77, 3, 62, 29, 27, 162, 0, 15, 44, 3, 182, 0, 42, 87, 132, 3, 1]
abbrev dktX14_none_0 : List UInt8 := dkwX14_none_0 ++ dktX14_none_1
theorem dksX14_none_0 : cX14_none.data.toList.drop 0 = dktX14_none_0 := by decide +kernel
theorem dksX14_none_1 : cX14_none.data.toList.drop 24 = dktX14_none_1 := dk_seg dksX14_none_0 24 rfl rfl
theorem dX14_none_0 : decode cX14_none 0 = .ok (.new 39, 3) := dk_187 0 39 (dk_at dksX14_none_0 0 rfl rfl)
theorem dX14_none_3 : decode cX14_none 3 = .ok (.dup, 1) := dk_89 (dk_at dksX14_none_0 3 rfl rfl)
theorem dX14_none_4 : decode cX14_none 4 = .ok (.invokespecial 41, 3) := dk_183 0 41 (dk_at dksX14_none_0 4 rfl rfl)
theorem dX14_none_7 : decode cX14_none 7 = .ok (.astore_n 2, 1) := dk_77 (dk_at dksX14_none_0 7 rfl rfl)
theorem dX14_none_8 : decode cX14_none 8 = .ok (.iconst 0, 1) := dk_3 (dk_at dksX14_none_0 8 rfl rfl)
theorem dX14_none_9 : decode cX14_none 9 = .ok (.istore_n 3, 1) := dk_62 (dk_at dksX14_none_0 9 rfl rfl)
theorem dX14_none_10 : decode cX14_none 10 = .ok (.iload_n 3, 1) := dk_29 (dk_at dksX14_none_0 10 rfl rfl)
theorem dX14_none_11 : decode cX14_none 11 = .ok (.iload_n 1, 1) := dk_27 (dk_at dksX14_none_0 11 rfl rfl)
theorem dX14_none_12 : decode cX14_none 12 = .ok (.if_icmp .ge 15, 3) := dk_162 0 15 (dk_at dksX14_none_0 12 rfl rfl)
theorem dX14_none_15 : decode cX14_none 15 = .ok (.aload_n 2, 1) := dk_44 (dk_at dksX14_none_0 15 rfl rfl)
theorem dX14_none_16 : decode cX14_none 16 = .ok (.iconst 0, 1) := dk_3 (dk_at dksX14_none_0 16 rfl rfl)
theorem dX14_none_17 : decode cX14_none 17 = .ok (.invokevirtual 42, 3) := dk_182 0 42 (dk_at dksX14_none_0 17 rfl rfl)
theorem dX14_none_20 : decode cX14_none 20 = .ok (.pop, 1) := dk_87 (dk_at dksX14_none_0 20 rfl rfl)
theorem dX14_none_21 : decode cX14_none 21 = .ok (.iinc 3 1, 3) := dk_132 3 1 (dk_at dksX14_none_0 21 rfl rfl)
theorem dX14_none_24 : decode cX14_none 24 = .ok (.goto (-14), 3) := dk_167 255 242 (dk_at dksX14_none_1 0 rfl rfl)
theorem dX14_none_27 : decode cX14_none 27 = .ok (.aload_n 2, 1) := dk_44 (dk_at dksX14_none_1 3 rfl rfl)
theorem dX14_none_28 : decode cX14_none 28 = .ok (.invokevirtual 50, 3) := dk_182 0 50 (dk_at dksX14_none_1 4 rfl rfl)
theorem dX14_none_31 : decode cX14_none 31 = .ok (.areturn, 1) := dk_176 (dk_at dksX14_none_1 7 rfl rfl)
abbrev cX14_bitsBehind : ByteArray := prog_15_method_8_code
def yX14_bitsBehind : MethodName := ⟨RX14, "bitsBehind", "()I"⟩
def dkwX14_bitsBehind_0 : List UInt8 := [42, 16, 46, 182, 0, 54, 42, 16, 15, 182, 0, 57, 172]
abbrev dktX14_bitsBehind_0 : List UInt8 := dkwX14_bitsBehind_0 ++ []
theorem dksX14_bitsBehind_0 : cX14_bitsBehind.data.toList.drop 0 = dktX14_bitsBehind_0 := by decide +kernel
theorem dX14_bitsBehind_0 : decode cX14_bitsBehind 0 = .ok (.aload_n 0, 1) := dk_42 (dk_at dksX14_bitsBehind_0 0 rfl rfl)
theorem dX14_bitsBehind_1 : decode cX14_bitsBehind 1 = .ok (.bipush 46, 2) := dk_16 46 (dk_at dksX14_bitsBehind_0 1 rfl rfl)
theorem dX14_bitsBehind_3 : decode cX14_bitsBehind 3 = .ok (.invokevirtual 54, 3) := dk_182 0 54 (dk_at dksX14_bitsBehind_0 3 rfl rfl)
theorem dX14_bitsBehind_6 : decode cX14_bitsBehind 6 = .ok (.aload_n 0, 1) := dk_42 (dk_at dksX14_bitsBehind_0 6 rfl rfl)
theorem dX14_bitsBehind_7 : decode cX14_bitsBehind 7 = .ok (.bipush 15, 2) := dk_16 15 (dk_at dksX14_bitsBehind_0 7 rfl rfl)
theorem dX14_bitsBehind_9 : decode cX14_bitsBehind 9 = .ok (.invokevirtual 57, 3) := dk_182 0 57 (dk_at dksX14_bitsBehind_0 9 rfl rfl)
theorem dX14_bitsBehind_12 : decode cX14_bitsBehind 12 = .ok (.ireturn, 1) := dk_172 (dk_at dksX14_bitsBehind_0 12 rfl rfl)
abbrev cX14_need : ByteArray := prog_15_method_5_code
def yX14_need : MethodName := ⟨RX14, "need", "(I)V"⟩
def dkwX14_need_1 : List UInt8 := [96, 181, 0, 13, 177]
abbrev dktX14_need_1 : List UInt8 := dkwX14_need_1 ++ []
def dkwX14_need_0 : List UInt8 := [42, 27, 27, 182, 0, 31, 154, 0, 12, 42, 42, 180, 0, 13, 182, 0, 35, 191, 42, 89, 180, 0, 13, 4]
abbrev dktX14_need_0 : List UInt8 := dkwX14_need_0 ++ dktX14_need_1
theorem dksX14_need_0 : cX14_need.data.toList.drop 0 = dktX14_need_0 := by decide +kernel
theorem dksX14_need_1 : cX14_need.data.toList.drop 24 = dktX14_need_1 := dk_seg dksX14_need_0 24 rfl rfl
theorem dX14_need_0 : decode cX14_need 0 = .ok (.aload_n 0, 1) := dk_42 (dk_at dksX14_need_0 0 rfl rfl)
theorem dX14_need_1 : decode cX14_need 1 = .ok (.iload_n 1, 1) := dk_27 (dk_at dksX14_need_0 1 rfl rfl)
theorem dX14_need_2 : decode cX14_need 2 = .ok (.iload_n 1, 1) := dk_27 (dk_at dksX14_need_0 2 rfl rfl)
theorem dX14_need_3 : decode cX14_need 3 = .ok (.invokevirtual 31, 3) := dk_182 0 31 (dk_at dksX14_need_0 3 rfl rfl)
theorem dX14_need_6 : decode cX14_need 6 = .ok (.ifCond .ne 12, 3) := dk_154 0 12 (dk_at dksX14_need_0 6 rfl rfl)
theorem dX14_need_9 : decode cX14_need 9 = .ok (.aload_n 0, 1) := dk_42 (dk_at dksX14_need_0 9 rfl rfl)
theorem dX14_need_10 : decode cX14_need 10 = .ok (.aload_n 0, 1) := dk_42 (dk_at dksX14_need_0 10 rfl rfl)
theorem dX14_need_11 : decode cX14_need 11 = .ok (.getfield 13, 3) := dk_180 0 13 (dk_at dksX14_need_0 11 rfl rfl)
theorem dX14_need_14 : decode cX14_need 14 = .ok (.invokevirtual 35, 3) := dk_182 0 35 (dk_at dksX14_need_0 14 rfl rfl)
theorem dX14_need_17 : decode cX14_need 17 = .ok (.athrow, 1) := dk_191 (dk_at dksX14_need_0 17 rfl rfl)
theorem dX14_need_18 : decode cX14_need 18 = .ok (.aload_n 0, 1) := dk_42 (dk_at dksX14_need_0 18 rfl rfl)
theorem dX14_need_19 : decode cX14_need 19 = .ok (.dup, 1) := dk_89 (dk_at dksX14_need_0 19 rfl rfl)
theorem dX14_need_20 : decode cX14_need 20 = .ok (.getfield 13, 3) := dk_180 0 13 (dk_at dksX14_need_0 20 rfl rfl)
theorem dX14_need_23 : decode cX14_need 23 = .ok (.iconst 1, 1) := dk_4 (dk_at dksX14_need_0 23 rfl rfl)
theorem dX14_need_24 : decode cX14_need 24 = .ok (.iadd, 1) := dk_96 (dk_at dksX14_need_1 0 rfl rfl)
theorem dX14_need_25 : decode cX14_need 25 = .ok (.putfield 13, 3) := dk_181 0 13 (dk_at dksX14_need_1 1 rfl rfl)
theorem dX14_need_28 : decode cX14_need 28 = .ok (.return_, 1) := dk_177 (dk_at dksX14_need_1 4 rfl rfl)
theorem q159 : (Jvm.Cond.initialized "EditsMeet$Reader") ∈ lw_all := lw_g (lw_at lw_m1 39 rfl) rfl
theorem q578 : (Jvm.Cond.fieldLinkNest "EditsMeet$Reader" (22 : Nat) "EditsMeet" "tape" "[I" "EditsMeet") ∈ lw_tbl := lw_at lw_m2 218 rfl
theorem q580 : (Jvm.Cond.fieldLinkNest "EditsMeet$Reader" (17 : Nat) "EditsMeet" "size" "I" "EditsMeet") ∈ lw_tbl := lw_at lw_m2 220 rfl
theorem q989 : (Jvm.Cond.instantiable "EditsMeet$Reader" (2 : Nat)) ∈ lw_all := lw_g (lw_at lw_m4 149 rfl) rfl
theorem q991 : (Jvm.Cond.instanceMethod ({ cls := "EditsMeet$Reader", name := "<init>", desc := "(LEditsMeet;)V" } : Jvm.MethodName)) ∈ lw_all := lw_g (lw_at lw_m4 151 rfl) rfl
theorem q992 : (Jvm.Cond.code ({ cls := "EditsMeet$Reader", name := "<init>", desc := "(LEditsMeet;)V" } : Jvm.MethodName) prog_15_method_1_code (2 : Nat) (Option.none : Option Jvm.ClassFile.FieldType)) ∈ lw_all := lw_g (lw_at lw_m4 152 rfl) rfl
theorem q993 : (Jvm.Cond.methodLink "EditsMeet$Reader" (7 : Nat) ({ cls := "java/lang/Object", name := "<init>", desc := "()V" } : Jvm.MethodName)) ∈ lw_all := lw_g (lw_at lw_m4 153 rfl) rfl
theorem q994 : (Jvm.Cond.fieldLink "EditsMeet$Reader" (13 : Nat) "EditsMeet$Reader" "at" "I") ∈ lw_all := lw_g (lw_at lw_m4 154 rfl) rfl
theorem q995 : (Jvm.Cond.fieldLink "EditsMeet$Reader" (1 : Nat) "EditsMeet$Reader" "this$0" "LEditsMeet;") ∈ lw_all := lw_g (lw_at lw_m4 155 rfl) rfl
theorem q996 : (Jvm.Cond.lays "EditsMeet$Reader" "EditsMeet$Reader" "at" "I") ∈ lw_all := lw_g (lw_at lw_m4 156 rfl) rfl
theorem q997 : (Jvm.Cond.soleField "EditsMeet$Reader" "at") ∈ lw_all := lw_g (lw_at lw_m4 157 rfl) rfl
theorem q998 : (Jvm.Cond.laysFinal "EditsMeet$Reader" "EditsMeet$Reader" "this$0" "LEditsMeet;") ∈ lw_all := lw_g (lw_at lw_m4 158 rfl) rfl
theorem q999 : (Jvm.Cond.soleField "EditsMeet$Reader" "this$0") ∈ lw_all := lw_g (lw_at lw_m4 159 rfl) rfl
theorem q1000 : (Jvm.Cond.superclass "EditsMeet$Reader" "java/lang/Object") ∈ lw_all := lw_g (lw_at lw_m4 160 rfl) rfl
theorem q1002 : (Jvm.Cond.instanceMethod ({ cls := "EditsMeet$Reader", name := "edit", desc := "()LEditsMeet$Edit;" } : Jvm.MethodName)) ∈ lw_all := lw_g (lw_at lw_m4 162 rfl) rfl
theorem q1003 : (Jvm.Cond.selects "EditsMeet$Reader" ({ cls := "EditsMeet$Reader", name := "edit", desc := "()LEditsMeet$Edit;" } : Jvm.MethodName) ({ cls := "EditsMeet$Reader", name := "edit", desc := "()LEditsMeet$Edit;" } : Jvm.MethodName)) ∈ lw_all := lw_g (lw_at lw_m4 163 rfl) rfl
theorem q1004 : (Jvm.Cond.code ({ cls := "EditsMeet$Reader", name := "edit", desc := "()LEditsMeet$Edit;" } : Jvm.MethodName) prog_15_method_10_code (2 : Nat) (Option.some (Jvm.ClassFile.FieldType.object "EditsMeet$Edit"))) ∈ lw_all := lw_g (lw_at lw_m4 164 rfl) rfl
theorem q1005 : (Jvm.Cond.classLink "EditsMeet$Reader" (113 : Nat) "EditsMeet$Edit") ∈ lw_all := lw_g (lw_at lw_m4 165 rfl) rfl
theorem q1006 : (Jvm.Cond.methodLinkNest "EditsMeet$Reader" (115 : Nat) ({ cls := "EditsMeet$Edit", name := "<init>", desc := "()V" } : Jvm.MethodName) "EditsMeet") ∈ lw_tbl := lw_at lw_m4 166 rfl
theorem q1007 : (Jvm.Cond.methodLink "EditsMeet$Reader" (116 : Nat) ({ cls := "EditsMeet$Reader", name := "part", desc := "()LEditsMeet$Part;" } : Jvm.MethodName)) ∈ lw_all := lw_g (lw_at lw_m4 167 rfl) rfl
theorem q1008 : (Jvm.Cond.privateMethod ({ cls := "EditsMeet$Reader", name := "part", desc := "()LEditsMeet$Part;" } : Jvm.MethodName)) ∈ lw_tbl := lw_at lw_m4 168 rfl
theorem q1009 : (Jvm.Cond.instanceMethod ({ cls := "EditsMeet$Reader", name := "part", desc := "()LEditsMeet$Part;" } : Jvm.MethodName)) ∈ lw_all := lw_g (lw_at lw_m4 169 rfl) rfl
theorem q1010 : (Jvm.Cond.code ({ cls := "EditsMeet$Reader", name := "part", desc := "()LEditsMeet$Part;" } : Jvm.MethodName) prog_15_method_9_code (5 : Nat) (Option.some (Jvm.ClassFile.FieldType.object "EditsMeet$Part"))) ∈ lw_all := lw_g (lw_at lw_m4 170 rfl) rfl
theorem q1011 : (Jvm.Cond.classLink "EditsMeet$Reader" (39 : Nat) "java/lang/StringBuilder") ∈ lw_all := lw_g (lw_at lw_m4 171 rfl) rfl
theorem q1012 : (Jvm.Cond.methodLink "EditsMeet$Reader" (41 : Nat) ({ cls := "java/lang/StringBuilder", name := "<init>", desc := "()V" } : Jvm.MethodName)) ∈ lw_all := lw_g (lw_at lw_m4 172 rfl) rfl
theorem q1013 : (Jvm.Cond.stringRef "EditsMeet$Reader" (61 : Nat) "") ∈ lw_tbl := lw_at lw_m4 173 rfl
theorem q1014 : (Jvm.Cond.methodLink "EditsMeet$Reader" (63 : Nat) ({ cls := "java/lang/StringBuilder", name := "append", desc := "(Ljava/lang/String;)Ljava/lang/StringBuilder;" } : Jvm.MethodName)) ∈ lw_all := lw_g (lw_at lw_m4 174 rfl) rfl
theorem q1113 : (Jvm.Cond.methodLink "EditsMeet$Reader" (42 : Nat) ({ cls := "java/lang/StringBuilder", name := "append", desc := "(C)Ljava/lang/StringBuilder;" } : Jvm.MethodName)) ∈ lw_all := lw_g (lw_at lw_m5 33 rfl) rfl
theorem q1126 : (Jvm.Cond.methodLink "EditsMeet$Reader" (50 : Nat) ({ cls := "java/lang/StringBuilder", name := "toString", desc := "()Ljava/lang/String;" } : Jvm.MethodName)) ∈ lw_all := lw_g (lw_at lw_m5 46 rfl) rfl
theorem q1180 : (Jvm.Cond.methodLink "EditsMeet$Reader" (66 : Nat) ({ cls := "java/lang/String", name := "length", desc := "()I" } : Jvm.MethodName)) ∈ lw_all := lw_g (lw_at lw_m5 100 rfl) rfl
theorem q1181 : (Jvm.Cond.methodLink "EditsMeet$Reader" (69 : Nat) ({ cls := "java/lang/String", name := "hashCode", desc := "()I" } : Jvm.MethodName)) ∈ lw_all := lw_g (lw_at lw_m5 101 rfl) rfl
theorem q1230 : (Jvm.Cond.stringRef "EditsMeet$Reader" (72 : Nat) "=") ∈ lw_tbl := lw_at lw_m5 150 rfl
theorem q1231 : (Jvm.Cond.methodLink "EditsMeet$Reader" (74 : Nat) ({ cls := "java/lang/String", name := "equals", desc := "(Ljava/lang/Object;)Z" } : Jvm.MethodName)) ∈ lw_all := lw_g (lw_at lw_m5 151 rfl) rfl
theorem q1239 : (Jvm.Cond.stringRef "EditsMeet$Reader" (78 : Nat) "-") ∈ lw_tbl := lw_at lw_m5 159 rfl
theorem q1240 : (Jvm.Cond.stringRef "EditsMeet$Reader" (80 : Nat) "+") ∈ lw_tbl := lw_at lw_m5 160 rfl
theorem q1241 : (Jvm.Cond.stringRef "EditsMeet$Reader" (82 : Nat) "^") ∈ lw_tbl := lw_at lw_m5 161 rfl
theorem q1242 : (Jvm.Cond.stringRef "EditsMeet$Reader" (84 : Nat) "_") ∈ lw_tbl := lw_at lw_m5 162 rfl
theorem q1243 : (Jvm.Cond.methodLink "EditsMeet$Reader" (57 : Nat) ({ cls := "EditsMeet$Reader", name := "number", desc := "(I)I" } : Jvm.MethodName)) ∈ lw_all := lw_g (lw_at lw_m5 163 rfl) rfl
theorem q1244 : (Jvm.Cond.privateMethod ({ cls := "EditsMeet$Reader", name := "number", desc := "(I)I" } : Jvm.MethodName)) ∈ lw_tbl := lw_at lw_m5 164 rfl
theorem q1245 : (Jvm.Cond.instanceMethod ({ cls := "EditsMeet$Reader", name := "number", desc := "(I)I" } : Jvm.MethodName)) ∈ lw_all := lw_g (lw_at lw_m5 165 rfl) rfl
theorem q1246 : (Jvm.Cond.code ({ cls := "EditsMeet$Reader", name := "number", desc := "(I)I" } : Jvm.MethodName) prog_15_method_4_code (4 : Nat) (Option.some Jvm.ClassFile.FieldType.int)) ∈ lw_all := lw_g (lw_at lw_m5 166 rfl) rfl
theorem q1247 : (Jvm.Cond.methodLink "EditsMeet$Reader" (31 : Nat) ({ cls := "EditsMeet$Reader", name := "is", desc := "(II)Z" } : Jvm.MethodName)) ∈ lw_all := lw_g (lw_at lw_m5 167 rfl) rfl
theorem q1248 : (Jvm.Cond.privateMethod ({ cls := "EditsMeet$Reader", name := "is", desc := "(II)Z" } : Jvm.MethodName)) ∈ lw_tbl := lw_at lw_m5 168 rfl
theorem q1249 : (Jvm.Cond.instanceMethod ({ cls := "EditsMeet$Reader", name := "is", desc := "(II)Z" } : Jvm.MethodName)) ∈ lw_all := lw_g (lw_at lw_m5 169 rfl) rfl
theorem q1250 : (Jvm.Cond.code ({ cls := "EditsMeet$Reader", name := "is", desc := "(II)Z" } : Jvm.MethodName) prog_15_method_2_code (3 : Nat) (Option.some Jvm.ClassFile.FieldType.boolean)) ∈ lw_all := lw_g (lw_at lw_m5 170 rfl) rfl
theorem q1251 : (Jvm.Cond.methodLink "EditsMeet$Reader" (35 : Nat) ({ cls := "EditsMeet$Reader", name := "wrong", desc := "(I)LEditsMeet$Fault;" } : Jvm.MethodName)) ∈ lw_all := lw_g (lw_at lw_m5 171 rfl) rfl
theorem q1252 : (Jvm.Cond.privateMethod ({ cls := "EditsMeet$Reader", name := "wrong", desc := "(I)LEditsMeet$Fault;" } : Jvm.MethodName)) ∈ lw_tbl := lw_at lw_m5 172 rfl
theorem q1253 : (Jvm.Cond.instanceMethod ({ cls := "EditsMeet$Reader", name := "wrong", desc := "(I)LEditsMeet$Fault;" } : Jvm.MethodName)) ∈ lw_all := lw_g (lw_at lw_m5 173 rfl) rfl
theorem q1254 : (Jvm.Cond.code ({ cls := "EditsMeet$Reader", name := "wrong", desc := "(I)LEditsMeet$Fault;" } : Jvm.MethodName) prog_15_method_3_code (2 : Nat) (Option.some (Jvm.ClassFile.FieldType.object "EditsMeet$Fault"))) ∈ lw_all := lw_g (lw_at lw_m5 174 rfl) rfl
theorem q1255 : (Jvm.Cond.classLink "EditsMeet$Reader" (26 : Nat) "EditsMeet$Fault") ∈ lw_all := lw_g (lw_at lw_m5 175 rfl) rfl
theorem q1264 : (Jvm.Cond.methodLink "EditsMeet$Reader" (28 : Nat) ({ cls := "EditsMeet$Fault", name := "<init>", desc := "(I)V" } : Jvm.MethodName)) ∈ lw_all := lw_g (lw_at lw_m5 184 rfl) rfl
theorem q1274 : (Jvm.Cond.methodLink "EditsMeet$Reader" (86 : Nat) ({ cls := "EditsMeet$Part", name := "keep", desc := "(I)LEditsMeet$Part;" } : Jvm.MethodName)) ∈ lw_all := lw_g (lw_at lw_m5 194 rfl) rfl
theorem q1275 : (Jvm.Cond.methodLink "EditsMeet$Reader" (92 : Nat) ({ cls := "EditsMeet$Part", name := "delete", desc := "(I)LEditsMeet$Part;" } : Jvm.MethodName)) ∈ lw_all := lw_g (lw_at lw_m5 195 rfl) rfl
theorem q1285 : (Jvm.Cond.methodLink "EditsMeet$Reader" (95 : Nat) ({ cls := "EditsMeet$Reader", name := "letters", desc := "()Ljava/lang/String;" } : Jvm.MethodName)) ∈ lw_all := lw_g (lw_at lw_m5 205 rfl) rfl
theorem q1286 : (Jvm.Cond.privateMethod ({ cls := "EditsMeet$Reader", name := "letters", desc := "()Ljava/lang/String;" } : Jvm.MethodName)) ∈ lw_tbl := lw_at lw_m5 206 rfl
theorem q1287 : (Jvm.Cond.instanceMethod ({ cls := "EditsMeet$Reader", name := "letters", desc := "()Ljava/lang/String;" } : Jvm.MethodName)) ∈ lw_all := lw_g (lw_at lw_m5 207 rfl) rfl
theorem q1288 : (Jvm.Cond.code ({ cls := "EditsMeet$Reader", name := "letters", desc := "()Ljava/lang/String;" } : Jvm.MethodName) prog_15_method_6_code (2 : Nat) (Option.some (Jvm.ClassFile.FieldType.object "java/lang/String"))) ∈ lw_all := lw_g (lw_at lw_m5 208 rfl) rfl
theorem q1289 : (Jvm.Cond.methodLink "EditsMeet$Reader" (46 : Nat) ({ cls := "java/lang/StringBuilder", name := "length", desc := "()I" } : Jvm.MethodName)) ∈ lw_all := lw_g (lw_at lw_m5 209 rfl) rfl
theorem q1290 : (Jvm.Cond.methodLink "EditsMeet$Reader" (98 : Nat) ({ cls := "EditsMeet$Reader", name := "none", desc := "(I)Ljava/lang/String;" } : Jvm.MethodName)) ∈ lw_all := lw_g (lw_at lw_m5 210 rfl) rfl
theorem q1291 : (Jvm.Cond.privateMethod ({ cls := "EditsMeet$Reader", name := "none", desc := "(I)Ljava/lang/String;" } : Jvm.MethodName)) ∈ lw_tbl := lw_at lw_m5 211 rfl
theorem q1292 : (Jvm.Cond.instanceMethod ({ cls := "EditsMeet$Reader", name := "none", desc := "(I)Ljava/lang/String;" } : Jvm.MethodName)) ∈ lw_all := lw_g (lw_at lw_m5 212 rfl) rfl
theorem q1293 : (Jvm.Cond.code ({ cls := "EditsMeet$Reader", name := "none", desc := "(I)Ljava/lang/String;" } : Jvm.MethodName) prog_15_method_7_code (4 : Nat) (Option.some (Jvm.ClassFile.FieldType.object "java/lang/String"))) ∈ lw_all := lw_g (lw_at lw_m5 213 rfl) rfl
theorem q1294 : (Jvm.Cond.methodLink "EditsMeet$Reader" (102 : Nat) ({ cls := "EditsMeet$Part", name := "insert", desc := "(Ljava/lang/CharSequence;Ljava/lang/CharSequence;)LEditsMeet$Part;" } : Jvm.MethodName)) ∈ lw_all := lw_g (lw_at lw_m5 214 rfl) rfl
theorem q1328 : (Jvm.Cond.methodLink "EditsMeet$Reader" (106 : Nat) ({ cls := "EditsMeet$Reader", name := "bitsBehind", desc := "()I" } : Jvm.MethodName)) ∈ lw_all := lw_g (lw_at lw_m6 8 rfl) rfl
theorem q1329 : (Jvm.Cond.privateMethod ({ cls := "EditsMeet$Reader", name := "bitsBehind", desc := "()I" } : Jvm.MethodName)) ∈ lw_tbl := lw_at lw_m6 9 rfl
theorem q1330 : (Jvm.Cond.instanceMethod ({ cls := "EditsMeet$Reader", name := "bitsBehind", desc := "()I" } : Jvm.MethodName)) ∈ lw_all := lw_g (lw_at lw_m6 10 rfl) rfl
theorem q1331 : (Jvm.Cond.code ({ cls := "EditsMeet$Reader", name := "bitsBehind", desc := "()I" } : Jvm.MethodName) prog_15_method_8_code (1 : Nat) (Option.some Jvm.ClassFile.FieldType.int)) ∈ lw_all := lw_g (lw_at lw_m6 11 rfl) rfl
theorem q1332 : (Jvm.Cond.methodLink "EditsMeet$Reader" (54 : Nat) ({ cls := "EditsMeet$Reader", name := "need", desc := "(I)V" } : Jvm.MethodName)) ∈ lw_all := lw_g (lw_at lw_m6 12 rfl) rfl
theorem q1333 : (Jvm.Cond.privateMethod ({ cls := "EditsMeet$Reader", name := "need", desc := "(I)V" } : Jvm.MethodName)) ∈ lw_tbl := lw_at lw_m6 13 rfl
theorem q1334 : (Jvm.Cond.instanceMethod ({ cls := "EditsMeet$Reader", name := "need", desc := "(I)V" } : Jvm.MethodName)) ∈ lw_all := lw_g (lw_at lw_m6 14 rfl) rfl
theorem q1335 : (Jvm.Cond.code ({ cls := "EditsMeet$Reader", name := "need", desc := "(I)V" } : Jvm.MethodName) prog_15_method_5_code (2 : Nat) (Option.none : Option Jvm.ClassFile.FieldType)) ∈ lw_all := lw_g (lw_at lw_m6 15 rfl) rfl
theorem q1336 : (Jvm.Cond.methodLink "EditsMeet$Reader" (109 : Nat) ({ cls := "EditsMeet$Part", name := "mark", desc := "(III)LEditsMeet$Part;" } : Jvm.MethodName)) ∈ lw_all := lw_g (lw_at lw_m6 16 rfl) rfl
theorem q1353 : (Jvm.Cond.methodLink "EditsMeet$Reader" (120 : Nat) ({ cls := "EditsMeet$Edit", name := "adds", desc := "(LEditsMeet$Part;)LEditsMeet$Edit;" } : Jvm.MethodName)) ∈ lw_all := lw_g (lw_at lw_m6 33 rfl) rfl
theorem q1452 : (Jvm.Cond.selects "EditsMeet$Reader" ({ cls := "java/lang/Object", name := "getClass", desc := "()Ljava/lang/Class;" } : Jvm.MethodName) ({ cls := "java/lang/Object", name := "getClass", desc := "()Ljava/lang/Class;" } : Jvm.MethodName)) ∈ lw_all := lw_g (lw_at lw_m6 132 rfl) rfl
theorem q1545 : (Jvm.Cond.methodLink "EditsMeet$Reader" (124 : Nat) ({ cls := "EditsMeet$Edit", name := "ends", desc := "()LEditsMeet$Edit;" } : Jvm.MethodName)) ∈ lw_all := lw_g (lw_at lw_m6 225 rfl) rfl
theorem q3645 : (Jvm.Cond.castable "EditsMeet$Reader" "java/lang/Object") ∈ lw_tbl := lw_at lw_m15 165 rfl
theorem in_X14 : ∀ w ∈ wsX140, w ∈ lw_all := lw_in wsX140 [996, 998] (by decide +kernel) (by decide +kernel)

/-! EditsMeet$Fault -/
set_option maxRecDepth 100000
def RX15 : String := "EditsMeet$Fault"
def TX15 : u_T := fun k => match k with
  | 0 => ("java/lang/Throwable", "cause", "Ljava/lang/Throwable;", false)
  | 1 => ("java/lang/Throwable", "stackTrace", "[Ljava/lang/StackTraceElement;", false)
  | 2 => ("java/lang/Throwable", "suppressedExceptions", "Ljava/util/List;", false)
  | 3 => ("java/lang/Throwable", "detailMessage", "Ljava/lang/String;", false)
  | 4 => ("java/lang/Throwable", "backtrace", "Ljava/lang/Object;", false)
  | 5 => ("java/lang/Throwable", "depth", "I", false)
  | _ => ("EditsMeet$Fault", "place", "I", true)
def tyX15 : Nat → FieldType := fun k => match k with
  | 0 => .object "java/lang/Throwable"
  | 1 => .array (.object "java/lang/StackTraceElement")
  | 2 => .object "java/util/List"
  | 3 => .object "java/lang/String"
  | 4 => .object "java/lang/Object"
  | 5 => .int
  | _ => .int
abbrev wsX150 : List Cond := u_ws RX15 TX15 7
theorem nmX15 : ∀ a, a < 7 → ∀ b, b < 7 → a ≠ b → (TX15 a).2.1 ≠ (TX15 b).2.1 := by decide +kernel
theorem tyX15_ok : ∀ k, k < 7 → parseFieldDescriptor (TX15 k).2.2.1 = some (tyX15 k) := by decide +kernel
abbrev cX15_init : ByteArray := prog_7_method_1_code
def yX15_init : MethodName := ⟨RX15, "<init>", "(I)V"⟩
def dkwX15_init_0 : List UInt8 := [42, 1, 1, 3, 3, 183, 0, 1, 42, 27, 181, 0, 7, 177]
abbrev dktX15_init_0 : List UInt8 := dkwX15_init_0 ++ []
theorem dksX15_init_0 : cX15_init.data.toList.drop 0 = dktX15_init_0 := by decide +kernel
theorem dX15_init_0 : decode cX15_init 0 = .ok (.aload_n 0, 1) := dk_42 (dk_at dksX15_init_0 0 rfl rfl)
theorem dX15_init_1 : decode cX15_init 1 = .ok (.aconst_null, 1) := dk_1 (dk_at dksX15_init_0 1 rfl rfl)
theorem dX15_init_2 : decode cX15_init 2 = .ok (.aconst_null, 1) := dk_1 (dk_at dksX15_init_0 2 rfl rfl)
theorem dX15_init_3 : decode cX15_init 3 = .ok (.iconst 0, 1) := dk_3 (dk_at dksX15_init_0 3 rfl rfl)
theorem dX15_init_4 : decode cX15_init 4 = .ok (.iconst 0, 1) := dk_3 (dk_at dksX15_init_0 4 rfl rfl)
theorem dX15_init_5 : decode cX15_init 5 = .ok (.invokespecial 1, 3) := dk_183 0 1 (dk_at dksX15_init_0 5 rfl rfl)
theorem dX15_init_8 : decode cX15_init 8 = .ok (.aload_n 0, 1) := dk_42 (dk_at dksX15_init_0 8 rfl rfl)
theorem dX15_init_9 : decode cX15_init 9 = .ok (.iload_n 1, 1) := dk_27 (dk_at dksX15_init_0 9 rfl rfl)
theorem dX15_init_10 : decode cX15_init 10 = .ok (.putfield 7, 3) := dk_181 0 7 (dk_at dksX15_init_0 10 rfl rfl)
theorem dX15_init_13 : decode cX15_init 13 = .ok (.return_, 1) := dk_177 (dk_at dksX15_init_0 13 rfl rfl)
theorem q163 : (Jvm.Cond.initialized "EditsMeet$Fault") ∈ lw_all := lw_g (lw_at lw_m1 43 rfl) rfl
theorem q249 : (Jvm.Cond.selects "EditsMeet$Fault" ({ cls := "java/lang/Throwable", name := "fillInStackTrace", desc := "()Ljava/lang/Throwable;" } : Jvm.MethodName) ({ cls := "java/lang/Throwable", name := "fillInStackTrace", desc := "()Ljava/lang/Throwable;" } : Jvm.MethodName)) ∈ lw_all := lw_g (lw_at lw_m1 129 rfl) rfl
theorem q1256 : (Jvm.Cond.instantiable "EditsMeet$Fault" (7 : Nat)) ∈ lw_all := lw_g (lw_at lw_m5 176 rfl) rfl
theorem q1257 : (Jvm.Cond.castable "EditsMeet$Fault" "EditsMeet$Fault") ∈ lw_tbl := lw_at lw_m5 177 rfl
theorem q1258 : (Jvm.Cond.selects "EditsMeet$Fault" ({ cls := "java/lang/Throwable", name := "fillInStackTrace", desc := "(I)Ljava/lang/Throwable;" } : Jvm.MethodName) ({ cls := "java/lang/Throwable", name := "fillInStackTrace", desc := "(I)Ljava/lang/Throwable;" } : Jvm.MethodName)) ∈ lw_all := lw_g (lw_at lw_m5 178 rfl) rfl
theorem q1259 : (Jvm.Cond.lays "EditsMeet$Fault" "java/lang/Throwable" "cause" "Ljava/lang/Throwable;") ∈ lw_all := lw_g (lw_at lw_m5 179 rfl) rfl
theorem q1260 : (Jvm.Cond.lays "EditsMeet$Fault" "java/lang/Throwable" "stackTrace" "[Ljava/lang/StackTraceElement;") ∈ lw_all := lw_g (lw_at lw_m5 180 rfl) rfl
theorem q1261 : (Jvm.Cond.lays "EditsMeet$Fault" "java/lang/Throwable" "suppressedExceptions" "Ljava/util/List;") ∈ lw_all := lw_g (lw_at lw_m5 181 rfl) rfl
theorem q1262 : (Jvm.Cond.lays "EditsMeet$Fault" "java/lang/Throwable" "detailMessage" "Ljava/lang/String;") ∈ lw_all := lw_g (lw_at lw_m5 182 rfl) rfl
theorem q1263 : (Jvm.Cond.lays "EditsMeet$Fault" "java/lang/Throwable" "backtrace" "Ljava/lang/Object;") ∈ lw_all := lw_g (lw_at lw_m5 183 rfl) rfl
theorem q1265 : (Jvm.Cond.instanceMethod ({ cls := "EditsMeet$Fault", name := "<init>", desc := "(I)V" } : Jvm.MethodName)) ∈ lw_all := lw_g (lw_at lw_m5 185 rfl) rfl
theorem q1266 : (Jvm.Cond.code ({ cls := "EditsMeet$Fault", name := "<init>", desc := "(I)V" } : Jvm.MethodName) prog_7_method_1_code (2 : Nat) (Option.none : Option Jvm.ClassFile.FieldType)) ∈ lw_all := lw_g (lw_at lw_m5 186 rfl) rfl
theorem q1267 : (Jvm.Cond.methodLink "EditsMeet$Fault" (1 : Nat) ({ cls := "java/lang/Exception", name := "<init>", desc := "(Ljava/lang/String;Ljava/lang/Throwable;ZZ)V" } : Jvm.MethodName)) ∈ lw_all := lw_g (lw_at lw_m5 187 rfl) rfl
theorem q1268 : (Jvm.Cond.fieldLink "EditsMeet$Fault" (7 : Nat) "EditsMeet$Fault" "place" "I") ∈ lw_all := lw_g (lw_at lw_m5 188 rfl) rfl
theorem q1270 : (Jvm.Cond.laysFinal "EditsMeet$Fault" "EditsMeet$Fault" "place" "I") ∈ lw_all := lw_g (lw_at lw_m5 190 rfl) rfl
theorem q1271 : (Jvm.Cond.soleField "EditsMeet$Fault" "place") ∈ lw_all := lw_g (lw_at lw_m5 191 rfl) rfl
theorem q1272 : (Jvm.Cond.lays "EditsMeet$Fault" "java/lang/Throwable" "depth" "I") ∈ lw_all := lw_g (lw_at lw_m5 192 rfl) rfl
theorem q1273 : (Jvm.Cond.superclass "EditsMeet$Fault" "java/lang/Exception") ∈ lw_all := lw_g (lw_at lw_m5 193 rfl) rfl
theorem q1446 : (Jvm.Cond.selects "EditsMeet$Fault" ({ cls := "java/lang/Object", name := "getClass", desc := "()Ljava/lang/Class;" } : Jvm.MethodName) ({ cls := "java/lang/Object", name := "getClass", desc := "()Ljava/lang/Class;" } : Jvm.MethodName)) ∈ lw_all := lw_g (lw_at lw_m6 126 rfl) rfl
theorem q1893 : (Jvm.Cond.selects "EditsMeet$Fault" ({ cls := "java/lang/Throwable", name := "toString", desc := "()Ljava/lang/String;" } : Jvm.MethodName) ({ cls := "java/lang/Throwable", name := "toString", desc := "()Ljava/lang/String;" } : Jvm.MethodName)) ∈ lw_all := lw_g (lw_at lw_m8 93 rfl) rfl
theorem q1908 : (Jvm.Cond.selects "EditsMeet$Fault" ({ cls := "java/lang/Throwable", name := "getLocalizedMessage", desc := "()Ljava/lang/String;" } : Jvm.MethodName) ({ cls := "java/lang/Throwable", name := "getLocalizedMessage", desc := "()Ljava/lang/String;" } : Jvm.MethodName)) ∈ lw_all := lw_g (lw_at lw_m8 108 rfl) rfl
theorem q1922 : (Jvm.Cond.selects "EditsMeet$Fault" ({ cls := "java/lang/Throwable", name := "getMessage", desc := "()Ljava/lang/String;" } : Jvm.MethodName) ({ cls := "java/lang/Throwable", name := "getMessage", desc := "()Ljava/lang/String;" } : Jvm.MethodName)) ∈ lw_all := lw_g (lw_at lw_m8 122 rfl) rfl
theorem q3648 : (Jvm.Cond.castable "EditsMeet$Fault" "java/lang/Object") ∈ lw_tbl := lw_at lw_m15 168 rfl
theorem in_X15 : ∀ w ∈ wsX150, w ∈ lw_all := lw_in wsX150 [1259, 1260, 1261, 1262, 1263, 1272, 1270] (by decide +kernel) (by decide +kernel)

/-! EditsMeet$Delete -/
set_option maxRecDepth 100000
def RX16 : String := "EditsMeet$Delete"
def TX16 : u_T := fun k => match k with
  | _ => ("EditsMeet$Over", "n", "I", true)
def tyX16 : Nat → FieldType := fun k => match k with
  | _ => .int
abbrev wsX160 : List Cond := u_ws RX16 TX16 1
theorem nmX16 : ∀ a, a < 1 → ∀ b, b < 1 → a ≠ b → (TX16 a).2.1 ≠ (TX16 b).2.1 := by decide +kernel
theorem tyX16_ok : ∀ k, k < 1 → parseFieldDescriptor (TX16 k).2.2.1 = some (tyX16 k) := by decide +kernel
abbrev cX16_kind : ByteArray := prog_5_method_2_code
def yX16_kind : MethodName := ⟨RX16, "kind", "()I"⟩
def dkwX16_kind_0 : List UInt8 := [42, 183, 0, 7, 5, 96, 172]
abbrev dktX16_kind_0 : List UInt8 := dkwX16_kind_0 ++ []
theorem dksX16_kind_0 : cX16_kind.data.toList.drop 0 = dktX16_kind_0 := by decide +kernel
theorem dX16_kind_0 : decode cX16_kind 0 = .ok (.aload_n 0, 1) := dk_42 (dk_at dksX16_kind_0 0 rfl rfl)
theorem dX16_kind_1 : decode cX16_kind 1 = .ok (.invokespecial 7, 3) := dk_183 0 7 (dk_at dksX16_kind_0 1 rfl rfl)
theorem dX16_kind_4 : decode cX16_kind 4 = .ok (.iconst 2, 1) := dk_5 (dk_at dksX16_kind_0 4 rfl rfl)
theorem dX16_kind_5 : decode cX16_kind 5 = .ok (.iadd, 1) := dk_96 (dk_at dksX16_kind_0 5 rfl rfl)
theorem dX16_kind_6 : decode cX16_kind 6 = .ok (.ireturn, 1) := dk_172 (dk_at dksX16_kind_0 6 rfl rfl)
abbrev cX16_init : ByteArray := prog_5_method_1_code
def yX16_init : MethodName := ⟨RX16, "<init>", "(I)V"⟩
def dkwX16_init_0 : List UInt8 := [42, 27, 183, 0, 1, 177]
abbrev dktX16_init_0 : List UInt8 := dkwX16_init_0 ++ []
theorem dksX16_init_0 : cX16_init.data.toList.drop 0 = dktX16_init_0 := by decide +kernel
theorem dX16_init_0 : decode cX16_init 0 = .ok (.aload_n 0, 1) := dk_42 (dk_at dksX16_init_0 0 rfl rfl)
theorem dX16_init_1 : decode cX16_init 1 = .ok (.iload_n 1, 1) := dk_27 (dk_at dksX16_init_0 1 rfl rfl)
theorem dX16_init_2 : decode cX16_init 2 = .ok (.invokespecial 1, 3) := dk_183 0 1 (dk_at dksX16_init_0 2 rfl rfl)
theorem dX16_init_5 : decode cX16_init 5 = .ok (.return_, 1) := dk_177 (dk_at dksX16_init_0 5 rfl rfl)
abbrev cX16_again : ByteArray := prog_5_method_4_code
def yX16_again : MethodName := ⟨RX16, "again", "(I)LEditsMeet$Part;"⟩
theorem dX16_again_0 : decode cX16_again 0 = .ok (.iload_n 1, 1) := by decide +kernel
theorem dX16_again_1 : decode cX16_again 1 = .ok (.invokestatic 11, 3) := by decide +kernel
theorem dX16_again_4 : decode cX16_again 4 = .ok (.areturn, 1) := by decide +kernel
abbrev cX16_gives : ByteArray := prog_5_method_3_code
def yX16_gives : MethodName := ⟨RX16, "gives", "()I"⟩
theorem dX16_gives_0 : decode cX16_gives 0 = .ok (.iconst 0, 1) := by decide +kernel
theorem dX16_gives_1 : decode cX16_gives 1 = .ok (.ireturn, 1) := by decide +kernel
abbrev cX16_spells : ByteArray := prog_5_method_5_code
def yX16_spells : MethodName := ⟨RX16, "spells", "(Ljava/lang/StringBuilder;)V"⟩
def dkwX16_spells_0 : List UInt8 := [43, 16, 45, 182, 0, 17, 42, 182, 0, 23, 182, 0, 28, 87, 177]
abbrev dktX16_spells_0 : List UInt8 := dkwX16_spells_0 ++ []
theorem dksX16_spells_0 : cX16_spells.data.toList.drop 0 = dktX16_spells_0 := by decide +kernel
theorem dX16_spells_0 : decode cX16_spells 0 = .ok (.aload_n 1, 1) := dk_43 (dk_at dksX16_spells_0 0 rfl rfl)
theorem dX16_spells_1 : decode cX16_spells 1 = .ok (.bipush 45, 2) := dk_16 45 (dk_at dksX16_spells_0 1 rfl rfl)
theorem dX16_spells_3 : decode cX16_spells 3 = .ok (.invokevirtual 17, 3) := dk_182 0 17 (dk_at dksX16_spells_0 3 rfl rfl)
theorem dX16_spells_6 : decode cX16_spells 6 = .ok (.aload_n 0, 1) := dk_42 (dk_at dksX16_spells_0 6 rfl rfl)
theorem dX16_spells_7 : decode cX16_spells 7 = .ok (.invokevirtual 23, 3) := dk_182 0 23 (dk_at dksX16_spells_0 7 rfl rfl)
theorem dX16_spells_10 : decode cX16_spells 10 = .ok (.invokevirtual 28, 3) := dk_182 0 28 (dk_at dksX16_spells_0 10 rfl rfl)
theorem dX16_spells_13 : decode cX16_spells 13 = .ok (.pop, 1) := dk_87 (dk_at dksX16_spells_0 13 rfl rfl)
theorem dX16_spells_14 : decode cX16_spells 14 = .ok (.return_, 1) := dk_177 (dk_at dksX16_spells_0 14 rfl rfl)
theorem q164 : (Jvm.Cond.initialized "EditsMeet$Delete") ∈ lw_all := lw_g (lw_at lw_m1 44 rfl) rfl
theorem q759 : (Jvm.Cond.castable "EditsMeet$Delete" "EditsMeet$Part") ∈ lw_tbl := lw_at lw_m3 159 rfl
theorem q760 : (Jvm.Cond.selects "EditsMeet$Delete" ({ cls := "EditsMeet$Part", name := "kind", desc := "()I" } : Jvm.MethodName) ({ cls := "EditsMeet$Delete", name := "kind", desc := "()I" } : Jvm.MethodName)) ∈ lw_all := lw_g (lw_at lw_m3 160 rfl) rfl
theorem q761 : (Jvm.Cond.unhidden "EditsMeet$Delete" "kind" "()I") ∈ lw_tbl := lw_at lw_m3 161 rfl
theorem q762 : (Jvm.Cond.instanceMethod ({ cls := "EditsMeet$Delete", name := "kind", desc := "()I" } : Jvm.MethodName)) ∈ lw_all := lw_g (lw_at lw_m3 162 rfl) rfl
theorem q763 : (Jvm.Cond.publicMethod ({ cls := "EditsMeet$Delete", name := "kind", desc := "()I" } : Jvm.MethodName)) ∈ lw_tbl := lw_at lw_m3 163 rfl
theorem q764 : (Jvm.Cond.code ({ cls := "EditsMeet$Delete", name := "kind", desc := "()I" } : Jvm.MethodName) prog_5_method_2_code (1 : Nat) (Option.some Jvm.ClassFile.FieldType.int)) ∈ lw_all := lw_g (lw_at lw_m3 164 rfl) rfl
theorem q765 : (Jvm.Cond.methodLink "EditsMeet$Delete" (7 : Nat) ({ cls := "EditsMeet$Over", name := "kind", desc := "()I" } : Jvm.MethodName)) ∈ lw_all := lw_g (lw_at lw_m3 165 rfl) rfl
theorem q766 : (Jvm.Cond.superclass "EditsMeet$Delete" "EditsMeet$Over") ∈ lw_all := lw_g (lw_at lw_m3 166 rfl) rfl
theorem q863 : (Jvm.Cond.selects "EditsMeet$Delete" ({ cls := "EditsMeet$Part", name := "n", desc := "()I" } : Jvm.MethodName) ({ cls := "EditsMeet$Over", name := "n", desc := "()I" } : Jvm.MethodName)) ∈ lw_all := lw_g (lw_at lw_m4 23 rfl) rfl
theorem q864 : (Jvm.Cond.unhidden "EditsMeet$Delete" "n" "()I") ∈ lw_tbl := lw_at lw_m4 24 rfl
theorem q931 : (Jvm.Cond.selects "EditsMeet$Delete" ({ cls := "EditsMeet$Over", name := "takes", desc := "()I" } : Jvm.MethodName) ({ cls := "EditsMeet$Over", name := "takes", desc := "()I" } : Jvm.MethodName)) ∈ lw_all := lw_g (lw_at lw_m4 91 rfl) rfl
theorem q969 : (Jvm.Cond.sameMethod "EditsMeet$Delete" "EditsMeet$Over" "n" "()I") ∈ lw_all := lw_g (lw_at lw_m4 129 rfl) rfl
theorem q971 : (Jvm.Cond.selects "EditsMeet$Delete" ({ cls := "EditsMeet$Delete", name := "n", desc := "()I" } : Jvm.MethodName) ({ cls := "EditsMeet$Over", name := "n", desc := "()I" } : Jvm.MethodName)) ∈ lw_all := lw_g (lw_at lw_m4 131 rfl) rfl
theorem q1279 : (Jvm.Cond.instantiable "EditsMeet$Delete" (1 : Nat)) ∈ lw_all := lw_g (lw_at lw_m5 199 rfl) rfl
theorem q1281 : (Jvm.Cond.instanceMethod ({ cls := "EditsMeet$Delete", name := "<init>", desc := "(I)V" } : Jvm.MethodName)) ∈ lw_all := lw_g (lw_at lw_m5 201 rfl) rfl
theorem q1282 : (Jvm.Cond.code ({ cls := "EditsMeet$Delete", name := "<init>", desc := "(I)V" } : Jvm.MethodName) prog_5_method_1_code (2 : Nat) (Option.none : Option Jvm.ClassFile.FieldType)) ∈ lw_all := lw_g (lw_at lw_m5 202 rfl) rfl
theorem q1283 : (Jvm.Cond.methodLink "EditsMeet$Delete" (1 : Nat) ({ cls := "EditsMeet$Over", name := "<init>", desc := "(I)V" } : Jvm.MethodName)) ∈ lw_all := lw_g (lw_at lw_m5 203 rfl) rfl
theorem q1284 : (Jvm.Cond.laysFinal "EditsMeet$Delete" "EditsMeet$Over" "n" "I") ∈ lw_all := lw_g (lw_at lw_m5 204 rfl) rfl
theorem q1371 : (Jvm.Cond.selects "EditsMeet$Delete" ({ cls := "EditsMeet$Over", name := "isLike", desc := "(LEditsMeet$Part;)Z" } : Jvm.MethodName) ({ cls := "EditsMeet$Over", name := "isLike", desc := "(LEditsMeet$Part;)Z" } : Jvm.MethodName)) ∈ lw_all := lw_g (lw_at lw_m6 51 rfl) rfl
theorem q1381 : (Jvm.Cond.unhidden "EditsMeet$Delete" "on" "()I") ∈ lw_tbl := lw_at lw_m6 61 rfl
theorem q1389 : (Jvm.Cond.unhidden "EditsMeet$Delete" "off" "()I") ∈ lw_tbl := lw_at lw_m6 69 rfl
theorem q1400 : (Jvm.Cond.selects "EditsMeet$Delete" ({ cls := "EditsMeet$Over", name := "so", desc := "(I)LEditsMeet$Part;" } : Jvm.MethodName) ({ cls := "EditsMeet$Over", name := "so", desc := "(I)LEditsMeet$Part;" } : Jvm.MethodName)) ∈ lw_all := lw_g (lw_at lw_m6 80 rfl) rfl
theorem q1407 : (Jvm.Cond.selects "EditsMeet$Delete" ({ cls := "EditsMeet$Over", name := "again", desc := "(I)LEditsMeet$Part;" } : Jvm.MethodName) ({ cls := "EditsMeet$Delete", name := "again", desc := "(I)LEditsMeet$Part;" } : Jvm.MethodName)) ∈ lw_all := lw_g (lw_at lw_m6 87 rfl) rfl
theorem q1408 : (Jvm.Cond.instanceMethod ({ cls := "EditsMeet$Delete", name := "again", desc := "(I)LEditsMeet$Part;" } : Jvm.MethodName)) ∈ lw_all := lw_g (lw_at lw_m6 88 rfl) rfl
theorem q1409 : (Jvm.Cond.code ({ cls := "EditsMeet$Delete", name := "again", desc := "(I)LEditsMeet$Part;" } : Jvm.MethodName) prog_5_method_4_code (2 : Nat) (Option.some (Jvm.ClassFile.FieldType.object "EditsMeet$Part"))) ∈ lw_all := lw_g (lw_at lw_m6 89 rfl) rfl
theorem q1410 : (Jvm.Cond.methodLink "EditsMeet$Delete" (11 : Nat) ({ cls := "EditsMeet$Part", name := "delete", desc := "(I)LEditsMeet$Part;" } : Jvm.MethodName)) ∈ lw_all := lw_g (lw_at lw_m6 90 rfl) rfl
theorem q1444 : (Jvm.Cond.selects "EditsMeet$Delete" ({ cls := "java/lang/Object", name := "getClass", desc := "()Ljava/lang/Class;" } : Jvm.MethodName) ({ cls := "java/lang/Object", name := "getClass", desc := "()Ljava/lang/Class;" } : Jvm.MethodName)) ∈ lw_all := lw_g (lw_at lw_m6 124 rfl) rfl
theorem q1491 : (Jvm.Cond.unhidden "EditsMeet$Delete" "deletes" "()Z") ∈ lw_tbl := lw_at lw_m6 171 rfl
theorem q1501 : (Jvm.Cond.selects "EditsMeet$Delete" ({ cls := "EditsMeet$Part", name := "gives", desc := "()I" } : Jvm.MethodName) ({ cls := "EditsMeet$Delete", name := "gives", desc := "()I" } : Jvm.MethodName)) ∈ lw_all := lw_g (lw_at lw_m6 181 rfl) rfl
theorem q1502 : (Jvm.Cond.unhidden "EditsMeet$Delete" "gives" "()I") ∈ lw_tbl := lw_at lw_m6 182 rfl
theorem q1503 : (Jvm.Cond.instanceMethod ({ cls := "EditsMeet$Delete", name := "gives", desc := "()I" } : Jvm.MethodName)) ∈ lw_all := lw_g (lw_at lw_m6 183 rfl) rfl
theorem q1504 : (Jvm.Cond.publicMethod ({ cls := "EditsMeet$Delete", name := "gives", desc := "()I" } : Jvm.MethodName)) ∈ lw_tbl := lw_at lw_m6 184 rfl
theorem q1505 : (Jvm.Cond.code ({ cls := "EditsMeet$Delete", name := "gives", desc := "()I" } : Jvm.MethodName) prog_5_method_3_code (1 : Nat) (Option.some Jvm.ClassFile.FieldType.int)) ∈ lw_all := lw_g (lw_at lw_m6 185 rfl) rfl
theorem q1518 : (Jvm.Cond.selects "EditsMeet$Delete" ({ cls := "EditsMeet$Part", name := "joined", desc := "(LEditsMeet$Part;)LEditsMeet$Part;" } : Jvm.MethodName) ({ cls := "EditsMeet$Over", name := "joined", desc := "(LEditsMeet$Part;)LEditsMeet$Part;" } : Jvm.MethodName)) ∈ lw_all := lw_g (lw_at lw_m6 198 rfl) rfl
theorem q1519 : (Jvm.Cond.unhidden "EditsMeet$Delete" "joined" "(LEditsMeet$Part;)LEditsMeet$Part;") ∈ lw_tbl := lw_at lw_m6 199 rfl
theorem q1571 : (Jvm.Cond.selects "EditsMeet$Delete" ({ cls := "EditsMeet$Part", name := "takes", desc := "()I" } : Jvm.MethodName) ({ cls := "EditsMeet$Over", name := "takes", desc := "()I" } : Jvm.MethodName)) ∈ lw_all := lw_g (lw_at lw_m7 11 rfl) rfl
theorem q1572 : (Jvm.Cond.unhidden "EditsMeet$Delete" "takes" "()I") ∈ lw_tbl := lw_at lw_m7 12 rfl
theorem q1604 : (Jvm.Cond.unhidden "EditsMeet$Delete" "inserts" "()Z") ∈ lw_tbl := lw_at lw_m7 44 rfl
theorem q1749 : (Jvm.Cond.selects "EditsMeet$Delete" ({ cls := "EditsMeet$Part", name := "piece", desc := "(II)LEditsMeet$Part;" } : Jvm.MethodName) ({ cls := "EditsMeet$Over", name := "piece", desc := "(II)LEditsMeet$Part;" } : Jvm.MethodName)) ∈ lw_all := lw_g (lw_at lw_m7 189 rfl) rfl
theorem q1750 : (Jvm.Cond.unhidden "EditsMeet$Delete" "piece" "(II)LEditsMeet$Part;") ∈ lw_tbl := lw_at lw_m7 190 rfl
theorem q1979 : (Jvm.Cond.selects "EditsMeet$Delete" ({ cls := "EditsMeet$Part", name := "spells", desc := "(Ljava/lang/StringBuilder;)V" } : Jvm.MethodName) ({ cls := "EditsMeet$Delete", name := "spells", desc := "(Ljava/lang/StringBuilder;)V" } : Jvm.MethodName)) ∈ lw_all := lw_g (lw_at lw_m8 179 rfl) rfl
theorem q1980 : (Jvm.Cond.unhidden "EditsMeet$Delete" "spells" "(Ljava/lang/StringBuilder;)V") ∈ lw_tbl := lw_at lw_m8 180 rfl
theorem q1981 : (Jvm.Cond.instanceMethod ({ cls := "EditsMeet$Delete", name := "spells", desc := "(Ljava/lang/StringBuilder;)V" } : Jvm.MethodName)) ∈ lw_all := lw_g (lw_at lw_m8 181 rfl) rfl
theorem q1982 : (Jvm.Cond.publicMethod ({ cls := "EditsMeet$Delete", name := "spells", desc := "(Ljava/lang/StringBuilder;)V" } : Jvm.MethodName)) ∈ lw_tbl := lw_at lw_m8 182 rfl
theorem q1983 : (Jvm.Cond.code ({ cls := "EditsMeet$Delete", name := "spells", desc := "(Ljava/lang/StringBuilder;)V" } : Jvm.MethodName) prog_5_method_5_code (2 : Nat) (Option.none : Option Jvm.ClassFile.FieldType)) ∈ lw_all := lw_g (lw_at lw_m8 183 rfl) rfl
theorem q1984 : (Jvm.Cond.methodLink "EditsMeet$Delete" (17 : Nat) ({ cls := "java/lang/StringBuilder", name := "append", desc := "(C)Ljava/lang/StringBuilder;" } : Jvm.MethodName)) ∈ lw_all := lw_g (lw_at lw_m8 184 rfl) rfl
theorem q1985 : (Jvm.Cond.methodLink "EditsMeet$Delete" (23 : Nat) ({ cls := "EditsMeet$Delete", name := "n", desc := "()I" } : Jvm.MethodName)) ∈ lw_all := lw_g (lw_at lw_m8 185 rfl) rfl
theorem q1986 : (Jvm.Cond.methodLink "EditsMeet$Delete" (28 : Nat) ({ cls := "java/lang/StringBuilder", name := "append", desc := "(I)Ljava/lang/StringBuilder;" } : Jvm.MethodName)) ∈ lw_all := lw_g (lw_at lw_m8 186 rfl) rfl
theorem q2106 : (Jvm.Cond.unhidden "EditsMeet$Delete" "marks" "(I)I") ∈ lw_tbl := lw_at lw_m9 66 rfl
theorem q3593 : (Jvm.Cond.selects "EditsMeet$Delete" ({ cls := "EditsMeet$Over", name := "kind", desc := "()I" } : Jvm.MethodName) ({ cls := "EditsMeet$Delete", name := "kind", desc := "()I" } : Jvm.MethodName)) ∈ lw_all := lw_g (lw_at lw_m15 113 rfl) rfl
theorem q3620 : (Jvm.Cond.castable "EditsMeet$Delete" "EditsMeet$Over") ∈ lw_tbl := lw_at lw_m15 140 rfl
theorem q3649 : (Jvm.Cond.castable "EditsMeet$Delete" "java/lang/Object") ∈ lw_tbl := lw_at lw_m15 169 rfl
theorem in_X16 : ∀ w ∈ wsX160, w ∈ lw_all := lw_in wsX160 [1284] (by decide +kernel) (by decide +kernel)

/-! EditsMeet$Insert -/
set_option maxRecDepth 100000
def RX17 : String := "EditsMeet$Insert"
def TX17 : u_T := fun k => match k with
  | 0 => ("EditsMeet$Insert", "letters", "Ljava/lang/String;", true)
  | _ => ("EditsMeet$Insert", "marks", "Ljava/lang/String;", true)
def tyX17 : Nat → FieldType := fun k => match k with
  | 0 => .object "java/lang/String"
  | _ => .object "java/lang/String"
abbrev wsX170 : List Cond := u_ws RX17 TX17 2
theorem nmX17 : ∀ a, a < 2 → ∀ b, b < 2 → a ≠ b → (TX17 a).2.1 ≠ (TX17 b).2.1 := by decide +kernel
theorem tyX17_ok : ∀ k, k < 2 → parseFieldDescriptor (TX17 k).2.2.1 = some (tyX17 k) := by decide +kernel
abbrev cX17_kind : ByteArray := prog_9_method_3_code
def yX17_kind : MethodName := ⟨RX17, "kind", "()I"⟩
theorem dX17_kind_0 : decode cX17_kind 0 = .ok (.iconst 1, 1) := by decide +kernel
theorem dX17_kind_1 : decode cX17_kind 1 = .ok (.ireturn, 1) := by decide +kernel
abbrev cX17_n : ByteArray := prog_9_method_2_code
def yX17_n : MethodName := ⟨RX17, "n", "()I"⟩
def dkwX17_n_0 : List UInt8 := [42, 180, 0, 7, 182, 0, 16, 172]
abbrev dktX17_n_0 : List UInt8 := dkwX17_n_0 ++ []
theorem dksX17_n_0 : cX17_n.data.toList.drop 0 = dktX17_n_0 := by decide +kernel
theorem dX17_n_0 : decode cX17_n 0 = .ok (.aload_n 0, 1) := dk_42 (dk_at dksX17_n_0 0 rfl rfl)
theorem dX17_n_1 : decode cX17_n 1 = .ok (.getfield 7, 3) := dk_180 0 7 (dk_at dksX17_n_0 1 rfl rfl)
theorem dX17_n_4 : decode cX17_n 4 = .ok (.invokevirtual 16, 3) := dk_182 0 16 (dk_at dksX17_n_0 4 rfl rfl)
theorem dX17_n_7 : decode cX17_n 7 = .ok (.ireturn, 1) := dk_172 (dk_at dksX17_n_0 7 rfl rfl)
abbrev cX17_letter : ByteArray := prog_9_method_7_code
def yX17_letter : MethodName := ⟨RX17, "letter", "(I)I"⟩
def dkwX17_letter_0 : List UInt8 := [42, 180, 0, 7, 27, 182, 0, 49, 16, 97, 100, 172]
abbrev dktX17_letter_0 : List UInt8 := dkwX17_letter_0 ++ []
theorem dksX17_letter_0 : cX17_letter.data.toList.drop 0 = dktX17_letter_0 := by decide +kernel
theorem dX17_letter_0 : decode cX17_letter 0 = .ok (.aload_n 0, 1) := dk_42 (dk_at dksX17_letter_0 0 rfl rfl)
theorem dX17_letter_1 : decode cX17_letter 1 = .ok (.getfield 7, 3) := dk_180 0 7 (dk_at dksX17_letter_0 1 rfl rfl)
theorem dX17_letter_4 : decode cX17_letter 4 = .ok (.iload_n 1, 1) := dk_27 (dk_at dksX17_letter_0 4 rfl rfl)
theorem dX17_letter_5 : decode cX17_letter 5 = .ok (.invokevirtual 49, 3) := dk_182 0 49 (dk_at dksX17_letter_0 5 rfl rfl)
theorem dX17_letter_8 : decode cX17_letter 8 = .ok (.bipush 97, 2) := dk_16 97 (dk_at dksX17_letter_0 8 rfl rfl)
theorem dX17_letter_10 : decode cX17_letter 10 = .ok (.isub, 1) := dk_100 (dk_at dksX17_letter_0 10 rfl rfl)
theorem dX17_letter_11 : decode cX17_letter 11 = .ok (.ireturn, 1) := dk_172 (dk_at dksX17_letter_0 11 rfl rfl)
abbrev cX17_init : ByteArray := prog_9_method_1_code
def yX17_init : MethodName := ⟨RX17, "<init>", "(Ljava/lang/String;Ljava/lang/String;)V"⟩
def dkwX17_init_0 : List UInt8 := [42, 183, 0, 1, 42, 43, 181, 0, 7, 42, 44, 181, 0, 13, 177]
abbrev dktX17_init_0 : List UInt8 := dkwX17_init_0 ++ []
theorem dksX17_init_0 : cX17_init.data.toList.drop 0 = dktX17_init_0 := by decide +kernel
theorem dX17_init_0 : decode cX17_init 0 = .ok (.aload_n 0, 1) := dk_42 (dk_at dksX17_init_0 0 rfl rfl)
theorem dX17_init_1 : decode cX17_init 1 = .ok (.invokespecial 1, 3) := dk_183 0 1 (dk_at dksX17_init_0 1 rfl rfl)
theorem dX17_init_4 : decode cX17_init 4 = .ok (.aload_n 0, 1) := dk_42 (dk_at dksX17_init_0 4 rfl rfl)
theorem dX17_init_5 : decode cX17_init 5 = .ok (.aload_n 1, 1) := dk_43 (dk_at dksX17_init_0 5 rfl rfl)
theorem dX17_init_6 : decode cX17_init 6 = .ok (.putfield 7, 3) := dk_181 0 7 (dk_at dksX17_init_0 6 rfl rfl)
theorem dX17_init_9 : decode cX17_init 9 = .ok (.aload_n 0, 1) := dk_42 (dk_at dksX17_init_0 9 rfl rfl)
theorem dX17_init_10 : decode cX17_init 10 = .ok (.aload_n 2, 1) := dk_44 (dk_at dksX17_init_0 10 rfl rfl)
theorem dX17_init_11 : decode cX17_init 11 = .ok (.putfield 13, 3) := dk_181 0 13 (dk_at dksX17_init_0 11 rfl rfl)
theorem dX17_init_14 : decode cX17_init 14 = .ok (.return_, 1) := dk_177 (dk_at dksX17_init_0 14 rfl rfl)
abbrev cX17_joined : ByteArray := prog_9_method_5_code
def yX17_joined : MethodName := ⟨RX17, "joined", "(LEditsMeet$Part;)LEditsMeet$Part;"⟩
def dkwX17_joined_2 : List UInt8 := [182, 0, 38, 44, 180, 0, 13, 182, 0, 38, 182, 0, 42, 184, 0, 29, 167, 0, 4, 1, 176]
abbrev dktX17_joined_2 : List UInt8 := dkwX17_joined_2 ++ []
def dkwX17_joined_1 : List UInt8 := [182, 0, 38, 44, 180, 0, 7, 182, 0, 38, 182, 0, 42, 187, 0, 35, 89, 183, 0, 37, 42, 180, 0, 13]
abbrev dktX17_joined_1 : List UInt8 := dkwX17_joined_1 ++ dktX17_joined_2
def dkwX17_joined_0 : List UInt8 := [43, 193, 0, 8, 153, 0, 62, 43, 192, 0, 8, 77, 187, 0, 35, 89, 183, 0, 37, 42, 180, 0, 7]
abbrev dktX17_joined_0 : List UInt8 := dkwX17_joined_0 ++ dktX17_joined_1
theorem dksX17_joined_0 : cX17_joined.data.toList.drop 0 = dktX17_joined_0 := by decide +kernel
theorem dksX17_joined_1 : cX17_joined.data.toList.drop 23 = dktX17_joined_1 := dk_seg dksX17_joined_0 23 rfl rfl
theorem dksX17_joined_2 : cX17_joined.data.toList.drop 47 = dktX17_joined_2 := dk_seg dksX17_joined_1 24 rfl rfl
theorem dX17_joined_0 : decode cX17_joined 0 = .ok (.aload_n 1, 1) := dk_43 (dk_at dksX17_joined_0 0 rfl rfl)
theorem dX17_joined_1 : decode cX17_joined 1 = .ok (.instanceof 8, 3) := dk_193 0 8 (dk_at dksX17_joined_0 1 rfl rfl)
theorem dX17_joined_4 : decode cX17_joined 4 = .ok (.ifCond .eq 62, 3) := dk_153 0 62 (dk_at dksX17_joined_0 4 rfl rfl)
theorem dX17_joined_7 : decode cX17_joined 7 = .ok (.aload_n 1, 1) := dk_43 (dk_at dksX17_joined_0 7 rfl rfl)
theorem dX17_joined_8 : decode cX17_joined 8 = .ok (.checkcast 8, 3) := dk_192 0 8 (dk_at dksX17_joined_0 8 rfl rfl)
theorem dX17_joined_11 : decode cX17_joined 11 = .ok (.astore_n 2, 1) := dk_77 (dk_at dksX17_joined_0 11 rfl rfl)
theorem dX17_joined_12 : decode cX17_joined 12 = .ok (.new 35, 3) := dk_187 0 35 (dk_at dksX17_joined_0 12 rfl rfl)
theorem dX17_joined_15 : decode cX17_joined 15 = .ok (.dup, 1) := dk_89 (dk_at dksX17_joined_0 15 rfl rfl)
theorem dX17_joined_16 : decode cX17_joined 16 = .ok (.invokespecial 37, 3) := dk_183 0 37 (dk_at dksX17_joined_0 16 rfl rfl)
theorem dX17_joined_19 : decode cX17_joined 19 = .ok (.aload_n 0, 1) := dk_42 (dk_at dksX17_joined_0 19 rfl rfl)
theorem dX17_joined_20 : decode cX17_joined 20 = .ok (.getfield 7, 3) := dk_180 0 7 (dk_at dksX17_joined_0 20 rfl rfl)
theorem dX17_joined_23 : decode cX17_joined 23 = .ok (.invokevirtual 38, 3) := dk_182 0 38 (dk_at dksX17_joined_1 0 rfl rfl)
theorem dX17_joined_26 : decode cX17_joined 26 = .ok (.aload_n 2, 1) := dk_44 (dk_at dksX17_joined_1 3 rfl rfl)
theorem dX17_joined_27 : decode cX17_joined 27 = .ok (.getfield 7, 3) := dk_180 0 7 (dk_at dksX17_joined_1 4 rfl rfl)
theorem dX17_joined_30 : decode cX17_joined 30 = .ok (.invokevirtual 38, 3) := dk_182 0 38 (dk_at dksX17_joined_1 7 rfl rfl)
theorem dX17_joined_33 : decode cX17_joined 33 = .ok (.invokevirtual 42, 3) := dk_182 0 42 (dk_at dksX17_joined_1 10 rfl rfl)
theorem dX17_joined_36 : decode cX17_joined 36 = .ok (.new 35, 3) := dk_187 0 35 (dk_at dksX17_joined_1 13 rfl rfl)
theorem dX17_joined_39 : decode cX17_joined 39 = .ok (.dup, 1) := dk_89 (dk_at dksX17_joined_1 16 rfl rfl)
theorem dX17_joined_40 : decode cX17_joined 40 = .ok (.invokespecial 37, 3) := dk_183 0 37 (dk_at dksX17_joined_1 17 rfl rfl)
theorem dX17_joined_43 : decode cX17_joined 43 = .ok (.aload_n 0, 1) := dk_42 (dk_at dksX17_joined_1 20 rfl rfl)
theorem dX17_joined_44 : decode cX17_joined 44 = .ok (.getfield 13, 3) := dk_180 0 13 (dk_at dksX17_joined_1 21 rfl rfl)
theorem dX17_joined_47 : decode cX17_joined 47 = .ok (.invokevirtual 38, 3) := dk_182 0 38 (dk_at dksX17_joined_2 0 rfl rfl)
theorem dX17_joined_50 : decode cX17_joined 50 = .ok (.aload_n 2, 1) := dk_44 (dk_at dksX17_joined_2 3 rfl rfl)
theorem dX17_joined_51 : decode cX17_joined 51 = .ok (.getfield 13, 3) := dk_180 0 13 (dk_at dksX17_joined_2 4 rfl rfl)
theorem dX17_joined_54 : decode cX17_joined 54 = .ok (.invokevirtual 38, 3) := dk_182 0 38 (dk_at dksX17_joined_2 7 rfl rfl)
theorem dX17_joined_57 : decode cX17_joined 57 = .ok (.invokevirtual 42, 3) := dk_182 0 42 (dk_at dksX17_joined_2 10 rfl rfl)
theorem dX17_joined_60 : decode cX17_joined 60 = .ok (.invokestatic 29, 3) := dk_184 0 29 (dk_at dksX17_joined_2 13 rfl rfl)
theorem dX17_joined_63 : decode cX17_joined 63 = .ok (.goto 4, 3) := dk_167 0 4 (dk_at dksX17_joined_2 16 rfl rfl)
theorem dX17_joined_66 : decode cX17_joined 66 = .ok (.aconst_null, 1) := dk_1 (dk_at dksX17_joined_2 19 rfl rfl)
theorem dX17_joined_67 : decode cX17_joined 67 = .ok (.areturn, 1) := dk_176 (dk_at dksX17_joined_2 20 rfl rfl)
abbrev cX17_mark : ByteArray := prog_9_method_8_code
def yX17_mark : MethodName := ⟨RX17, "mark", "(I)I"⟩
def dkwX17_mark_0 : List UInt8 := [42, 180, 0, 13, 27, 182, 0, 49, 172]
abbrev dktX17_mark_0 : List UInt8 := dkwX17_mark_0 ++ []
theorem dksX17_mark_0 : cX17_mark.data.toList.drop 0 = dktX17_mark_0 := by decide +kernel
theorem dX17_mark_0 : decode cX17_mark 0 = .ok (.aload_n 0, 1) := dk_42 (dk_at dksX17_mark_0 0 rfl rfl)
theorem dX17_mark_1 : decode cX17_mark 1 = .ok (.getfield 13, 3) := dk_180 0 13 (dk_at dksX17_mark_0 1 rfl rfl)
theorem dX17_mark_4 : decode cX17_mark 4 = .ok (.iload_n 1, 1) := dk_27 (dk_at dksX17_mark_0 4 rfl rfl)
theorem dX17_mark_5 : decode cX17_mark 5 = .ok (.invokevirtual 49, 3) := dk_182 0 49 (dk_at dksX17_mark_0 5 rfl rfl)
theorem dX17_mark_8 : decode cX17_mark 8 = .ok (.ireturn, 1) := dk_172 (dk_at dksX17_mark_0 8 rfl rfl)
abbrev cX17_piece : ByteArray := prog_9_method_4_code
def yX17_piece : MethodName := ⟨RX17, "piece", "(II)LEditsMeet$Part;"⟩
def dkwX17_piece_1 : List UInt8 := [180, 0, 13, 27, 28, 182, 0, 25, 184, 0, 29, 176]
abbrev dktX17_piece_1 : List UInt8 := dkwX17_piece_1 ++ []
def dkwX17_piece_0 : List UInt8 := [28, 27, 100, 42, 182, 0, 22, 160, 0, 7, 42, 167, 0, 24, 42, 180, 0, 7, 27, 28, 182, 0, 25, 42]
abbrev dktX17_piece_0 : List UInt8 := dkwX17_piece_0 ++ dktX17_piece_1
theorem dksX17_piece_0 : cX17_piece.data.toList.drop 0 = dktX17_piece_0 := by decide +kernel
theorem dksX17_piece_1 : cX17_piece.data.toList.drop 24 = dktX17_piece_1 := dk_seg dksX17_piece_0 24 rfl rfl
theorem dX17_piece_0 : decode cX17_piece 0 = .ok (.iload_n 2, 1) := dk_28 (dk_at dksX17_piece_0 0 rfl rfl)
theorem dX17_piece_1 : decode cX17_piece 1 = .ok (.iload_n 1, 1) := dk_27 (dk_at dksX17_piece_0 1 rfl rfl)
theorem dX17_piece_2 : decode cX17_piece 2 = .ok (.isub, 1) := dk_100 (dk_at dksX17_piece_0 2 rfl rfl)
theorem dX17_piece_3 : decode cX17_piece 3 = .ok (.aload_n 0, 1) := dk_42 (dk_at dksX17_piece_0 3 rfl rfl)
theorem dX17_piece_4 : decode cX17_piece 4 = .ok (.invokevirtual 22, 3) := dk_182 0 22 (dk_at dksX17_piece_0 4 rfl rfl)
theorem dX17_piece_7 : decode cX17_piece 7 = .ok (.if_icmp .ne 7, 3) := dk_160 0 7 (dk_at dksX17_piece_0 7 rfl rfl)
theorem dX17_piece_10 : decode cX17_piece 10 = .ok (.aload_n 0, 1) := dk_42 (dk_at dksX17_piece_0 10 rfl rfl)
theorem dX17_piece_11 : decode cX17_piece 11 = .ok (.goto 24, 3) := dk_167 0 24 (dk_at dksX17_piece_0 11 rfl rfl)
theorem dX17_piece_14 : decode cX17_piece 14 = .ok (.aload_n 0, 1) := dk_42 (dk_at dksX17_piece_0 14 rfl rfl)
theorem dX17_piece_15 : decode cX17_piece 15 = .ok (.getfield 7, 3) := dk_180 0 7 (dk_at dksX17_piece_0 15 rfl rfl)
theorem dX17_piece_18 : decode cX17_piece 18 = .ok (.iload_n 1, 1) := dk_27 (dk_at dksX17_piece_0 18 rfl rfl)
theorem dX17_piece_19 : decode cX17_piece 19 = .ok (.iload_n 2, 1) := dk_28 (dk_at dksX17_piece_0 19 rfl rfl)
theorem dX17_piece_20 : decode cX17_piece 20 = .ok (.invokevirtual 25, 3) := dk_182 0 25 (dk_at dksX17_piece_0 20 rfl rfl)
theorem dX17_piece_23 : decode cX17_piece 23 = .ok (.aload_n 0, 1) := dk_42 (dk_at dksX17_piece_0 23 rfl rfl)
theorem dX17_piece_24 : decode cX17_piece 24 = .ok (.getfield 13, 3) := dk_180 0 13 (dk_at dksX17_piece_1 0 rfl rfl)
theorem dX17_piece_27 : decode cX17_piece 27 = .ok (.iload_n 1, 1) := dk_27 (dk_at dksX17_piece_1 3 rfl rfl)
theorem dX17_piece_28 : decode cX17_piece 28 = .ok (.iload_n 2, 1) := dk_28 (dk_at dksX17_piece_1 4 rfl rfl)
theorem dX17_piece_29 : decode cX17_piece 29 = .ok (.invokevirtual 25, 3) := dk_182 0 25 (dk_at dksX17_piece_1 5 rfl rfl)
theorem dX17_piece_32 : decode cX17_piece 32 = .ok (.invokestatic 29, 3) := dk_184 0 29 (dk_at dksX17_piece_1 8 rfl rfl)
theorem dX17_piece_35 : decode cX17_piece 35 = .ok (.areturn, 1) := dk_176 (dk_at dksX17_piece_1 11 rfl rfl)
abbrev cX17_spells : ByteArray := prog_9_method_6_code
def yX17_spells : MethodName := ⟨RX17, "spells", "(Ljava/lang/StringBuilder;)V"⟩
def dkwX17_spells_0 : List UInt8 := [43, 16, 43, 182, 0, 46, 42, 180, 0, 7, 182, 0, 38, 87, 177]
abbrev dktX17_spells_0 : List UInt8 := dkwX17_spells_0 ++ []
theorem dksX17_spells_0 : cX17_spells.data.toList.drop 0 = dktX17_spells_0 := by decide +kernel
theorem dX17_spells_0 : decode cX17_spells 0 = .ok (.aload_n 1, 1) := dk_43 (dk_at dksX17_spells_0 0 rfl rfl)
theorem dX17_spells_1 : decode cX17_spells 1 = .ok (.bipush 43, 2) := dk_16 43 (dk_at dksX17_spells_0 1 rfl rfl)
theorem dX17_spells_3 : decode cX17_spells 3 = .ok (.invokevirtual 46, 3) := dk_182 0 46 (dk_at dksX17_spells_0 3 rfl rfl)
theorem dX17_spells_6 : decode cX17_spells 6 = .ok (.aload_n 0, 1) := dk_42 (dk_at dksX17_spells_0 6 rfl rfl)
theorem dX17_spells_7 : decode cX17_spells 7 = .ok (.getfield 7, 3) := dk_180 0 7 (dk_at dksX17_spells_0 7 rfl rfl)
theorem dX17_spells_10 : decode cX17_spells 10 = .ok (.invokevirtual 38, 3) := dk_182 0 38 (dk_at dksX17_spells_0 10 rfl rfl)
theorem dX17_spells_13 : decode cX17_spells 13 = .ok (.pop, 1) := dk_87 (dk_at dksX17_spells_0 13 rfl rfl)
theorem dX17_spells_14 : decode cX17_spells 14 = .ok (.return_, 1) := dk_177 (dk_at dksX17_spells_0 14 rfl rfl)
abbrev cX17_turned : ByteArray := prog_9_method_9_code
def yX17_turned : MethodName := ⟨RX17, "turned", "(LEditsMeet$Part;)LEditsMeet$Part;"⟩
def dkwX17_turned_3 : List UInt8 := [176]
abbrev dktX17_turned_3 : List UInt8 := dkwX17_turned_3 ++ []
def dkwX17_turned_2 : List UInt8 := [185, 0, 63, 2, 0, 146, 182, 0, 46, 87, 132, 3, 1, 167, 255, 225, 42, 180, 0, 7, 44, 184, 0, 29]
abbrev dktX17_turned_2 : List UInt8 := dkwX17_turned_2 ++ dktX17_turned_3
def dkwX17_turned_1 : List UInt8 := [183, 0, 37, 77, 3, 62, 29, 42, 180, 0, 13, 182, 0, 16, 162, 0, 26, 44, 43, 42, 29, 182, 0, 59]
abbrev dktX17_turned_1 : List UInt8 := dkwX17_turned_1 ++ dktX17_turned_2
def dkwX17_turned_0 : List UInt8 := [43, 185, 0, 53, 1, 0, 154, 0, 14, 43, 185, 0, 56, 1, 0, 154, 0, 5, 42, 176, 187, 0, 35, 89]
abbrev dktX17_turned_0 : List UInt8 := dkwX17_turned_0 ++ dktX17_turned_1
theorem dksX17_turned_0 : cX17_turned.data.toList.drop 0 = dktX17_turned_0 := by decide +kernel
theorem dksX17_turned_1 : cX17_turned.data.toList.drop 24 = dktX17_turned_1 := dk_seg dksX17_turned_0 24 rfl rfl
theorem dksX17_turned_2 : cX17_turned.data.toList.drop 48 = dktX17_turned_2 := dk_seg dksX17_turned_1 24 rfl rfl
theorem dksX17_turned_3 : cX17_turned.data.toList.drop 72 = dktX17_turned_3 := dk_seg dksX17_turned_2 24 rfl rfl
theorem dX17_turned_0 : decode cX17_turned 0 = .ok (.aload_n 1, 1) := dk_43 (dk_at dksX17_turned_0 0 rfl rfl)
theorem dX17_turned_1 : decode cX17_turned 1 = .ok (.invokeinterface 53 1, 5) := by decide +kernel
theorem dX17_turned_6 : decode cX17_turned 6 = .ok (.ifCond .ne 14, 3) := dk_154 0 14 (dk_at dksX17_turned_0 6 rfl rfl)
theorem dX17_turned_9 : decode cX17_turned 9 = .ok (.aload_n 1, 1) := dk_43 (dk_at dksX17_turned_0 9 rfl rfl)
theorem dX17_turned_10 : decode cX17_turned 10 = .ok (.invokeinterface 56 1, 5) := by decide +kernel
theorem dX17_turned_15 : decode cX17_turned 15 = .ok (.ifCond .ne 5, 3) := dk_154 0 5 (dk_at dksX17_turned_0 15 rfl rfl)
theorem dX17_turned_18 : decode cX17_turned 18 = .ok (.aload_n 0, 1) := dk_42 (dk_at dksX17_turned_0 18 rfl rfl)
theorem dX17_turned_19 : decode cX17_turned 19 = .ok (.areturn, 1) := dk_176 (dk_at dksX17_turned_0 19 rfl rfl)
theorem dX17_turned_20 : decode cX17_turned 20 = .ok (.new 35, 3) := dk_187 0 35 (dk_at dksX17_turned_0 20 rfl rfl)
theorem dX17_turned_23 : decode cX17_turned 23 = .ok (.dup, 1) := dk_89 (dk_at dksX17_turned_0 23 rfl rfl)
theorem dX17_turned_24 : decode cX17_turned 24 = .ok (.invokespecial 37, 3) := dk_183 0 37 (dk_at dksX17_turned_1 0 rfl rfl)
theorem dX17_turned_27 : decode cX17_turned 27 = .ok (.astore_n 2, 1) := dk_77 (dk_at dksX17_turned_1 3 rfl rfl)
theorem dX17_turned_28 : decode cX17_turned 28 = .ok (.iconst 0, 1) := dk_3 (dk_at dksX17_turned_1 4 rfl rfl)
theorem dX17_turned_29 : decode cX17_turned 29 = .ok (.istore_n 3, 1) := dk_62 (dk_at dksX17_turned_1 5 rfl rfl)
theorem dX17_turned_30 : decode cX17_turned 30 = .ok (.iload_n 3, 1) := dk_29 (dk_at dksX17_turned_1 6 rfl rfl)
theorem dX17_turned_31 : decode cX17_turned 31 = .ok (.aload_n 0, 1) := dk_42 (dk_at dksX17_turned_1 7 rfl rfl)
theorem dX17_turned_32 : decode cX17_turned 32 = .ok (.getfield 13, 3) := dk_180 0 13 (dk_at dksX17_turned_1 8 rfl rfl)
theorem dX17_turned_35 : decode cX17_turned 35 = .ok (.invokevirtual 16, 3) := dk_182 0 16 (dk_at dksX17_turned_1 11 rfl rfl)
theorem dX17_turned_38 : decode cX17_turned 38 = .ok (.if_icmp .ge 26, 3) := dk_162 0 26 (dk_at dksX17_turned_1 14 rfl rfl)
theorem dX17_turned_41 : decode cX17_turned 41 = .ok (.aload_n 2, 1) := dk_44 (dk_at dksX17_turned_1 17 rfl rfl)
theorem dX17_turned_42 : decode cX17_turned 42 = .ok (.aload_n 1, 1) := dk_43 (dk_at dksX17_turned_1 18 rfl rfl)
theorem dX17_turned_43 : decode cX17_turned 43 = .ok (.aload_n 0, 1) := dk_42 (dk_at dksX17_turned_1 19 rfl rfl)
theorem dX17_turned_44 : decode cX17_turned 44 = .ok (.iload_n 3, 1) := dk_29 (dk_at dksX17_turned_1 20 rfl rfl)
theorem dX17_turned_45 : decode cX17_turned 45 = .ok (.invokevirtual 59, 3) := dk_182 0 59 (dk_at dksX17_turned_1 21 rfl rfl)
theorem dX17_turned_48 : decode cX17_turned 48 = .ok (.invokeinterface 63 2, 5) := by decide +kernel
theorem dX17_turned_53 : decode cX17_turned 53 = .ok (.i2c, 1) := dk_146 (dk_at dksX17_turned_2 5 rfl rfl)
theorem dX17_turned_54 : decode cX17_turned 54 = .ok (.invokevirtual 46, 3) := dk_182 0 46 (dk_at dksX17_turned_2 6 rfl rfl)
theorem dX17_turned_57 : decode cX17_turned 57 = .ok (.pop, 1) := dk_87 (dk_at dksX17_turned_2 9 rfl rfl)
theorem dX17_turned_58 : decode cX17_turned 58 = .ok (.iinc 3 1, 3) := dk_132 3 1 (dk_at dksX17_turned_2 10 rfl rfl)
theorem dX17_turned_61 : decode cX17_turned 61 = .ok (.goto (-31), 3) := dk_167 255 225 (dk_at dksX17_turned_2 13 rfl rfl)
theorem dX17_turned_64 : decode cX17_turned 64 = .ok (.aload_n 0, 1) := dk_42 (dk_at dksX17_turned_2 16 rfl rfl)
theorem dX17_turned_65 : decode cX17_turned 65 = .ok (.getfield 7, 3) := dk_180 0 7 (dk_at dksX17_turned_2 17 rfl rfl)
theorem dX17_turned_68 : decode cX17_turned 68 = .ok (.aload_n 2, 1) := dk_44 (dk_at dksX17_turned_2 20 rfl rfl)
theorem dX17_turned_69 : decode cX17_turned 69 = .ok (.invokestatic 29, 3) := dk_184 0 29 (dk_at dksX17_turned_2 21 rfl rfl)
theorem dX17_turned_72 : decode cX17_turned 72 = .ok (.areturn, 1) := dk_176 (dk_at dksX17_turned_3 0 rfl rfl)
theorem q165 : (Jvm.Cond.initialized "EditsMeet$Insert") ∈ lw_all := lw_g (lw_at lw_m1 45 rfl) rfl
theorem q769 : (Jvm.Cond.castable "EditsMeet$Insert" "EditsMeet$Part") ∈ lw_tbl := lw_at lw_m3 169 rfl
theorem q770 : (Jvm.Cond.selects "EditsMeet$Insert" ({ cls := "EditsMeet$Part", name := "kind", desc := "()I" } : Jvm.MethodName) ({ cls := "EditsMeet$Insert", name := "kind", desc := "()I" } : Jvm.MethodName)) ∈ lw_all := lw_g (lw_at lw_m3 170 rfl) rfl
theorem q771 : (Jvm.Cond.unhidden "EditsMeet$Insert" "kind" "()I") ∈ lw_tbl := lw_at lw_m3 171 rfl
theorem q772 : (Jvm.Cond.instanceMethod ({ cls := "EditsMeet$Insert", name := "kind", desc := "()I" } : Jvm.MethodName)) ∈ lw_all := lw_g (lw_at lw_m3 172 rfl) rfl
theorem q773 : (Jvm.Cond.publicMethod ({ cls := "EditsMeet$Insert", name := "kind", desc := "()I" } : Jvm.MethodName)) ∈ lw_tbl := lw_at lw_m3 173 rfl
theorem q774 : (Jvm.Cond.code ({ cls := "EditsMeet$Insert", name := "kind", desc := "()I" } : Jvm.MethodName) prog_9_method_3_code (1 : Nat) (Option.some Jvm.ClassFile.FieldType.int)) ∈ lw_all := lw_g (lw_at lw_m3 174 rfl) rfl
theorem q868 : (Jvm.Cond.selects "EditsMeet$Insert" ({ cls := "EditsMeet$Part", name := "n", desc := "()I" } : Jvm.MethodName) ({ cls := "EditsMeet$Insert", name := "n", desc := "()I" } : Jvm.MethodName)) ∈ lw_all := lw_g (lw_at lw_m4 28 rfl) rfl
theorem q869 : (Jvm.Cond.unhidden "EditsMeet$Insert" "n" "()I") ∈ lw_tbl := lw_at lw_m4 29 rfl
theorem q870 : (Jvm.Cond.instanceMethod ({ cls := "EditsMeet$Insert", name := "n", desc := "()I" } : Jvm.MethodName)) ∈ lw_all := lw_g (lw_at lw_m4 30 rfl) rfl
theorem q871 : (Jvm.Cond.publicMethod ({ cls := "EditsMeet$Insert", name := "n", desc := "()I" } : Jvm.MethodName)) ∈ lw_tbl := lw_at lw_m4 31 rfl
theorem q872 : (Jvm.Cond.code ({ cls := "EditsMeet$Insert", name := "n", desc := "()I" } : Jvm.MethodName) prog_9_method_2_code (1 : Nat) (Option.some Jvm.ClassFile.FieldType.int)) ∈ lw_all := lw_g (lw_at lw_m4 32 rfl) rfl
theorem q873 : (Jvm.Cond.methodLink "EditsMeet$Insert" (16 : Nat) ({ cls := "java/lang/String", name := "length", desc := "()I" } : Jvm.MethodName)) ∈ lw_all := lw_g (lw_at lw_m4 33 rfl) rfl
theorem q888 : (Jvm.Cond.instanceMethod ({ cls := "EditsMeet$Insert", name := "letter", desc := "(I)I" } : Jvm.MethodName)) ∈ lw_all := lw_g (lw_at lw_m4 48 rfl) rfl
theorem q889 : (Jvm.Cond.selects "EditsMeet$Insert" ({ cls := "EditsMeet$Insert", name := "letter", desc := "(I)I" } : Jvm.MethodName) ({ cls := "EditsMeet$Insert", name := "letter", desc := "(I)I" } : Jvm.MethodName)) ∈ lw_all := lw_g (lw_at lw_m4 49 rfl) rfl
theorem q890 : (Jvm.Cond.code ({ cls := "EditsMeet$Insert", name := "letter", desc := "(I)I" } : Jvm.MethodName) prog_9_method_7_code (2 : Nat) (Option.some Jvm.ClassFile.FieldType.int)) ∈ lw_all := lw_g (lw_at lw_m4 50 rfl) rfl
theorem q891 : (Jvm.Cond.methodLink "EditsMeet$Insert" (49 : Nat) ({ cls := "java/lang/String", name := "charAt", desc := "(I)C" } : Jvm.MethodName)) ∈ lw_all := lw_g (lw_at lw_m4 51 rfl) rfl
theorem q1298 : (Jvm.Cond.instantiable "EditsMeet$Insert" (2 : Nat)) ∈ lw_all := lw_g (lw_at lw_m5 218 rfl) rfl
theorem q1314 : (Jvm.Cond.instanceMethod ({ cls := "EditsMeet$Insert", name := "<init>", desc := "(Ljava/lang/String;Ljava/lang/String;)V" } : Jvm.MethodName)) ∈ lw_all := lw_g (lw_at lw_m5 234 rfl) rfl
theorem q1315 : (Jvm.Cond.code ({ cls := "EditsMeet$Insert", name := "<init>", desc := "(Ljava/lang/String;Ljava/lang/String;)V" } : Jvm.MethodName) prog_9_method_1_code (3 : Nat) (Option.none : Option Jvm.ClassFile.FieldType)) ∈ lw_all := lw_g (lw_at lw_m5 235 rfl) rfl
theorem q1316 : (Jvm.Cond.methodLink "EditsMeet$Insert" (1 : Nat) ({ cls := "java/lang/Object", name := "<init>", desc := "()V" } : Jvm.MethodName)) ∈ lw_all := lw_g (lw_at lw_m5 236 rfl) rfl
theorem q1317 : (Jvm.Cond.fieldLink "EditsMeet$Insert" (7 : Nat) "EditsMeet$Insert" "letters" "Ljava/lang/String;") ∈ lw_all := lw_g (lw_at lw_m5 237 rfl) rfl
theorem q1320 : (Jvm.Cond.fieldLink "EditsMeet$Insert" (13 : Nat) "EditsMeet$Insert" "marks" "Ljava/lang/String;") ∈ lw_all := lw_g (lw_at lw_m6 0 rfl) rfl
theorem q1323 : (Jvm.Cond.laysFinal "EditsMeet$Insert" "EditsMeet$Insert" "letters" "Ljava/lang/String;") ∈ lw_all := lw_g (lw_at lw_m6 3 rfl) rfl
theorem q1324 : (Jvm.Cond.soleField "EditsMeet$Insert" "letters") ∈ lw_all := lw_g (lw_at lw_m6 4 rfl) rfl
theorem q1325 : (Jvm.Cond.laysFinal "EditsMeet$Insert" "EditsMeet$Insert" "marks" "Ljava/lang/String;") ∈ lw_all := lw_g (lw_at lw_m6 5 rfl) rfl
theorem q1326 : (Jvm.Cond.soleField "EditsMeet$Insert" "marks") ∈ lw_all := lw_g (lw_at lw_m6 6 rfl) rfl
theorem q1327 : (Jvm.Cond.superclass "EditsMeet$Insert" "java/lang/Object") ∈ lw_all := lw_g (lw_at lw_m6 7 rfl) rfl
theorem q1382 : (Jvm.Cond.unhidden "EditsMeet$Insert" "on" "()I") ∈ lw_tbl := lw_at lw_m6 62 rfl
theorem q1390 : (Jvm.Cond.unhidden "EditsMeet$Insert" "off" "()I") ∈ lw_tbl := lw_at lw_m6 70 rfl
theorem q1448 : (Jvm.Cond.selects "EditsMeet$Insert" ({ cls := "java/lang/Object", name := "getClass", desc := "()Ljava/lang/Class;" } : Jvm.MethodName) ({ cls := "java/lang/Object", name := "getClass", desc := "()Ljava/lang/Class;" } : Jvm.MethodName)) ∈ lw_all := lw_g (lw_at lw_m6 128 rfl) rfl
theorem q1506 : (Jvm.Cond.unhidden "EditsMeet$Insert" "gives" "()I") ∈ lw_tbl := lw_at lw_m6 186 rfl
theorem q1526 : (Jvm.Cond.selects "EditsMeet$Insert" ({ cls := "EditsMeet$Part", name := "joined", desc := "(LEditsMeet$Part;)LEditsMeet$Part;" } : Jvm.MethodName) ({ cls := "EditsMeet$Insert", name := "joined", desc := "(LEditsMeet$Part;)LEditsMeet$Part;" } : Jvm.MethodName)) ∈ lw_all := lw_g (lw_at lw_m6 206 rfl) rfl
theorem q1527 : (Jvm.Cond.unhidden "EditsMeet$Insert" "joined" "(LEditsMeet$Part;)LEditsMeet$Part;") ∈ lw_tbl := lw_at lw_m6 207 rfl
theorem q1528 : (Jvm.Cond.instanceMethod ({ cls := "EditsMeet$Insert", name := "joined", desc := "(LEditsMeet$Part;)LEditsMeet$Part;" } : Jvm.MethodName)) ∈ lw_all := lw_g (lw_at lw_m6 208 rfl) rfl
theorem q1529 : (Jvm.Cond.publicMethod ({ cls := "EditsMeet$Insert", name := "joined", desc := "(LEditsMeet$Part;)LEditsMeet$Part;" } : Jvm.MethodName)) ∈ lw_tbl := lw_at lw_m6 209 rfl
theorem q1530 : (Jvm.Cond.code ({ cls := "EditsMeet$Insert", name := "joined", desc := "(LEditsMeet$Part;)LEditsMeet$Part;" } : Jvm.MethodName) prog_9_method_5_code (3 : Nat) (Option.some (Jvm.ClassFile.FieldType.object "EditsMeet$Part"))) ∈ lw_all := lw_g (lw_at lw_m6 210 rfl) rfl
theorem q1531 : (Jvm.Cond.classLink "EditsMeet$Insert" (8 : Nat) "EditsMeet$Insert") ∈ lw_all := lw_g (lw_at lw_m6 211 rfl) rfl
theorem q1532 : (Jvm.Cond.classLink "EditsMeet$Insert" (35 : Nat) "java/lang/StringBuilder") ∈ lw_all := lw_g (lw_at lw_m6 212 rfl) rfl
theorem q1533 : (Jvm.Cond.methodLink "EditsMeet$Insert" (37 : Nat) ({ cls := "java/lang/StringBuilder", name := "<init>", desc := "()V" } : Jvm.MethodName)) ∈ lw_all := lw_g (lw_at lw_m6 213 rfl) rfl
theorem q1534 : (Jvm.Cond.methodLink "EditsMeet$Insert" (38 : Nat) ({ cls := "java/lang/StringBuilder", name := "append", desc := "(Ljava/lang/String;)Ljava/lang/StringBuilder;" } : Jvm.MethodName)) ∈ lw_all := lw_g (lw_at lw_m6 214 rfl) rfl
theorem q1535 : (Jvm.Cond.methodLink "EditsMeet$Insert" (42 : Nat) ({ cls := "java/lang/StringBuilder", name := "toString", desc := "()Ljava/lang/String;" } : Jvm.MethodName)) ∈ lw_all := lw_g (lw_at lw_m6 215 rfl) rfl
theorem q1536 : (Jvm.Cond.methodLink "EditsMeet$Insert" (29 : Nat) ({ cls := "EditsMeet$Part", name := "insert", desc := "(Ljava/lang/CharSequence;Ljava/lang/CharSequence;)LEditsMeet$Part;" } : Jvm.MethodName)) ∈ lw_all := lw_g (lw_at lw_m6 216 rfl) rfl
theorem q1574 : (Jvm.Cond.unhidden "EditsMeet$Insert" "takes" "()I") ∈ lw_tbl := lw_at lw_m7 14 rfl
theorem q1610 : (Jvm.Cond.unhidden "EditsMeet$Insert" "inserts" "()Z") ∈ lw_tbl := lw_at lw_m7 50 rfl
theorem q1622 : (Jvm.Cond.unhidden "EditsMeet$Insert" "deletes" "()Z") ∈ lw_tbl := lw_at lw_m7 62 rfl
theorem q1645 : (Jvm.Cond.instanceMethod ({ cls := "EditsMeet$Insert", name := "mark", desc := "(I)I" } : Jvm.MethodName)) ∈ lw_all := lw_g (lw_at lw_m7 85 rfl) rfl
theorem q1646 : (Jvm.Cond.selects "EditsMeet$Insert" ({ cls := "EditsMeet$Insert", name := "mark", desc := "(I)I" } : Jvm.MethodName) ({ cls := "EditsMeet$Insert", name := "mark", desc := "(I)I" } : Jvm.MethodName)) ∈ lw_all := lw_g (lw_at lw_m7 86 rfl) rfl
theorem q1647 : (Jvm.Cond.code ({ cls := "EditsMeet$Insert", name := "mark", desc := "(I)I" } : Jvm.MethodName) prog_9_method_8_code (2 : Nat) (Option.some Jvm.ClassFile.FieldType.int)) ∈ lw_all := lw_g (lw_at lw_m7 87 rfl) rfl
theorem q1755 : (Jvm.Cond.selects "EditsMeet$Insert" ({ cls := "EditsMeet$Part", name := "piece", desc := "(II)LEditsMeet$Part;" } : Jvm.MethodName) ({ cls := "EditsMeet$Insert", name := "piece", desc := "(II)LEditsMeet$Part;" } : Jvm.MethodName)) ∈ lw_all := lw_g (lw_at lw_m7 195 rfl) rfl
theorem q1756 : (Jvm.Cond.unhidden "EditsMeet$Insert" "piece" "(II)LEditsMeet$Part;") ∈ lw_tbl := lw_at lw_m7 196 rfl
theorem q1757 : (Jvm.Cond.instanceMethod ({ cls := "EditsMeet$Insert", name := "piece", desc := "(II)LEditsMeet$Part;" } : Jvm.MethodName)) ∈ lw_all := lw_g (lw_at lw_m7 197 rfl) rfl
theorem q1758 : (Jvm.Cond.publicMethod ({ cls := "EditsMeet$Insert", name := "piece", desc := "(II)LEditsMeet$Part;" } : Jvm.MethodName)) ∈ lw_tbl := lw_at lw_m7 198 rfl
theorem q1759 : (Jvm.Cond.code ({ cls := "EditsMeet$Insert", name := "piece", desc := "(II)LEditsMeet$Part;" } : Jvm.MethodName) prog_9_method_4_code (3 : Nat) (Option.some (Jvm.ClassFile.FieldType.object "EditsMeet$Part"))) ∈ lw_all := lw_g (lw_at lw_m7 199 rfl) rfl
theorem q1760 : (Jvm.Cond.methodLink "EditsMeet$Insert" (22 : Nat) ({ cls := "EditsMeet$Insert", name := "n", desc := "()I" } : Jvm.MethodName)) ∈ lw_all := lw_g (lw_at lw_m7 200 rfl) rfl
theorem q1761 : (Jvm.Cond.methodLink "EditsMeet$Insert" (25 : Nat) ({ cls := "java/lang/String", name := "substring", desc := "(II)Ljava/lang/String;" } : Jvm.MethodName)) ∈ lw_all := lw_g (lw_at lw_m7 201 rfl) rfl
theorem q1987 : (Jvm.Cond.selects "EditsMeet$Insert" ({ cls := "EditsMeet$Part", name := "spells", desc := "(Ljava/lang/StringBuilder;)V" } : Jvm.MethodName) ({ cls := "EditsMeet$Insert", name := "spells", desc := "(Ljava/lang/StringBuilder;)V" } : Jvm.MethodName)) ∈ lw_all := lw_g (lw_at lw_m8 187 rfl) rfl
theorem q1988 : (Jvm.Cond.unhidden "EditsMeet$Insert" "spells" "(Ljava/lang/StringBuilder;)V") ∈ lw_tbl := lw_at lw_m8 188 rfl
theorem q1989 : (Jvm.Cond.instanceMethod ({ cls := "EditsMeet$Insert", name := "spells", desc := "(Ljava/lang/StringBuilder;)V" } : Jvm.MethodName)) ∈ lw_all := lw_g (lw_at lw_m8 189 rfl) rfl
theorem q1990 : (Jvm.Cond.publicMethod ({ cls := "EditsMeet$Insert", name := "spells", desc := "(Ljava/lang/StringBuilder;)V" } : Jvm.MethodName)) ∈ lw_tbl := lw_at lw_m8 190 rfl
theorem q1991 : (Jvm.Cond.code ({ cls := "EditsMeet$Insert", name := "spells", desc := "(Ljava/lang/StringBuilder;)V" } : Jvm.MethodName) prog_9_method_6_code (2 : Nat) (Option.none : Option Jvm.ClassFile.FieldType)) ∈ lw_all := lw_g (lw_at lw_m8 191 rfl) rfl
theorem q1992 : (Jvm.Cond.methodLink "EditsMeet$Insert" (46 : Nat) ({ cls := "java/lang/StringBuilder", name := "append", desc := "(C)Ljava/lang/StringBuilder;" } : Jvm.MethodName)) ∈ lw_all := lw_g (lw_at lw_m8 192 rfl) rfl
theorem q2094 : (Jvm.Cond.instanceMethod ({ cls := "EditsMeet$Insert", name := "turned", desc := "(LEditsMeet$Part;)LEditsMeet$Part;" } : Jvm.MethodName)) ∈ lw_all := lw_g (lw_at lw_m9 54 rfl) rfl
theorem q2095 : (Jvm.Cond.selects "EditsMeet$Insert" ({ cls := "EditsMeet$Insert", name := "turned", desc := "(LEditsMeet$Part;)LEditsMeet$Part;" } : Jvm.MethodName) ({ cls := "EditsMeet$Insert", name := "turned", desc := "(LEditsMeet$Part;)LEditsMeet$Part;" } : Jvm.MethodName)) ∈ lw_all := lw_g (lw_at lw_m9 55 rfl) rfl
theorem q2096 : (Jvm.Cond.code ({ cls := "EditsMeet$Insert", name := "turned", desc := "(LEditsMeet$Part;)LEditsMeet$Part;" } : Jvm.MethodName) prog_9_method_9_code (4 : Nat) (Option.some (Jvm.ClassFile.FieldType.object "EditsMeet$Part"))) ∈ lw_all := lw_g (lw_at lw_m9 56 rfl) rfl
theorem q2097 : (Jvm.Cond.interfaceEntry "EditsMeet$Insert" (53 : Nat)) ∈ lw_tbl := lw_at lw_m9 57 rfl
theorem q2098 : (Jvm.Cond.methodLink "EditsMeet$Insert" (53 : Nat) ({ cls := "EditsMeet$Part", name := "on", desc := "()I" } : Jvm.MethodName)) ∈ lw_all := lw_g (lw_at lw_m9 58 rfl) rfl
theorem q2099 : (Jvm.Cond.interfaceEntry "EditsMeet$Insert" (56 : Nat)) ∈ lw_tbl := lw_at lw_m9 59 rfl
theorem q2100 : (Jvm.Cond.methodLink "EditsMeet$Insert" (56 : Nat) ({ cls := "EditsMeet$Part", name := "off", desc := "()I" } : Jvm.MethodName)) ∈ lw_all := lw_g (lw_at lw_m9 60 rfl) rfl
theorem q2101 : (Jvm.Cond.methodLink "EditsMeet$Insert" (59 : Nat) ({ cls := "EditsMeet$Insert", name := "mark", desc := "(I)I" } : Jvm.MethodName)) ∈ lw_all := lw_g (lw_at lw_m9 61 rfl) rfl
theorem q2102 : (Jvm.Cond.interfaceEntry "EditsMeet$Insert" (63 : Nat)) ∈ lw_tbl := lw_at lw_m9 62 rfl
theorem q2103 : (Jvm.Cond.methodLink "EditsMeet$Insert" (63 : Nat) ({ cls := "EditsMeet$Part", name := "marks", desc := "(I)I" } : Jvm.MethodName)) ∈ lw_all := lw_g (lw_at lw_m9 63 rfl) rfl
theorem q2114 : (Jvm.Cond.unhidden "EditsMeet$Insert" "marks" "(I)I") ∈ lw_tbl := lw_at lw_m9 74 rfl
theorem q3596 : (Jvm.Cond.selects "EditsMeet$Insert" ({ cls := "EditsMeet$Insert", name := "n", desc := "()I" } : Jvm.MethodName) ({ cls := "EditsMeet$Insert", name := "n", desc := "()I" } : Jvm.MethodName)) ∈ lw_all := lw_g (lw_at lw_m15 116 rfl) rfl
theorem q3650 : (Jvm.Cond.castable "EditsMeet$Insert" "java/lang/Object") ∈ lw_tbl := lw_at lw_m15 170 rfl
theorem in_X17 : ∀ w ∈ wsX170, w ∈ lw_all := lw_in wsX170 [1323, 1325] (by decide +kernel) (by decide +kernel)

/-! EditsMeet$Mark -/
set_option maxRecDepth 100000
def RX18 : String := "EditsMeet$Mark"
def TX18 : u_T := fun k => match k with
  | 0 => ("EditsMeet$Over", "n", "I", true)
  | 1 => ("EditsMeet$Mark", "on", "I", true)
  | _ => ("EditsMeet$Mark", "off", "I", true)
def tyX18 : Nat → FieldType := fun k => match k with
  | 0 => .int
  | 1 => .int
  | _ => .int
abbrev wsX180 : List Cond := u_ws RX18 TX18 3
theorem nmX18 : ∀ a, a < 3 → ∀ b, b < 3 → a ≠ b → (TX18 a).2.1 ≠ (TX18 b).2.1 := by decide +kernel
theorem tyX18_ok : ∀ k, k < 3 → parseFieldDescriptor (TX18 k).2.2.1 = some (tyX18 k) := by decide +kernel
abbrev cX18_kind : ByteArray := prog_11_method_2_code
def yX18_kind : MethodName := ⟨RX18, "kind", "()I"⟩
def dkwX18_kind_0 : List UInt8 := [42, 183, 0, 16, 5, 96, 172]
abbrev dktX18_kind_0 : List UInt8 := dkwX18_kind_0 ++ []
theorem dksX18_kind_0 : cX18_kind.data.toList.drop 0 = dktX18_kind_0 := by decide +kernel
theorem dX18_kind_0 : decode cX18_kind 0 = .ok (.aload_n 0, 1) := dk_42 (dk_at dksX18_kind_0 0 rfl rfl)
theorem dX18_kind_1 : decode cX18_kind 1 = .ok (.invokespecial 16, 3) := dk_183 0 16 (dk_at dksX18_kind_0 1 rfl rfl)
theorem dX18_kind_4 : decode cX18_kind 4 = .ok (.iconst 2, 1) := dk_5 (dk_at dksX18_kind_0 4 rfl rfl)
theorem dX18_kind_5 : decode cX18_kind 5 = .ok (.iadd, 1) := dk_96 (dk_at dksX18_kind_0 5 rfl rfl)
theorem dX18_kind_6 : decode cX18_kind 6 = .ok (.ireturn, 1) := dk_172 (dk_at dksX18_kind_0 6 rfl rfl)
abbrev cX18_on : ByteArray := prog_11_method_3_code
def yX18_on : MethodName := ⟨RX18, "on", "()I"⟩
theorem dX18_on_0 : decode cX18_on 0 = .ok (.aload_n 0, 1) := by decide +kernel
theorem dX18_on_1 : decode cX18_on 1 = .ok (.getfield 7, 3) := by decide +kernel
theorem dX18_on_4 : decode cX18_on 4 = .ok (.ireturn, 1) := by decide +kernel
abbrev cX18_off : ByteArray := prog_11_method_4_code
def yX18_off : MethodName := ⟨RX18, "off", "()I"⟩
theorem dX18_off_0 : decode cX18_off 0 = .ok (.aload_n 0, 1) := by decide +kernel
theorem dX18_off_1 : decode cX18_off 1 = .ok (.getfield 13, 3) := by decide +kernel
theorem dX18_off_4 : decode cX18_off 4 = .ok (.ireturn, 1) := by decide +kernel
abbrev cX18_init : ByteArray := prog_11_method_1_code
def yX18_init : MethodName := ⟨RX18, "<init>", "(III)V"⟩
def dkwX18_init_0 : List UInt8 := [42, 27, 183, 0, 1, 42, 28, 181, 0, 7, 42, 29, 181, 0, 13, 177]
abbrev dktX18_init_0 : List UInt8 := dkwX18_init_0 ++ []
theorem dksX18_init_0 : cX18_init.data.toList.drop 0 = dktX18_init_0 := by decide +kernel
theorem dX18_init_0 : decode cX18_init 0 = .ok (.aload_n 0, 1) := dk_42 (dk_at dksX18_init_0 0 rfl rfl)
theorem dX18_init_1 : decode cX18_init 1 = .ok (.iload_n 1, 1) := dk_27 (dk_at dksX18_init_0 1 rfl rfl)
theorem dX18_init_2 : decode cX18_init 2 = .ok (.invokespecial 1, 3) := dk_183 0 1 (dk_at dksX18_init_0 2 rfl rfl)
theorem dX18_init_5 : decode cX18_init 5 = .ok (.aload_n 0, 1) := dk_42 (dk_at dksX18_init_0 5 rfl rfl)
theorem dX18_init_6 : decode cX18_init 6 = .ok (.iload_n 2, 1) := dk_28 (dk_at dksX18_init_0 6 rfl rfl)
theorem dX18_init_7 : decode cX18_init 7 = .ok (.putfield 7, 3) := dk_181 0 7 (dk_at dksX18_init_0 7 rfl rfl)
theorem dX18_init_10 : decode cX18_init 10 = .ok (.aload_n 0, 1) := dk_42 (dk_at dksX18_init_0 10 rfl rfl)
theorem dX18_init_11 : decode cX18_init 11 = .ok (.iload_n 3, 1) := dk_29 (dk_at dksX18_init_0 11 rfl rfl)
theorem dX18_init_12 : decode cX18_init 12 = .ok (.putfield 13, 3) := dk_181 0 13 (dk_at dksX18_init_0 12 rfl rfl)
theorem dX18_init_15 : decode cX18_init 15 = .ok (.return_, 1) := dk_177 (dk_at dksX18_init_0 15 rfl rfl)
abbrev cX18_again : ByteArray := prog_11_method_5_code
def yX18_again : MethodName := ⟨RX18, "again", "(I)LEditsMeet$Part;"⟩
def dkwX18_again_0 : List UInt8 := [27, 42, 180, 0, 7, 42, 180, 0, 13, 184, 0, 20, 176]
abbrev dktX18_again_0 : List UInt8 := dkwX18_again_0 ++ []
theorem dksX18_again_0 : cX18_again.data.toList.drop 0 = dktX18_again_0 := by decide +kernel
theorem dX18_again_0 : decode cX18_again 0 = .ok (.iload_n 1, 1) := dk_27 (dk_at dksX18_again_0 0 rfl rfl)
theorem dX18_again_1 : decode cX18_again 1 = .ok (.aload_n 0, 1) := dk_42 (dk_at dksX18_again_0 1 rfl rfl)
theorem dX18_again_2 : decode cX18_again 2 = .ok (.getfield 7, 3) := dk_180 0 7 (dk_at dksX18_again_0 2 rfl rfl)
theorem dX18_again_5 : decode cX18_again 5 = .ok (.aload_n 0, 1) := dk_42 (dk_at dksX18_again_0 5 rfl rfl)
theorem dX18_again_6 : decode cX18_again 6 = .ok (.getfield 13, 3) := dk_180 0 13 (dk_at dksX18_again_0 6 rfl rfl)
theorem dX18_again_9 : decode cX18_again 9 = .ok (.invokestatic 20, 3) := dk_184 0 20 (dk_at dksX18_again_0 9 rfl rfl)
theorem dX18_again_12 : decode cX18_again 12 = .ok (.areturn, 1) := dk_176 (dk_at dksX18_again_0 12 rfl rfl)
abbrev cX18_spells : ByteArray := prog_11_method_6_code
def yX18_spells : MethodName := ⟨RX18, "spells", "(Ljava/lang/StringBuilder;)V"⟩
def dkwX18_spells_3 : List UInt8 := [182, 0, 26, 42, 180, 0, 13, 182, 0, 35, 87, 177]
abbrev dktX18_spells_3 : List UInt8 := dkwX18_spells_3 ++ []
def dkwX18_spells_2 : List UInt8 := [180, 0, 7, 182, 0, 35, 87, 42, 180, 0, 7, 153, 0, 24, 42, 180, 0, 13, 153, 0, 17, 43, 16, 95]
abbrev dktX18_spells_2 : List UInt8 := dkwX18_spells_2 ++ dktX18_spells_3
def dkwX18_spells_1 : List UInt8 := [182, 0, 35, 16, 46, 182, 0, 26, 42, 180, 0, 7, 154, 0, 10, 42, 180, 0, 13, 167, 0, 7, 42]
abbrev dktX18_spells_1 : List UInt8 := dkwX18_spells_1 ++ dktX18_spells_2
def dkwX18_spells_0 : List UInt8 := [43, 42, 180, 0, 7, 154, 0, 8, 16, 95, 167, 0, 5, 16, 94, 182, 0, 26, 42, 182, 0, 32]
abbrev dktX18_spells_0 : List UInt8 := dkwX18_spells_0 ++ dktX18_spells_1
theorem dksX18_spells_0 : cX18_spells.data.toList.drop 0 = dktX18_spells_0 := by decide +kernel
theorem dksX18_spells_1 : cX18_spells.data.toList.drop 22 = dktX18_spells_1 := dk_seg dksX18_spells_0 22 rfl rfl
theorem dksX18_spells_2 : cX18_spells.data.toList.drop 45 = dktX18_spells_2 := dk_seg dksX18_spells_1 23 rfl rfl
theorem dksX18_spells_3 : cX18_spells.data.toList.drop 69 = dktX18_spells_3 := dk_seg dksX18_spells_2 24 rfl rfl
theorem dX18_spells_0 : decode cX18_spells 0 = .ok (.aload_n 1, 1) := dk_43 (dk_at dksX18_spells_0 0 rfl rfl)
theorem dX18_spells_1 : decode cX18_spells 1 = .ok (.aload_n 0, 1) := dk_42 (dk_at dksX18_spells_0 1 rfl rfl)
theorem dX18_spells_2 : decode cX18_spells 2 = .ok (.getfield 7, 3) := dk_180 0 7 (dk_at dksX18_spells_0 2 rfl rfl)
theorem dX18_spells_5 : decode cX18_spells 5 = .ok (.ifCond .ne 8, 3) := dk_154 0 8 (dk_at dksX18_spells_0 5 rfl rfl)
theorem dX18_spells_8 : decode cX18_spells 8 = .ok (.bipush 95, 2) := dk_16 95 (dk_at dksX18_spells_0 8 rfl rfl)
theorem dX18_spells_10 : decode cX18_spells 10 = .ok (.goto 5, 3) := dk_167 0 5 (dk_at dksX18_spells_0 10 rfl rfl)
theorem dX18_spells_13 : decode cX18_spells 13 = .ok (.bipush 94, 2) := dk_16 94 (dk_at dksX18_spells_0 13 rfl rfl)
theorem dX18_spells_15 : decode cX18_spells 15 = .ok (.invokevirtual 26, 3) := dk_182 0 26 (dk_at dksX18_spells_0 15 rfl rfl)
theorem dX18_spells_18 : decode cX18_spells 18 = .ok (.aload_n 0, 1) := dk_42 (dk_at dksX18_spells_0 18 rfl rfl)
theorem dX18_spells_19 : decode cX18_spells 19 = .ok (.invokevirtual 32, 3) := dk_182 0 32 (dk_at dksX18_spells_0 19 rfl rfl)
theorem dX18_spells_22 : decode cX18_spells 22 = .ok (.invokevirtual 35, 3) := dk_182 0 35 (dk_at dksX18_spells_1 0 rfl rfl)
theorem dX18_spells_25 : decode cX18_spells 25 = .ok (.bipush 46, 2) := dk_16 46 (dk_at dksX18_spells_1 3 rfl rfl)
theorem dX18_spells_27 : decode cX18_spells 27 = .ok (.invokevirtual 26, 3) := dk_182 0 26 (dk_at dksX18_spells_1 5 rfl rfl)
theorem dX18_spells_30 : decode cX18_spells 30 = .ok (.aload_n 0, 1) := dk_42 (dk_at dksX18_spells_1 8 rfl rfl)
theorem dX18_spells_31 : decode cX18_spells 31 = .ok (.getfield 7, 3) := dk_180 0 7 (dk_at dksX18_spells_1 9 rfl rfl)
theorem dX18_spells_34 : decode cX18_spells 34 = .ok (.ifCond .ne 10, 3) := dk_154 0 10 (dk_at dksX18_spells_1 12 rfl rfl)
theorem dX18_spells_37 : decode cX18_spells 37 = .ok (.aload_n 0, 1) := dk_42 (dk_at dksX18_spells_1 15 rfl rfl)
theorem dX18_spells_38 : decode cX18_spells 38 = .ok (.getfield 13, 3) := dk_180 0 13 (dk_at dksX18_spells_1 16 rfl rfl)
theorem dX18_spells_41 : decode cX18_spells 41 = .ok (.goto 7, 3) := dk_167 0 7 (dk_at dksX18_spells_1 19 rfl rfl)
theorem dX18_spells_44 : decode cX18_spells 44 = .ok (.aload_n 0, 1) := dk_42 (dk_at dksX18_spells_1 22 rfl rfl)
theorem dX18_spells_45 : decode cX18_spells 45 = .ok (.getfield 7, 3) := dk_180 0 7 (dk_at dksX18_spells_2 0 rfl rfl)
theorem dX18_spells_48 : decode cX18_spells 48 = .ok (.invokevirtual 35, 3) := dk_182 0 35 (dk_at dksX18_spells_2 3 rfl rfl)
theorem dX18_spells_51 : decode cX18_spells 51 = .ok (.pop, 1) := dk_87 (dk_at dksX18_spells_2 6 rfl rfl)
theorem dX18_spells_52 : decode cX18_spells 52 = .ok (.aload_n 0, 1) := dk_42 (dk_at dksX18_spells_2 7 rfl rfl)
theorem dX18_spells_53 : decode cX18_spells 53 = .ok (.getfield 7, 3) := dk_180 0 7 (dk_at dksX18_spells_2 8 rfl rfl)
theorem dX18_spells_56 : decode cX18_spells 56 = .ok (.ifCond .eq 24, 3) := dk_153 0 24 (dk_at dksX18_spells_2 11 rfl rfl)
theorem dX18_spells_59 : decode cX18_spells 59 = .ok (.aload_n 0, 1) := dk_42 (dk_at dksX18_spells_2 14 rfl rfl)
theorem dX18_spells_60 : decode cX18_spells 60 = .ok (.getfield 13, 3) := dk_180 0 13 (dk_at dksX18_spells_2 15 rfl rfl)
theorem dX18_spells_63 : decode cX18_spells 63 = .ok (.ifCond .eq 17, 3) := dk_153 0 17 (dk_at dksX18_spells_2 18 rfl rfl)
theorem dX18_spells_66 : decode cX18_spells 66 = .ok (.aload_n 1, 1) := dk_43 (dk_at dksX18_spells_2 21 rfl rfl)
theorem dX18_spells_67 : decode cX18_spells 67 = .ok (.bipush 95, 2) := dk_16 95 (dk_at dksX18_spells_2 22 rfl rfl)
theorem dX18_spells_69 : decode cX18_spells 69 = .ok (.invokevirtual 26, 3) := dk_182 0 26 (dk_at dksX18_spells_3 0 rfl rfl)
theorem dX18_spells_72 : decode cX18_spells 72 = .ok (.aload_n 0, 1) := dk_42 (dk_at dksX18_spells_3 3 rfl rfl)
theorem dX18_spells_73 : decode cX18_spells 73 = .ok (.getfield 13, 3) := dk_180 0 13 (dk_at dksX18_spells_3 4 rfl rfl)
theorem dX18_spells_76 : decode cX18_spells 76 = .ok (.invokevirtual 35, 3) := dk_182 0 35 (dk_at dksX18_spells_3 7 rfl rfl)
theorem dX18_spells_79 : decode cX18_spells 79 = .ok (.pop, 1) := dk_87 (dk_at dksX18_spells_3 10 rfl rfl)
theorem dX18_spells_80 : decode cX18_spells 80 = .ok (.return_, 1) := dk_177 (dk_at dksX18_spells_3 11 rfl rfl)
theorem q166 : (Jvm.Cond.initialized "EditsMeet$Mark") ∈ lw_all := lw_g (lw_at lw_m1 46 rfl) rfl
theorem q781 : (Jvm.Cond.castable "EditsMeet$Mark" "EditsMeet$Part") ∈ lw_tbl := lw_at lw_m3 181 rfl
theorem q782 : (Jvm.Cond.selects "EditsMeet$Mark" ({ cls := "EditsMeet$Part", name := "kind", desc := "()I" } : Jvm.MethodName) ({ cls := "EditsMeet$Mark", name := "kind", desc := "()I" } : Jvm.MethodName)) ∈ lw_all := lw_g (lw_at lw_m3 182 rfl) rfl
theorem q783 : (Jvm.Cond.unhidden "EditsMeet$Mark" "kind" "()I") ∈ lw_tbl := lw_at lw_m3 183 rfl
theorem q784 : (Jvm.Cond.instanceMethod ({ cls := "EditsMeet$Mark", name := "kind", desc := "()I" } : Jvm.MethodName)) ∈ lw_all := lw_g (lw_at lw_m3 184 rfl) rfl
theorem q785 : (Jvm.Cond.publicMethod ({ cls := "EditsMeet$Mark", name := "kind", desc := "()I" } : Jvm.MethodName)) ∈ lw_tbl := lw_at lw_m3 185 rfl
theorem q786 : (Jvm.Cond.code ({ cls := "EditsMeet$Mark", name := "kind", desc := "()I" } : Jvm.MethodName) prog_11_method_2_code (1 : Nat) (Option.some Jvm.ClassFile.FieldType.int)) ∈ lw_all := lw_g (lw_at lw_m3 186 rfl) rfl
theorem q787 : (Jvm.Cond.methodLink "EditsMeet$Mark" (16 : Nat) ({ cls := "EditsMeet$Keep", name := "kind", desc := "()I" } : Jvm.MethodName)) ∈ lw_all := lw_g (lw_at lw_m3 187 rfl) rfl
theorem q788 : (Jvm.Cond.superclass "EditsMeet$Mark" "EditsMeet$Keep") ∈ lw_all := lw_g (lw_at lw_m3 188 rfl) rfl
theorem q884 : (Jvm.Cond.selects "EditsMeet$Mark" ({ cls := "EditsMeet$Part", name := "n", desc := "()I" } : Jvm.MethodName) ({ cls := "EditsMeet$Over", name := "n", desc := "()I" } : Jvm.MethodName)) ∈ lw_all := lw_g (lw_at lw_m4 44 rfl) rfl
theorem q885 : (Jvm.Cond.unhidden "EditsMeet$Mark" "n" "()I") ∈ lw_tbl := lw_at lw_m4 45 rfl
theorem q933 : (Jvm.Cond.selects "EditsMeet$Mark" ({ cls := "EditsMeet$Over", name := "takes", desc := "()I" } : Jvm.MethodName) ({ cls := "EditsMeet$Over", name := "takes", desc := "()I" } : Jvm.MethodName)) ∈ lw_all := lw_g (lw_at lw_m4 93 rfl) rfl
theorem q940 : (Jvm.Cond.selects "EditsMeet$Mark" ({ cls := "EditsMeet$Keep", name := "turns", desc := "()I" } : Jvm.MethodName) ({ cls := "EditsMeet$Keep", name := "turns", desc := "()I" } : Jvm.MethodName)) ∈ lw_all := lw_g (lw_at lw_m4 100 rfl) rfl
theorem q944 : (Jvm.Cond.selects "EditsMeet$Mark" ({ cls := "EditsMeet$Part", name := "on", desc := "()I" } : Jvm.MethodName) ({ cls := "EditsMeet$Mark", name := "on", desc := "()I" } : Jvm.MethodName)) ∈ lw_all := lw_g (lw_at lw_m4 104 rfl) rfl
theorem q945 : (Jvm.Cond.instanceMethod ({ cls := "EditsMeet$Mark", name := "on", desc := "()I" } : Jvm.MethodName)) ∈ lw_all := lw_g (lw_at lw_m4 105 rfl) rfl
theorem q946 : (Jvm.Cond.code ({ cls := "EditsMeet$Mark", name := "on", desc := "()I" } : Jvm.MethodName) prog_11_method_3_code (1 : Nat) (Option.some Jvm.ClassFile.FieldType.int)) ∈ lw_all := lw_g (lw_at lw_m4 106 rfl) rfl
theorem q961 : (Jvm.Cond.selects "EditsMeet$Mark" ({ cls := "EditsMeet$Part", name := "off", desc := "()I" } : Jvm.MethodName) ({ cls := "EditsMeet$Mark", name := "off", desc := "()I" } : Jvm.MethodName)) ∈ lw_all := lw_g (lw_at lw_m4 121 rfl) rfl
theorem q962 : (Jvm.Cond.instanceMethod ({ cls := "EditsMeet$Mark", name := "off", desc := "()I" } : Jvm.MethodName)) ∈ lw_all := lw_g (lw_at lw_m4 122 rfl) rfl
theorem q963 : (Jvm.Cond.code ({ cls := "EditsMeet$Mark", name := "off", desc := "()I" } : Jvm.MethodName) prog_11_method_4_code (1 : Nat) (Option.some Jvm.ClassFile.FieldType.int)) ∈ lw_all := lw_g (lw_at lw_m4 123 rfl) rfl
theorem q1341 : (Jvm.Cond.instantiable "EditsMeet$Mark" (3 : Nat)) ∈ lw_all := lw_g (lw_at lw_m6 21 rfl) rfl
theorem q1343 : (Jvm.Cond.instanceMethod ({ cls := "EditsMeet$Mark", name := "<init>", desc := "(III)V" } : Jvm.MethodName)) ∈ lw_all := lw_g (lw_at lw_m6 23 rfl) rfl
theorem q1344 : (Jvm.Cond.code ({ cls := "EditsMeet$Mark", name := "<init>", desc := "(III)V" } : Jvm.MethodName) prog_11_method_1_code (4 : Nat) (Option.none : Option Jvm.ClassFile.FieldType)) ∈ lw_all := lw_g (lw_at lw_m6 24 rfl) rfl
theorem q1345 : (Jvm.Cond.methodLink "EditsMeet$Mark" (1 : Nat) ({ cls := "EditsMeet$Keep", name := "<init>", desc := "(I)V" } : Jvm.MethodName)) ∈ lw_all := lw_g (lw_at lw_m6 25 rfl) rfl
theorem q1346 : (Jvm.Cond.fieldLink "EditsMeet$Mark" (7 : Nat) "EditsMeet$Mark" "on" "I") ∈ lw_all := lw_g (lw_at lw_m6 26 rfl) rfl
theorem q1347 : (Jvm.Cond.fieldLink "EditsMeet$Mark" (13 : Nat) "EditsMeet$Mark" "off" "I") ∈ lw_all := lw_g (lw_at lw_m6 27 rfl) rfl
theorem q1348 : (Jvm.Cond.laysFinal "EditsMeet$Mark" "EditsMeet$Mark" "on" "I") ∈ lw_all := lw_g (lw_at lw_m6 28 rfl) rfl
theorem q1349 : (Jvm.Cond.soleField "EditsMeet$Mark" "on") ∈ lw_all := lw_g (lw_at lw_m6 29 rfl) rfl
theorem q1350 : (Jvm.Cond.laysFinal "EditsMeet$Mark" "EditsMeet$Mark" "off" "I") ∈ lw_all := lw_g (lw_at lw_m6 30 rfl) rfl
theorem q1351 : (Jvm.Cond.soleField "EditsMeet$Mark" "off") ∈ lw_all := lw_g (lw_at lw_m6 31 rfl) rfl
theorem q1352 : (Jvm.Cond.laysFinal "EditsMeet$Mark" "EditsMeet$Over" "n" "I") ∈ lw_all := lw_g (lw_at lw_m6 32 rfl) rfl
theorem q1373 : (Jvm.Cond.selects "EditsMeet$Mark" ({ cls := "EditsMeet$Over", name := "isLike", desc := "(LEditsMeet$Part;)Z" } : Jvm.MethodName) ({ cls := "EditsMeet$Over", name := "isLike", desc := "(LEditsMeet$Part;)Z" } : Jvm.MethodName)) ∈ lw_all := lw_g (lw_at lw_m6 53 rfl) rfl
theorem q1383 : (Jvm.Cond.unhidden "EditsMeet$Mark" "on" "()I") ∈ lw_tbl := lw_at lw_m6 63 rfl
theorem q1384 : (Jvm.Cond.publicMethod ({ cls := "EditsMeet$Mark", name := "on", desc := "()I" } : Jvm.MethodName)) ∈ lw_tbl := lw_at lw_m6 64 rfl
theorem q1391 : (Jvm.Cond.unhidden "EditsMeet$Mark" "off" "()I") ∈ lw_tbl := lw_at lw_m6 71 rfl
theorem q1392 : (Jvm.Cond.publicMethod ({ cls := "EditsMeet$Mark", name := "off", desc := "()I" } : Jvm.MethodName)) ∈ lw_tbl := lw_at lw_m6 72 rfl
theorem q1402 : (Jvm.Cond.selects "EditsMeet$Mark" ({ cls := "EditsMeet$Over", name := "so", desc := "(I)LEditsMeet$Part;" } : Jvm.MethodName) ({ cls := "EditsMeet$Over", name := "so", desc := "(I)LEditsMeet$Part;" } : Jvm.MethodName)) ∈ lw_all := lw_g (lw_at lw_m6 82 rfl) rfl
theorem q1415 : (Jvm.Cond.selects "EditsMeet$Mark" ({ cls := "EditsMeet$Over", name := "again", desc := "(I)LEditsMeet$Part;" } : Jvm.MethodName) ({ cls := "EditsMeet$Mark", name := "again", desc := "(I)LEditsMeet$Part;" } : Jvm.MethodName)) ∈ lw_all := lw_g (lw_at lw_m6 95 rfl) rfl
theorem q1416 : (Jvm.Cond.instanceMethod ({ cls := "EditsMeet$Mark", name := "again", desc := "(I)LEditsMeet$Part;" } : Jvm.MethodName)) ∈ lw_all := lw_g (lw_at lw_m6 96 rfl) rfl
theorem q1417 : (Jvm.Cond.code ({ cls := "EditsMeet$Mark", name := "again", desc := "(I)LEditsMeet$Part;" } : Jvm.MethodName) prog_11_method_5_code (2 : Nat) (Option.some (Jvm.ClassFile.FieldType.object "EditsMeet$Part"))) ∈ lw_all := lw_g (lw_at lw_m6 97 rfl) rfl
theorem q1418 : (Jvm.Cond.methodLink "EditsMeet$Mark" (20 : Nat) ({ cls := "EditsMeet$Part", name := "mark", desc := "(III)LEditsMeet$Part;" } : Jvm.MethodName)) ∈ lw_all := lw_g (lw_at lw_m6 98 rfl) rfl
theorem q1450 : (Jvm.Cond.selects "EditsMeet$Mark" ({ cls := "java/lang/Object", name := "getClass", desc := "()Ljava/lang/Class;" } : Jvm.MethodName) ({ cls := "java/lang/Object", name := "getClass", desc := "()Ljava/lang/Class;" } : Jvm.MethodName)) ∈ lw_all := lw_g (lw_at lw_m6 130 rfl) rfl
theorem q1493 : (Jvm.Cond.unhidden "EditsMeet$Mark" "deletes" "()Z") ∈ lw_tbl := lw_at lw_m6 173 rfl
theorem q1513 : (Jvm.Cond.unhidden "EditsMeet$Mark" "gives" "()I") ∈ lw_tbl := lw_at lw_m6 193 rfl
theorem q1539 : (Jvm.Cond.selects "EditsMeet$Mark" ({ cls := "EditsMeet$Part", name := "joined", desc := "(LEditsMeet$Part;)LEditsMeet$Part;" } : Jvm.MethodName) ({ cls := "EditsMeet$Over", name := "joined", desc := "(LEditsMeet$Part;)LEditsMeet$Part;" } : Jvm.MethodName)) ∈ lw_all := lw_g (lw_at lw_m6 219 rfl) rfl
theorem q1540 : (Jvm.Cond.unhidden "EditsMeet$Mark" "joined" "(LEditsMeet$Part;)LEditsMeet$Part;") ∈ lw_tbl := lw_at lw_m6 220 rfl
theorem q1580 : (Jvm.Cond.selects "EditsMeet$Mark" ({ cls := "EditsMeet$Part", name := "takes", desc := "()I" } : Jvm.MethodName) ({ cls := "EditsMeet$Over", name := "takes", desc := "()I" } : Jvm.MethodName)) ∈ lw_all := lw_g (lw_at lw_m7 20 rfl) rfl
theorem q1581 : (Jvm.Cond.unhidden "EditsMeet$Mark" "takes" "()I") ∈ lw_tbl := lw_at lw_m7 21 rfl
theorem q1612 : (Jvm.Cond.unhidden "EditsMeet$Mark" "inserts" "()Z") ∈ lw_tbl := lw_at lw_m7 52 rfl
theorem q1787 : (Jvm.Cond.selects "EditsMeet$Mark" ({ cls := "EditsMeet$Part", name := "piece", desc := "(II)LEditsMeet$Part;" } : Jvm.MethodName) ({ cls := "EditsMeet$Over", name := "piece", desc := "(II)LEditsMeet$Part;" } : Jvm.MethodName)) ∈ lw_all := lw_g (lw_at lw_m7 227 rfl) rfl
theorem q1788 : (Jvm.Cond.unhidden "EditsMeet$Mark" "piece" "(II)LEditsMeet$Part;") ∈ lw_tbl := lw_at lw_m7 228 rfl
theorem q2002 : (Jvm.Cond.selects "EditsMeet$Mark" ({ cls := "EditsMeet$Keep", name := "n", desc := "()I" } : Jvm.MethodName) ({ cls := "EditsMeet$Over", name := "n", desc := "()I" } : Jvm.MethodName)) ∈ lw_all := lw_g (lw_at lw_m8 202 rfl) rfl
theorem q2004 : (Jvm.Cond.selects "EditsMeet$Mark" ({ cls := "EditsMeet$Part", name := "spells", desc := "(Ljava/lang/StringBuilder;)V" } : Jvm.MethodName) ({ cls := "EditsMeet$Mark", name := "spells", desc := "(Ljava/lang/StringBuilder;)V" } : Jvm.MethodName)) ∈ lw_all := lw_g (lw_at lw_m8 204 rfl) rfl
theorem q2005 : (Jvm.Cond.unhidden "EditsMeet$Mark" "spells" "(Ljava/lang/StringBuilder;)V") ∈ lw_tbl := lw_at lw_m8 205 rfl
theorem q2006 : (Jvm.Cond.instanceMethod ({ cls := "EditsMeet$Mark", name := "spells", desc := "(Ljava/lang/StringBuilder;)V" } : Jvm.MethodName)) ∈ lw_all := lw_g (lw_at lw_m8 206 rfl) rfl
theorem q2007 : (Jvm.Cond.publicMethod ({ cls := "EditsMeet$Mark", name := "spells", desc := "(Ljava/lang/StringBuilder;)V" } : Jvm.MethodName)) ∈ lw_tbl := lw_at lw_m8 207 rfl
theorem q2008 : (Jvm.Cond.code ({ cls := "EditsMeet$Mark", name := "spells", desc := "(Ljava/lang/StringBuilder;)V" } : Jvm.MethodName) prog_11_method_6_code (2 : Nat) (Option.none : Option Jvm.ClassFile.FieldType)) ∈ lw_all := lw_g (lw_at lw_m8 208 rfl) rfl
theorem q2009 : (Jvm.Cond.methodLink "EditsMeet$Mark" (26 : Nat) ({ cls := "java/lang/StringBuilder", name := "append", desc := "(C)Ljava/lang/StringBuilder;" } : Jvm.MethodName)) ∈ lw_all := lw_g (lw_at lw_m8 209 rfl) rfl
theorem q2010 : (Jvm.Cond.methodLink "EditsMeet$Mark" (32 : Nat) ({ cls := "EditsMeet$Mark", name := "n", desc := "()I" } : Jvm.MethodName)) ∈ lw_all := lw_g (lw_at lw_m8 210 rfl) rfl
theorem q2011 : (Jvm.Cond.sameMethod "EditsMeet$Mark" "EditsMeet$Over" "n" "()I") ∈ lw_all := lw_g (lw_at lw_m8 211 rfl) rfl
theorem q2012 : (Jvm.Cond.selects "EditsMeet$Mark" ({ cls := "EditsMeet$Mark", name := "n", desc := "()I" } : Jvm.MethodName) ({ cls := "EditsMeet$Over", name := "n", desc := "()I" } : Jvm.MethodName)) ∈ lw_all := lw_g (lw_at lw_m8 212 rfl) rfl
theorem q2013 : (Jvm.Cond.methodLink "EditsMeet$Mark" (35 : Nat) ({ cls := "java/lang/StringBuilder", name := "append", desc := "(I)Ljava/lang/StringBuilder;" } : Jvm.MethodName)) ∈ lw_all := lw_g (lw_at lw_m8 213 rfl) rfl
theorem q2116 : (Jvm.Cond.unhidden "EditsMeet$Mark" "marks" "(I)I") ∈ lw_tbl := lw_at lw_m9 76 rfl
theorem q3582 : (Jvm.Cond.selects "EditsMeet$Mark" ({ cls := "EditsMeet$Mark", name := "on", desc := "()I" } : Jvm.MethodName) ({ cls := "EditsMeet$Mark", name := "on", desc := "()I" } : Jvm.MethodName)) ∈ lw_all := lw_g (lw_at lw_m15 102 rfl) rfl
theorem q3583 : (Jvm.Cond.selects "EditsMeet$Mark" ({ cls := "EditsMeet$Mark", name := "off", desc := "()I" } : Jvm.MethodName) ({ cls := "EditsMeet$Mark", name := "off", desc := "()I" } : Jvm.MethodName)) ∈ lw_all := lw_g (lw_at lw_m15 103 rfl) rfl
theorem q3595 : (Jvm.Cond.selects "EditsMeet$Mark" ({ cls := "EditsMeet$Over", name := "kind", desc := "()I" } : Jvm.MethodName) ({ cls := "EditsMeet$Mark", name := "kind", desc := "()I" } : Jvm.MethodName)) ∈ lw_all := lw_g (lw_at lw_m15 115 rfl) rfl
theorem q3622 : (Jvm.Cond.castable "EditsMeet$Mark" "EditsMeet$Over") ∈ lw_tbl := lw_at lw_m15 142 rfl
theorem q3623 : (Jvm.Cond.castable "EditsMeet$Mark" "EditsMeet$Keep") ∈ lw_tbl := lw_at lw_m15 143 rfl
theorem q3651 : (Jvm.Cond.castable "EditsMeet$Mark" "java/lang/Object") ∈ lw_tbl := lw_at lw_m15 171 rfl
theorem in_X18 : ∀ w ∈ wsX180, w ∈ lw_all := lw_in wsX180 [1352, 1348, 1350] (by decide +kernel) (by decide +kernel)

/-! EditsMeet$Revision -/
set_option maxRecDepth 100000
def RX19 : String := "EditsMeet$Revision"
def TX19 : u_T := fun k => match k with
  | 0 => ("EditsMeet$Revision", "edit", "LEditsMeet$Edit;", true)
  | _ => ("EditsMeet$Revision", "by", "I", true)
def tyX19 : Nat → FieldType := fun k => match k with
  | 0 => .object "EditsMeet$Edit"
  | _ => .int
abbrev wsX190 : List Cond := u_ws RX19 TX19 2
theorem nmX19 : ∀ a, a < 2 → ∀ b, b < 2 → a ≠ b → (TX19 a).2.1 ≠ (TX19 b).2.1 := by decide +kernel
theorem tyX19_ok : ∀ k, k < 2 → parseFieldDescriptor (TX19 k).2.2.1 = some (tyX19 k) := by decide +kernel
abbrev cX19_init : ByteArray := prog_17_method_1_code
def yX19_init : MethodName := ⟨RX19, "<init>", "(LEditsMeet$Edit;I)V"⟩
def dkwX19_init_0 : List UInt8 := [42, 183, 0, 1, 42, 43, 181, 0, 7, 42, 28, 181, 0, 13, 177]
abbrev dktX19_init_0 : List UInt8 := dkwX19_init_0 ++ []
theorem dksX19_init_0 : cX19_init.data.toList.drop 0 = dktX19_init_0 := by decide +kernel
theorem dX19_init_0 : decode cX19_init 0 = .ok (.aload_n 0, 1) := dk_42 (dk_at dksX19_init_0 0 rfl rfl)
theorem dX19_init_1 : decode cX19_init 1 = .ok (.invokespecial 1, 3) := dk_183 0 1 (dk_at dksX19_init_0 1 rfl rfl)
theorem dX19_init_4 : decode cX19_init 4 = .ok (.aload_n 0, 1) := dk_42 (dk_at dksX19_init_0 4 rfl rfl)
theorem dX19_init_5 : decode cX19_init 5 = .ok (.aload_n 1, 1) := dk_43 (dk_at dksX19_init_0 5 rfl rfl)
theorem dX19_init_6 : decode cX19_init 6 = .ok (.putfield 7, 3) := dk_181 0 7 (dk_at dksX19_init_0 6 rfl rfl)
theorem dX19_init_9 : decode cX19_init 9 = .ok (.aload_n 0, 1) := dk_42 (dk_at dksX19_init_0 9 rfl rfl)
theorem dX19_init_10 : decode cX19_init 10 = .ok (.iload_n 2, 1) := dk_28 (dk_at dksX19_init_0 10 rfl rfl)
theorem dX19_init_11 : decode cX19_init 11 = .ok (.putfield 13, 3) := dk_181 0 13 (dk_at dksX19_init_0 11 rfl rfl)
theorem dX19_init_14 : decode cX19_init 14 = .ok (.return_, 1) := dk_177 (dk_at dksX19_init_0 14 rfl rfl)
theorem q169 : (Jvm.Cond.initialized "EditsMeet$Revision") ∈ lw_all := lw_g (lw_at lw_m1 49 rfl) rfl
theorem q1454 : (Jvm.Cond.selects "EditsMeet$Revision" ({ cls := "java/lang/Object", name := "getClass", desc := "()Ljava/lang/Class;" } : Jvm.MethodName) ({ cls := "java/lang/Object", name := "getClass", desc := "()Ljava/lang/Class;" } : Jvm.MethodName)) ∈ lw_all := lw_g (lw_at lw_m6 134 rfl) rfl
theorem q2513 : (Jvm.Cond.instantiable "EditsMeet$Revision" (2 : Nat)) ∈ lw_all := lw_g (lw_at lw_m10 233 rfl) rfl
theorem q2515 : (Jvm.Cond.instanceMethod ({ cls := "EditsMeet$Revision", name := "<init>", desc := "(LEditsMeet$Edit;I)V" } : Jvm.MethodName)) ∈ lw_all := lw_g (lw_at lw_m10 235 rfl) rfl
theorem q2516 : (Jvm.Cond.code ({ cls := "EditsMeet$Revision", name := "<init>", desc := "(LEditsMeet$Edit;I)V" } : Jvm.MethodName) prog_17_method_1_code (3 : Nat) (Option.none : Option Jvm.ClassFile.FieldType)) ∈ lw_all := lw_g (lw_at lw_m10 236 rfl) rfl
theorem q2517 : (Jvm.Cond.methodLink "EditsMeet$Revision" (1 : Nat) ({ cls := "java/lang/Object", name := "<init>", desc := "()V" } : Jvm.MethodName)) ∈ lw_all := lw_g (lw_at lw_m10 237 rfl) rfl
theorem q2518 : (Jvm.Cond.fieldLink "EditsMeet$Revision" (7 : Nat) "EditsMeet$Revision" "edit" "LEditsMeet$Edit;") ∈ lw_all := lw_g (lw_at lw_m10 238 rfl) rfl
theorem q2522 : (Jvm.Cond.fieldLink "EditsMeet$Revision" (13 : Nat) "EditsMeet$Revision" "by" "I") ∈ lw_all := lw_g (lw_at lw_m11 2 rfl) rfl
theorem q2525 : (Jvm.Cond.laysFinal "EditsMeet$Revision" "EditsMeet$Revision" "edit" "LEditsMeet$Edit;") ∈ lw_all := lw_g (lw_at lw_m11 5 rfl) rfl
theorem q2526 : (Jvm.Cond.soleField "EditsMeet$Revision" "edit") ∈ lw_all := lw_g (lw_at lw_m11 6 rfl) rfl
theorem q2527 : (Jvm.Cond.laysFinal "EditsMeet$Revision" "EditsMeet$Revision" "by" "I") ∈ lw_all := lw_g (lw_at lw_m11 7 rfl) rfl
theorem q2528 : (Jvm.Cond.soleField "EditsMeet$Revision" "by") ∈ lw_all := lw_g (lw_at lw_m11 8 rfl) rfl
theorem q2529 : (Jvm.Cond.superclass "EditsMeet$Revision" "java/lang/Object") ∈ lw_all := lw_g (lw_at lw_m11 9 rfl) rfl
theorem q3653 : (Jvm.Cond.castable "EditsMeet$Revision" "java/lang/Object") ∈ lw_tbl := lw_at lw_m15 173 rfl
theorem in_X19 : ∀ w ∈ wsX190, w ∈ lw_all := lw_in wsX190 [2525, 2527] (by decide +kernel) (by decide +kernel)
