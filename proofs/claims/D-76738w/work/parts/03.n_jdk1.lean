/-! java/lang/AbstractStringBuilder -/
set_option maxRecDepth 100000
def RJ0 : String := "java/lang/AbstractStringBuilder"
abbrev cJ0_init : ByteArray := prog_26_method_2_code
def yJ0_init : MethodName := ⟨RJ0, "<init>", "(I)V"⟩
def dkwJ0_init_1 : List UInt8 := [167, 0, 16, 42, 27, 184, 0, 26, 181, 0, 15, 42, 4, 181, 0, 22, 177]
abbrev dktJ0_init_1 : List UInt8 := dkwJ0_init_1 ++ []
def dkwJ0_init_0 : List UInt8 := [42, 183, 0, 3, 178, 0, 18, 153, 0, 18, 42, 27, 188, 8, 181, 0, 15, 42, 3, 181, 0, 22]
abbrev dktJ0_init_0 : List UInt8 := dkwJ0_init_0 ++ dktJ0_init_1
theorem dksJ0_init_0 : cJ0_init.data.toList.drop 0 = dktJ0_init_0 := by decide +kernel
theorem dksJ0_init_1 : cJ0_init.data.toList.drop 22 = dktJ0_init_1 := dk_seg dksJ0_init_0 22 rfl rfl
theorem dJ0_init_0 : decode cJ0_init 0 = .ok (.aload_n 0, 1) := dk_42 (dk_at dksJ0_init_0 0 rfl rfl)
theorem dJ0_init_1 : decode cJ0_init 1 = .ok (.invokespecial 3, 3) := dk_183 0 3 (dk_at dksJ0_init_0 1 rfl rfl)
theorem dJ0_init_4 : decode cJ0_init 4 = .ok (.getstatic 18, 3) := dk_178 0 18 (dk_at dksJ0_init_0 4 rfl rfl)
theorem dJ0_init_7 : decode cJ0_init 7 = .ok (.ifCond .eq 18, 3) := dk_153 0 18 (dk_at dksJ0_init_0 7 rfl rfl)
theorem dJ0_init_10 : decode cJ0_init 10 = .ok (.aload_n 0, 1) := dk_42 (dk_at dksJ0_init_0 10 rfl rfl)
theorem dJ0_init_11 : decode cJ0_init 11 = .ok (.iload_n 1, 1) := dk_27 (dk_at dksJ0_init_0 11 rfl rfl)
theorem dJ0_init_12 : decode cJ0_init 12 = .ok (.newarray .byte, 2) := dk_188_8 (dk_at dksJ0_init_0 12 rfl rfl)
theorem dJ0_init_14 : decode cJ0_init 14 = .ok (.putfield 15, 3) := dk_181 0 15 (dk_at dksJ0_init_0 14 rfl rfl)
theorem dJ0_init_17 : decode cJ0_init 17 = .ok (.aload_n 0, 1) := dk_42 (dk_at dksJ0_init_0 17 rfl rfl)
theorem dJ0_init_18 : decode cJ0_init 18 = .ok (.iconst 0, 1) := dk_3 (dk_at dksJ0_init_0 18 rfl rfl)
theorem dJ0_init_19 : decode cJ0_init 19 = .ok (.putfield 22, 3) := dk_181 0 22 (dk_at dksJ0_init_0 19 rfl rfl)
theorem dJ0_init_22 : decode cJ0_init 22 = .ok (.goto 16, 3) := dk_167 0 16 (dk_at dksJ0_init_1 0 rfl rfl)
theorem dJ0_init_25 : decode cJ0_init 25 = .ok (.aload_n 0, 1) := dk_42 (dk_at dksJ0_init_1 3 rfl rfl)
theorem dJ0_init_26 : decode cJ0_init 26 = .ok (.iload_n 1, 1) := dk_27 (dk_at dksJ0_init_1 4 rfl rfl)
theorem dJ0_init_27 : decode cJ0_init 27 = .ok (.invokestatic 26, 3) := dk_184 0 26 (dk_at dksJ0_init_1 5 rfl rfl)
theorem dJ0_init_30 : decode cJ0_init 30 = .ok (.putfield 15, 3) := dk_181 0 15 (dk_at dksJ0_init_1 8 rfl rfl)
theorem dJ0_init_33 : decode cJ0_init 33 = .ok (.aload_n 0, 1) := dk_42 (dk_at dksJ0_init_1 11 rfl rfl)
theorem dJ0_init_34 : decode cJ0_init 34 = .ok (.iconst 1, 1) := dk_4 (dk_at dksJ0_init_1 12 rfl rfl)
theorem dJ0_init_35 : decode cJ0_init 35 = .ok (.putfield 22, 3) := dk_181 0 22 (dk_at dksJ0_init_1 13 rfl rfl)
theorem dJ0_init_38 : decode cJ0_init 38 = .ok (.return_, 1) := dk_177 (dk_at dksJ0_init_1 16 rfl rfl)
abbrev cJ0_append : ByteArray := prog_26_method_22_code
def yJ0_append : MethodName := ⟨RJ0, "append", "(Ljava/lang/String;)Ljava/lang/AbstractStringBuilder;"⟩
def dkwJ0_append_1 : List UInt8 := [42, 42, 180, 0, 79, 43, 182, 0, 208, 42, 89, 180, 0, 79, 28, 96, 181, 0, 79, 42, 176]
abbrev dktJ0_append_1 : List UInt8 := dkwJ0_append_1 ++ []
def dkwJ0_append_0 : List UInt8 := [43, 199, 0, 8, 42, 182, 0, 204, 176, 43, 182, 0, 32, 61, 42, 42, 180, 0, 79, 28, 96, 182, 0, 100]
abbrev dktJ0_append_0 : List UInt8 := dkwJ0_append_0 ++ dktJ0_append_1
theorem dksJ0_append_0 : cJ0_append.data.toList.drop 0 = dktJ0_append_0 := by decide +kernel
theorem dksJ0_append_1 : cJ0_append.data.toList.drop 24 = dktJ0_append_1 := dk_seg dksJ0_append_0 24 rfl rfl
theorem dJ0_append_0 : decode cJ0_append 0 = .ok (.aload_n 1, 1) := dk_43 (dk_at dksJ0_append_0 0 rfl rfl)
theorem dJ0_append_1 : decode cJ0_append 1 = .ok (.ifnonnull 8, 3) := dk_199 0 8 (dk_at dksJ0_append_0 1 rfl rfl)
theorem dJ0_append_4 : decode cJ0_append 4 = .ok (.aload_n 0, 1) := dk_42 (dk_at dksJ0_append_0 4 rfl rfl)
theorem dJ0_append_5 : decode cJ0_append 5 = .ok (.invokevirtual 204, 3) := dk_182 0 204 (dk_at dksJ0_append_0 5 rfl rfl)
theorem dJ0_append_8 : decode cJ0_append 8 = .ok (.areturn, 1) := dk_176 (dk_at dksJ0_append_0 8 rfl rfl)
theorem dJ0_append_9 : decode cJ0_append 9 = .ok (.aload_n 1, 1) := dk_43 (dk_at dksJ0_append_0 9 rfl rfl)
theorem dJ0_append_10 : decode cJ0_append 10 = .ok (.invokevirtual 32, 3) := dk_182 0 32 (dk_at dksJ0_append_0 10 rfl rfl)
theorem dJ0_append_13 : decode cJ0_append 13 = .ok (.istore_n 2, 1) := dk_61 (dk_at dksJ0_append_0 13 rfl rfl)
theorem dJ0_append_14 : decode cJ0_append 14 = .ok (.aload_n 0, 1) := dk_42 (dk_at dksJ0_append_0 14 rfl rfl)
theorem dJ0_append_15 : decode cJ0_append 15 = .ok (.aload_n 0, 1) := dk_42 (dk_at dksJ0_append_0 15 rfl rfl)
theorem dJ0_append_16 : decode cJ0_append 16 = .ok (.getfield 79, 3) := dk_180 0 79 (dk_at dksJ0_append_0 16 rfl rfl)
theorem dJ0_append_19 : decode cJ0_append 19 = .ok (.iload_n 2, 1) := dk_28 (dk_at dksJ0_append_0 19 rfl rfl)
theorem dJ0_append_20 : decode cJ0_append 20 = .ok (.iadd, 1) := dk_96 (dk_at dksJ0_append_0 20 rfl rfl)
theorem dJ0_append_21 : decode cJ0_append 21 = .ok (.invokevirtual 100, 3) := dk_182 0 100 (dk_at dksJ0_append_0 21 rfl rfl)
theorem dJ0_append_24 : decode cJ0_append 24 = .ok (.aload_n 0, 1) := dk_42 (dk_at dksJ0_append_1 0 rfl rfl)
theorem dJ0_append_25 : decode cJ0_append 25 = .ok (.aload_n 0, 1) := dk_42 (dk_at dksJ0_append_1 1 rfl rfl)
theorem dJ0_append_26 : decode cJ0_append 26 = .ok (.getfield 79, 3) := dk_180 0 79 (dk_at dksJ0_append_1 2 rfl rfl)
theorem dJ0_append_29 : decode cJ0_append 29 = .ok (.aload_n 1, 1) := dk_43 (dk_at dksJ0_append_1 5 rfl rfl)
theorem dJ0_append_30 : decode cJ0_append 30 = .ok (.invokevirtual 208, 3) := dk_182 0 208 (dk_at dksJ0_append_1 6 rfl rfl)
theorem dJ0_append_33 : decode cJ0_append 33 = .ok (.aload_n 0, 1) := dk_42 (dk_at dksJ0_append_1 9 rfl rfl)
theorem dJ0_append_34 : decode cJ0_append 34 = .ok (.dup, 1) := dk_89 (dk_at dksJ0_append_1 10 rfl rfl)
theorem dJ0_append_35 : decode cJ0_append 35 = .ok (.getfield 79, 3) := dk_180 0 79 (dk_at dksJ0_append_1 11 rfl rfl)
theorem dJ0_append_38 : decode cJ0_append 38 = .ok (.iload_n 2, 1) := dk_28 (dk_at dksJ0_append_1 14 rfl rfl)
theorem dJ0_append_39 : decode cJ0_append 39 = .ok (.iadd, 1) := dk_96 (dk_at dksJ0_append_1 15 rfl rfl)
theorem dJ0_append_40 : decode cJ0_append 40 = .ok (.putfield 79, 3) := dk_181 0 79 (dk_at dksJ0_append_1 16 rfl rfl)
theorem dJ0_append_43 : decode cJ0_append 43 = .ok (.aload_n 0, 1) := dk_42 (dk_at dksJ0_append_1 19 rfl rfl)
theorem dJ0_append_44 : decode cJ0_append 44 = .ok (.areturn, 1) := dk_176 (dk_at dksJ0_append_1 20 rfl rfl)
abbrev cJ0_appendNull : ByteArray := prog_26_method_26_code
def yJ0_appendNull : MethodName := ⟨RJ0, "appendNull", "()Ljava/lang/AbstractStringBuilder;"⟩
def dkwJ0_appendNull_3 : List UInt8 := [184, 0, 226, 60, 42, 27, 181, 0, 79, 42, 176]
abbrev dktJ0_appendNull_3 : List UInt8 := dkwJ0_appendNull_3 ++ []
def dkwJ0_appendNull_2 : List UInt8 := [16, 108, 84, 44, 27, 132, 1, 1, 16, 108, 84, 167, 0, 17, 44, 27, 16, 110, 16, 117, 16, 108, 16, 108]
abbrev dktJ0_appendNull_2 : List UInt8 := dkwJ0_appendNull_2 ++ dktJ0_appendNull_3
def dkwJ0_appendNull_1 : List UInt8 := [153, 0, 38, 44, 27, 132, 1, 1, 16, 110, 84, 44, 27, 132, 1, 1, 16, 117, 84, 44, 27, 132, 1, 1]
abbrev dktJ0_appendNull_1 : List UInt8 := dkwJ0_appendNull_1 ++ dktJ0_appendNull_2
def dkwJ0_appendNull_0 : List UInt8 := [42, 42, 180, 0, 79, 7, 96, 182, 0, 100, 42, 180, 0, 79, 60, 42, 180, 0, 15, 77, 42, 182, 0, 83]
abbrev dktJ0_appendNull_0 : List UInt8 := dkwJ0_appendNull_0 ++ dktJ0_appendNull_1
theorem dksJ0_appendNull_0 : cJ0_appendNull.data.toList.drop 0 = dktJ0_appendNull_0 := by decide +kernel
theorem dksJ0_appendNull_1 : cJ0_appendNull.data.toList.drop 24 = dktJ0_appendNull_1 := dk_seg dksJ0_appendNull_0 24 rfl rfl
theorem dksJ0_appendNull_2 : cJ0_appendNull.data.toList.drop 48 = dktJ0_appendNull_2 := dk_seg dksJ0_appendNull_1 24 rfl rfl
theorem dksJ0_appendNull_3 : cJ0_appendNull.data.toList.drop 72 = dktJ0_appendNull_3 := dk_seg dksJ0_appendNull_2 24 rfl rfl
theorem dJ0_appendNull_0 : decode cJ0_appendNull 0 = .ok (.aload_n 0, 1) := dk_42 (dk_at dksJ0_appendNull_0 0 rfl rfl)
theorem dJ0_appendNull_1 : decode cJ0_appendNull 1 = .ok (.aload_n 0, 1) := dk_42 (dk_at dksJ0_appendNull_0 1 rfl rfl)
theorem dJ0_appendNull_2 : decode cJ0_appendNull 2 = .ok (.getfield 79, 3) := dk_180 0 79 (dk_at dksJ0_appendNull_0 2 rfl rfl)
theorem dJ0_appendNull_5 : decode cJ0_appendNull 5 = .ok (.iconst 4, 1) := dk_7 (dk_at dksJ0_appendNull_0 5 rfl rfl)
theorem dJ0_appendNull_6 : decode cJ0_appendNull 6 = .ok (.iadd, 1) := dk_96 (dk_at dksJ0_appendNull_0 6 rfl rfl)
theorem dJ0_appendNull_7 : decode cJ0_appendNull 7 = .ok (.invokevirtual 100, 3) := dk_182 0 100 (dk_at dksJ0_appendNull_0 7 rfl rfl)
theorem dJ0_appendNull_10 : decode cJ0_appendNull 10 = .ok (.aload_n 0, 1) := dk_42 (dk_at dksJ0_appendNull_0 10 rfl rfl)
theorem dJ0_appendNull_11 : decode cJ0_appendNull 11 = .ok (.getfield 79, 3) := dk_180 0 79 (dk_at dksJ0_appendNull_0 11 rfl rfl)
theorem dJ0_appendNull_14 : decode cJ0_appendNull 14 = .ok (.istore_n 1, 1) := dk_60 (dk_at dksJ0_appendNull_0 14 rfl rfl)
theorem dJ0_appendNull_15 : decode cJ0_appendNull 15 = .ok (.aload_n 0, 1) := dk_42 (dk_at dksJ0_appendNull_0 15 rfl rfl)
theorem dJ0_appendNull_16 : decode cJ0_appendNull 16 = .ok (.getfield 15, 3) := dk_180 0 15 (dk_at dksJ0_appendNull_0 16 rfl rfl)
theorem dJ0_appendNull_19 : decode cJ0_appendNull 19 = .ok (.astore_n 2, 1) := dk_77 (dk_at dksJ0_appendNull_0 19 rfl rfl)
theorem dJ0_appendNull_20 : decode cJ0_appendNull 20 = .ok (.aload_n 0, 1) := dk_42 (dk_at dksJ0_appendNull_0 20 rfl rfl)
theorem dJ0_appendNull_21 : decode cJ0_appendNull 21 = .ok (.invokevirtual 83, 3) := dk_182 0 83 (dk_at dksJ0_appendNull_0 21 rfl rfl)
theorem dJ0_appendNull_24 : decode cJ0_appendNull 24 = .ok (.ifCond .eq 38, 3) := dk_153 0 38 (dk_at dksJ0_appendNull_1 0 rfl rfl)
theorem dJ0_appendNull_27 : decode cJ0_appendNull 27 = .ok (.aload_n 2, 1) := dk_44 (dk_at dksJ0_appendNull_1 3 rfl rfl)
theorem dJ0_appendNull_28 : decode cJ0_appendNull 28 = .ok (.iload_n 1, 1) := dk_27 (dk_at dksJ0_appendNull_1 4 rfl rfl)
theorem dJ0_appendNull_29 : decode cJ0_appendNull 29 = .ok (.iinc 1 1, 3) := dk_132 1 1 (dk_at dksJ0_appendNull_1 5 rfl rfl)
theorem dJ0_appendNull_32 : decode cJ0_appendNull 32 = .ok (.bipush 110, 2) := dk_16 110 (dk_at dksJ0_appendNull_1 8 rfl rfl)
theorem dJ0_appendNull_34 : decode cJ0_appendNull 34 = .ok (.bastore, 1) := dk_84 (dk_at dksJ0_appendNull_1 10 rfl rfl)
theorem dJ0_appendNull_35 : decode cJ0_appendNull 35 = .ok (.aload_n 2, 1) := dk_44 (dk_at dksJ0_appendNull_1 11 rfl rfl)
theorem dJ0_appendNull_36 : decode cJ0_appendNull 36 = .ok (.iload_n 1, 1) := dk_27 (dk_at dksJ0_appendNull_1 12 rfl rfl)
theorem dJ0_appendNull_37 : decode cJ0_appendNull 37 = .ok (.iinc 1 1, 3) := dk_132 1 1 (dk_at dksJ0_appendNull_1 13 rfl rfl)
theorem dJ0_appendNull_40 : decode cJ0_appendNull 40 = .ok (.bipush 117, 2) := dk_16 117 (dk_at dksJ0_appendNull_1 16 rfl rfl)
theorem dJ0_appendNull_42 : decode cJ0_appendNull 42 = .ok (.bastore, 1) := dk_84 (dk_at dksJ0_appendNull_1 18 rfl rfl)
theorem dJ0_appendNull_43 : decode cJ0_appendNull 43 = .ok (.aload_n 2, 1) := dk_44 (dk_at dksJ0_appendNull_1 19 rfl rfl)
theorem dJ0_appendNull_44 : decode cJ0_appendNull 44 = .ok (.iload_n 1, 1) := dk_27 (dk_at dksJ0_appendNull_1 20 rfl rfl)
theorem dJ0_appendNull_45 : decode cJ0_appendNull 45 = .ok (.iinc 1 1, 3) := dk_132 1 1 (dk_at dksJ0_appendNull_1 21 rfl rfl)
theorem dJ0_appendNull_48 : decode cJ0_appendNull 48 = .ok (.bipush 108, 2) := dk_16 108 (dk_at dksJ0_appendNull_2 0 rfl rfl)
theorem dJ0_appendNull_50 : decode cJ0_appendNull 50 = .ok (.bastore, 1) := dk_84 (dk_at dksJ0_appendNull_2 2 rfl rfl)
theorem dJ0_appendNull_51 : decode cJ0_appendNull 51 = .ok (.aload_n 2, 1) := dk_44 (dk_at dksJ0_appendNull_2 3 rfl rfl)
theorem dJ0_appendNull_52 : decode cJ0_appendNull 52 = .ok (.iload_n 1, 1) := dk_27 (dk_at dksJ0_appendNull_2 4 rfl rfl)
theorem dJ0_appendNull_53 : decode cJ0_appendNull 53 = .ok (.iinc 1 1, 3) := dk_132 1 1 (dk_at dksJ0_appendNull_2 5 rfl rfl)
theorem dJ0_appendNull_56 : decode cJ0_appendNull 56 = .ok (.bipush 108, 2) := dk_16 108 (dk_at dksJ0_appendNull_2 8 rfl rfl)
theorem dJ0_appendNull_58 : decode cJ0_appendNull 58 = .ok (.bastore, 1) := dk_84 (dk_at dksJ0_appendNull_2 10 rfl rfl)
theorem dJ0_appendNull_59 : decode cJ0_appendNull 59 = .ok (.goto 17, 3) := dk_167 0 17 (dk_at dksJ0_appendNull_2 11 rfl rfl)
theorem dJ0_appendNull_62 : decode cJ0_appendNull 62 = .ok (.aload_n 2, 1) := dk_44 (dk_at dksJ0_appendNull_2 14 rfl rfl)
theorem dJ0_appendNull_63 : decode cJ0_appendNull 63 = .ok (.iload_n 1, 1) := dk_27 (dk_at dksJ0_appendNull_2 15 rfl rfl)
theorem dJ0_appendNull_64 : decode cJ0_appendNull 64 = .ok (.bipush 110, 2) := dk_16 110 (dk_at dksJ0_appendNull_2 16 rfl rfl)
theorem dJ0_appendNull_66 : decode cJ0_appendNull 66 = .ok (.bipush 117, 2) := dk_16 117 (dk_at dksJ0_appendNull_2 18 rfl rfl)
theorem dJ0_appendNull_68 : decode cJ0_appendNull 68 = .ok (.bipush 108, 2) := dk_16 108 (dk_at dksJ0_appendNull_2 20 rfl rfl)
theorem dJ0_appendNull_70 : decode cJ0_appendNull 70 = .ok (.bipush 108, 2) := dk_16 108 (dk_at dksJ0_appendNull_2 22 rfl rfl)
theorem dJ0_appendNull_72 : decode cJ0_appendNull 72 = .ok (.invokestatic 226, 3) := dk_184 0 226 (dk_at dksJ0_appendNull_3 0 rfl rfl)
theorem dJ0_appendNull_75 : decode cJ0_appendNull 75 = .ok (.istore_n 1, 1) := dk_60 (dk_at dksJ0_appendNull_3 3 rfl rfl)
theorem dJ0_appendNull_76 : decode cJ0_appendNull 76 = .ok (.aload_n 0, 1) := dk_42 (dk_at dksJ0_appendNull_3 4 rfl rfl)
theorem dJ0_appendNull_77 : decode cJ0_appendNull 77 = .ok (.iload_n 1, 1) := dk_27 (dk_at dksJ0_appendNull_3 5 rfl rfl)
theorem dJ0_appendNull_78 : decode cJ0_appendNull 78 = .ok (.putfield 79, 3) := dk_181 0 79 (dk_at dksJ0_appendNull_3 6 rfl rfl)
theorem dJ0_appendNull_81 : decode cJ0_appendNull 81 = .ok (.aload_n 0, 1) := dk_42 (dk_at dksJ0_appendNull_3 9 rfl rfl)
theorem dJ0_appendNull_82 : decode cJ0_appendNull 82 = .ok (.areturn, 1) := dk_176 (dk_at dksJ0_appendNull_3 10 rfl rfl)
abbrev cJ0_ensureCapacityInternal : ByteArray := prog_26_method_9_code
def yJ0_ensureCapacityInternal : MethodName := ⟨RJ0, "ensureCapacityInternal", "(I)V"⟩
def dkwJ0_ensureCapacityInternal_1 : List UInt8 := [182, 0, 104, 42, 180, 0, 22, 120, 184, 0, 108, 181, 0, 15, 177]
abbrev dktJ0_ensureCapacityInternal_1 : List UInt8 := dkwJ0_ensureCapacityInternal_1 ++ []
def dkwJ0_ensureCapacityInternal_0 : List UInt8 := [42, 180, 0, 15, 190, 42, 180, 0, 22, 122, 61, 27, 28, 100, 158, 0, 24, 42, 42, 180, 0, 15, 42, 27]
abbrev dktJ0_ensureCapacityInternal_0 : List UInt8 := dkwJ0_ensureCapacityInternal_0 ++ dktJ0_ensureCapacityInternal_1
theorem dksJ0_ensureCapacityInternal_0 : cJ0_ensureCapacityInternal.data.toList.drop 0 = dktJ0_ensureCapacityInternal_0 := by decide +kernel
theorem dksJ0_ensureCapacityInternal_1 : cJ0_ensureCapacityInternal.data.toList.drop 24 = dktJ0_ensureCapacityInternal_1 := dk_seg dksJ0_ensureCapacityInternal_0 24 rfl rfl
theorem dJ0_ensureCapacityInternal_0 : decode cJ0_ensureCapacityInternal 0 = .ok (.aload_n 0, 1) := dk_42 (dk_at dksJ0_ensureCapacityInternal_0 0 rfl rfl)
theorem dJ0_ensureCapacityInternal_1 : decode cJ0_ensureCapacityInternal 1 = .ok (.getfield 15, 3) := dk_180 0 15 (dk_at dksJ0_ensureCapacityInternal_0 1 rfl rfl)
theorem dJ0_ensureCapacityInternal_4 : decode cJ0_ensureCapacityInternal 4 = .ok (.arraylength, 1) := dk_190 (dk_at dksJ0_ensureCapacityInternal_0 4 rfl rfl)
theorem dJ0_ensureCapacityInternal_5 : decode cJ0_ensureCapacityInternal 5 = .ok (.aload_n 0, 1) := dk_42 (dk_at dksJ0_ensureCapacityInternal_0 5 rfl rfl)
theorem dJ0_ensureCapacityInternal_6 : decode cJ0_ensureCapacityInternal 6 = .ok (.getfield 22, 3) := dk_180 0 22 (dk_at dksJ0_ensureCapacityInternal_0 6 rfl rfl)
theorem dJ0_ensureCapacityInternal_9 : decode cJ0_ensureCapacityInternal 9 = .ok (.ishr, 1) := dk_122 (dk_at dksJ0_ensureCapacityInternal_0 9 rfl rfl)
theorem dJ0_ensureCapacityInternal_10 : decode cJ0_ensureCapacityInternal 10 = .ok (.istore_n 2, 1) := dk_61 (dk_at dksJ0_ensureCapacityInternal_0 10 rfl rfl)
theorem dJ0_ensureCapacityInternal_11 : decode cJ0_ensureCapacityInternal 11 = .ok (.iload_n 1, 1) := dk_27 (dk_at dksJ0_ensureCapacityInternal_0 11 rfl rfl)
theorem dJ0_ensureCapacityInternal_12 : decode cJ0_ensureCapacityInternal 12 = .ok (.iload_n 2, 1) := dk_28 (dk_at dksJ0_ensureCapacityInternal_0 12 rfl rfl)
theorem dJ0_ensureCapacityInternal_13 : decode cJ0_ensureCapacityInternal 13 = .ok (.isub, 1) := dk_100 (dk_at dksJ0_ensureCapacityInternal_0 13 rfl rfl)
theorem dJ0_ensureCapacityInternal_14 : decode cJ0_ensureCapacityInternal 14 = .ok (.ifCond .le 24, 3) := dk_158 0 24 (dk_at dksJ0_ensureCapacityInternal_0 14 rfl rfl)
theorem dJ0_ensureCapacityInternal_17 : decode cJ0_ensureCapacityInternal 17 = .ok (.aload_n 0, 1) := dk_42 (dk_at dksJ0_ensureCapacityInternal_0 17 rfl rfl)
theorem dJ0_ensureCapacityInternal_18 : decode cJ0_ensureCapacityInternal 18 = .ok (.aload_n 0, 1) := dk_42 (dk_at dksJ0_ensureCapacityInternal_0 18 rfl rfl)
theorem dJ0_ensureCapacityInternal_19 : decode cJ0_ensureCapacityInternal 19 = .ok (.getfield 15, 3) := dk_180 0 15 (dk_at dksJ0_ensureCapacityInternal_0 19 rfl rfl)
theorem dJ0_ensureCapacityInternal_22 : decode cJ0_ensureCapacityInternal 22 = .ok (.aload_n 0, 1) := dk_42 (dk_at dksJ0_ensureCapacityInternal_0 22 rfl rfl)
theorem dJ0_ensureCapacityInternal_23 : decode cJ0_ensureCapacityInternal 23 = .ok (.iload_n 1, 1) := dk_27 (dk_at dksJ0_ensureCapacityInternal_0 23 rfl rfl)
theorem dJ0_ensureCapacityInternal_24 : decode cJ0_ensureCapacityInternal 24 = .ok (.invokevirtual 104, 3) := dk_182 0 104 (dk_at dksJ0_ensureCapacityInternal_1 0 rfl rfl)
theorem dJ0_ensureCapacityInternal_27 : decode cJ0_ensureCapacityInternal 27 = .ok (.aload_n 0, 1) := dk_42 (dk_at dksJ0_ensureCapacityInternal_1 3 rfl rfl)
theorem dJ0_ensureCapacityInternal_28 : decode cJ0_ensureCapacityInternal 28 = .ok (.getfield 22, 3) := dk_180 0 22 (dk_at dksJ0_ensureCapacityInternal_1 4 rfl rfl)
theorem dJ0_ensureCapacityInternal_31 : decode cJ0_ensureCapacityInternal 31 = .ok (.ishl, 1) := dk_120 (dk_at dksJ0_ensureCapacityInternal_1 7 rfl rfl)
theorem dJ0_ensureCapacityInternal_32 : decode cJ0_ensureCapacityInternal 32 = .ok (.invokestatic 108, 3) := dk_184 0 108 (dk_at dksJ0_ensureCapacityInternal_1 8 rfl rfl)
theorem dJ0_ensureCapacityInternal_35 : decode cJ0_ensureCapacityInternal 35 = .ok (.putfield 15, 3) := dk_181 0 15 (dk_at dksJ0_ensureCapacityInternal_1 11 rfl rfl)
theorem dJ0_ensureCapacityInternal_38 : decode cJ0_ensureCapacityInternal 38 = .ok (.return_, 1) := dk_177 (dk_at dksJ0_ensureCapacityInternal_1 14 rfl rfl)
abbrev cJ0_newCapacity : ByteArray := prog_26_method_10_code
def yJ0_newCapacity : MethodName := ⟨RJ0, "newCapacity", "(I)I"⟩
def dkwJ0_newCapacity_2 : List UInt8 := [183, 0, 124, 191, 21, 5, 42, 180, 0, 22, 122, 172]
abbrev dktJ0_newCapacity_2 : List UInt8 := dkwJ0_newCapacity_2 ++ []
def dkwJ0_newCapacity_1 : List UInt8 := [180, 0, 22, 120, 96, 184, 0, 114, 54, 5, 21, 5, 18, 39, 160, 0, 13, 187, 0, 120, 89, 18, 122]
abbrev dktJ0_newCapacity_1 : List UInt8 := dkwJ0_newCapacity_1 ++ dktJ0_newCapacity_2
def dkwJ0_newCapacity_0 : List UInt8 := [42, 180, 0, 15, 190, 61, 27, 42, 180, 0, 22, 120, 62, 29, 28, 100, 54, 4, 28, 21, 4, 28, 5, 42]
abbrev dktJ0_newCapacity_0 : List UInt8 := dkwJ0_newCapacity_0 ++ dktJ0_newCapacity_1
theorem dksJ0_newCapacity_0 : cJ0_newCapacity.data.toList.drop 0 = dktJ0_newCapacity_0 := by decide +kernel
theorem dksJ0_newCapacity_1 : cJ0_newCapacity.data.toList.drop 24 = dktJ0_newCapacity_1 := dk_seg dksJ0_newCapacity_0 24 rfl rfl
theorem dksJ0_newCapacity_2 : cJ0_newCapacity.data.toList.drop 47 = dktJ0_newCapacity_2 := dk_seg dksJ0_newCapacity_1 23 rfl rfl
theorem dJ0_newCapacity_0 : decode cJ0_newCapacity 0 = .ok (.aload_n 0, 1) := dk_42 (dk_at dksJ0_newCapacity_0 0 rfl rfl)
theorem dJ0_newCapacity_1 : decode cJ0_newCapacity 1 = .ok (.getfield 15, 3) := dk_180 0 15 (dk_at dksJ0_newCapacity_0 1 rfl rfl)
theorem dJ0_newCapacity_4 : decode cJ0_newCapacity 4 = .ok (.arraylength, 1) := dk_190 (dk_at dksJ0_newCapacity_0 4 rfl rfl)
theorem dJ0_newCapacity_5 : decode cJ0_newCapacity 5 = .ok (.istore_n 2, 1) := dk_61 (dk_at dksJ0_newCapacity_0 5 rfl rfl)
theorem dJ0_newCapacity_6 : decode cJ0_newCapacity 6 = .ok (.iload_n 1, 1) := dk_27 (dk_at dksJ0_newCapacity_0 6 rfl rfl)
theorem dJ0_newCapacity_7 : decode cJ0_newCapacity 7 = .ok (.aload_n 0, 1) := dk_42 (dk_at dksJ0_newCapacity_0 7 rfl rfl)
theorem dJ0_newCapacity_8 : decode cJ0_newCapacity 8 = .ok (.getfield 22, 3) := dk_180 0 22 (dk_at dksJ0_newCapacity_0 8 rfl rfl)
theorem dJ0_newCapacity_11 : decode cJ0_newCapacity 11 = .ok (.ishl, 1) := dk_120 (dk_at dksJ0_newCapacity_0 11 rfl rfl)
theorem dJ0_newCapacity_12 : decode cJ0_newCapacity 12 = .ok (.istore_n 3, 1) := dk_62 (dk_at dksJ0_newCapacity_0 12 rfl rfl)
theorem dJ0_newCapacity_13 : decode cJ0_newCapacity 13 = .ok (.iload_n 3, 1) := dk_29 (dk_at dksJ0_newCapacity_0 13 rfl rfl)
theorem dJ0_newCapacity_14 : decode cJ0_newCapacity 14 = .ok (.iload_n 2, 1) := dk_28 (dk_at dksJ0_newCapacity_0 14 rfl rfl)
theorem dJ0_newCapacity_15 : decode cJ0_newCapacity 15 = .ok (.isub, 1) := dk_100 (dk_at dksJ0_newCapacity_0 15 rfl rfl)
theorem dJ0_newCapacity_16 : decode cJ0_newCapacity 16 = .ok (.istore 4, 2) := dk_54 4 (dk_at dksJ0_newCapacity_0 16 rfl rfl)
theorem dJ0_newCapacity_18 : decode cJ0_newCapacity 18 = .ok (.iload_n 2, 1) := dk_28 (dk_at dksJ0_newCapacity_0 18 rfl rfl)
theorem dJ0_newCapacity_19 : decode cJ0_newCapacity 19 = .ok (.iload 4, 2) := dk_21 4 (dk_at dksJ0_newCapacity_0 19 rfl rfl)
theorem dJ0_newCapacity_21 : decode cJ0_newCapacity 21 = .ok (.iload_n 2, 1) := dk_28 (dk_at dksJ0_newCapacity_0 21 rfl rfl)
theorem dJ0_newCapacity_22 : decode cJ0_newCapacity 22 = .ok (.iconst 2, 1) := dk_5 (dk_at dksJ0_newCapacity_0 22 rfl rfl)
theorem dJ0_newCapacity_23 : decode cJ0_newCapacity 23 = .ok (.aload_n 0, 1) := dk_42 (dk_at dksJ0_newCapacity_0 23 rfl rfl)
theorem dJ0_newCapacity_24 : decode cJ0_newCapacity 24 = .ok (.getfield 22, 3) := dk_180 0 22 (dk_at dksJ0_newCapacity_1 0 rfl rfl)
theorem dJ0_newCapacity_27 : decode cJ0_newCapacity 27 = .ok (.ishl, 1) := dk_120 (dk_at dksJ0_newCapacity_1 3 rfl rfl)
theorem dJ0_newCapacity_28 : decode cJ0_newCapacity 28 = .ok (.iadd, 1) := dk_96 (dk_at dksJ0_newCapacity_1 4 rfl rfl)
theorem dJ0_newCapacity_29 : decode cJ0_newCapacity 29 = .ok (.invokestatic 114, 3) := dk_184 0 114 (dk_at dksJ0_newCapacity_1 5 rfl rfl)
theorem dJ0_newCapacity_32 : decode cJ0_newCapacity 32 = .ok (.istore 5, 2) := dk_54 5 (dk_at dksJ0_newCapacity_1 8 rfl rfl)
theorem dJ0_newCapacity_34 : decode cJ0_newCapacity 34 = .ok (.iload 5, 2) := dk_21 5 (dk_at dksJ0_newCapacity_1 10 rfl rfl)
theorem dJ0_newCapacity_36 : decode cJ0_newCapacity 36 = .ok (.ldc 39, 2) := dk_18 39 (dk_at dksJ0_newCapacity_1 12 rfl rfl)
theorem dJ0_newCapacity_38 : decode cJ0_newCapacity 38 = .ok (.if_icmp .ne 13, 3) := dk_160 0 13 (dk_at dksJ0_newCapacity_1 14 rfl rfl)
theorem dJ0_newCapacity_41 : decode cJ0_newCapacity 41 = .ok (.new 120, 3) := dk_187 0 120 (dk_at dksJ0_newCapacity_1 17 rfl rfl)
theorem dJ0_newCapacity_44 : decode cJ0_newCapacity 44 = .ok (.dup, 1) := dk_89 (dk_at dksJ0_newCapacity_1 20 rfl rfl)
theorem dJ0_newCapacity_45 : decode cJ0_newCapacity 45 = .ok (.ldc 122, 2) := dk_18 122 (dk_at dksJ0_newCapacity_1 21 rfl rfl)
theorem dJ0_newCapacity_47 : decode cJ0_newCapacity 47 = .ok (.invokespecial 124, 3) := dk_183 0 124 (dk_at dksJ0_newCapacity_2 0 rfl rfl)
theorem dJ0_newCapacity_50 : decode cJ0_newCapacity 50 = .ok (.athrow, 1) := dk_191 (dk_at dksJ0_newCapacity_2 3 rfl rfl)
theorem dJ0_newCapacity_51 : decode cJ0_newCapacity 51 = .ok (.iload 5, 2) := dk_21 5 (dk_at dksJ0_newCapacity_2 4 rfl rfl)
theorem dJ0_newCapacity_53 : decode cJ0_newCapacity 53 = .ok (.aload_n 0, 1) := dk_42 (dk_at dksJ0_newCapacity_2 6 rfl rfl)
theorem dJ0_newCapacity_54 : decode cJ0_newCapacity 54 = .ok (.getfield 22, 3) := dk_180 0 22 (dk_at dksJ0_newCapacity_2 7 rfl rfl)
theorem dJ0_newCapacity_57 : decode cJ0_newCapacity 57 = .ok (.ishr, 1) := dk_122 (dk_at dksJ0_newCapacity_2 10 rfl rfl)
theorem dJ0_newCapacity_58 : decode cJ0_newCapacity 58 = .ok (.ireturn, 1) := dk_172 (dk_at dksJ0_newCapacity_2 11 rfl rfl)
abbrev cJ0_isLatin1 : ByteArray := prog_26_method_68_code
def yJ0_isLatin1 : MethodName := ⟨RJ0, "isLatin1", "()Z"⟩
def dkwJ0_isLatin1_0 : List UInt8 := [178, 0, 18, 153, 0, 14, 42, 180, 0, 22, 154, 0, 7, 4, 167, 0, 4, 3, 172]
abbrev dktJ0_isLatin1_0 : List UInt8 := dkwJ0_isLatin1_0 ++ []
theorem dksJ0_isLatin1_0 : cJ0_isLatin1.data.toList.drop 0 = dktJ0_isLatin1_0 := by decide +kernel
theorem dJ0_isLatin1_0 : decode cJ0_isLatin1 0 = .ok (.getstatic 18, 3) := dk_178 0 18 (dk_at dksJ0_isLatin1_0 0 rfl rfl)
theorem dJ0_isLatin1_3 : decode cJ0_isLatin1 3 = .ok (.ifCond .eq 14, 3) := dk_153 0 14 (dk_at dksJ0_isLatin1_0 3 rfl rfl)
theorem dJ0_isLatin1_6 : decode cJ0_isLatin1 6 = .ok (.aload_n 0, 1) := dk_42 (dk_at dksJ0_isLatin1_0 6 rfl rfl)
theorem dJ0_isLatin1_7 : decode cJ0_isLatin1 7 = .ok (.getfield 22, 3) := dk_180 0 22 (dk_at dksJ0_isLatin1_0 7 rfl rfl)
theorem dJ0_isLatin1_10 : decode cJ0_isLatin1 10 = .ok (.ifCond .ne 7, 3) := dk_154 0 7 (dk_at dksJ0_isLatin1_0 10 rfl rfl)
theorem dJ0_isLatin1_13 : decode cJ0_isLatin1 13 = .ok (.iconst 1, 1) := dk_4 (dk_at dksJ0_isLatin1_0 13 rfl rfl)
theorem dJ0_isLatin1_14 : decode cJ0_isLatin1 14 = .ok (.goto 4, 3) := dk_167 0 4 (dk_at dksJ0_isLatin1_0 14 rfl rfl)
theorem dJ0_isLatin1_17 : decode cJ0_isLatin1 17 = .ok (.iconst 0, 1) := dk_3 (dk_at dksJ0_isLatin1_0 17 rfl rfl)
theorem dJ0_isLatin1_18 : decode cJ0_isLatin1 18 = .ok (.ireturn, 1) := dk_172 (dk_at dksJ0_isLatin1_0 18 rfl rfl)
abbrev cJ0_putStringAt : ByteArray := prog_26_method_73_code
def yJ0_putStringAt : MethodName := ⟨RJ0, "putStringAt", "(ILjava/lang/String;)V"⟩
def dkwJ0_putStringAt_0 : List UInt8 := [42, 44, 182, 1, 141, 44, 42, 180, 0, 15, 27, 42, 180, 0, 22, 182, 1, 143, 177]
abbrev dktJ0_putStringAt_0 : List UInt8 := dkwJ0_putStringAt_0 ++ []
theorem dksJ0_putStringAt_0 : cJ0_putStringAt.data.toList.drop 0 = dktJ0_putStringAt_0 := by decide +kernel
theorem dJ0_putStringAt_0 : decode cJ0_putStringAt 0 = .ok (.aload_n 0, 1) := dk_42 (dk_at dksJ0_putStringAt_0 0 rfl rfl)
theorem dJ0_putStringAt_1 : decode cJ0_putStringAt 1 = .ok (.aload_n 2, 1) := dk_44 (dk_at dksJ0_putStringAt_0 1 rfl rfl)
theorem dJ0_putStringAt_2 : decode cJ0_putStringAt 2 = .ok (.invokevirtual 397, 3) := dk_182 1 141 (dk_at dksJ0_putStringAt_0 2 rfl rfl)
theorem dJ0_putStringAt_5 : decode cJ0_putStringAt 5 = .ok (.aload_n 2, 1) := dk_44 (dk_at dksJ0_putStringAt_0 5 rfl rfl)
theorem dJ0_putStringAt_6 : decode cJ0_putStringAt 6 = .ok (.aload_n 0, 1) := dk_42 (dk_at dksJ0_putStringAt_0 6 rfl rfl)
theorem dJ0_putStringAt_7 : decode cJ0_putStringAt 7 = .ok (.getfield 15, 3) := dk_180 0 15 (dk_at dksJ0_putStringAt_0 7 rfl rfl)
theorem dJ0_putStringAt_10 : decode cJ0_putStringAt 10 = .ok (.iload_n 1, 1) := dk_27 (dk_at dksJ0_putStringAt_0 10 rfl rfl)
theorem dJ0_putStringAt_11 : decode cJ0_putStringAt 11 = .ok (.aload_n 0, 1) := dk_42 (dk_at dksJ0_putStringAt_0 11 rfl rfl)
theorem dJ0_putStringAt_12 : decode cJ0_putStringAt 12 = .ok (.getfield 22, 3) := dk_180 0 22 (dk_at dksJ0_putStringAt_0 12 rfl rfl)
theorem dJ0_putStringAt_15 : decode cJ0_putStringAt 15 = .ok (.invokevirtual 399, 3) := dk_182 1 143 (dk_at dksJ0_putStringAt_0 15 rfl rfl)
theorem dJ0_putStringAt_18 : decode cJ0_putStringAt 18 = .ok (.return_, 1) := dk_177 (dk_at dksJ0_putStringAt_0 18 rfl rfl)
abbrev cJ0_inflateIfNeededFor : ByteArray := prog_26_method_71_code
def yJ0_inflateIfNeededFor : MethodName := ⟨RJ0, "inflateIfNeededFor", "(Ljava/lang/String;)V"⟩
def dkwJ0_inflateIfNeededFor_0 : List UInt8 := [178, 0, 18, 153, 0, 18, 42, 180, 0, 22, 43, 182, 0, 40, 159, 0, 7, 42, 182, 0, 195, 177]
abbrev dktJ0_inflateIfNeededFor_0 : List UInt8 := dkwJ0_inflateIfNeededFor_0 ++ []
theorem dksJ0_inflateIfNeededFor_0 : cJ0_inflateIfNeededFor.data.toList.drop 0 = dktJ0_inflateIfNeededFor_0 := by decide +kernel
theorem dJ0_inflateIfNeededFor_0 : decode cJ0_inflateIfNeededFor 0 = .ok (.getstatic 18, 3) := dk_178 0 18 (dk_at dksJ0_inflateIfNeededFor_0 0 rfl rfl)
theorem dJ0_inflateIfNeededFor_3 : decode cJ0_inflateIfNeededFor 3 = .ok (.ifCond .eq 18, 3) := dk_153 0 18 (dk_at dksJ0_inflateIfNeededFor_0 3 rfl rfl)
theorem dJ0_inflateIfNeededFor_6 : decode cJ0_inflateIfNeededFor 6 = .ok (.aload_n 0, 1) := dk_42 (dk_at dksJ0_inflateIfNeededFor_0 6 rfl rfl)
theorem dJ0_inflateIfNeededFor_7 : decode cJ0_inflateIfNeededFor 7 = .ok (.getfield 22, 3) := dk_180 0 22 (dk_at dksJ0_inflateIfNeededFor_0 7 rfl rfl)
theorem dJ0_inflateIfNeededFor_10 : decode cJ0_inflateIfNeededFor 10 = .ok (.aload_n 1, 1) := dk_43 (dk_at dksJ0_inflateIfNeededFor_0 10 rfl rfl)
theorem dJ0_inflateIfNeededFor_11 : decode cJ0_inflateIfNeededFor 11 = .ok (.invokevirtual 40, 3) := dk_182 0 40 (dk_at dksJ0_inflateIfNeededFor_0 11 rfl rfl)
theorem dJ0_inflateIfNeededFor_14 : decode cJ0_inflateIfNeededFor 14 = .ok (.if_icmp .eq 7, 3) := dk_159 0 7 (dk_at dksJ0_inflateIfNeededFor_0 14 rfl rfl)
theorem dJ0_inflateIfNeededFor_17 : decode cJ0_inflateIfNeededFor 17 = .ok (.aload_n 0, 1) := dk_42 (dk_at dksJ0_inflateIfNeededFor_0 17 rfl rfl)
theorem dJ0_inflateIfNeededFor_18 : decode cJ0_inflateIfNeededFor 18 = .ok (.invokevirtual 195, 3) := dk_182 0 195 (dk_at dksJ0_inflateIfNeededFor_0 18 rfl rfl)
theorem dJ0_inflateIfNeededFor_21 : decode cJ0_inflateIfNeededFor 21 = .ok (.return_, 1) := dk_177 (dk_at dksJ0_inflateIfNeededFor_0 21 rfl rfl)
abbrev cJ0_inflate : ByteArray := prog_26_method_11_code
def yJ0_inflate : MethodName := ⟨RJ0, "inflate", "()V"⟩
def dkwJ0_inflate_1 : List UInt8 := [42, 180, 0, 79, 184, 0, 125, 42, 43, 181, 0, 15, 42, 4, 181, 0, 22, 177]
abbrev dktJ0_inflate_1 : List UInt8 := dkwJ0_inflate_1 ++ []
def dkwJ0_inflate_0 : List UInt8 := [42, 182, 0, 83, 154, 0, 4, 177, 42, 180, 0, 15, 190, 184, 0, 26, 76, 42, 180, 0, 15, 3, 43, 3]
abbrev dktJ0_inflate_0 : List UInt8 := dkwJ0_inflate_0 ++ dktJ0_inflate_1
theorem dksJ0_inflate_0 : cJ0_inflate.data.toList.drop 0 = dktJ0_inflate_0 := by decide +kernel
theorem dksJ0_inflate_1 : cJ0_inflate.data.toList.drop 24 = dktJ0_inflate_1 := dk_seg dksJ0_inflate_0 24 rfl rfl
theorem dJ0_inflate_0 : decode cJ0_inflate 0 = .ok (.aload_n 0, 1) := dk_42 (dk_at dksJ0_inflate_0 0 rfl rfl)
theorem dJ0_inflate_1 : decode cJ0_inflate 1 = .ok (.invokevirtual 83, 3) := dk_182 0 83 (dk_at dksJ0_inflate_0 1 rfl rfl)
theorem dJ0_inflate_4 : decode cJ0_inflate 4 = .ok (.ifCond .ne 4, 3) := dk_154 0 4 (dk_at dksJ0_inflate_0 4 rfl rfl)
theorem dJ0_inflate_7 : decode cJ0_inflate 7 = .ok (.return_, 1) := dk_177 (dk_at dksJ0_inflate_0 7 rfl rfl)
theorem dJ0_inflate_8 : decode cJ0_inflate 8 = .ok (.aload_n 0, 1) := dk_42 (dk_at dksJ0_inflate_0 8 rfl rfl)
theorem dJ0_inflate_9 : decode cJ0_inflate 9 = .ok (.getfield 15, 3) := dk_180 0 15 (dk_at dksJ0_inflate_0 9 rfl rfl)
theorem dJ0_inflate_12 : decode cJ0_inflate 12 = .ok (.arraylength, 1) := dk_190 (dk_at dksJ0_inflate_0 12 rfl rfl)
theorem dJ0_inflate_13 : decode cJ0_inflate 13 = .ok (.invokestatic 26, 3) := dk_184 0 26 (dk_at dksJ0_inflate_0 13 rfl rfl)
theorem dJ0_inflate_16 : decode cJ0_inflate 16 = .ok (.astore_n 1, 1) := dk_76 (dk_at dksJ0_inflate_0 16 rfl rfl)
theorem dJ0_inflate_17 : decode cJ0_inflate 17 = .ok (.aload_n 0, 1) := dk_42 (dk_at dksJ0_inflate_0 17 rfl rfl)
theorem dJ0_inflate_18 : decode cJ0_inflate 18 = .ok (.getfield 15, 3) := dk_180 0 15 (dk_at dksJ0_inflate_0 18 rfl rfl)
theorem dJ0_inflate_21 : decode cJ0_inflate 21 = .ok (.iconst 0, 1) := dk_3 (dk_at dksJ0_inflate_0 21 rfl rfl)
theorem dJ0_inflate_22 : decode cJ0_inflate 22 = .ok (.aload_n 1, 1) := dk_43 (dk_at dksJ0_inflate_0 22 rfl rfl)
theorem dJ0_inflate_23 : decode cJ0_inflate 23 = .ok (.iconst 0, 1) := dk_3 (dk_at dksJ0_inflate_0 23 rfl rfl)
theorem dJ0_inflate_24 : decode cJ0_inflate 24 = .ok (.aload_n 0, 1) := dk_42 (dk_at dksJ0_inflate_1 0 rfl rfl)
theorem dJ0_inflate_25 : decode cJ0_inflate 25 = .ok (.getfield 79, 3) := dk_180 0 79 (dk_at dksJ0_inflate_1 1 rfl rfl)
theorem dJ0_inflate_28 : decode cJ0_inflate 28 = .ok (.invokestatic 125, 3) := dk_184 0 125 (dk_at dksJ0_inflate_1 4 rfl rfl)
theorem dJ0_inflate_31 : decode cJ0_inflate 31 = .ok (.aload_n 0, 1) := dk_42 (dk_at dksJ0_inflate_1 7 rfl rfl)
theorem dJ0_inflate_32 : decode cJ0_inflate 32 = .ok (.aload_n 1, 1) := dk_43 (dk_at dksJ0_inflate_1 8 rfl rfl)
theorem dJ0_inflate_33 : decode cJ0_inflate 33 = .ok (.putfield 15, 3) := dk_181 0 15 (dk_at dksJ0_inflate_1 9 rfl rfl)
theorem dJ0_inflate_36 : decode cJ0_inflate 36 = .ok (.aload_n 0, 1) := dk_42 (dk_at dksJ0_inflate_1 12 rfl rfl)
theorem dJ0_inflate_37 : decode cJ0_inflate 37 = .ok (.iconst 1, 1) := dk_4 (dk_at dksJ0_inflate_1 13 rfl rfl)
theorem dJ0_inflate_38 : decode cJ0_inflate 38 = .ok (.putfield 22, 3) := dk_181 0 22 (dk_at dksJ0_inflate_1 14 rfl rfl)
theorem dJ0_inflate_41 : decode cJ0_inflate 41 = .ok (.return_, 1) := dk_177 (dk_at dksJ0_inflate_1 17 rfl rfl)
abbrev cJ0_append_2 : ByteArray := prog_26_method_31_code
def yJ0_append_2 : MethodName := ⟨RJ0, "append", "(C)Ljava/lang/AbstractStringBuilder;"⟩
def dkwJ0_append_2_3 : List UInt8 := [181, 0, 79, 27, 184, 0, 197, 42, 176]
abbrev dktJ0_append_2_3 : List UInt8 := dkwJ0_append_2_3 ++ []
def dkwJ0_append_2_2 : List UInt8 := [182, 0, 83, 153, 0, 7, 42, 182, 0, 195, 42, 180, 0, 15, 42, 89, 180, 0, 79, 90, 4, 96]
abbrev dktJ0_append_2_2 : List UInt8 := dkwJ0_append_2_2 ++ dktJ0_append_2_3
def dkwJ0_append_2_1 : List UInt8 := [42, 180, 0, 15, 42, 89, 180, 0, 79, 90, 4, 96, 181, 0, 79, 27, 145, 84, 167, 0, 33, 42]
abbrev dktJ0_append_2_1 : List UInt8 := dkwJ0_append_2_1 ++ dktJ0_append_2_2
def dkwJ0_append_2_0 : List UInt8 := [42, 42, 180, 0, 79, 4, 96, 182, 0, 100, 42, 182, 0, 83, 153, 0, 31, 27, 184, 0, 191, 153, 0, 24]
abbrev dktJ0_append_2_0 : List UInt8 := dkwJ0_append_2_0 ++ dktJ0_append_2_1
theorem dksJ0_append_2_0 : cJ0_append_2.data.toList.drop 0 = dktJ0_append_2_0 := by decide +kernel
theorem dksJ0_append_2_1 : cJ0_append_2.data.toList.drop 24 = dktJ0_append_2_1 := dk_seg dksJ0_append_2_0 24 rfl rfl
theorem dksJ0_append_2_2 : cJ0_append_2.data.toList.drop 46 = dktJ0_append_2_2 := dk_seg dksJ0_append_2_1 22 rfl rfl
theorem dksJ0_append_2_3 : cJ0_append_2.data.toList.drop 68 = dktJ0_append_2_3 := dk_seg dksJ0_append_2_2 22 rfl rfl
theorem dJ0_append_2_0 : decode cJ0_append_2 0 = .ok (.aload_n 0, 1) := dk_42 (dk_at dksJ0_append_2_0 0 rfl rfl)
theorem dJ0_append_2_1 : decode cJ0_append_2 1 = .ok (.aload_n 0, 1) := dk_42 (dk_at dksJ0_append_2_0 1 rfl rfl)
theorem dJ0_append_2_2 : decode cJ0_append_2 2 = .ok (.getfield 79, 3) := dk_180 0 79 (dk_at dksJ0_append_2_0 2 rfl rfl)
theorem dJ0_append_2_5 : decode cJ0_append_2 5 = .ok (.iconst 1, 1) := dk_4 (dk_at dksJ0_append_2_0 5 rfl rfl)
theorem dJ0_append_2_6 : decode cJ0_append_2 6 = .ok (.iadd, 1) := dk_96 (dk_at dksJ0_append_2_0 6 rfl rfl)
theorem dJ0_append_2_7 : decode cJ0_append_2 7 = .ok (.invokevirtual 100, 3) := dk_182 0 100 (dk_at dksJ0_append_2_0 7 rfl rfl)
theorem dJ0_append_2_10 : decode cJ0_append_2 10 = .ok (.aload_n 0, 1) := dk_42 (dk_at dksJ0_append_2_0 10 rfl rfl)
theorem dJ0_append_2_11 : decode cJ0_append_2 11 = .ok (.invokevirtual 83, 3) := dk_182 0 83 (dk_at dksJ0_append_2_0 11 rfl rfl)
theorem dJ0_append_2_14 : decode cJ0_append_2 14 = .ok (.ifCond .eq 31, 3) := dk_153 0 31 (dk_at dksJ0_append_2_0 14 rfl rfl)
theorem dJ0_append_2_17 : decode cJ0_append_2 17 = .ok (.iload_n 1, 1) := dk_27 (dk_at dksJ0_append_2_0 17 rfl rfl)
theorem dJ0_append_2_18 : decode cJ0_append_2 18 = .ok (.invokestatic 191, 3) := dk_184 0 191 (dk_at dksJ0_append_2_0 18 rfl rfl)
theorem dJ0_append_2_21 : decode cJ0_append_2 21 = .ok (.ifCond .eq 24, 3) := dk_153 0 24 (dk_at dksJ0_append_2_0 21 rfl rfl)
theorem dJ0_append_2_24 : decode cJ0_append_2 24 = .ok (.aload_n 0, 1) := dk_42 (dk_at dksJ0_append_2_1 0 rfl rfl)
theorem dJ0_append_2_25 : decode cJ0_append_2 25 = .ok (.getfield 15, 3) := dk_180 0 15 (dk_at dksJ0_append_2_1 1 rfl rfl)
theorem dJ0_append_2_28 : decode cJ0_append_2 28 = .ok (.aload_n 0, 1) := dk_42 (dk_at dksJ0_append_2_1 4 rfl rfl)
theorem dJ0_append_2_29 : decode cJ0_append_2 29 = .ok (.dup, 1) := dk_89 (dk_at dksJ0_append_2_1 5 rfl rfl)
theorem dJ0_append_2_30 : decode cJ0_append_2 30 = .ok (.getfield 79, 3) := dk_180 0 79 (dk_at dksJ0_append_2_1 6 rfl rfl)
theorem dJ0_append_2_33 : decode cJ0_append_2 33 = .ok (.dup_x1, 1) := dk_90 (dk_at dksJ0_append_2_1 9 rfl rfl)
theorem dJ0_append_2_34 : decode cJ0_append_2 34 = .ok (.iconst 1, 1) := dk_4 (dk_at dksJ0_append_2_1 10 rfl rfl)
theorem dJ0_append_2_35 : decode cJ0_append_2 35 = .ok (.iadd, 1) := dk_96 (dk_at dksJ0_append_2_1 11 rfl rfl)
theorem dJ0_append_2_36 : decode cJ0_append_2 36 = .ok (.putfield 79, 3) := dk_181 0 79 (dk_at dksJ0_append_2_1 12 rfl rfl)
theorem dJ0_append_2_39 : decode cJ0_append_2 39 = .ok (.iload_n 1, 1) := dk_27 (dk_at dksJ0_append_2_1 15 rfl rfl)
theorem dJ0_append_2_40 : decode cJ0_append_2 40 = .ok (.i2b, 1) := dk_145 (dk_at dksJ0_append_2_1 16 rfl rfl)
theorem dJ0_append_2_41 : decode cJ0_append_2 41 = .ok (.bastore, 1) := dk_84 (dk_at dksJ0_append_2_1 17 rfl rfl)
theorem dJ0_append_2_42 : decode cJ0_append_2 42 = .ok (.goto 33, 3) := dk_167 0 33 (dk_at dksJ0_append_2_1 18 rfl rfl)
theorem dJ0_append_2_45 : decode cJ0_append_2 45 = .ok (.aload_n 0, 1) := dk_42 (dk_at dksJ0_append_2_1 21 rfl rfl)
theorem dJ0_append_2_46 : decode cJ0_append_2 46 = .ok (.invokevirtual 83, 3) := dk_182 0 83 (dk_at dksJ0_append_2_2 0 rfl rfl)
theorem dJ0_append_2_49 : decode cJ0_append_2 49 = .ok (.ifCond .eq 7, 3) := dk_153 0 7 (dk_at dksJ0_append_2_2 3 rfl rfl)
theorem dJ0_append_2_52 : decode cJ0_append_2 52 = .ok (.aload_n 0, 1) := dk_42 (dk_at dksJ0_append_2_2 6 rfl rfl)
theorem dJ0_append_2_53 : decode cJ0_append_2 53 = .ok (.invokevirtual 195, 3) := dk_182 0 195 (dk_at dksJ0_append_2_2 7 rfl rfl)
theorem dJ0_append_2_56 : decode cJ0_append_2 56 = .ok (.aload_n 0, 1) := dk_42 (dk_at dksJ0_append_2_2 10 rfl rfl)
theorem dJ0_append_2_57 : decode cJ0_append_2 57 = .ok (.getfield 15, 3) := dk_180 0 15 (dk_at dksJ0_append_2_2 11 rfl rfl)
theorem dJ0_append_2_60 : decode cJ0_append_2 60 = .ok (.aload_n 0, 1) := dk_42 (dk_at dksJ0_append_2_2 14 rfl rfl)
theorem dJ0_append_2_61 : decode cJ0_append_2 61 = .ok (.dup, 1) := dk_89 (dk_at dksJ0_append_2_2 15 rfl rfl)
theorem dJ0_append_2_62 : decode cJ0_append_2 62 = .ok (.getfield 79, 3) := dk_180 0 79 (dk_at dksJ0_append_2_2 16 rfl rfl)
theorem dJ0_append_2_65 : decode cJ0_append_2 65 = .ok (.dup_x1, 1) := dk_90 (dk_at dksJ0_append_2_2 19 rfl rfl)
theorem dJ0_append_2_66 : decode cJ0_append_2 66 = .ok (.iconst 1, 1) := dk_4 (dk_at dksJ0_append_2_2 20 rfl rfl)
theorem dJ0_append_2_67 : decode cJ0_append_2 67 = .ok (.iadd, 1) := dk_96 (dk_at dksJ0_append_2_2 21 rfl rfl)
theorem dJ0_append_2_68 : decode cJ0_append_2 68 = .ok (.putfield 79, 3) := dk_181 0 79 (dk_at dksJ0_append_2_3 0 rfl rfl)
theorem dJ0_append_2_71 : decode cJ0_append_2 71 = .ok (.iload_n 1, 1) := dk_27 (dk_at dksJ0_append_2_3 3 rfl rfl)
theorem dJ0_append_2_72 : decode cJ0_append_2 72 = .ok (.invokestatic 197, 3) := dk_184 0 197 (dk_at dksJ0_append_2_3 4 rfl rfl)
theorem dJ0_append_2_75 : decode cJ0_append_2 75 = .ok (.aload_n 0, 1) := dk_42 (dk_at dksJ0_append_2_3 7 rfl rfl)
theorem dJ0_append_2_76 : decode cJ0_append_2 76 = .ok (.areturn, 1) := dk_176 (dk_at dksJ0_append_2_3 8 rfl rfl)
abbrev cJ0_getValue : ByteArray := prog_26_method_64_code
def yJ0_getValue : MethodName := ⟨RJ0, "getValue", "()[B"⟩
theorem dJ0_getValue_0 : decode cJ0_getValue 0 = .ok (.aload_n 0, 1) := by decide +kernel
theorem dJ0_getValue_1 : decode cJ0_getValue 1 = .ok (.getfield 15, 3) := by decide +kernel
theorem dJ0_getValue_4 : decode cJ0_getValue 4 = .ok (.areturn, 1) := by decide +kernel
abbrev cJ0_length : ByteArray := prog_26_method_6_code
def yJ0_length : MethodName := ⟨RJ0, "length", "()I"⟩
theorem dJ0_length_0 : decode cJ0_length 0 = .ok (.aload_n 0, 1) := by decide +kernel
theorem dJ0_length_1 : decode cJ0_length 1 = .ok (.getfield 79, 3) := by decide +kernel
theorem dJ0_length_4 : decode cJ0_length 4 = .ok (.ireturn, 1) := by decide +kernel
abbrev cJ0_append_3 : ByteArray := prog_26_method_32_code
def yJ0_append_3 : MethodName := ⟨RJ0, "append", "(I)Ljava/lang/AbstractStringBuilder;"⟩
def dkwJ0_append_3_2 : List UInt8 := [42, 29, 181, 0, 79, 42, 176]
abbrev dktJ0_append_3_2 : List UInt8 := dkwJ0_append_3_2 ++ []
def dkwJ0_append_3_1 : List UInt8 := [27, 29, 42, 180, 0, 15, 184, 0, 248, 87, 167, 0, 14, 27, 28, 29, 42, 180, 0, 15, 184, 0, 251, 87]
abbrev dktJ0_append_3_1 : List UInt8 := dkwJ0_append_3_1 ++ dktJ0_append_3_2
def dkwJ0_append_3_0 : List UInt8 := [42, 180, 0, 79, 61, 28, 27, 184, 0, 245, 96, 62, 42, 29, 182, 0, 100, 42, 182, 0, 83, 153, 0, 16]
abbrev dktJ0_append_3_0 : List UInt8 := dkwJ0_append_3_0 ++ dktJ0_append_3_1
theorem dksJ0_append_3_0 : cJ0_append_3.data.toList.drop 0 = dktJ0_append_3_0 := by decide +kernel
theorem dksJ0_append_3_1 : cJ0_append_3.data.toList.drop 24 = dktJ0_append_3_1 := dk_seg dksJ0_append_3_0 24 rfl rfl
theorem dksJ0_append_3_2 : cJ0_append_3.data.toList.drop 48 = dktJ0_append_3_2 := dk_seg dksJ0_append_3_1 24 rfl rfl
theorem dJ0_append_3_0 : decode cJ0_append_3 0 = .ok (.aload_n 0, 1) := dk_42 (dk_at dksJ0_append_3_0 0 rfl rfl)
theorem dJ0_append_3_1 : decode cJ0_append_3 1 = .ok (.getfield 79, 3) := dk_180 0 79 (dk_at dksJ0_append_3_0 1 rfl rfl)
theorem dJ0_append_3_4 : decode cJ0_append_3 4 = .ok (.istore_n 2, 1) := dk_61 (dk_at dksJ0_append_3_0 4 rfl rfl)
theorem dJ0_append_3_5 : decode cJ0_append_3 5 = .ok (.iload_n 2, 1) := dk_28 (dk_at dksJ0_append_3_0 5 rfl rfl)
theorem dJ0_append_3_6 : decode cJ0_append_3 6 = .ok (.iload_n 1, 1) := dk_27 (dk_at dksJ0_append_3_0 6 rfl rfl)
theorem dJ0_append_3_7 : decode cJ0_append_3 7 = .ok (.invokestatic 245, 3) := dk_184 0 245 (dk_at dksJ0_append_3_0 7 rfl rfl)
theorem dJ0_append_3_10 : decode cJ0_append_3 10 = .ok (.iadd, 1) := dk_96 (dk_at dksJ0_append_3_0 10 rfl rfl)
theorem dJ0_append_3_11 : decode cJ0_append_3 11 = .ok (.istore_n 3, 1) := dk_62 (dk_at dksJ0_append_3_0 11 rfl rfl)
theorem dJ0_append_3_12 : decode cJ0_append_3 12 = .ok (.aload_n 0, 1) := dk_42 (dk_at dksJ0_append_3_0 12 rfl rfl)
theorem dJ0_append_3_13 : decode cJ0_append_3 13 = .ok (.iload_n 3, 1) := dk_29 (dk_at dksJ0_append_3_0 13 rfl rfl)
theorem dJ0_append_3_14 : decode cJ0_append_3 14 = .ok (.invokevirtual 100, 3) := dk_182 0 100 (dk_at dksJ0_append_3_0 14 rfl rfl)
theorem dJ0_append_3_17 : decode cJ0_append_3 17 = .ok (.aload_n 0, 1) := dk_42 (dk_at dksJ0_append_3_0 17 rfl rfl)
theorem dJ0_append_3_18 : decode cJ0_append_3 18 = .ok (.invokevirtual 83, 3) := dk_182 0 83 (dk_at dksJ0_append_3_0 18 rfl rfl)
theorem dJ0_append_3_21 : decode cJ0_append_3 21 = .ok (.ifCond .eq 16, 3) := dk_153 0 16 (dk_at dksJ0_append_3_0 21 rfl rfl)
theorem dJ0_append_3_24 : decode cJ0_append_3 24 = .ok (.iload_n 1, 1) := dk_27 (dk_at dksJ0_append_3_1 0 rfl rfl)
theorem dJ0_append_3_25 : decode cJ0_append_3 25 = .ok (.iload_n 3, 1) := dk_29 (dk_at dksJ0_append_3_1 1 rfl rfl)
theorem dJ0_append_3_26 : decode cJ0_append_3 26 = .ok (.aload_n 0, 1) := dk_42 (dk_at dksJ0_append_3_1 2 rfl rfl)
theorem dJ0_append_3_27 : decode cJ0_append_3 27 = .ok (.getfield 15, 3) := dk_180 0 15 (dk_at dksJ0_append_3_1 3 rfl rfl)
theorem dJ0_append_3_30 : decode cJ0_append_3 30 = .ok (.invokestatic 248, 3) := dk_184 0 248 (dk_at dksJ0_append_3_1 6 rfl rfl)
theorem dJ0_append_3_33 : decode cJ0_append_3 33 = .ok (.pop, 1) := dk_87 (dk_at dksJ0_append_3_1 9 rfl rfl)
theorem dJ0_append_3_34 : decode cJ0_append_3 34 = .ok (.goto 14, 3) := dk_167 0 14 (dk_at dksJ0_append_3_1 10 rfl rfl)
theorem dJ0_append_3_37 : decode cJ0_append_3 37 = .ok (.iload_n 1, 1) := dk_27 (dk_at dksJ0_append_3_1 13 rfl rfl)
theorem dJ0_append_3_38 : decode cJ0_append_3 38 = .ok (.iload_n 2, 1) := dk_28 (dk_at dksJ0_append_3_1 14 rfl rfl)
theorem dJ0_append_3_39 : decode cJ0_append_3 39 = .ok (.iload_n 3, 1) := dk_29 (dk_at dksJ0_append_3_1 15 rfl rfl)
theorem dJ0_append_3_40 : decode cJ0_append_3 40 = .ok (.aload_n 0, 1) := dk_42 (dk_at dksJ0_append_3_1 16 rfl rfl)
theorem dJ0_append_3_41 : decode cJ0_append_3 41 = .ok (.getfield 15, 3) := dk_180 0 15 (dk_at dksJ0_append_3_1 17 rfl rfl)
theorem dJ0_append_3_44 : decode cJ0_append_3 44 = .ok (.invokestatic 251, 3) := dk_184 0 251 (dk_at dksJ0_append_3_1 20 rfl rfl)
theorem dJ0_append_3_47 : decode cJ0_append_3 47 = .ok (.pop, 1) := dk_87 (dk_at dksJ0_append_3_1 23 rfl rfl)
theorem dJ0_append_3_48 : decode cJ0_append_3 48 = .ok (.aload_n 0, 1) := dk_42 (dk_at dksJ0_append_3_2 0 rfl rfl)
theorem dJ0_append_3_49 : decode cJ0_append_3 49 = .ok (.iload_n 3, 1) := dk_29 (dk_at dksJ0_append_3_2 1 rfl rfl)
theorem dJ0_append_3_50 : decode cJ0_append_3 50 = .ok (.putfield 79, 3) := dk_181 0 79 (dk_at dksJ0_append_3_2 2 rfl rfl)
theorem dJ0_append_3_53 : decode cJ0_append_3 53 = .ok (.aload_n 0, 1) := dk_42 (dk_at dksJ0_append_3_2 5 rfl rfl)
theorem dJ0_append_3_54 : decode cJ0_append_3 54 = .ok (.areturn, 1) := dk_176 (dk_at dksJ0_append_3_2 6 rfl rfl)
abbrev cJ0_charAt : ByteArray := prog_26_method_14_code
def yJ0_charAt : MethodName := ⟨RJ0, "charAt", "(I)C"⟩
def dkwJ0_charAt_1 : List UInt8 := [21, 4, 184, 0, 144, 28, 154, 0, 12, 45, 27, 51, 17, 0, 255, 126, 146, 172, 45, 27, 184, 0, 148, 172]
abbrev dktJ0_charAt_1 : List UInt8 := dkwJ0_charAt_1 ++ []
def dkwJ0_charAt_0 : List UInt8 := [42, 180, 0, 22, 61, 42, 180, 0, 15, 78, 42, 180, 0, 79, 45, 190, 28, 122, 184, 0, 138, 54, 4, 27]
abbrev dktJ0_charAt_0 : List UInt8 := dkwJ0_charAt_0 ++ dktJ0_charAt_1
theorem dksJ0_charAt_0 : cJ0_charAt.data.toList.drop 0 = dktJ0_charAt_0 := by decide +kernel
theorem dksJ0_charAt_1 : cJ0_charAt.data.toList.drop 24 = dktJ0_charAt_1 := dk_seg dksJ0_charAt_0 24 rfl rfl
theorem dJ0_charAt_0 : decode cJ0_charAt 0 = .ok (.aload_n 0, 1) := dk_42 (dk_at dksJ0_charAt_0 0 rfl rfl)
theorem dJ0_charAt_1 : decode cJ0_charAt 1 = .ok (.getfield 22, 3) := dk_180 0 22 (dk_at dksJ0_charAt_0 1 rfl rfl)
theorem dJ0_charAt_4 : decode cJ0_charAt 4 = .ok (.istore_n 2, 1) := dk_61 (dk_at dksJ0_charAt_0 4 rfl rfl)
theorem dJ0_charAt_5 : decode cJ0_charAt 5 = .ok (.aload_n 0, 1) := dk_42 (dk_at dksJ0_charAt_0 5 rfl rfl)
theorem dJ0_charAt_6 : decode cJ0_charAt 6 = .ok (.getfield 15, 3) := dk_180 0 15 (dk_at dksJ0_charAt_0 6 rfl rfl)
theorem dJ0_charAt_9 : decode cJ0_charAt 9 = .ok (.astore_n 3, 1) := dk_78 (dk_at dksJ0_charAt_0 9 rfl rfl)
theorem dJ0_charAt_10 : decode cJ0_charAt 10 = .ok (.aload_n 0, 1) := dk_42 (dk_at dksJ0_charAt_0 10 rfl rfl)
theorem dJ0_charAt_11 : decode cJ0_charAt 11 = .ok (.getfield 79, 3) := dk_180 0 79 (dk_at dksJ0_charAt_0 11 rfl rfl)
theorem dJ0_charAt_14 : decode cJ0_charAt 14 = .ok (.aload_n 3, 1) := dk_45 (dk_at dksJ0_charAt_0 14 rfl rfl)
theorem dJ0_charAt_15 : decode cJ0_charAt 15 = .ok (.arraylength, 1) := dk_190 (dk_at dksJ0_charAt_0 15 rfl rfl)
theorem dJ0_charAt_16 : decode cJ0_charAt 16 = .ok (.iload_n 2, 1) := dk_28 (dk_at dksJ0_charAt_0 16 rfl rfl)
theorem dJ0_charAt_17 : decode cJ0_charAt 17 = .ok (.ishr, 1) := dk_122 (dk_at dksJ0_charAt_0 17 rfl rfl)
theorem dJ0_charAt_18 : decode cJ0_charAt 18 = .ok (.invokestatic 138, 3) := dk_184 0 138 (dk_at dksJ0_charAt_0 18 rfl rfl)
theorem dJ0_charAt_21 : decode cJ0_charAt 21 = .ok (.istore 4, 2) := dk_54 4 (dk_at dksJ0_charAt_0 21 rfl rfl)
theorem dJ0_charAt_23 : decode cJ0_charAt 23 = .ok (.iload_n 1, 1) := dk_27 (dk_at dksJ0_charAt_0 23 rfl rfl)
theorem dJ0_charAt_24 : decode cJ0_charAt 24 = .ok (.iload 4, 2) := dk_21 4 (dk_at dksJ0_charAt_1 0 rfl rfl)
theorem dJ0_charAt_26 : decode cJ0_charAt 26 = .ok (.invokestatic 144, 3) := dk_184 0 144 (dk_at dksJ0_charAt_1 2 rfl rfl)
theorem dJ0_charAt_29 : decode cJ0_charAt 29 = .ok (.iload_n 2, 1) := dk_28 (dk_at dksJ0_charAt_1 5 rfl rfl)
theorem dJ0_charAt_30 : decode cJ0_charAt 30 = .ok (.ifCond .ne 12, 3) := dk_154 0 12 (dk_at dksJ0_charAt_1 6 rfl rfl)
theorem dJ0_charAt_33 : decode cJ0_charAt 33 = .ok (.aload_n 3, 1) := dk_45 (dk_at dksJ0_charAt_1 9 rfl rfl)
theorem dJ0_charAt_34 : decode cJ0_charAt 34 = .ok (.iload_n 1, 1) := dk_27 (dk_at dksJ0_charAt_1 10 rfl rfl)
theorem dJ0_charAt_35 : decode cJ0_charAt 35 = .ok (.baload, 1) := dk_51 (dk_at dksJ0_charAt_1 11 rfl rfl)
theorem dJ0_charAt_36 : decode cJ0_charAt 36 = .ok (.sipush 255, 3) := dk_17 0 255 (dk_at dksJ0_charAt_1 12 rfl rfl)
theorem dJ0_charAt_39 : decode cJ0_charAt 39 = .ok (.iand, 1) := dk_126 (dk_at dksJ0_charAt_1 15 rfl rfl)
theorem dJ0_charAt_40 : decode cJ0_charAt 40 = .ok (.i2c, 1) := dk_146 (dk_at dksJ0_charAt_1 16 rfl rfl)
theorem dJ0_charAt_41 : decode cJ0_charAt 41 = .ok (.ireturn, 1) := dk_172 (dk_at dksJ0_charAt_1 17 rfl rfl)
theorem dJ0_charAt_42 : decode cJ0_charAt 42 = .ok (.aload_n 3, 1) := dk_45 (dk_at dksJ0_charAt_1 18 rfl rfl)
theorem dJ0_charAt_43 : decode cJ0_charAt 43 = .ok (.iload_n 1, 1) := dk_27 (dk_at dksJ0_charAt_1 19 rfl rfl)
theorem dJ0_charAt_44 : decode cJ0_charAt 44 = .ok (.invokestatic 148, 3) := dk_184 0 148 (dk_at dksJ0_charAt_1 20 rfl rfl)
theorem dJ0_charAt_47 : decode cJ0_charAt 47 = .ok (.ireturn, 1) := dk_172 (dk_at dksJ0_charAt_1 23 rfl rfl)
abbrev cJ0_subSequence : ByteArray := prog_26_method_41_code
def yJ0_subSequence : MethodName := ⟨RJ0, "subSequence", "(II)Ljava/lang/CharSequence;"⟩
def dkwJ0_subSequence_0 : List UInt8 := [42, 27, 28, 182, 1, 44, 176]
abbrev dktJ0_subSequence_0 : List UInt8 := dkwJ0_subSequence_0 ++ []
theorem dksJ0_subSequence_0 : cJ0_subSequence.data.toList.drop 0 = dktJ0_subSequence_0 := by decide +kernel
theorem dJ0_subSequence_0 : decode cJ0_subSequence 0 = .ok (.aload_n 0, 1) := dk_42 (dk_at dksJ0_subSequence_0 0 rfl rfl)
theorem dJ0_subSequence_1 : decode cJ0_subSequence 1 = .ok (.iload_n 1, 1) := dk_27 (dk_at dksJ0_subSequence_0 1 rfl rfl)
theorem dJ0_subSequence_2 : decode cJ0_subSequence 2 = .ok (.iload_n 2, 1) := dk_28 (dk_at dksJ0_subSequence_0 2 rfl rfl)
theorem dJ0_subSequence_3 : decode cJ0_subSequence 3 = .ok (.invokevirtual 300, 3) := dk_182 1 44 (dk_at dksJ0_subSequence_0 3 rfl rfl)
theorem dJ0_subSequence_6 : decode cJ0_subSequence 6 = .ok (.areturn, 1) := dk_176 (dk_at dksJ0_subSequence_0 6 rfl rfl)
abbrev cJ0_substring : ByteArray := prog_26_method_42_code
def yJ0_substring : MethodName := ⟨RJ0, "substring", "(II)Ljava/lang/String;"⟩
def dkwJ0_substring_1 : List UInt8 := [27, 28, 27, 100, 184, 1, 48, 176, 42, 180, 0, 15, 27, 28, 27, 100, 184, 1, 52, 176]
abbrev dktJ0_substring_1 : List UInt8 := dkwJ0_substring_1 ++ []
def dkwJ0_substring_0 : List UInt8 := [27, 28, 42, 180, 0, 79, 178, 0, 179, 184, 0, 161, 87, 42, 182, 0, 83, 153, 0, 15, 42, 180, 0, 15]
abbrev dktJ0_substring_0 : List UInt8 := dkwJ0_substring_0 ++ dktJ0_substring_1
theorem dksJ0_substring_0 : cJ0_substring.data.toList.drop 0 = dktJ0_substring_0 := by decide +kernel
theorem dksJ0_substring_1 : cJ0_substring.data.toList.drop 24 = dktJ0_substring_1 := dk_seg dksJ0_substring_0 24 rfl rfl
theorem dJ0_substring_0 : decode cJ0_substring 0 = .ok (.iload_n 1, 1) := dk_27 (dk_at dksJ0_substring_0 0 rfl rfl)
theorem dJ0_substring_1 : decode cJ0_substring 1 = .ok (.iload_n 2, 1) := dk_28 (dk_at dksJ0_substring_0 1 rfl rfl)
theorem dJ0_substring_2 : decode cJ0_substring 2 = .ok (.aload_n 0, 1) := dk_42 (dk_at dksJ0_substring_0 2 rfl rfl)
theorem dJ0_substring_3 : decode cJ0_substring 3 = .ok (.getfield 79, 3) := dk_180 0 79 (dk_at dksJ0_substring_0 3 rfl rfl)
theorem dJ0_substring_6 : decode cJ0_substring 6 = .ok (.getstatic 179, 3) := dk_178 0 179 (dk_at dksJ0_substring_0 6 rfl rfl)
theorem dJ0_substring_9 : decode cJ0_substring 9 = .ok (.invokestatic 161, 3) := dk_184 0 161 (dk_at dksJ0_substring_0 9 rfl rfl)
theorem dJ0_substring_12 : decode cJ0_substring 12 = .ok (.pop, 1) := dk_87 (dk_at dksJ0_substring_0 12 rfl rfl)
theorem dJ0_substring_13 : decode cJ0_substring 13 = .ok (.aload_n 0, 1) := dk_42 (dk_at dksJ0_substring_0 13 rfl rfl)
theorem dJ0_substring_14 : decode cJ0_substring 14 = .ok (.invokevirtual 83, 3) := dk_182 0 83 (dk_at dksJ0_substring_0 14 rfl rfl)
theorem dJ0_substring_17 : decode cJ0_substring 17 = .ok (.ifCond .eq 15, 3) := dk_153 0 15 (dk_at dksJ0_substring_0 17 rfl rfl)
theorem dJ0_substring_20 : decode cJ0_substring 20 = .ok (.aload_n 0, 1) := dk_42 (dk_at dksJ0_substring_0 20 rfl rfl)
theorem dJ0_substring_21 : decode cJ0_substring 21 = .ok (.getfield 15, 3) := dk_180 0 15 (dk_at dksJ0_substring_0 21 rfl rfl)
theorem dJ0_substring_24 : decode cJ0_substring 24 = .ok (.iload_n 1, 1) := dk_27 (dk_at dksJ0_substring_1 0 rfl rfl)
theorem dJ0_substring_25 : decode cJ0_substring 25 = .ok (.iload_n 2, 1) := dk_28 (dk_at dksJ0_substring_1 1 rfl rfl)
theorem dJ0_substring_26 : decode cJ0_substring 26 = .ok (.iload_n 1, 1) := dk_27 (dk_at dksJ0_substring_1 2 rfl rfl)
theorem dJ0_substring_27 : decode cJ0_substring 27 = .ok (.isub, 1) := dk_100 (dk_at dksJ0_substring_1 3 rfl rfl)
theorem dJ0_substring_28 : decode cJ0_substring 28 = .ok (.invokestatic 304, 3) := dk_184 1 48 (dk_at dksJ0_substring_1 4 rfl rfl)
theorem dJ0_substring_31 : decode cJ0_substring 31 = .ok (.areturn, 1) := dk_176 (dk_at dksJ0_substring_1 7 rfl rfl)
theorem dJ0_substring_32 : decode cJ0_substring 32 = .ok (.aload_n 0, 1) := dk_42 (dk_at dksJ0_substring_1 8 rfl rfl)
theorem dJ0_substring_33 : decode cJ0_substring 33 = .ok (.getfield 15, 3) := dk_180 0 15 (dk_at dksJ0_substring_1 9 rfl rfl)
theorem dJ0_substring_36 : decode cJ0_substring 36 = .ok (.iload_n 1, 1) := dk_27 (dk_at dksJ0_substring_1 12 rfl rfl)
theorem dJ0_substring_37 : decode cJ0_substring 37 = .ok (.iload_n 2, 1) := dk_28 (dk_at dksJ0_substring_1 13 rfl rfl)
theorem dJ0_substring_38 : decode cJ0_substring 38 = .ok (.iload_n 1, 1) := dk_27 (dk_at dksJ0_substring_1 14 rfl rfl)
theorem dJ0_substring_39 : decode cJ0_substring 39 = .ok (.isub, 1) := dk_100 (dk_at dksJ0_substring_1 15 rfl rfl)
theorem dJ0_substring_40 : decode cJ0_substring 40 = .ok (.invokestatic 308, 3) := dk_184 1 52 (dk_at dksJ0_substring_1 16 rfl rfl)
theorem dJ0_substring_43 : decode cJ0_substring 43 = .ok (.areturn, 1) := dk_176 (dk_at dksJ0_substring_1 19 rfl rfl)
abbrev cJ0_insert : ByteArray := prog_26_method_46_code
def yJ0_insert : MethodName := ⟨RJ0, "insert", "(ILjava/lang/String;)Ljava/lang/AbstractStringBuilder;"⟩
def dkwJ0_insert_2 : List UInt8 := [42, 27, 44, 182, 0, 208, 42, 176]
abbrev dktJ0_insert_2 : List UInt8 := dkwJ0_insert_2 ++ []
def dkwJ0_insert_1 : List UInt8 := [180, 0, 79, 29, 96, 182, 0, 100, 42, 27, 29, 182, 1, 27, 42, 89, 180, 0, 79, 29, 96, 181, 0, 79]
abbrev dktJ0_insert_1 : List UInt8 := dkwJ0_insert_1 ++ dktJ0_insert_2
def dkwJ0_insert_0 : List UInt8 := [27, 42, 180, 0, 79, 184, 1, 59, 44, 199, 0, 6, 18, 230, 77, 44, 182, 0, 32, 62, 42, 42]
abbrev dktJ0_insert_0 : List UInt8 := dkwJ0_insert_0 ++ dktJ0_insert_1
theorem dksJ0_insert_0 : cJ0_insert.data.toList.drop 0 = dktJ0_insert_0 := by decide +kernel
theorem dksJ0_insert_1 : cJ0_insert.data.toList.drop 22 = dktJ0_insert_1 := dk_seg dksJ0_insert_0 22 rfl rfl
theorem dksJ0_insert_2 : cJ0_insert.data.toList.drop 46 = dktJ0_insert_2 := dk_seg dksJ0_insert_1 24 rfl rfl
theorem dJ0_insert_0 : decode cJ0_insert 0 = .ok (.iload_n 1, 1) := dk_27 (dk_at dksJ0_insert_0 0 rfl rfl)
theorem dJ0_insert_1 : decode cJ0_insert 1 = .ok (.aload_n 0, 1) := dk_42 (dk_at dksJ0_insert_0 1 rfl rfl)
theorem dJ0_insert_2 : decode cJ0_insert 2 = .ok (.getfield 79, 3) := dk_180 0 79 (dk_at dksJ0_insert_0 2 rfl rfl)
theorem dJ0_insert_5 : decode cJ0_insert 5 = .ok (.invokestatic 315, 3) := dk_184 1 59 (dk_at dksJ0_insert_0 5 rfl rfl)
theorem dJ0_insert_8 : decode cJ0_insert 8 = .ok (.aload_n 2, 1) := dk_44 (dk_at dksJ0_insert_0 8 rfl rfl)
theorem dJ0_insert_9 : decode cJ0_insert 9 = .ok (.ifnonnull 6, 3) := dk_199 0 6 (dk_at dksJ0_insert_0 9 rfl rfl)
theorem dJ0_insert_12 : decode cJ0_insert 12 = .ok (.ldc 230, 2) := dk_18 230 (dk_at dksJ0_insert_0 12 rfl rfl)
theorem dJ0_insert_14 : decode cJ0_insert 14 = .ok (.astore_n 2, 1) := dk_77 (dk_at dksJ0_insert_0 14 rfl rfl)
theorem dJ0_insert_15 : decode cJ0_insert 15 = .ok (.aload_n 2, 1) := dk_44 (dk_at dksJ0_insert_0 15 rfl rfl)
theorem dJ0_insert_16 : decode cJ0_insert 16 = .ok (.invokevirtual 32, 3) := dk_182 0 32 (dk_at dksJ0_insert_0 16 rfl rfl)
theorem dJ0_insert_19 : decode cJ0_insert 19 = .ok (.istore_n 3, 1) := dk_62 (dk_at dksJ0_insert_0 19 rfl rfl)
theorem dJ0_insert_20 : decode cJ0_insert 20 = .ok (.aload_n 0, 1) := dk_42 (dk_at dksJ0_insert_0 20 rfl rfl)
theorem dJ0_insert_21 : decode cJ0_insert 21 = .ok (.aload_n 0, 1) := dk_42 (dk_at dksJ0_insert_0 21 rfl rfl)
theorem dJ0_insert_22 : decode cJ0_insert 22 = .ok (.getfield 79, 3) := dk_180 0 79 (dk_at dksJ0_insert_1 0 rfl rfl)
theorem dJ0_insert_25 : decode cJ0_insert 25 = .ok (.iload_n 3, 1) := dk_29 (dk_at dksJ0_insert_1 3 rfl rfl)
theorem dJ0_insert_26 : decode cJ0_insert 26 = .ok (.iadd, 1) := dk_96 (dk_at dksJ0_insert_1 4 rfl rfl)
theorem dJ0_insert_27 : decode cJ0_insert 27 = .ok (.invokevirtual 100, 3) := dk_182 0 100 (dk_at dksJ0_insert_1 5 rfl rfl)
theorem dJ0_insert_30 : decode cJ0_insert 30 = .ok (.aload_n 0, 1) := dk_42 (dk_at dksJ0_insert_1 8 rfl rfl)
theorem dJ0_insert_31 : decode cJ0_insert 31 = .ok (.iload_n 1, 1) := dk_27 (dk_at dksJ0_insert_1 9 rfl rfl)
theorem dJ0_insert_32 : decode cJ0_insert 32 = .ok (.iload_n 3, 1) := dk_29 (dk_at dksJ0_insert_1 10 rfl rfl)
theorem dJ0_insert_33 : decode cJ0_insert 33 = .ok (.invokevirtual 283, 3) := dk_182 1 27 (dk_at dksJ0_insert_1 11 rfl rfl)
theorem dJ0_insert_36 : decode cJ0_insert 36 = .ok (.aload_n 0, 1) := dk_42 (dk_at dksJ0_insert_1 14 rfl rfl)
theorem dJ0_insert_37 : decode cJ0_insert 37 = .ok (.dup, 1) := dk_89 (dk_at dksJ0_insert_1 15 rfl rfl)
theorem dJ0_insert_38 : decode cJ0_insert 38 = .ok (.getfield 79, 3) := dk_180 0 79 (dk_at dksJ0_insert_1 16 rfl rfl)
theorem dJ0_insert_41 : decode cJ0_insert 41 = .ok (.iload_n 3, 1) := dk_29 (dk_at dksJ0_insert_1 19 rfl rfl)
theorem dJ0_insert_42 : decode cJ0_insert 42 = .ok (.iadd, 1) := dk_96 (dk_at dksJ0_insert_1 20 rfl rfl)
theorem dJ0_insert_43 : decode cJ0_insert 43 = .ok (.putfield 79, 3) := dk_181 0 79 (dk_at dksJ0_insert_1 21 rfl rfl)
theorem dJ0_insert_46 : decode cJ0_insert 46 = .ok (.aload_n 0, 1) := dk_42 (dk_at dksJ0_insert_2 0 rfl rfl)
theorem dJ0_insert_47 : decode cJ0_insert 47 = .ok (.iload_n 1, 1) := dk_27 (dk_at dksJ0_insert_2 1 rfl rfl)
theorem dJ0_insert_48 : decode cJ0_insert 48 = .ok (.aload_n 2, 1) := dk_44 (dk_at dksJ0_insert_2 2 rfl rfl)
theorem dJ0_insert_49 : decode cJ0_insert 49 = .ok (.invokevirtual 208, 3) := dk_182 0 208 (dk_at dksJ0_insert_2 3 rfl rfl)
theorem dJ0_insert_52 : decode cJ0_insert 52 = .ok (.aload_n 0, 1) := dk_42 (dk_at dksJ0_insert_2 6 rfl rfl)
theorem dJ0_insert_53 : decode cJ0_insert 53 = .ok (.areturn, 1) := dk_176 (dk_at dksJ0_insert_2 7 rfl rfl)
abbrev cJ0_shift : ByteArray := prog_26_method_43_code
def yJ0_shift : MethodName := ⟨RJ0, "shift", "(II)V"⟩
def dkwJ0_shift_1 : List UInt8 := [180, 0, 79, 27, 100, 42, 180, 0, 22, 120, 184, 1, 53, 177]
abbrev dktJ0_shift_1 : List UInt8 := dkwJ0_shift_1 ++ []
def dkwJ0_shift_0 : List UInt8 := [42, 180, 0, 15, 27, 42, 180, 0, 22, 120, 42, 180, 0, 15, 27, 28, 96, 42, 180, 0, 22, 120, 42]
abbrev dktJ0_shift_0 : List UInt8 := dkwJ0_shift_0 ++ dktJ0_shift_1
theorem dksJ0_shift_0 : cJ0_shift.data.toList.drop 0 = dktJ0_shift_0 := by decide +kernel
theorem dksJ0_shift_1 : cJ0_shift.data.toList.drop 23 = dktJ0_shift_1 := dk_seg dksJ0_shift_0 23 rfl rfl
theorem dJ0_shift_0 : decode cJ0_shift 0 = .ok (.aload_n 0, 1) := dk_42 (dk_at dksJ0_shift_0 0 rfl rfl)
theorem dJ0_shift_1 : decode cJ0_shift 1 = .ok (.getfield 15, 3) := dk_180 0 15 (dk_at dksJ0_shift_0 1 rfl rfl)
theorem dJ0_shift_4 : decode cJ0_shift 4 = .ok (.iload_n 1, 1) := dk_27 (dk_at dksJ0_shift_0 4 rfl rfl)
theorem dJ0_shift_5 : decode cJ0_shift 5 = .ok (.aload_n 0, 1) := dk_42 (dk_at dksJ0_shift_0 5 rfl rfl)
theorem dJ0_shift_6 : decode cJ0_shift 6 = .ok (.getfield 22, 3) := dk_180 0 22 (dk_at dksJ0_shift_0 6 rfl rfl)
theorem dJ0_shift_9 : decode cJ0_shift 9 = .ok (.ishl, 1) := dk_120 (dk_at dksJ0_shift_0 9 rfl rfl)
theorem dJ0_shift_10 : decode cJ0_shift 10 = .ok (.aload_n 0, 1) := dk_42 (dk_at dksJ0_shift_0 10 rfl rfl)
theorem dJ0_shift_11 : decode cJ0_shift 11 = .ok (.getfield 15, 3) := dk_180 0 15 (dk_at dksJ0_shift_0 11 rfl rfl)
theorem dJ0_shift_14 : decode cJ0_shift 14 = .ok (.iload_n 1, 1) := dk_27 (dk_at dksJ0_shift_0 14 rfl rfl)
theorem dJ0_shift_15 : decode cJ0_shift 15 = .ok (.iload_n 2, 1) := dk_28 (dk_at dksJ0_shift_0 15 rfl rfl)
theorem dJ0_shift_16 : decode cJ0_shift 16 = .ok (.iadd, 1) := dk_96 (dk_at dksJ0_shift_0 16 rfl rfl)
theorem dJ0_shift_17 : decode cJ0_shift 17 = .ok (.aload_n 0, 1) := dk_42 (dk_at dksJ0_shift_0 17 rfl rfl)
theorem dJ0_shift_18 : decode cJ0_shift 18 = .ok (.getfield 22, 3) := dk_180 0 22 (dk_at dksJ0_shift_0 18 rfl rfl)
theorem dJ0_shift_21 : decode cJ0_shift 21 = .ok (.ishl, 1) := dk_120 (dk_at dksJ0_shift_0 21 rfl rfl)
theorem dJ0_shift_22 : decode cJ0_shift 22 = .ok (.aload_n 0, 1) := dk_42 (dk_at dksJ0_shift_0 22 rfl rfl)
theorem dJ0_shift_23 : decode cJ0_shift 23 = .ok (.getfield 79, 3) := dk_180 0 79 (dk_at dksJ0_shift_1 0 rfl rfl)
theorem dJ0_shift_26 : decode cJ0_shift 26 = .ok (.iload_n 1, 1) := dk_27 (dk_at dksJ0_shift_1 3 rfl rfl)
theorem dJ0_shift_27 : decode cJ0_shift 27 = .ok (.isub, 1) := dk_100 (dk_at dksJ0_shift_1 4 rfl rfl)
theorem dJ0_shift_28 : decode cJ0_shift 28 = .ok (.aload_n 0, 1) := dk_42 (dk_at dksJ0_shift_1 5 rfl rfl)
theorem dJ0_shift_29 : decode cJ0_shift 29 = .ok (.getfield 22, 3) := dk_180 0 22 (dk_at dksJ0_shift_1 6 rfl rfl)
theorem dJ0_shift_32 : decode cJ0_shift 32 = .ok (.ishl, 1) := dk_120 (dk_at dksJ0_shift_1 9 rfl rfl)
theorem dJ0_shift_33 : decode cJ0_shift 33 = .ok (.invokestatic 309, 3) := dk_184 1 53 (dk_at dksJ0_shift_1 10 rfl rfl)
theorem dJ0_shift_36 : decode cJ0_shift 36 = .ok (.return_, 1) := dk_177 (dk_at dksJ0_shift_1 13 rfl rfl)
abbrev cJ0_delete : ByteArray := prog_26_method_36_code
def yJ0_delete : MethodName := ⟨RJ0, "delete", "(II)Ljava/lang/AbstractStringBuilder;"⟩
def dkwJ0_delete_2 : List UInt8 := [42, 4, 181, 0, 73, 42, 176]
abbrev dktJ0_delete_2 : List UInt8 := dkwJ0_delete_2 ++ []
def dkwJ0_delete_1 : List UInt8 := [100, 54, 4, 21, 4, 158, 0, 24, 42, 28, 21, 4, 116, 182, 1, 27, 42, 29, 21, 4, 100, 181, 0, 79]
abbrev dktJ0_delete_1 : List UInt8 := dkwJ0_delete_1 ++ dktJ0_delete_2
def dkwJ0_delete_0 : List UInt8 := [42, 180, 0, 79, 62, 28, 29, 164, 0, 5, 29, 61, 27, 28, 29, 178, 0, 179, 184, 0, 161, 87, 28, 27]
abbrev dktJ0_delete_0 : List UInt8 := dkwJ0_delete_0 ++ dktJ0_delete_1
theorem dksJ0_delete_0 : cJ0_delete.data.toList.drop 0 = dktJ0_delete_0 := by decide +kernel
theorem dksJ0_delete_1 : cJ0_delete.data.toList.drop 24 = dktJ0_delete_1 := dk_seg dksJ0_delete_0 24 rfl rfl
theorem dksJ0_delete_2 : cJ0_delete.data.toList.drop 48 = dktJ0_delete_2 := dk_seg dksJ0_delete_1 24 rfl rfl
theorem dJ0_delete_0 : decode cJ0_delete 0 = .ok (.aload_n 0, 1) := dk_42 (dk_at dksJ0_delete_0 0 rfl rfl)
theorem dJ0_delete_1 : decode cJ0_delete 1 = .ok (.getfield 79, 3) := dk_180 0 79 (dk_at dksJ0_delete_0 1 rfl rfl)
theorem dJ0_delete_4 : decode cJ0_delete 4 = .ok (.istore_n 3, 1) := dk_62 (dk_at dksJ0_delete_0 4 rfl rfl)
theorem dJ0_delete_5 : decode cJ0_delete 5 = .ok (.iload_n 2, 1) := dk_28 (dk_at dksJ0_delete_0 5 rfl rfl)
theorem dJ0_delete_6 : decode cJ0_delete 6 = .ok (.iload_n 3, 1) := dk_29 (dk_at dksJ0_delete_0 6 rfl rfl)
theorem dJ0_delete_7 : decode cJ0_delete 7 = .ok (.if_icmp .le 5, 3) := dk_164 0 5 (dk_at dksJ0_delete_0 7 rfl rfl)
theorem dJ0_delete_10 : decode cJ0_delete 10 = .ok (.iload_n 3, 1) := dk_29 (dk_at dksJ0_delete_0 10 rfl rfl)
theorem dJ0_delete_11 : decode cJ0_delete 11 = .ok (.istore_n 2, 1) := dk_61 (dk_at dksJ0_delete_0 11 rfl rfl)
theorem dJ0_delete_12 : decode cJ0_delete 12 = .ok (.iload_n 1, 1) := dk_27 (dk_at dksJ0_delete_0 12 rfl rfl)
theorem dJ0_delete_13 : decode cJ0_delete 13 = .ok (.iload_n 2, 1) := dk_28 (dk_at dksJ0_delete_0 13 rfl rfl)
theorem dJ0_delete_14 : decode cJ0_delete 14 = .ok (.iload_n 3, 1) := dk_29 (dk_at dksJ0_delete_0 14 rfl rfl)
theorem dJ0_delete_15 : decode cJ0_delete 15 = .ok (.getstatic 179, 3) := dk_178 0 179 (dk_at dksJ0_delete_0 15 rfl rfl)
theorem dJ0_delete_18 : decode cJ0_delete 18 = .ok (.invokestatic 161, 3) := dk_184 0 161 (dk_at dksJ0_delete_0 18 rfl rfl)
theorem dJ0_delete_21 : decode cJ0_delete 21 = .ok (.pop, 1) := dk_87 (dk_at dksJ0_delete_0 21 rfl rfl)
theorem dJ0_delete_22 : decode cJ0_delete 22 = .ok (.iload_n 2, 1) := dk_28 (dk_at dksJ0_delete_0 22 rfl rfl)
theorem dJ0_delete_23 : decode cJ0_delete 23 = .ok (.iload_n 1, 1) := dk_27 (dk_at dksJ0_delete_0 23 rfl rfl)
theorem dJ0_delete_24 : decode cJ0_delete 24 = .ok (.isub, 1) := dk_100 (dk_at dksJ0_delete_1 0 rfl rfl)
theorem dJ0_delete_25 : decode cJ0_delete 25 = .ok (.istore 4, 2) := dk_54 4 (dk_at dksJ0_delete_1 1 rfl rfl)
theorem dJ0_delete_27 : decode cJ0_delete 27 = .ok (.iload 4, 2) := dk_21 4 (dk_at dksJ0_delete_1 3 rfl rfl)
theorem dJ0_delete_29 : decode cJ0_delete 29 = .ok (.ifCond .le 24, 3) := dk_158 0 24 (dk_at dksJ0_delete_1 5 rfl rfl)
theorem dJ0_delete_32 : decode cJ0_delete 32 = .ok (.aload_n 0, 1) := dk_42 (dk_at dksJ0_delete_1 8 rfl rfl)
theorem dJ0_delete_33 : decode cJ0_delete 33 = .ok (.iload_n 2, 1) := dk_28 (dk_at dksJ0_delete_1 9 rfl rfl)
theorem dJ0_delete_34 : decode cJ0_delete 34 = .ok (.iload 4, 2) := dk_21 4 (dk_at dksJ0_delete_1 10 rfl rfl)
theorem dJ0_delete_36 : decode cJ0_delete 36 = .ok (.ineg, 1) := dk_116 (dk_at dksJ0_delete_1 12 rfl rfl)
theorem dJ0_delete_37 : decode cJ0_delete 37 = .ok (.invokevirtual 283, 3) := dk_182 1 27 (dk_at dksJ0_delete_1 13 rfl rfl)
theorem dJ0_delete_40 : decode cJ0_delete 40 = .ok (.aload_n 0, 1) := dk_42 (dk_at dksJ0_delete_1 16 rfl rfl)
theorem dJ0_delete_41 : decode cJ0_delete 41 = .ok (.iload_n 3, 1) := dk_29 (dk_at dksJ0_delete_1 17 rfl rfl)
theorem dJ0_delete_42 : decode cJ0_delete 42 = .ok (.iload 4, 2) := dk_21 4 (dk_at dksJ0_delete_1 18 rfl rfl)
theorem dJ0_delete_44 : decode cJ0_delete 44 = .ok (.isub, 1) := dk_100 (dk_at dksJ0_delete_1 20 rfl rfl)
theorem dJ0_delete_45 : decode cJ0_delete 45 = .ok (.putfield 79, 3) := dk_181 0 79 (dk_at dksJ0_delete_1 21 rfl rfl)
theorem dJ0_delete_48 : decode cJ0_delete 48 = .ok (.aload_n 0, 1) := dk_42 (dk_at dksJ0_delete_2 0 rfl rfl)
theorem dJ0_delete_49 : decode cJ0_delete 49 = .ok (.iconst 1, 1) := dk_4 (dk_at dksJ0_delete_2 1 rfl rfl)
theorem dJ0_delete_50 : decode cJ0_delete 50 = .ok (.putfield 73, 3) := dk_181 0 73 (dk_at dksJ0_delete_2 2 rfl rfl)
theorem dJ0_delete_53 : decode cJ0_delete 53 = .ok (.aload_n 0, 1) := dk_42 (dk_at dksJ0_delete_2 5 rfl rfl)
theorem dJ0_delete_54 : decode cJ0_delete 54 = .ok (.areturn, 1) := dk_176 (dk_at dksJ0_delete_2 6 rfl rfl)
abbrev cJ0_setCharAt : ByteArray := prog_26_method_20_code
def yJ0_setCharAt : MethodName := ⟨RJ0, "setCharAt", "(IC)V"⟩
def dkwJ0_setCharAt_2 : List UInt8 := [180, 0, 15, 27, 28, 184, 0, 197, 42, 4, 181, 0, 73, 177]
abbrev dktJ0_setCharAt_2 : List UInt8 := dkwJ0_setCharAt_2 ++ []
def dkwJ0_setCharAt_1 : List UInt8 := [180, 0, 15, 27, 28, 145, 84, 167, 0, 28, 42, 182, 0, 83, 153, 0, 7, 42, 182, 0, 195, 42]
abbrev dktJ0_setCharAt_1 : List UInt8 := dkwJ0_setCharAt_1 ++ dktJ0_setCharAt_2
def dkwJ0_setCharAt_0 : List UInt8 := [27, 42, 180, 0, 79, 184, 0, 144, 42, 182, 0, 83, 153, 0, 21, 28, 184, 0, 191, 153, 0, 14, 42]
abbrev dktJ0_setCharAt_0 : List UInt8 := dkwJ0_setCharAt_0 ++ dktJ0_setCharAt_1
theorem dksJ0_setCharAt_0 : cJ0_setCharAt.data.toList.drop 0 = dktJ0_setCharAt_0 := by decide +kernel
theorem dksJ0_setCharAt_1 : cJ0_setCharAt.data.toList.drop 23 = dktJ0_setCharAt_1 := dk_seg dksJ0_setCharAt_0 23 rfl rfl
theorem dksJ0_setCharAt_2 : cJ0_setCharAt.data.toList.drop 45 = dktJ0_setCharAt_2 := dk_seg dksJ0_setCharAt_1 22 rfl rfl
theorem dJ0_setCharAt_0 : decode cJ0_setCharAt 0 = .ok (.iload_n 1, 1) := dk_27 (dk_at dksJ0_setCharAt_0 0 rfl rfl)
theorem dJ0_setCharAt_1 : decode cJ0_setCharAt 1 = .ok (.aload_n 0, 1) := dk_42 (dk_at dksJ0_setCharAt_0 1 rfl rfl)
theorem dJ0_setCharAt_2 : decode cJ0_setCharAt 2 = .ok (.getfield 79, 3) := dk_180 0 79 (dk_at dksJ0_setCharAt_0 2 rfl rfl)
theorem dJ0_setCharAt_5 : decode cJ0_setCharAt 5 = .ok (.invokestatic 144, 3) := dk_184 0 144 (dk_at dksJ0_setCharAt_0 5 rfl rfl)
theorem dJ0_setCharAt_8 : decode cJ0_setCharAt 8 = .ok (.aload_n 0, 1) := dk_42 (dk_at dksJ0_setCharAt_0 8 rfl rfl)
theorem dJ0_setCharAt_9 : decode cJ0_setCharAt 9 = .ok (.invokevirtual 83, 3) := dk_182 0 83 (dk_at dksJ0_setCharAt_0 9 rfl rfl)
theorem dJ0_setCharAt_12 : decode cJ0_setCharAt 12 = .ok (.ifCond .eq 21, 3) := dk_153 0 21 (dk_at dksJ0_setCharAt_0 12 rfl rfl)
theorem dJ0_setCharAt_15 : decode cJ0_setCharAt 15 = .ok (.iload_n 2, 1) := dk_28 (dk_at dksJ0_setCharAt_0 15 rfl rfl)
theorem dJ0_setCharAt_16 : decode cJ0_setCharAt 16 = .ok (.invokestatic 191, 3) := dk_184 0 191 (dk_at dksJ0_setCharAt_0 16 rfl rfl)
theorem dJ0_setCharAt_19 : decode cJ0_setCharAt 19 = .ok (.ifCond .eq 14, 3) := dk_153 0 14 (dk_at dksJ0_setCharAt_0 19 rfl rfl)
theorem dJ0_setCharAt_22 : decode cJ0_setCharAt 22 = .ok (.aload_n 0, 1) := dk_42 (dk_at dksJ0_setCharAt_0 22 rfl rfl)
theorem dJ0_setCharAt_23 : decode cJ0_setCharAt 23 = .ok (.getfield 15, 3) := dk_180 0 15 (dk_at dksJ0_setCharAt_1 0 rfl rfl)
theorem dJ0_setCharAt_26 : decode cJ0_setCharAt 26 = .ok (.iload_n 1, 1) := dk_27 (dk_at dksJ0_setCharAt_1 3 rfl rfl)
theorem dJ0_setCharAt_27 : decode cJ0_setCharAt 27 = .ok (.iload_n 2, 1) := dk_28 (dk_at dksJ0_setCharAt_1 4 rfl rfl)
theorem dJ0_setCharAt_28 : decode cJ0_setCharAt 28 = .ok (.i2b, 1) := dk_145 (dk_at dksJ0_setCharAt_1 5 rfl rfl)
theorem dJ0_setCharAt_29 : decode cJ0_setCharAt 29 = .ok (.bastore, 1) := dk_84 (dk_at dksJ0_setCharAt_1 6 rfl rfl)
theorem dJ0_setCharAt_30 : decode cJ0_setCharAt 30 = .ok (.goto 28, 3) := dk_167 0 28 (dk_at dksJ0_setCharAt_1 7 rfl rfl)
theorem dJ0_setCharAt_33 : decode cJ0_setCharAt 33 = .ok (.aload_n 0, 1) := dk_42 (dk_at dksJ0_setCharAt_1 10 rfl rfl)
theorem dJ0_setCharAt_34 : decode cJ0_setCharAt 34 = .ok (.invokevirtual 83, 3) := dk_182 0 83 (dk_at dksJ0_setCharAt_1 11 rfl rfl)
theorem dJ0_setCharAt_37 : decode cJ0_setCharAt 37 = .ok (.ifCond .eq 7, 3) := dk_153 0 7 (dk_at dksJ0_setCharAt_1 14 rfl rfl)
theorem dJ0_setCharAt_40 : decode cJ0_setCharAt 40 = .ok (.aload_n 0, 1) := dk_42 (dk_at dksJ0_setCharAt_1 17 rfl rfl)
theorem dJ0_setCharAt_41 : decode cJ0_setCharAt 41 = .ok (.invokevirtual 195, 3) := dk_182 0 195 (dk_at dksJ0_setCharAt_1 18 rfl rfl)
theorem dJ0_setCharAt_44 : decode cJ0_setCharAt 44 = .ok (.aload_n 0, 1) := dk_42 (dk_at dksJ0_setCharAt_1 21 rfl rfl)
theorem dJ0_setCharAt_45 : decode cJ0_setCharAt 45 = .ok (.getfield 15, 3) := dk_180 0 15 (dk_at dksJ0_setCharAt_2 0 rfl rfl)
theorem dJ0_setCharAt_48 : decode cJ0_setCharAt 48 = .ok (.iload_n 1, 1) := dk_27 (dk_at dksJ0_setCharAt_2 3 rfl rfl)
theorem dJ0_setCharAt_49 : decode cJ0_setCharAt 49 = .ok (.iload_n 2, 1) := dk_28 (dk_at dksJ0_setCharAt_2 4 rfl rfl)
theorem dJ0_setCharAt_50 : decode cJ0_setCharAt 50 = .ok (.invokestatic 197, 3) := dk_184 0 197 (dk_at dksJ0_setCharAt_2 5 rfl rfl)
theorem dJ0_setCharAt_53 : decode cJ0_setCharAt 53 = .ok (.aload_n 0, 1) := dk_42 (dk_at dksJ0_setCharAt_2 8 rfl rfl)
theorem dJ0_setCharAt_54 : decode cJ0_setCharAt 54 = .ok (.iconst 1, 1) := dk_4 (dk_at dksJ0_setCharAt_2 9 rfl rfl)
theorem dJ0_setCharAt_55 : decode cJ0_setCharAt 55 = .ok (.putfield 73, 3) := dk_181 0 73 (dk_at dksJ0_setCharAt_2 10 rfl rfl)
theorem dJ0_setCharAt_58 : decode cJ0_setCharAt 58 = .ok (.return_, 1) := dk_177 (dk_at dksJ0_setCharAt_2 13 rfl rfl)
abbrev cJ0_setLength : ByteArray := prog_26_method_13_code
def yJ0_setLength : MethodName := ⟨RJ0, "setLength", "(I)V"⟩
def dkwJ0_setLength_3 : List UInt8 := [164, 0, 8, 42, 4, 181, 0, 73, 42, 27, 181, 0, 79, 177]
abbrev dktJ0_setLength_3 : List UInt8 := dkwJ0_setLength_3 ++ []
def dkwJ0_setLength_2 : List UInt8 := [167, 0, 31, 42, 180, 0, 15, 42, 180, 0, 79, 27, 184, 0, 137, 167, 0, 16, 42, 180, 0, 79, 27]
abbrev dktJ0_setLength_2 : List UInt8 := dkwJ0_setLength_2 ++ dktJ0_setLength_3
def dkwJ0_setLength_1 : List UInt8 := [162, 0, 40, 42, 182, 0, 83, 153, 0, 18, 42, 180, 0, 15, 42, 180, 0, 79, 27, 184, 0, 133]
abbrev dktJ0_setLength_1 : List UInt8 := dkwJ0_setLength_1 ++ dktJ0_setLength_2
def dkwJ0_setLength_0 : List UInt8 := [27, 156, 0, 12, 187, 0, 129, 89, 27, 183, 0, 131, 191, 42, 27, 182, 0, 100, 42, 180, 0, 79, 27]
abbrev dktJ0_setLength_0 : List UInt8 := dkwJ0_setLength_0 ++ dktJ0_setLength_1
theorem dksJ0_setLength_0 : cJ0_setLength.data.toList.drop 0 = dktJ0_setLength_0 := by decide +kernel
theorem dksJ0_setLength_1 : cJ0_setLength.data.toList.drop 23 = dktJ0_setLength_1 := dk_seg dksJ0_setLength_0 23 rfl rfl
theorem dksJ0_setLength_2 : cJ0_setLength.data.toList.drop 45 = dktJ0_setLength_2 := dk_seg dksJ0_setLength_1 22 rfl rfl
theorem dksJ0_setLength_3 : cJ0_setLength.data.toList.drop 68 = dktJ0_setLength_3 := dk_seg dksJ0_setLength_2 23 rfl rfl
theorem dJ0_setLength_0 : decode cJ0_setLength 0 = .ok (.iload_n 1, 1) := dk_27 (dk_at dksJ0_setLength_0 0 rfl rfl)
theorem dJ0_setLength_1 : decode cJ0_setLength 1 = .ok (.ifCond .ge 12, 3) := dk_156 0 12 (dk_at dksJ0_setLength_0 1 rfl rfl)
theorem dJ0_setLength_4 : decode cJ0_setLength 4 = .ok (.new 129, 3) := dk_187 0 129 (dk_at dksJ0_setLength_0 4 rfl rfl)
theorem dJ0_setLength_7 : decode cJ0_setLength 7 = .ok (.dup, 1) := dk_89 (dk_at dksJ0_setLength_0 7 rfl rfl)
theorem dJ0_setLength_8 : decode cJ0_setLength 8 = .ok (.iload_n 1, 1) := dk_27 (dk_at dksJ0_setLength_0 8 rfl rfl)
theorem dJ0_setLength_9 : decode cJ0_setLength 9 = .ok (.invokespecial 131, 3) := dk_183 0 131 (dk_at dksJ0_setLength_0 9 rfl rfl)
theorem dJ0_setLength_12 : decode cJ0_setLength 12 = .ok (.athrow, 1) := dk_191 (dk_at dksJ0_setLength_0 12 rfl rfl)
theorem dJ0_setLength_13 : decode cJ0_setLength 13 = .ok (.aload_n 0, 1) := dk_42 (dk_at dksJ0_setLength_0 13 rfl rfl)
theorem dJ0_setLength_14 : decode cJ0_setLength 14 = .ok (.iload_n 1, 1) := dk_27 (dk_at dksJ0_setLength_0 14 rfl rfl)
theorem dJ0_setLength_15 : decode cJ0_setLength 15 = .ok (.invokevirtual 100, 3) := dk_182 0 100 (dk_at dksJ0_setLength_0 15 rfl rfl)
theorem dJ0_setLength_18 : decode cJ0_setLength 18 = .ok (.aload_n 0, 1) := dk_42 (dk_at dksJ0_setLength_0 18 rfl rfl)
theorem dJ0_setLength_19 : decode cJ0_setLength 19 = .ok (.getfield 79, 3) := dk_180 0 79 (dk_at dksJ0_setLength_0 19 rfl rfl)
theorem dJ0_setLength_22 : decode cJ0_setLength 22 = .ok (.iload_n 1, 1) := dk_27 (dk_at dksJ0_setLength_0 22 rfl rfl)
theorem dJ0_setLength_23 : decode cJ0_setLength 23 = .ok (.if_icmp .ge 40, 3) := dk_162 0 40 (dk_at dksJ0_setLength_1 0 rfl rfl)
theorem dJ0_setLength_26 : decode cJ0_setLength 26 = .ok (.aload_n 0, 1) := dk_42 (dk_at dksJ0_setLength_1 3 rfl rfl)
theorem dJ0_setLength_27 : decode cJ0_setLength 27 = .ok (.invokevirtual 83, 3) := dk_182 0 83 (dk_at dksJ0_setLength_1 4 rfl rfl)
theorem dJ0_setLength_30 : decode cJ0_setLength 30 = .ok (.ifCond .eq 18, 3) := dk_153 0 18 (dk_at dksJ0_setLength_1 7 rfl rfl)
theorem dJ0_setLength_33 : decode cJ0_setLength 33 = .ok (.aload_n 0, 1) := dk_42 (dk_at dksJ0_setLength_1 10 rfl rfl)
theorem dJ0_setLength_34 : decode cJ0_setLength 34 = .ok (.getfield 15, 3) := dk_180 0 15 (dk_at dksJ0_setLength_1 11 rfl rfl)
theorem dJ0_setLength_37 : decode cJ0_setLength 37 = .ok (.aload_n 0, 1) := dk_42 (dk_at dksJ0_setLength_1 14 rfl rfl)
theorem dJ0_setLength_38 : decode cJ0_setLength 38 = .ok (.getfield 79, 3) := dk_180 0 79 (dk_at dksJ0_setLength_1 15 rfl rfl)
theorem dJ0_setLength_41 : decode cJ0_setLength 41 = .ok (.iload_n 1, 1) := dk_27 (dk_at dksJ0_setLength_1 18 rfl rfl)
theorem dJ0_setLength_42 : decode cJ0_setLength 42 = .ok (.invokestatic 133, 3) := dk_184 0 133 (dk_at dksJ0_setLength_1 19 rfl rfl)
theorem dJ0_setLength_45 : decode cJ0_setLength 45 = .ok (.goto 31, 3) := dk_167 0 31 (dk_at dksJ0_setLength_2 0 rfl rfl)
theorem dJ0_setLength_48 : decode cJ0_setLength 48 = .ok (.aload_n 0, 1) := dk_42 (dk_at dksJ0_setLength_2 3 rfl rfl)
theorem dJ0_setLength_49 : decode cJ0_setLength 49 = .ok (.getfield 15, 3) := dk_180 0 15 (dk_at dksJ0_setLength_2 4 rfl rfl)
theorem dJ0_setLength_52 : decode cJ0_setLength 52 = .ok (.aload_n 0, 1) := dk_42 (dk_at dksJ0_setLength_2 7 rfl rfl)
theorem dJ0_setLength_53 : decode cJ0_setLength 53 = .ok (.getfield 79, 3) := dk_180 0 79 (dk_at dksJ0_setLength_2 8 rfl rfl)
theorem dJ0_setLength_56 : decode cJ0_setLength 56 = .ok (.iload_n 1, 1) := dk_27 (dk_at dksJ0_setLength_2 11 rfl rfl)
theorem dJ0_setLength_57 : decode cJ0_setLength 57 = .ok (.invokestatic 137, 3) := dk_184 0 137 (dk_at dksJ0_setLength_2 12 rfl rfl)
theorem dJ0_setLength_60 : decode cJ0_setLength 60 = .ok (.goto 16, 3) := dk_167 0 16 (dk_at dksJ0_setLength_2 15 rfl rfl)
theorem dJ0_setLength_63 : decode cJ0_setLength 63 = .ok (.aload_n 0, 1) := dk_42 (dk_at dksJ0_setLength_2 18 rfl rfl)
theorem dJ0_setLength_64 : decode cJ0_setLength 64 = .ok (.getfield 79, 3) := dk_180 0 79 (dk_at dksJ0_setLength_2 19 rfl rfl)
theorem dJ0_setLength_67 : decode cJ0_setLength 67 = .ok (.iload_n 1, 1) := dk_27 (dk_at dksJ0_setLength_2 22 rfl rfl)
theorem dJ0_setLength_68 : decode cJ0_setLength 68 = .ok (.if_icmp .le 8, 3) := dk_164 0 8 (dk_at dksJ0_setLength_3 0 rfl rfl)
theorem dJ0_setLength_71 : decode cJ0_setLength 71 = .ok (.aload_n 0, 1) := dk_42 (dk_at dksJ0_setLength_3 3 rfl rfl)
theorem dJ0_setLength_72 : decode cJ0_setLength 72 = .ok (.iconst 1, 1) := dk_4 (dk_at dksJ0_setLength_3 4 rfl rfl)
theorem dJ0_setLength_73 : decode cJ0_setLength 73 = .ok (.putfield 73, 3) := dk_181 0 73 (dk_at dksJ0_setLength_3 5 rfl rfl)
theorem dJ0_setLength_76 : decode cJ0_setLength 76 = .ok (.aload_n 0, 1) := dk_42 (dk_at dksJ0_setLength_3 8 rfl rfl)
theorem dJ0_setLength_77 : decode cJ0_setLength 77 = .ok (.iload_n 1, 1) := dk_27 (dk_at dksJ0_setLength_3 9 rfl rfl)
theorem dJ0_setLength_78 : decode cJ0_setLength 78 = .ok (.putfield 79, 3) := dk_181 0 79 (dk_at dksJ0_setLength_3 10 rfl rfl)
theorem dJ0_setLength_81 : decode cJ0_setLength 81 = .ok (.return_, 1) := dk_177 (dk_at dksJ0_setLength_3 13 rfl rfl)
abbrev cJ0_append_4 : ByteArray := prog_26_method_25_code
def yJ0_append_4 : MethodName := ⟨RJ0, "append", "(Ljava/lang/CharSequence;)Ljava/lang/AbstractStringBuilder;"⟩
def dkwJ0_append_4_2 : List UInt8 := [185, 0, 47, 1, 0, 182, 0, 223, 176]
abbrev dktJ0_append_4_2 : List UInt8 := dkwJ0_append_4_2 ++ []
def dkwJ0_append_4_1 : List UInt8 := [176, 43, 193, 0, 10, 153, 0, 12, 42, 43, 192, 0, 10, 182, 0, 212, 176, 42, 43, 3, 43]
abbrev dktJ0_append_4_1 : List UInt8 := dkwJ0_append_4_1 ++ dktJ0_append_4_2
def dkwJ0_append_4_0 : List UInt8 := [43, 199, 0, 8, 42, 182, 0, 204, 176, 43, 193, 0, 1, 153, 0, 12, 42, 43, 192, 0, 1, 182, 0, 43]
abbrev dktJ0_append_4_0 : List UInt8 := dkwJ0_append_4_0 ++ dktJ0_append_4_1
theorem dksJ0_append_4_0 : cJ0_append_4.data.toList.drop 0 = dktJ0_append_4_0 := by decide +kernel
theorem dksJ0_append_4_1 : cJ0_append_4.data.toList.drop 24 = dktJ0_append_4_1 := dk_seg dksJ0_append_4_0 24 rfl rfl
theorem dksJ0_append_4_2 : cJ0_append_4.data.toList.drop 45 = dktJ0_append_4_2 := dk_seg dksJ0_append_4_1 21 rfl rfl
theorem dJ0_append_4_0 : decode cJ0_append_4 0 = .ok (.aload_n 1, 1) := dk_43 (dk_at dksJ0_append_4_0 0 rfl rfl)
theorem dJ0_append_4_1 : decode cJ0_append_4 1 = .ok (.ifnonnull 8, 3) := dk_199 0 8 (dk_at dksJ0_append_4_0 1 rfl rfl)
theorem dJ0_append_4_4 : decode cJ0_append_4 4 = .ok (.aload_n 0, 1) := dk_42 (dk_at dksJ0_append_4_0 4 rfl rfl)
theorem dJ0_append_4_5 : decode cJ0_append_4 5 = .ok (.invokevirtual 204, 3) := dk_182 0 204 (dk_at dksJ0_append_4_0 5 rfl rfl)
theorem dJ0_append_4_8 : decode cJ0_append_4 8 = .ok (.areturn, 1) := dk_176 (dk_at dksJ0_append_4_0 8 rfl rfl)
theorem dJ0_append_4_9 : decode cJ0_append_4 9 = .ok (.aload_n 1, 1) := dk_43 (dk_at dksJ0_append_4_0 9 rfl rfl)
theorem dJ0_append_4_10 : decode cJ0_append_4 10 = .ok (.instanceof 1, 3) := dk_193 0 1 (dk_at dksJ0_append_4_0 10 rfl rfl)
theorem dJ0_append_4_13 : decode cJ0_append_4 13 = .ok (.ifCond .eq 12, 3) := dk_153 0 12 (dk_at dksJ0_append_4_0 13 rfl rfl)
theorem dJ0_append_4_16 : decode cJ0_append_4 16 = .ok (.aload_n 0, 1) := dk_42 (dk_at dksJ0_append_4_0 16 rfl rfl)
theorem dJ0_append_4_17 : decode cJ0_append_4 17 = .ok (.aload_n 1, 1) := dk_43 (dk_at dksJ0_append_4_0 17 rfl rfl)
theorem dJ0_append_4_18 : decode cJ0_append_4 18 = .ok (.checkcast 1, 3) := dk_192 0 1 (dk_at dksJ0_append_4_0 18 rfl rfl)
theorem dJ0_append_4_21 : decode cJ0_append_4 21 = .ok (.invokevirtual 43, 3) := dk_182 0 43 (dk_at dksJ0_append_4_0 21 rfl rfl)
theorem dJ0_append_4_24 : decode cJ0_append_4 24 = .ok (.areturn, 1) := dk_176 (dk_at dksJ0_append_4_1 0 rfl rfl)
theorem dJ0_append_4_25 : decode cJ0_append_4 25 = .ok (.aload_n 1, 1) := dk_43 (dk_at dksJ0_append_4_1 1 rfl rfl)
theorem dJ0_append_4_26 : decode cJ0_append_4 26 = .ok (.instanceof 10, 3) := dk_193 0 10 (dk_at dksJ0_append_4_1 2 rfl rfl)
theorem dJ0_append_4_29 : decode cJ0_append_4 29 = .ok (.ifCond .eq 12, 3) := dk_153 0 12 (dk_at dksJ0_append_4_1 5 rfl rfl)
theorem dJ0_append_4_32 : decode cJ0_append_4 32 = .ok (.aload_n 0, 1) := dk_42 (dk_at dksJ0_append_4_1 8 rfl rfl)
theorem dJ0_append_4_33 : decode cJ0_append_4 33 = .ok (.aload_n 1, 1) := dk_43 (dk_at dksJ0_append_4_1 9 rfl rfl)
theorem dJ0_append_4_34 : decode cJ0_append_4 34 = .ok (.checkcast 10, 3) := dk_192 0 10 (dk_at dksJ0_append_4_1 10 rfl rfl)
theorem dJ0_append_4_37 : decode cJ0_append_4 37 = .ok (.invokevirtual 212, 3) := dk_182 0 212 (dk_at dksJ0_append_4_1 13 rfl rfl)
theorem dJ0_append_4_40 : decode cJ0_append_4 40 = .ok (.areturn, 1) := dk_176 (dk_at dksJ0_append_4_1 16 rfl rfl)
theorem dJ0_append_4_41 : decode cJ0_append_4 41 = .ok (.aload_n 0, 1) := dk_42 (dk_at dksJ0_append_4_1 17 rfl rfl)
theorem dJ0_append_4_42 : decode cJ0_append_4 42 = .ok (.aload_n 1, 1) := dk_43 (dk_at dksJ0_append_4_1 18 rfl rfl)
theorem dJ0_append_4_43 : decode cJ0_append_4 43 = .ok (.iconst 0, 1) := dk_3 (dk_at dksJ0_append_4_1 19 rfl rfl)
theorem dJ0_append_4_44 : decode cJ0_append_4 44 = .ok (.aload_n 1, 1) := dk_43 (dk_at dksJ0_append_4_1 20 rfl rfl)
theorem dJ0_append_4_45 : decode cJ0_append_4 45 = .ok (.invokeinterface 47 1, 5) := by decide +kernel
theorem dJ0_append_4_50 : decode cJ0_append_4 50 = .ok (.invokevirtual 223, 3) := dk_182 0 223 (dk_at dksJ0_append_4_2 5 rfl rfl)
theorem dJ0_append_4_53 : decode cJ0_append_4 53 = .ok (.areturn, 1) := dk_176 (dk_at dksJ0_append_4_2 8 rfl rfl)
abbrev cJ0_append_5 : ByteArray := prog_26_method_24_code
def yJ0_append_5 : MethodName := ⟨RJ0, "append", "(Ljava/lang/AbstractStringBuilder;)Ljava/lang/AbstractStringBuilder;"⟩
def dkwJ0_append_5_2 : List UInt8 := [180, 0, 79, 28, 96, 181, 0, 79, 42, 89, 180, 0, 73, 43, 180, 0, 73, 128, 181, 0, 73, 42, 176]
abbrev dktJ0_append_5_2 : List UInt8 := dkwJ0_append_5_2 ++ []
def dkwJ0_append_5_1 : List UInt8 := [42, 43, 182, 0, 215, 43, 42, 180, 0, 15, 42, 180, 0, 79, 42, 180, 0, 22, 182, 0, 219, 42, 89]
abbrev dktJ0_append_5_1 : List UInt8 := dkwJ0_append_5_1 ++ dktJ0_append_5_2
def dkwJ0_append_5_0 : List UInt8 := [43, 199, 0, 8, 42, 182, 0, 204, 176, 43, 182, 0, 160, 61, 42, 42, 180, 0, 79, 28, 96, 182, 0, 100]
abbrev dktJ0_append_5_0 : List UInt8 := dkwJ0_append_5_0 ++ dktJ0_append_5_1
theorem dksJ0_append_5_0 : cJ0_append_5.data.toList.drop 0 = dktJ0_append_5_0 := by decide +kernel
theorem dksJ0_append_5_1 : cJ0_append_5.data.toList.drop 24 = dktJ0_append_5_1 := dk_seg dksJ0_append_5_0 24 rfl rfl
theorem dksJ0_append_5_2 : cJ0_append_5.data.toList.drop 47 = dktJ0_append_5_2 := dk_seg dksJ0_append_5_1 23 rfl rfl
theorem dJ0_append_5_0 : decode cJ0_append_5 0 = .ok (.aload_n 1, 1) := dk_43 (dk_at dksJ0_append_5_0 0 rfl rfl)
theorem dJ0_append_5_1 : decode cJ0_append_5 1 = .ok (.ifnonnull 8, 3) := dk_199 0 8 (dk_at dksJ0_append_5_0 1 rfl rfl)
theorem dJ0_append_5_4 : decode cJ0_append_5 4 = .ok (.aload_n 0, 1) := dk_42 (dk_at dksJ0_append_5_0 4 rfl rfl)
theorem dJ0_append_5_5 : decode cJ0_append_5 5 = .ok (.invokevirtual 204, 3) := dk_182 0 204 (dk_at dksJ0_append_5_0 5 rfl rfl)
theorem dJ0_append_5_8 : decode cJ0_append_5 8 = .ok (.areturn, 1) := dk_176 (dk_at dksJ0_append_5_0 8 rfl rfl)
theorem dJ0_append_5_9 : decode cJ0_append_5 9 = .ok (.aload_n 1, 1) := dk_43 (dk_at dksJ0_append_5_0 9 rfl rfl)
theorem dJ0_append_5_10 : decode cJ0_append_5 10 = .ok (.invokevirtual 160, 3) := dk_182 0 160 (dk_at dksJ0_append_5_0 10 rfl rfl)
theorem dJ0_append_5_13 : decode cJ0_append_5 13 = .ok (.istore_n 2, 1) := dk_61 (dk_at dksJ0_append_5_0 13 rfl rfl)
theorem dJ0_append_5_14 : decode cJ0_append_5 14 = .ok (.aload_n 0, 1) := dk_42 (dk_at dksJ0_append_5_0 14 rfl rfl)
theorem dJ0_append_5_15 : decode cJ0_append_5 15 = .ok (.aload_n 0, 1) := dk_42 (dk_at dksJ0_append_5_0 15 rfl rfl)
theorem dJ0_append_5_16 : decode cJ0_append_5 16 = .ok (.getfield 79, 3) := dk_180 0 79 (dk_at dksJ0_append_5_0 16 rfl rfl)
theorem dJ0_append_5_19 : decode cJ0_append_5 19 = .ok (.iload_n 2, 1) := dk_28 (dk_at dksJ0_append_5_0 19 rfl rfl)
theorem dJ0_append_5_20 : decode cJ0_append_5 20 = .ok (.iadd, 1) := dk_96 (dk_at dksJ0_append_5_0 20 rfl rfl)
theorem dJ0_append_5_21 : decode cJ0_append_5 21 = .ok (.invokevirtual 100, 3) := dk_182 0 100 (dk_at dksJ0_append_5_0 21 rfl rfl)
theorem dJ0_append_5_24 : decode cJ0_append_5 24 = .ok (.aload_n 0, 1) := dk_42 (dk_at dksJ0_append_5_1 0 rfl rfl)
theorem dJ0_append_5_25 : decode cJ0_append_5 25 = .ok (.aload_n 1, 1) := dk_43 (dk_at dksJ0_append_5_1 1 rfl rfl)
theorem dJ0_append_5_26 : decode cJ0_append_5 26 = .ok (.invokevirtual 215, 3) := dk_182 0 215 (dk_at dksJ0_append_5_1 2 rfl rfl)
theorem dJ0_append_5_29 : decode cJ0_append_5 29 = .ok (.aload_n 1, 1) := dk_43 (dk_at dksJ0_append_5_1 5 rfl rfl)
theorem dJ0_append_5_30 : decode cJ0_append_5 30 = .ok (.aload_n 0, 1) := dk_42 (dk_at dksJ0_append_5_1 6 rfl rfl)
theorem dJ0_append_5_31 : decode cJ0_append_5 31 = .ok (.getfield 15, 3) := dk_180 0 15 (dk_at dksJ0_append_5_1 7 rfl rfl)
theorem dJ0_append_5_34 : decode cJ0_append_5 34 = .ok (.aload_n 0, 1) := dk_42 (dk_at dksJ0_append_5_1 10 rfl rfl)
theorem dJ0_append_5_35 : decode cJ0_append_5 35 = .ok (.getfield 79, 3) := dk_180 0 79 (dk_at dksJ0_append_5_1 11 rfl rfl)
theorem dJ0_append_5_38 : decode cJ0_append_5 38 = .ok (.aload_n 0, 1) := dk_42 (dk_at dksJ0_append_5_1 14 rfl rfl)
theorem dJ0_append_5_39 : decode cJ0_append_5 39 = .ok (.getfield 22, 3) := dk_180 0 22 (dk_at dksJ0_append_5_1 15 rfl rfl)
theorem dJ0_append_5_42 : decode cJ0_append_5 42 = .ok (.invokevirtual 219, 3) := dk_182 0 219 (dk_at dksJ0_append_5_1 18 rfl rfl)
theorem dJ0_append_5_45 : decode cJ0_append_5 45 = .ok (.aload_n 0, 1) := dk_42 (dk_at dksJ0_append_5_1 21 rfl rfl)
theorem dJ0_append_5_46 : decode cJ0_append_5 46 = .ok (.dup, 1) := dk_89 (dk_at dksJ0_append_5_1 22 rfl rfl)
theorem dJ0_append_5_47 : decode cJ0_append_5 47 = .ok (.getfield 79, 3) := dk_180 0 79 (dk_at dksJ0_append_5_2 0 rfl rfl)
theorem dJ0_append_5_50 : decode cJ0_append_5 50 = .ok (.iload_n 2, 1) := dk_28 (dk_at dksJ0_append_5_2 3 rfl rfl)
theorem dJ0_append_5_51 : decode cJ0_append_5 51 = .ok (.iadd, 1) := dk_96 (dk_at dksJ0_append_5_2 4 rfl rfl)
theorem dJ0_append_5_52 : decode cJ0_append_5 52 = .ok (.putfield 79, 3) := dk_181 0 79 (dk_at dksJ0_append_5_2 5 rfl rfl)
theorem dJ0_append_5_55 : decode cJ0_append_5 55 = .ok (.aload_n 0, 1) := dk_42 (dk_at dksJ0_append_5_2 8 rfl rfl)
theorem dJ0_append_5_56 : decode cJ0_append_5 56 = .ok (.dup, 1) := dk_89 (dk_at dksJ0_append_5_2 9 rfl rfl)
theorem dJ0_append_5_57 : decode cJ0_append_5 57 = .ok (.getfield 73, 3) := dk_180 0 73 (dk_at dksJ0_append_5_2 10 rfl rfl)
theorem dJ0_append_5_60 : decode cJ0_append_5 60 = .ok (.aload_n 1, 1) := dk_43 (dk_at dksJ0_append_5_2 13 rfl rfl)
theorem dJ0_append_5_61 : decode cJ0_append_5 61 = .ok (.getfield 73, 3) := dk_180 0 73 (dk_at dksJ0_append_5_2 14 rfl rfl)
theorem dJ0_append_5_64 : decode cJ0_append_5 64 = .ok (.ior, 1) := dk_128 (dk_at dksJ0_append_5_2 17 rfl rfl)
theorem dJ0_append_5_65 : decode cJ0_append_5 65 = .ok (.putfield 73, 3) := dk_181 0 73 (dk_at dksJ0_append_5_2 18 rfl rfl)
theorem dJ0_append_5_68 : decode cJ0_append_5 68 = .ok (.aload_n 0, 1) := dk_42 (dk_at dksJ0_append_5_2 21 rfl rfl)
theorem dJ0_append_5_69 : decode cJ0_append_5 69 = .ok (.areturn, 1) := dk_176 (dk_at dksJ0_append_5_2 22 rfl rfl)
abbrev cJ0_inflateIfNeededFor_2 : ByteArray := prog_26_method_72_code
def yJ0_inflateIfNeededFor_2 : MethodName := ⟨RJ0, "inflateIfNeededFor", "(Ljava/lang/AbstractStringBuilder;)V"⟩
def dkwJ0_inflateIfNeededFor_2_0 : List UInt8 := [178, 0, 18, 153, 0, 18, 42, 180, 0, 22, 43, 182, 0, 70, 159, 0, 7, 42, 182, 0, 195, 177]
abbrev dktJ0_inflateIfNeededFor_2_0 : List UInt8 := dkwJ0_inflateIfNeededFor_2_0 ++ []
theorem dksJ0_inflateIfNeededFor_2_0 : cJ0_inflateIfNeededFor_2.data.toList.drop 0 = dktJ0_inflateIfNeededFor_2_0 := by decide +kernel
theorem dJ0_inflateIfNeededFor_2_0 : decode cJ0_inflateIfNeededFor_2 0 = .ok (.getstatic 18, 3) := dk_178 0 18 (dk_at dksJ0_inflateIfNeededFor_2_0 0 rfl rfl)
theorem dJ0_inflateIfNeededFor_2_3 : decode cJ0_inflateIfNeededFor_2 3 = .ok (.ifCond .eq 18, 3) := dk_153 0 18 (dk_at dksJ0_inflateIfNeededFor_2_0 3 rfl rfl)
theorem dJ0_inflateIfNeededFor_2_6 : decode cJ0_inflateIfNeededFor_2 6 = .ok (.aload_n 0, 1) := dk_42 (dk_at dksJ0_inflateIfNeededFor_2_0 6 rfl rfl)
theorem dJ0_inflateIfNeededFor_2_7 : decode cJ0_inflateIfNeededFor_2 7 = .ok (.getfield 22, 3) := dk_180 0 22 (dk_at dksJ0_inflateIfNeededFor_2_0 7 rfl rfl)
theorem dJ0_inflateIfNeededFor_2_10 : decode cJ0_inflateIfNeededFor_2 10 = .ok (.aload_n 1, 1) := dk_43 (dk_at dksJ0_inflateIfNeededFor_2_0 10 rfl rfl)
theorem dJ0_inflateIfNeededFor_2_11 : decode cJ0_inflateIfNeededFor_2 11 = .ok (.invokevirtual 70, 3) := dk_182 0 70 (dk_at dksJ0_inflateIfNeededFor_2_0 11 rfl rfl)
theorem dJ0_inflateIfNeededFor_2_14 : decode cJ0_inflateIfNeededFor_2 14 = .ok (.if_icmp .eq 7, 3) := dk_159 0 7 (dk_at dksJ0_inflateIfNeededFor_2_0 14 rfl rfl)
theorem dJ0_inflateIfNeededFor_2_17 : decode cJ0_inflateIfNeededFor_2 17 = .ok (.aload_n 0, 1) := dk_42 (dk_at dksJ0_inflateIfNeededFor_2_0 17 rfl rfl)
theorem dJ0_inflateIfNeededFor_2_18 : decode cJ0_inflateIfNeededFor_2 18 = .ok (.invokevirtual 195, 3) := dk_182 0 195 (dk_at dksJ0_inflateIfNeededFor_2_0 18 rfl rfl)
theorem dJ0_inflateIfNeededFor_2_21 : decode cJ0_inflateIfNeededFor_2 21 = .ok (.return_, 1) := dk_177 (dk_at dksJ0_inflateIfNeededFor_2_0 21 rfl rfl)
abbrev cJ0_getCoder : ByteArray := prog_26_method_67_code
def yJ0_getCoder : MethodName := ⟨RJ0, "getCoder", "()B"⟩
def dkwJ0_getCoder_0 : List UInt8 := [178, 0, 18, 153, 0, 10, 42, 180, 0, 22, 167, 0, 4, 4, 172]
abbrev dktJ0_getCoder_0 : List UInt8 := dkwJ0_getCoder_0 ++ []
theorem dksJ0_getCoder_0 : cJ0_getCoder.data.toList.drop 0 = dktJ0_getCoder_0 := by decide +kernel
theorem dJ0_getCoder_0 : decode cJ0_getCoder 0 = .ok (.getstatic 18, 3) := dk_178 0 18 (dk_at dksJ0_getCoder_0 0 rfl rfl)
theorem dJ0_getCoder_3 : decode cJ0_getCoder 3 = .ok (.ifCond .eq 10, 3) := dk_153 0 10 (dk_at dksJ0_getCoder_0 3 rfl rfl)
theorem dJ0_getCoder_6 : decode cJ0_getCoder 6 = .ok (.aload_n 0, 1) := dk_42 (dk_at dksJ0_getCoder_0 6 rfl rfl)
theorem dJ0_getCoder_7 : decode cJ0_getCoder 7 = .ok (.getfield 22, 3) := dk_180 0 22 (dk_at dksJ0_getCoder_0 7 rfl rfl)
theorem dJ0_getCoder_10 : decode cJ0_getCoder 10 = .ok (.goto 4, 3) := dk_167 0 4 (dk_at dksJ0_getCoder_0 10 rfl rfl)
theorem dJ0_getCoder_13 : decode cJ0_getCoder 13 = .ok (.iconst 1, 1) := dk_4 (dk_at dksJ0_getCoder_0 13 rfl rfl)
theorem dJ0_getCoder_14 : decode cJ0_getCoder 14 = .ok (.ireturn, 1) := dk_172 (dk_at dksJ0_getCoder_0 14 rfl rfl)
abbrev cJ0_getBytes : ByteArray := prog_26_method_65_code
def yJ0_getBytes : MethodName := ⟨RJ0, "getBytes", "([BIB)V"⟩
def dkwJ0_getBytes_1 : List UInt8 := [184, 1, 53, 167, 0, 17, 42, 180, 0, 15, 3, 43, 28, 42, 180, 0, 79, 184, 0, 125, 177]
abbrev dktJ0_getBytes_1 : List UInt8 := dkwJ0_getBytes_1 ++ []
def dkwJ0_getBytes_0 : List UInt8 := [42, 180, 0, 22, 29, 160, 0, 24, 42, 180, 0, 15, 3, 43, 28, 29, 120, 42, 180, 0, 79, 29, 120]
abbrev dktJ0_getBytes_0 : List UInt8 := dkwJ0_getBytes_0 ++ dktJ0_getBytes_1
theorem dksJ0_getBytes_0 : cJ0_getBytes.data.toList.drop 0 = dktJ0_getBytes_0 := by decide +kernel
theorem dksJ0_getBytes_1 : cJ0_getBytes.data.toList.drop 23 = dktJ0_getBytes_1 := dk_seg dksJ0_getBytes_0 23 rfl rfl
theorem dJ0_getBytes_0 : decode cJ0_getBytes 0 = .ok (.aload_n 0, 1) := dk_42 (dk_at dksJ0_getBytes_0 0 rfl rfl)
theorem dJ0_getBytes_1 : decode cJ0_getBytes 1 = .ok (.getfield 22, 3) := dk_180 0 22 (dk_at dksJ0_getBytes_0 1 rfl rfl)
theorem dJ0_getBytes_4 : decode cJ0_getBytes 4 = .ok (.iload_n 3, 1) := dk_29 (dk_at dksJ0_getBytes_0 4 rfl rfl)
theorem dJ0_getBytes_5 : decode cJ0_getBytes 5 = .ok (.if_icmp .ne 24, 3) := dk_160 0 24 (dk_at dksJ0_getBytes_0 5 rfl rfl)
theorem dJ0_getBytes_8 : decode cJ0_getBytes 8 = .ok (.aload_n 0, 1) := dk_42 (dk_at dksJ0_getBytes_0 8 rfl rfl)
theorem dJ0_getBytes_9 : decode cJ0_getBytes 9 = .ok (.getfield 15, 3) := dk_180 0 15 (dk_at dksJ0_getBytes_0 9 rfl rfl)
theorem dJ0_getBytes_12 : decode cJ0_getBytes 12 = .ok (.iconst 0, 1) := dk_3 (dk_at dksJ0_getBytes_0 12 rfl rfl)
theorem dJ0_getBytes_13 : decode cJ0_getBytes 13 = .ok (.aload_n 1, 1) := dk_43 (dk_at dksJ0_getBytes_0 13 rfl rfl)
theorem dJ0_getBytes_14 : decode cJ0_getBytes 14 = .ok (.iload_n 2, 1) := dk_28 (dk_at dksJ0_getBytes_0 14 rfl rfl)
theorem dJ0_getBytes_15 : decode cJ0_getBytes 15 = .ok (.iload_n 3, 1) := dk_29 (dk_at dksJ0_getBytes_0 15 rfl rfl)
theorem dJ0_getBytes_16 : decode cJ0_getBytes 16 = .ok (.ishl, 1) := dk_120 (dk_at dksJ0_getBytes_0 16 rfl rfl)
theorem dJ0_getBytes_17 : decode cJ0_getBytes 17 = .ok (.aload_n 0, 1) := dk_42 (dk_at dksJ0_getBytes_0 17 rfl rfl)
theorem dJ0_getBytes_18 : decode cJ0_getBytes 18 = .ok (.getfield 79, 3) := dk_180 0 79 (dk_at dksJ0_getBytes_0 18 rfl rfl)
theorem dJ0_getBytes_21 : decode cJ0_getBytes 21 = .ok (.iload_n 3, 1) := dk_29 (dk_at dksJ0_getBytes_0 21 rfl rfl)
theorem dJ0_getBytes_22 : decode cJ0_getBytes 22 = .ok (.ishl, 1) := dk_120 (dk_at dksJ0_getBytes_0 22 rfl rfl)
theorem dJ0_getBytes_23 : decode cJ0_getBytes 23 = .ok (.invokestatic 309, 3) := dk_184 1 53 (dk_at dksJ0_getBytes_1 0 rfl rfl)
theorem dJ0_getBytes_26 : decode cJ0_getBytes 26 = .ok (.goto 17, 3) := dk_167 0 17 (dk_at dksJ0_getBytes_1 3 rfl rfl)
theorem dJ0_getBytes_29 : decode cJ0_getBytes 29 = .ok (.aload_n 0, 1) := dk_42 (dk_at dksJ0_getBytes_1 6 rfl rfl)
theorem dJ0_getBytes_30 : decode cJ0_getBytes 30 = .ok (.getfield 15, 3) := dk_180 0 15 (dk_at dksJ0_getBytes_1 7 rfl rfl)
theorem dJ0_getBytes_33 : decode cJ0_getBytes 33 = .ok (.iconst 0, 1) := dk_3 (dk_at dksJ0_getBytes_1 10 rfl rfl)
theorem dJ0_getBytes_34 : decode cJ0_getBytes 34 = .ok (.aload_n 1, 1) := dk_43 (dk_at dksJ0_getBytes_1 11 rfl rfl)
theorem dJ0_getBytes_35 : decode cJ0_getBytes 35 = .ok (.iload_n 2, 1) := dk_28 (dk_at dksJ0_getBytes_1 12 rfl rfl)
theorem dJ0_getBytes_36 : decode cJ0_getBytes 36 = .ok (.aload_n 0, 1) := dk_42 (dk_at dksJ0_getBytes_1 13 rfl rfl)
theorem dJ0_getBytes_37 : decode cJ0_getBytes 37 = .ok (.getfield 79, 3) := dk_180 0 79 (dk_at dksJ0_getBytes_1 14 rfl rfl)
theorem dJ0_getBytes_40 : decode cJ0_getBytes 40 = .ok (.invokestatic 125, 3) := dk_184 0 125 (dk_at dksJ0_getBytes_1 17 rfl rfl)
theorem dJ0_getBytes_43 : decode cJ0_getBytes 43 = .ok (.return_, 1) := dk_177 (dk_at dksJ0_getBytes_1 20 rfl rfl)
abbrev cJ0_append_6 : ByteArray := prog_26_method_27_code
def yJ0_append_6 : MethodName := ⟨RJ0, "append", "(Ljava/lang/CharSequence;II)Ljava/lang/AbstractStringBuilder;"⟩
def dkwJ0_append_6_2 : List UInt8 := [192, 0, 1, 28, 29, 182, 0, 232, 167, 0, 10, 42, 43, 28, 29, 182, 0, 236, 42, 176]
abbrev dktJ0_append_6_2 : List UInt8 := dkwJ0_append_6_2 ++ []
def dkwJ0_append_6_1 : List UInt8 := [100, 54, 4, 42, 42, 180, 0, 79, 21, 4, 96, 182, 0, 100, 43, 193, 0, 1, 153, 0, 16, 42, 43]
abbrev dktJ0_append_6_1 : List UInt8 := dkwJ0_append_6_1 ++ dktJ0_append_6_2
def dkwJ0_append_6_0 : List UInt8 := [43, 199, 0, 6, 18, 230, 76, 28, 29, 43, 185, 0, 47, 1, 0, 178, 0, 183, 184, 0, 161, 87, 29, 28]
abbrev dktJ0_append_6_0 : List UInt8 := dkwJ0_append_6_0 ++ dktJ0_append_6_1
theorem dksJ0_append_6_0 : cJ0_append_6.data.toList.drop 0 = dktJ0_append_6_0 := by decide +kernel
theorem dksJ0_append_6_1 : cJ0_append_6.data.toList.drop 24 = dktJ0_append_6_1 := dk_seg dksJ0_append_6_0 24 rfl rfl
theorem dksJ0_append_6_2 : cJ0_append_6.data.toList.drop 47 = dktJ0_append_6_2 := dk_seg dksJ0_append_6_1 23 rfl rfl
theorem dJ0_append_6_0 : decode cJ0_append_6 0 = .ok (.aload_n 1, 1) := dk_43 (dk_at dksJ0_append_6_0 0 rfl rfl)
theorem dJ0_append_6_1 : decode cJ0_append_6 1 = .ok (.ifnonnull 6, 3) := dk_199 0 6 (dk_at dksJ0_append_6_0 1 rfl rfl)
theorem dJ0_append_6_4 : decode cJ0_append_6 4 = .ok (.ldc 230, 2) := dk_18 230 (dk_at dksJ0_append_6_0 4 rfl rfl)
theorem dJ0_append_6_6 : decode cJ0_append_6 6 = .ok (.astore_n 1, 1) := dk_76 (dk_at dksJ0_append_6_0 6 rfl rfl)
theorem dJ0_append_6_7 : decode cJ0_append_6 7 = .ok (.iload_n 2, 1) := dk_28 (dk_at dksJ0_append_6_0 7 rfl rfl)
theorem dJ0_append_6_8 : decode cJ0_append_6 8 = .ok (.iload_n 3, 1) := dk_29 (dk_at dksJ0_append_6_0 8 rfl rfl)
theorem dJ0_append_6_9 : decode cJ0_append_6 9 = .ok (.aload_n 1, 1) := dk_43 (dk_at dksJ0_append_6_0 9 rfl rfl)
theorem dJ0_append_6_10 : decode cJ0_append_6 10 = .ok (.invokeinterface 47 1, 5) := by decide +kernel
theorem dJ0_append_6_15 : decode cJ0_append_6 15 = .ok (.getstatic 183, 3) := dk_178 0 183 (dk_at dksJ0_append_6_0 15 rfl rfl)
theorem dJ0_append_6_18 : decode cJ0_append_6 18 = .ok (.invokestatic 161, 3) := dk_184 0 161 (dk_at dksJ0_append_6_0 18 rfl rfl)
theorem dJ0_append_6_21 : decode cJ0_append_6 21 = .ok (.pop, 1) := dk_87 (dk_at dksJ0_append_6_0 21 rfl rfl)
theorem dJ0_append_6_22 : decode cJ0_append_6 22 = .ok (.iload_n 3, 1) := dk_29 (dk_at dksJ0_append_6_0 22 rfl rfl)
theorem dJ0_append_6_23 : decode cJ0_append_6 23 = .ok (.iload_n 2, 1) := dk_28 (dk_at dksJ0_append_6_0 23 rfl rfl)
theorem dJ0_append_6_24 : decode cJ0_append_6 24 = .ok (.isub, 1) := dk_100 (dk_at dksJ0_append_6_1 0 rfl rfl)
theorem dJ0_append_6_25 : decode cJ0_append_6 25 = .ok (.istore 4, 2) := dk_54 4 (dk_at dksJ0_append_6_1 1 rfl rfl)
theorem dJ0_append_6_27 : decode cJ0_append_6 27 = .ok (.aload_n 0, 1) := dk_42 (dk_at dksJ0_append_6_1 3 rfl rfl)
theorem dJ0_append_6_28 : decode cJ0_append_6 28 = .ok (.aload_n 0, 1) := dk_42 (dk_at dksJ0_append_6_1 4 rfl rfl)
theorem dJ0_append_6_29 : decode cJ0_append_6 29 = .ok (.getfield 79, 3) := dk_180 0 79 (dk_at dksJ0_append_6_1 5 rfl rfl)
theorem dJ0_append_6_32 : decode cJ0_append_6 32 = .ok (.iload 4, 2) := dk_21 4 (dk_at dksJ0_append_6_1 8 rfl rfl)
theorem dJ0_append_6_34 : decode cJ0_append_6 34 = .ok (.iadd, 1) := dk_96 (dk_at dksJ0_append_6_1 10 rfl rfl)
theorem dJ0_append_6_35 : decode cJ0_append_6 35 = .ok (.invokevirtual 100, 3) := dk_182 0 100 (dk_at dksJ0_append_6_1 11 rfl rfl)
theorem dJ0_append_6_38 : decode cJ0_append_6 38 = .ok (.aload_n 1, 1) := dk_43 (dk_at dksJ0_append_6_1 14 rfl rfl)
theorem dJ0_append_6_39 : decode cJ0_append_6 39 = .ok (.instanceof 1, 3) := dk_193 0 1 (dk_at dksJ0_append_6_1 15 rfl rfl)
theorem dJ0_append_6_42 : decode cJ0_append_6 42 = .ok (.ifCond .eq 16, 3) := dk_153 0 16 (dk_at dksJ0_append_6_1 18 rfl rfl)
theorem dJ0_append_6_45 : decode cJ0_append_6 45 = .ok (.aload_n 0, 1) := dk_42 (dk_at dksJ0_append_6_1 21 rfl rfl)
theorem dJ0_append_6_46 : decode cJ0_append_6 46 = .ok (.aload_n 1, 1) := dk_43 (dk_at dksJ0_append_6_1 22 rfl rfl)
theorem dJ0_append_6_47 : decode cJ0_append_6 47 = .ok (.checkcast 1, 3) := dk_192 0 1 (dk_at dksJ0_append_6_2 0 rfl rfl)
theorem dJ0_append_6_50 : decode cJ0_append_6 50 = .ok (.iload_n 2, 1) := dk_28 (dk_at dksJ0_append_6_2 3 rfl rfl)
theorem dJ0_append_6_51 : decode cJ0_append_6 51 = .ok (.iload_n 3, 1) := dk_29 (dk_at dksJ0_append_6_2 4 rfl rfl)
theorem dJ0_append_6_52 : decode cJ0_append_6 52 = .ok (.invokevirtual 232, 3) := dk_182 0 232 (dk_at dksJ0_append_6_2 5 rfl rfl)
theorem dJ0_append_6_55 : decode cJ0_append_6 55 = .ok (.goto 10, 3) := dk_167 0 10 (dk_at dksJ0_append_6_2 8 rfl rfl)
theorem dJ0_append_6_58 : decode cJ0_append_6 58 = .ok (.aload_n 0, 1) := dk_42 (dk_at dksJ0_append_6_2 11 rfl rfl)
theorem dJ0_append_6_59 : decode cJ0_append_6 59 = .ok (.aload_n 1, 1) := dk_43 (dk_at dksJ0_append_6_2 12 rfl rfl)
theorem dJ0_append_6_60 : decode cJ0_append_6 60 = .ok (.iload_n 2, 1) := dk_28 (dk_at dksJ0_append_6_2 13 rfl rfl)
theorem dJ0_append_6_61 : decode cJ0_append_6 61 = .ok (.iload_n 3, 1) := dk_29 (dk_at dksJ0_append_6_2 14 rfl rfl)
theorem dJ0_append_6_62 : decode cJ0_append_6 62 = .ok (.invokevirtual 236, 3) := dk_182 0 236 (dk_at dksJ0_append_6_2 15 rfl rfl)
theorem dJ0_append_6_65 : decode cJ0_append_6 65 = .ok (.aload_n 0, 1) := dk_42 (dk_at dksJ0_append_6_2 18 rfl rfl)
theorem dJ0_append_6_66 : decode cJ0_append_6 66 = .ok (.areturn, 1) := dk_176 (dk_at dksJ0_append_6_2 19 rfl rfl)
abbrev cJ0_appendChars : ByteArray := prog_26_method_75_code
def yJ0_appendChars : MethodName := ⟨RJ0, "appendChars", "(Ljava/lang/String;II)V"⟩
def dkwJ0_appendChars_8 : List UInt8 := [120, 184, 1, 53, 42, 89, 180, 0, 79, 29, 28, 100, 96, 181, 0, 79, 177]
abbrev dktJ0_appendChars_8 : List UInt8 := dkwJ0_appendChars_8 ++ []
def dkwJ0_appendChars_7 : List UInt8 := [167, 0, 28, 43, 182, 1, 145, 28, 4, 120, 42, 180, 0, 15, 42, 180, 0, 79, 4, 120, 29, 28, 100, 4]
abbrev dktJ0_appendChars_7 : List UInt8 := dkwJ0_appendChars_7 ++ dktJ0_appendChars_8
def dkwJ0_appendChars_6 : List UInt8 := [167, 0, 52, 43, 182, 1, 144, 153, 0, 20, 42, 180, 0, 15, 42, 180, 0, 79, 43, 28, 29, 184, 1, 138]
abbrev dktJ0_appendChars_6 : List UInt8 := dkwJ0_appendChars_6 ++ dktJ0_appendChars_7
def dkwJ0_appendChars_5 : List UInt8 := [120, 184, 1, 53, 42, 89, 180, 0, 79, 29, 21, 5, 100, 96, 181, 0, 79, 177, 132, 5, 1, 167, 255, 168]
abbrev dktJ0_appendChars_5 : List UInt8 := dkwJ0_appendChars_5 ++ dktJ0_appendChars_6
def dkwJ0_appendChars_4 : List UInt8 := [182, 0, 195, 43, 182, 1, 145, 21, 5, 4, 120, 42, 180, 0, 15, 21, 6, 4, 120, 29, 21, 5, 100, 4]
abbrev dktJ0_appendChars_4 : List UInt8 := dkwJ0_appendChars_4 ++ dktJ0_appendChars_5
def dkwJ0_appendChars_3 : List UInt8 := [153, 0, 17, 25, 4, 21, 6, 132, 6, 1, 21, 7, 145, 84, 167, 0, 52, 42, 21, 6, 181, 0, 79, 42]
abbrev dktJ0_appendChars_3 : List UInt8 := dkwJ0_appendChars_3 ++ dktJ0_appendChars_4
def dkwJ0_appendChars_2 : List UInt8 := [180, 0, 79, 54, 6, 21, 5, 29, 162, 0, 88, 43, 21, 5, 182, 1, 148, 54, 7, 21, 7, 184, 0, 191]
abbrev dktJ0_appendChars_2 : List UInt8 := dkwJ0_appendChars_2 ++ dktJ0_appendChars_3
def dkwJ0_appendChars_1 : List UInt8 := [180, 0, 79, 29, 28, 100, 184, 1, 53, 167, 0, 161, 42, 180, 0, 15, 58, 4, 28, 54, 5, 42]
abbrev dktJ0_appendChars_1 : List UInt8 := dkwJ0_appendChars_1 ++ dktJ0_appendChars_2
def dkwJ0_appendChars_0 : List UInt8 := [42, 182, 0, 83, 153, 0, 141, 43, 182, 1, 144, 153, 0, 25, 43, 182, 1, 145, 28, 42, 180, 0, 15, 42]
abbrev dktJ0_appendChars_0 : List UInt8 := dkwJ0_appendChars_0 ++ dktJ0_appendChars_1
theorem dksJ0_appendChars_0 : cJ0_appendChars.data.toList.drop 0 = dktJ0_appendChars_0 := by decide +kernel
theorem dksJ0_appendChars_1 : cJ0_appendChars.data.toList.drop 24 = dktJ0_appendChars_1 := dk_seg dksJ0_appendChars_0 24 rfl rfl
theorem dksJ0_appendChars_2 : cJ0_appendChars.data.toList.drop 46 = dktJ0_appendChars_2 := dk_seg dksJ0_appendChars_1 22 rfl rfl
theorem dksJ0_appendChars_3 : cJ0_appendChars.data.toList.drop 70 = dktJ0_appendChars_3 := dk_seg dksJ0_appendChars_2 24 rfl rfl
theorem dksJ0_appendChars_4 : cJ0_appendChars.data.toList.drop 94 = dktJ0_appendChars_4 := dk_seg dksJ0_appendChars_3 24 rfl rfl
theorem dksJ0_appendChars_5 : cJ0_appendChars.data.toList.drop 118 = dktJ0_appendChars_5 := dk_seg dksJ0_appendChars_4 24 rfl rfl
theorem dksJ0_appendChars_6 : cJ0_appendChars.data.toList.drop 142 = dktJ0_appendChars_6 := dk_seg dksJ0_appendChars_5 24 rfl rfl
theorem dksJ0_appendChars_7 : cJ0_appendChars.data.toList.drop 166 = dktJ0_appendChars_7 := dk_seg dksJ0_appendChars_6 24 rfl rfl
theorem dksJ0_appendChars_8 : cJ0_appendChars.data.toList.drop 190 = dktJ0_appendChars_8 := dk_seg dksJ0_appendChars_7 24 rfl rfl
theorem dJ0_appendChars_0 : decode cJ0_appendChars 0 = .ok (.aload_n 0, 1) := dk_42 (dk_at dksJ0_appendChars_0 0 rfl rfl)
theorem dJ0_appendChars_1 : decode cJ0_appendChars 1 = .ok (.invokevirtual 83, 3) := dk_182 0 83 (dk_at dksJ0_appendChars_0 1 rfl rfl)
theorem dJ0_appendChars_4 : decode cJ0_appendChars 4 = .ok (.ifCond .eq 141, 3) := dk_153 0 141 (dk_at dksJ0_appendChars_0 4 rfl rfl)
theorem dJ0_appendChars_7 : decode cJ0_appendChars 7 = .ok (.aload_n 1, 1) := dk_43 (dk_at dksJ0_appendChars_0 7 rfl rfl)
theorem dJ0_appendChars_8 : decode cJ0_appendChars 8 = .ok (.invokevirtual 400, 3) := dk_182 1 144 (dk_at dksJ0_appendChars_0 8 rfl rfl)
theorem dJ0_appendChars_11 : decode cJ0_appendChars 11 = .ok (.ifCond .eq 25, 3) := dk_153 0 25 (dk_at dksJ0_appendChars_0 11 rfl rfl)
theorem dJ0_appendChars_14 : decode cJ0_appendChars 14 = .ok (.aload_n 1, 1) := dk_43 (dk_at dksJ0_appendChars_0 14 rfl rfl)
theorem dJ0_appendChars_15 : decode cJ0_appendChars 15 = .ok (.invokevirtual 401, 3) := dk_182 1 145 (dk_at dksJ0_appendChars_0 15 rfl rfl)
theorem dJ0_appendChars_18 : decode cJ0_appendChars 18 = .ok (.iload_n 2, 1) := dk_28 (dk_at dksJ0_appendChars_0 18 rfl rfl)
theorem dJ0_appendChars_19 : decode cJ0_appendChars 19 = .ok (.aload_n 0, 1) := dk_42 (dk_at dksJ0_appendChars_0 19 rfl rfl)
theorem dJ0_appendChars_20 : decode cJ0_appendChars 20 = .ok (.getfield 15, 3) := dk_180 0 15 (dk_at dksJ0_appendChars_0 20 rfl rfl)
theorem dJ0_appendChars_23 : decode cJ0_appendChars 23 = .ok (.aload_n 0, 1) := dk_42 (dk_at dksJ0_appendChars_0 23 rfl rfl)
theorem dJ0_appendChars_24 : decode cJ0_appendChars 24 = .ok (.getfield 79, 3) := dk_180 0 79 (dk_at dksJ0_appendChars_1 0 rfl rfl)
theorem dJ0_appendChars_27 : decode cJ0_appendChars 27 = .ok (.iload_n 3, 1) := dk_29 (dk_at dksJ0_appendChars_1 3 rfl rfl)
theorem dJ0_appendChars_28 : decode cJ0_appendChars 28 = .ok (.iload_n 2, 1) := dk_28 (dk_at dksJ0_appendChars_1 4 rfl rfl)
theorem dJ0_appendChars_29 : decode cJ0_appendChars 29 = .ok (.isub, 1) := dk_100 (dk_at dksJ0_appendChars_1 5 rfl rfl)
theorem dJ0_appendChars_30 : decode cJ0_appendChars 30 = .ok (.invokestatic 309, 3) := dk_184 1 53 (dk_at dksJ0_appendChars_1 6 rfl rfl)
theorem dJ0_appendChars_33 : decode cJ0_appendChars 33 = .ok (.goto 161, 3) := dk_167 0 161 (dk_at dksJ0_appendChars_1 9 rfl rfl)
theorem dJ0_appendChars_36 : decode cJ0_appendChars 36 = .ok (.aload_n 0, 1) := dk_42 (dk_at dksJ0_appendChars_1 12 rfl rfl)
theorem dJ0_appendChars_37 : decode cJ0_appendChars 37 = .ok (.getfield 15, 3) := dk_180 0 15 (dk_at dksJ0_appendChars_1 13 rfl rfl)
theorem dJ0_appendChars_40 : decode cJ0_appendChars 40 = .ok (.astore 4, 2) := dk_58 4 (dk_at dksJ0_appendChars_1 16 rfl rfl)
theorem dJ0_appendChars_42 : decode cJ0_appendChars 42 = .ok (.iload_n 2, 1) := dk_28 (dk_at dksJ0_appendChars_1 18 rfl rfl)
theorem dJ0_appendChars_43 : decode cJ0_appendChars 43 = .ok (.istore 5, 2) := dk_54 5 (dk_at dksJ0_appendChars_1 19 rfl rfl)
theorem dJ0_appendChars_45 : decode cJ0_appendChars 45 = .ok (.aload_n 0, 1) := dk_42 (dk_at dksJ0_appendChars_1 21 rfl rfl)
theorem dJ0_appendChars_46 : decode cJ0_appendChars 46 = .ok (.getfield 79, 3) := dk_180 0 79 (dk_at dksJ0_appendChars_2 0 rfl rfl)
theorem dJ0_appendChars_49 : decode cJ0_appendChars 49 = .ok (.istore 6, 2) := dk_54 6 (dk_at dksJ0_appendChars_2 3 rfl rfl)
theorem dJ0_appendChars_51 : decode cJ0_appendChars 51 = .ok (.iload 5, 2) := dk_21 5 (dk_at dksJ0_appendChars_2 5 rfl rfl)
theorem dJ0_appendChars_53 : decode cJ0_appendChars 53 = .ok (.iload_n 3, 1) := dk_29 (dk_at dksJ0_appendChars_2 7 rfl rfl)
theorem dJ0_appendChars_54 : decode cJ0_appendChars 54 = .ok (.if_icmp .ge 88, 3) := dk_162 0 88 (dk_at dksJ0_appendChars_2 8 rfl rfl)
theorem dJ0_appendChars_57 : decode cJ0_appendChars 57 = .ok (.aload_n 1, 1) := dk_43 (dk_at dksJ0_appendChars_2 11 rfl rfl)
theorem dJ0_appendChars_58 : decode cJ0_appendChars 58 = .ok (.iload 5, 2) := dk_21 5 (dk_at dksJ0_appendChars_2 12 rfl rfl)
theorem dJ0_appendChars_60 : decode cJ0_appendChars 60 = .ok (.invokevirtual 404, 3) := dk_182 1 148 (dk_at dksJ0_appendChars_2 14 rfl rfl)
theorem dJ0_appendChars_63 : decode cJ0_appendChars 63 = .ok (.istore 7, 2) := dk_54 7 (dk_at dksJ0_appendChars_2 17 rfl rfl)
theorem dJ0_appendChars_65 : decode cJ0_appendChars 65 = .ok (.iload 7, 2) := dk_21 7 (dk_at dksJ0_appendChars_2 19 rfl rfl)
theorem dJ0_appendChars_67 : decode cJ0_appendChars 67 = .ok (.invokestatic 191, 3) := dk_184 0 191 (dk_at dksJ0_appendChars_2 21 rfl rfl)
theorem dJ0_appendChars_70 : decode cJ0_appendChars 70 = .ok (.ifCond .eq 17, 3) := dk_153 0 17 (dk_at dksJ0_appendChars_3 0 rfl rfl)
theorem dJ0_appendChars_73 : decode cJ0_appendChars 73 = .ok (.aload 4, 2) := dk_25 4 (dk_at dksJ0_appendChars_3 3 rfl rfl)
theorem dJ0_appendChars_75 : decode cJ0_appendChars 75 = .ok (.iload 6, 2) := dk_21 6 (dk_at dksJ0_appendChars_3 5 rfl rfl)
theorem dJ0_appendChars_77 : decode cJ0_appendChars 77 = .ok (.iinc 6 1, 3) := dk_132 6 1 (dk_at dksJ0_appendChars_3 7 rfl rfl)
theorem dJ0_appendChars_80 : decode cJ0_appendChars 80 = .ok (.iload 7, 2) := dk_21 7 (dk_at dksJ0_appendChars_3 10 rfl rfl)
theorem dJ0_appendChars_82 : decode cJ0_appendChars 82 = .ok (.i2b, 1) := dk_145 (dk_at dksJ0_appendChars_3 12 rfl rfl)
theorem dJ0_appendChars_83 : decode cJ0_appendChars 83 = .ok (.bastore, 1) := dk_84 (dk_at dksJ0_appendChars_3 13 rfl rfl)
theorem dJ0_appendChars_84 : decode cJ0_appendChars 84 = .ok (.goto 52, 3) := dk_167 0 52 (dk_at dksJ0_appendChars_3 14 rfl rfl)
theorem dJ0_appendChars_87 : decode cJ0_appendChars 87 = .ok (.aload_n 0, 1) := dk_42 (dk_at dksJ0_appendChars_3 17 rfl rfl)
theorem dJ0_appendChars_88 : decode cJ0_appendChars 88 = .ok (.iload 6, 2) := dk_21 6 (dk_at dksJ0_appendChars_3 18 rfl rfl)
theorem dJ0_appendChars_90 : decode cJ0_appendChars 90 = .ok (.putfield 79, 3) := dk_181 0 79 (dk_at dksJ0_appendChars_3 20 rfl rfl)
theorem dJ0_appendChars_93 : decode cJ0_appendChars 93 = .ok (.aload_n 0, 1) := dk_42 (dk_at dksJ0_appendChars_3 23 rfl rfl)
theorem dJ0_appendChars_94 : decode cJ0_appendChars 94 = .ok (.invokevirtual 195, 3) := dk_182 0 195 (dk_at dksJ0_appendChars_4 0 rfl rfl)
theorem dJ0_appendChars_97 : decode cJ0_appendChars 97 = .ok (.aload_n 1, 1) := dk_43 (dk_at dksJ0_appendChars_4 3 rfl rfl)
theorem dJ0_appendChars_98 : decode cJ0_appendChars 98 = .ok (.invokevirtual 401, 3) := dk_182 1 145 (dk_at dksJ0_appendChars_4 4 rfl rfl)
theorem dJ0_appendChars_101 : decode cJ0_appendChars 101 = .ok (.iload 5, 2) := dk_21 5 (dk_at dksJ0_appendChars_4 7 rfl rfl)
theorem dJ0_appendChars_103 : decode cJ0_appendChars 103 = .ok (.iconst 1, 1) := dk_4 (dk_at dksJ0_appendChars_4 9 rfl rfl)
theorem dJ0_appendChars_104 : decode cJ0_appendChars 104 = .ok (.ishl, 1) := dk_120 (dk_at dksJ0_appendChars_4 10 rfl rfl)
theorem dJ0_appendChars_105 : decode cJ0_appendChars 105 = .ok (.aload_n 0, 1) := dk_42 (dk_at dksJ0_appendChars_4 11 rfl rfl)
theorem dJ0_appendChars_106 : decode cJ0_appendChars 106 = .ok (.getfield 15, 3) := dk_180 0 15 (dk_at dksJ0_appendChars_4 12 rfl rfl)
theorem dJ0_appendChars_109 : decode cJ0_appendChars 109 = .ok (.iload 6, 2) := dk_21 6 (dk_at dksJ0_appendChars_4 15 rfl rfl)
theorem dJ0_appendChars_111 : decode cJ0_appendChars 111 = .ok (.iconst 1, 1) := dk_4 (dk_at dksJ0_appendChars_4 17 rfl rfl)
theorem dJ0_appendChars_112 : decode cJ0_appendChars 112 = .ok (.ishl, 1) := dk_120 (dk_at dksJ0_appendChars_4 18 rfl rfl)
theorem dJ0_appendChars_113 : decode cJ0_appendChars 113 = .ok (.iload_n 3, 1) := dk_29 (dk_at dksJ0_appendChars_4 19 rfl rfl)
theorem dJ0_appendChars_114 : decode cJ0_appendChars 114 = .ok (.iload 5, 2) := dk_21 5 (dk_at dksJ0_appendChars_4 20 rfl rfl)
theorem dJ0_appendChars_116 : decode cJ0_appendChars 116 = .ok (.isub, 1) := dk_100 (dk_at dksJ0_appendChars_4 22 rfl rfl)
theorem dJ0_appendChars_117 : decode cJ0_appendChars 117 = .ok (.iconst 1, 1) := dk_4 (dk_at dksJ0_appendChars_4 23 rfl rfl)
theorem dJ0_appendChars_118 : decode cJ0_appendChars 118 = .ok (.ishl, 1) := dk_120 (dk_at dksJ0_appendChars_5 0 rfl rfl)
theorem dJ0_appendChars_119 : decode cJ0_appendChars 119 = .ok (.invokestatic 309, 3) := dk_184 1 53 (dk_at dksJ0_appendChars_5 1 rfl rfl)
theorem dJ0_appendChars_122 : decode cJ0_appendChars 122 = .ok (.aload_n 0, 1) := dk_42 (dk_at dksJ0_appendChars_5 4 rfl rfl)
theorem dJ0_appendChars_123 : decode cJ0_appendChars 123 = .ok (.dup, 1) := dk_89 (dk_at dksJ0_appendChars_5 5 rfl rfl)
theorem dJ0_appendChars_124 : decode cJ0_appendChars 124 = .ok (.getfield 79, 3) := dk_180 0 79 (dk_at dksJ0_appendChars_5 6 rfl rfl)
theorem dJ0_appendChars_127 : decode cJ0_appendChars 127 = .ok (.iload_n 3, 1) := dk_29 (dk_at dksJ0_appendChars_5 9 rfl rfl)
theorem dJ0_appendChars_128 : decode cJ0_appendChars 128 = .ok (.iload 5, 2) := dk_21 5 (dk_at dksJ0_appendChars_5 10 rfl rfl)
theorem dJ0_appendChars_130 : decode cJ0_appendChars 130 = .ok (.isub, 1) := dk_100 (dk_at dksJ0_appendChars_5 12 rfl rfl)
theorem dJ0_appendChars_131 : decode cJ0_appendChars 131 = .ok (.iadd, 1) := dk_96 (dk_at dksJ0_appendChars_5 13 rfl rfl)
theorem dJ0_appendChars_132 : decode cJ0_appendChars 132 = .ok (.putfield 79, 3) := dk_181 0 79 (dk_at dksJ0_appendChars_5 14 rfl rfl)
theorem dJ0_appendChars_135 : decode cJ0_appendChars 135 = .ok (.return_, 1) := dk_177 (dk_at dksJ0_appendChars_5 17 rfl rfl)
theorem dJ0_appendChars_136 : decode cJ0_appendChars 136 = .ok (.iinc 5 1, 3) := dk_132 5 1 (dk_at dksJ0_appendChars_5 18 rfl rfl)
theorem dJ0_appendChars_139 : decode cJ0_appendChars 139 = .ok (.goto (-88), 3) := dk_167 255 168 (dk_at dksJ0_appendChars_5 21 rfl rfl)
theorem dJ0_appendChars_142 : decode cJ0_appendChars 142 = .ok (.goto 52, 3) := dk_167 0 52 (dk_at dksJ0_appendChars_6 0 rfl rfl)
theorem dJ0_appendChars_145 : decode cJ0_appendChars 145 = .ok (.aload_n 1, 1) := dk_43 (dk_at dksJ0_appendChars_6 3 rfl rfl)
theorem dJ0_appendChars_146 : decode cJ0_appendChars 146 = .ok (.invokevirtual 400, 3) := dk_182 1 144 (dk_at dksJ0_appendChars_6 4 rfl rfl)
theorem dJ0_appendChars_149 : decode cJ0_appendChars 149 = .ok (.ifCond .eq 20, 3) := dk_153 0 20 (dk_at dksJ0_appendChars_6 7 rfl rfl)
theorem dJ0_appendChars_152 : decode cJ0_appendChars 152 = .ok (.aload_n 0, 1) := dk_42 (dk_at dksJ0_appendChars_6 10 rfl rfl)
theorem dJ0_appendChars_153 : decode cJ0_appendChars 153 = .ok (.getfield 15, 3) := dk_180 0 15 (dk_at dksJ0_appendChars_6 11 rfl rfl)
theorem dJ0_appendChars_156 : decode cJ0_appendChars 156 = .ok (.aload_n 0, 1) := dk_42 (dk_at dksJ0_appendChars_6 14 rfl rfl)
theorem dJ0_appendChars_157 : decode cJ0_appendChars 157 = .ok (.getfield 79, 3) := dk_180 0 79 (dk_at dksJ0_appendChars_6 15 rfl rfl)
theorem dJ0_appendChars_160 : decode cJ0_appendChars 160 = .ok (.aload_n 1, 1) := dk_43 (dk_at dksJ0_appendChars_6 18 rfl rfl)
theorem dJ0_appendChars_161 : decode cJ0_appendChars 161 = .ok (.iload_n 2, 1) := dk_28 (dk_at dksJ0_appendChars_6 19 rfl rfl)
theorem dJ0_appendChars_162 : decode cJ0_appendChars 162 = .ok (.iload_n 3, 1) := dk_29 (dk_at dksJ0_appendChars_6 20 rfl rfl)
theorem dJ0_appendChars_163 : decode cJ0_appendChars 163 = .ok (.invokestatic 394, 3) := dk_184 1 138 (dk_at dksJ0_appendChars_6 21 rfl rfl)
theorem dJ0_appendChars_166 : decode cJ0_appendChars 166 = .ok (.goto 28, 3) := dk_167 0 28 (dk_at dksJ0_appendChars_7 0 rfl rfl)
theorem dJ0_appendChars_169 : decode cJ0_appendChars 169 = .ok (.aload_n 1, 1) := dk_43 (dk_at dksJ0_appendChars_7 3 rfl rfl)
theorem dJ0_appendChars_170 : decode cJ0_appendChars 170 = .ok (.invokevirtual 401, 3) := dk_182 1 145 (dk_at dksJ0_appendChars_7 4 rfl rfl)
theorem dJ0_appendChars_173 : decode cJ0_appendChars 173 = .ok (.iload_n 2, 1) := dk_28 (dk_at dksJ0_appendChars_7 7 rfl rfl)
theorem dJ0_appendChars_174 : decode cJ0_appendChars 174 = .ok (.iconst 1, 1) := dk_4 (dk_at dksJ0_appendChars_7 8 rfl rfl)
theorem dJ0_appendChars_175 : decode cJ0_appendChars 175 = .ok (.ishl, 1) := dk_120 (dk_at dksJ0_appendChars_7 9 rfl rfl)
theorem dJ0_appendChars_176 : decode cJ0_appendChars 176 = .ok (.aload_n 0, 1) := dk_42 (dk_at dksJ0_appendChars_7 10 rfl rfl)
theorem dJ0_appendChars_177 : decode cJ0_appendChars 177 = .ok (.getfield 15, 3) := dk_180 0 15 (dk_at dksJ0_appendChars_7 11 rfl rfl)
theorem dJ0_appendChars_180 : decode cJ0_appendChars 180 = .ok (.aload_n 0, 1) := dk_42 (dk_at dksJ0_appendChars_7 14 rfl rfl)
theorem dJ0_appendChars_181 : decode cJ0_appendChars 181 = .ok (.getfield 79, 3) := dk_180 0 79 (dk_at dksJ0_appendChars_7 15 rfl rfl)
theorem dJ0_appendChars_184 : decode cJ0_appendChars 184 = .ok (.iconst 1, 1) := dk_4 (dk_at dksJ0_appendChars_7 18 rfl rfl)
theorem dJ0_appendChars_185 : decode cJ0_appendChars 185 = .ok (.ishl, 1) := dk_120 (dk_at dksJ0_appendChars_7 19 rfl rfl)
theorem dJ0_appendChars_186 : decode cJ0_appendChars 186 = .ok (.iload_n 3, 1) := dk_29 (dk_at dksJ0_appendChars_7 20 rfl rfl)
theorem dJ0_appendChars_187 : decode cJ0_appendChars 187 = .ok (.iload_n 2, 1) := dk_28 (dk_at dksJ0_appendChars_7 21 rfl rfl)
theorem dJ0_appendChars_188 : decode cJ0_appendChars 188 = .ok (.isub, 1) := dk_100 (dk_at dksJ0_appendChars_7 22 rfl rfl)
theorem dJ0_appendChars_189 : decode cJ0_appendChars 189 = .ok (.iconst 1, 1) := dk_4 (dk_at dksJ0_appendChars_7 23 rfl rfl)
theorem dJ0_appendChars_190 : decode cJ0_appendChars 190 = .ok (.ishl, 1) := dk_120 (dk_at dksJ0_appendChars_8 0 rfl rfl)
theorem dJ0_appendChars_191 : decode cJ0_appendChars 191 = .ok (.invokestatic 309, 3) := dk_184 1 53 (dk_at dksJ0_appendChars_8 1 rfl rfl)
theorem dJ0_appendChars_194 : decode cJ0_appendChars 194 = .ok (.aload_n 0, 1) := dk_42 (dk_at dksJ0_appendChars_8 4 rfl rfl)
theorem dJ0_appendChars_195 : decode cJ0_appendChars 195 = .ok (.dup, 1) := dk_89 (dk_at dksJ0_appendChars_8 5 rfl rfl)
theorem dJ0_appendChars_196 : decode cJ0_appendChars 196 = .ok (.getfield 79, 3) := dk_180 0 79 (dk_at dksJ0_appendChars_8 6 rfl rfl)
theorem dJ0_appendChars_199 : decode cJ0_appendChars 199 = .ok (.iload_n 3, 1) := dk_29 (dk_at dksJ0_appendChars_8 9 rfl rfl)
theorem dJ0_appendChars_200 : decode cJ0_appendChars 200 = .ok (.iload_n 2, 1) := dk_28 (dk_at dksJ0_appendChars_8 10 rfl rfl)
theorem dJ0_appendChars_201 : decode cJ0_appendChars 201 = .ok (.isub, 1) := dk_100 (dk_at dksJ0_appendChars_8 11 rfl rfl)
theorem dJ0_appendChars_202 : decode cJ0_appendChars 202 = .ok (.iadd, 1) := dk_96 (dk_at dksJ0_appendChars_8 12 rfl rfl)
theorem dJ0_appendChars_203 : decode cJ0_appendChars 203 = .ok (.putfield 79, 3) := dk_181 0 79 (dk_at dksJ0_appendChars_8 13 rfl rfl)
theorem dJ0_appendChars_206 : decode cJ0_appendChars 206 = .ok (.return_, 1) := dk_177 (dk_at dksJ0_appendChars_8 16 rfl rfl)
abbrev cJ0_appendChars_2 : ByteArray := prog_26_method_76_code
def yJ0_appendChars_2 : MethodName := ⟨RJ0, "appendChars", "(Ljava/lang/CharSequence;II)V"⟩
def dkwJ0_appendChars_2_6 : List UInt8 := [184, 1, 138, 42, 89, 180, 0, 79, 29, 28, 100, 96, 181, 0, 79, 177]
abbrev dktJ0_appendChars_2_6 : List UInt8 := dkwJ0_appendChars_2_6 ++ []
def dkwJ0_appendChars_2_5 : List UInt8 := [181, 0, 79, 177, 132, 5, 1, 167, 255, 155, 167, 0, 17, 42, 180, 0, 15, 42, 180, 0, 79, 43, 28, 29]
abbrev dktJ0_appendChars_2_5 : List UInt8 := dkwJ0_appendChars_2_5 ++ dktJ0_appendChars_2_6
def dkwJ0_appendChars_2_4 : List UInt8 := [180, 0, 15, 21, 6, 43, 21, 5, 29, 184, 1, 138, 42, 89, 180, 0, 79, 29, 21, 5, 100, 96]
abbrev dktJ0_appendChars_2_4 : List UInt8 := dkwJ0_appendChars_2_4 ++ dktJ0_appendChars_2_5
def dkwJ0_appendChars_2_3 : List UInt8 := [180, 0, 15, 21, 6, 132, 6, 1, 21, 7, 184, 0, 197, 42, 21, 6, 181, 0, 79, 132, 5, 1, 42]
abbrev dktJ0_appendChars_2_3 : List UInt8 := dkwJ0_appendChars_2_3 ++ dktJ0_appendChars_2_4
def dkwJ0_appendChars_2_2 : List UInt8 := [21, 6, 132, 6, 1, 21, 7, 145, 84, 167, 0, 63, 42, 21, 6, 181, 0, 79, 42, 182, 0, 195, 42]
abbrev dktJ0_appendChars_2_2 : List UInt8 := dkwJ0_appendChars_2_2 ++ dktJ0_appendChars_2_3
def dkwJ0_appendChars_2_1 : List UInt8 := [29, 162, 0, 101, 43, 21, 5, 185, 1, 134, 2, 0, 54, 7, 21, 7, 184, 0, 191, 153, 0, 17, 25, 4]
abbrev dktJ0_appendChars_2_1 : List UInt8 := dkwJ0_appendChars_2_1 ++ dktJ0_appendChars_2_2
def dkwJ0_appendChars_2_0 : List UInt8 := [42, 182, 0, 83, 153, 0, 125, 42, 180, 0, 15, 58, 4, 28, 54, 5, 42, 180, 0, 79, 54, 6, 21, 5]
abbrev dktJ0_appendChars_2_0 : List UInt8 := dkwJ0_appendChars_2_0 ++ dktJ0_appendChars_2_1
theorem dksJ0_appendChars_2_0 : cJ0_appendChars_2.data.toList.drop 0 = dktJ0_appendChars_2_0 := by decide +kernel
theorem dksJ0_appendChars_2_1 : cJ0_appendChars_2.data.toList.drop 24 = dktJ0_appendChars_2_1 := dk_seg dksJ0_appendChars_2_0 24 rfl rfl
theorem dksJ0_appendChars_2_2 : cJ0_appendChars_2.data.toList.drop 48 = dktJ0_appendChars_2_2 := dk_seg dksJ0_appendChars_2_1 24 rfl rfl
theorem dksJ0_appendChars_2_3 : cJ0_appendChars_2.data.toList.drop 71 = dktJ0_appendChars_2_3 := dk_seg dksJ0_appendChars_2_2 23 rfl rfl
theorem dksJ0_appendChars_2_4 : cJ0_appendChars_2.data.toList.drop 94 = dktJ0_appendChars_2_4 := dk_seg dksJ0_appendChars_2_3 23 rfl rfl
theorem dksJ0_appendChars_2_5 : cJ0_appendChars_2.data.toList.drop 116 = dktJ0_appendChars_2_5 := dk_seg dksJ0_appendChars_2_4 22 rfl rfl
theorem dksJ0_appendChars_2_6 : cJ0_appendChars_2.data.toList.drop 140 = dktJ0_appendChars_2_6 := dk_seg dksJ0_appendChars_2_5 24 rfl rfl
theorem dJ0_appendChars_2_0 : decode cJ0_appendChars_2 0 = .ok (.aload_n 0, 1) := dk_42 (dk_at dksJ0_appendChars_2_0 0 rfl rfl)
theorem dJ0_appendChars_2_1 : decode cJ0_appendChars_2 1 = .ok (.invokevirtual 83, 3) := dk_182 0 83 (dk_at dksJ0_appendChars_2_0 1 rfl rfl)
theorem dJ0_appendChars_2_4 : decode cJ0_appendChars_2 4 = .ok (.ifCond .eq 125, 3) := dk_153 0 125 (dk_at dksJ0_appendChars_2_0 4 rfl rfl)
theorem dJ0_appendChars_2_7 : decode cJ0_appendChars_2 7 = .ok (.aload_n 0, 1) := dk_42 (dk_at dksJ0_appendChars_2_0 7 rfl rfl)
theorem dJ0_appendChars_2_8 : decode cJ0_appendChars_2 8 = .ok (.getfield 15, 3) := dk_180 0 15 (dk_at dksJ0_appendChars_2_0 8 rfl rfl)
theorem dJ0_appendChars_2_11 : decode cJ0_appendChars_2 11 = .ok (.astore 4, 2) := dk_58 4 (dk_at dksJ0_appendChars_2_0 11 rfl rfl)
theorem dJ0_appendChars_2_13 : decode cJ0_appendChars_2 13 = .ok (.iload_n 2, 1) := dk_28 (dk_at dksJ0_appendChars_2_0 13 rfl rfl)
theorem dJ0_appendChars_2_14 : decode cJ0_appendChars_2 14 = .ok (.istore 5, 2) := dk_54 5 (dk_at dksJ0_appendChars_2_0 14 rfl rfl)
theorem dJ0_appendChars_2_16 : decode cJ0_appendChars_2 16 = .ok (.aload_n 0, 1) := dk_42 (dk_at dksJ0_appendChars_2_0 16 rfl rfl)
theorem dJ0_appendChars_2_17 : decode cJ0_appendChars_2 17 = .ok (.getfield 79, 3) := dk_180 0 79 (dk_at dksJ0_appendChars_2_0 17 rfl rfl)
theorem dJ0_appendChars_2_20 : decode cJ0_appendChars_2 20 = .ok (.istore 6, 2) := dk_54 6 (dk_at dksJ0_appendChars_2_0 20 rfl rfl)
theorem dJ0_appendChars_2_22 : decode cJ0_appendChars_2 22 = .ok (.iload 5, 2) := dk_21 5 (dk_at dksJ0_appendChars_2_0 22 rfl rfl)
theorem dJ0_appendChars_2_24 : decode cJ0_appendChars_2 24 = .ok (.iload_n 3, 1) := dk_29 (dk_at dksJ0_appendChars_2_1 0 rfl rfl)
theorem dJ0_appendChars_2_25 : decode cJ0_appendChars_2 25 = .ok (.if_icmp .ge 101, 3) := dk_162 0 101 (dk_at dksJ0_appendChars_2_1 1 rfl rfl)
theorem dJ0_appendChars_2_28 : decode cJ0_appendChars_2 28 = .ok (.aload_n 1, 1) := dk_43 (dk_at dksJ0_appendChars_2_1 4 rfl rfl)
theorem dJ0_appendChars_2_29 : decode cJ0_appendChars_2 29 = .ok (.iload 5, 2) := dk_21 5 (dk_at dksJ0_appendChars_2_1 5 rfl rfl)
theorem dJ0_appendChars_2_31 : decode cJ0_appendChars_2 31 = .ok (.invokeinterface 390 2, 5) := by decide +kernel
theorem dJ0_appendChars_2_36 : decode cJ0_appendChars_2 36 = .ok (.istore 7, 2) := dk_54 7 (dk_at dksJ0_appendChars_2_1 12 rfl rfl)
theorem dJ0_appendChars_2_38 : decode cJ0_appendChars_2 38 = .ok (.iload 7, 2) := dk_21 7 (dk_at dksJ0_appendChars_2_1 14 rfl rfl)
theorem dJ0_appendChars_2_40 : decode cJ0_appendChars_2 40 = .ok (.invokestatic 191, 3) := dk_184 0 191 (dk_at dksJ0_appendChars_2_1 16 rfl rfl)
theorem dJ0_appendChars_2_43 : decode cJ0_appendChars_2 43 = .ok (.ifCond .eq 17, 3) := dk_153 0 17 (dk_at dksJ0_appendChars_2_1 19 rfl rfl)
theorem dJ0_appendChars_2_46 : decode cJ0_appendChars_2 46 = .ok (.aload 4, 2) := dk_25 4 (dk_at dksJ0_appendChars_2_1 22 rfl rfl)
theorem dJ0_appendChars_2_48 : decode cJ0_appendChars_2 48 = .ok (.iload 6, 2) := dk_21 6 (dk_at dksJ0_appendChars_2_2 0 rfl rfl)
theorem dJ0_appendChars_2_50 : decode cJ0_appendChars_2 50 = .ok (.iinc 6 1, 3) := dk_132 6 1 (dk_at dksJ0_appendChars_2_2 2 rfl rfl)
theorem dJ0_appendChars_2_53 : decode cJ0_appendChars_2 53 = .ok (.iload 7, 2) := dk_21 7 (dk_at dksJ0_appendChars_2_2 5 rfl rfl)
theorem dJ0_appendChars_2_55 : decode cJ0_appendChars_2 55 = .ok (.i2b, 1) := dk_145 (dk_at dksJ0_appendChars_2_2 7 rfl rfl)
theorem dJ0_appendChars_2_56 : decode cJ0_appendChars_2 56 = .ok (.bastore, 1) := dk_84 (dk_at dksJ0_appendChars_2_2 8 rfl rfl)
theorem dJ0_appendChars_2_57 : decode cJ0_appendChars_2 57 = .ok (.goto 63, 3) := dk_167 0 63 (dk_at dksJ0_appendChars_2_2 9 rfl rfl)
theorem dJ0_appendChars_2_60 : decode cJ0_appendChars_2 60 = .ok (.aload_n 0, 1) := dk_42 (dk_at dksJ0_appendChars_2_2 12 rfl rfl)
theorem dJ0_appendChars_2_61 : decode cJ0_appendChars_2 61 = .ok (.iload 6, 2) := dk_21 6 (dk_at dksJ0_appendChars_2_2 13 rfl rfl)
theorem dJ0_appendChars_2_63 : decode cJ0_appendChars_2 63 = .ok (.putfield 79, 3) := dk_181 0 79 (dk_at dksJ0_appendChars_2_2 15 rfl rfl)
theorem dJ0_appendChars_2_66 : decode cJ0_appendChars_2 66 = .ok (.aload_n 0, 1) := dk_42 (dk_at dksJ0_appendChars_2_2 18 rfl rfl)
theorem dJ0_appendChars_2_67 : decode cJ0_appendChars_2 67 = .ok (.invokevirtual 195, 3) := dk_182 0 195 (dk_at dksJ0_appendChars_2_2 19 rfl rfl)
theorem dJ0_appendChars_2_70 : decode cJ0_appendChars_2 70 = .ok (.aload_n 0, 1) := dk_42 (dk_at dksJ0_appendChars_2_2 22 rfl rfl)
theorem dJ0_appendChars_2_71 : decode cJ0_appendChars_2 71 = .ok (.getfield 15, 3) := dk_180 0 15 (dk_at dksJ0_appendChars_2_3 0 rfl rfl)
theorem dJ0_appendChars_2_74 : decode cJ0_appendChars_2 74 = .ok (.iload 6, 2) := dk_21 6 (dk_at dksJ0_appendChars_2_3 3 rfl rfl)
theorem dJ0_appendChars_2_76 : decode cJ0_appendChars_2 76 = .ok (.iinc 6 1, 3) := dk_132 6 1 (dk_at dksJ0_appendChars_2_3 5 rfl rfl)
theorem dJ0_appendChars_2_79 : decode cJ0_appendChars_2 79 = .ok (.iload 7, 2) := dk_21 7 (dk_at dksJ0_appendChars_2_3 8 rfl rfl)
theorem dJ0_appendChars_2_81 : decode cJ0_appendChars_2 81 = .ok (.invokestatic 197, 3) := dk_184 0 197 (dk_at dksJ0_appendChars_2_3 10 rfl rfl)
theorem dJ0_appendChars_2_84 : decode cJ0_appendChars_2 84 = .ok (.aload_n 0, 1) := dk_42 (dk_at dksJ0_appendChars_2_3 13 rfl rfl)
theorem dJ0_appendChars_2_85 : decode cJ0_appendChars_2 85 = .ok (.iload 6, 2) := dk_21 6 (dk_at dksJ0_appendChars_2_3 14 rfl rfl)
theorem dJ0_appendChars_2_87 : decode cJ0_appendChars_2 87 = .ok (.putfield 79, 3) := dk_181 0 79 (dk_at dksJ0_appendChars_2_3 16 rfl rfl)
theorem dJ0_appendChars_2_90 : decode cJ0_appendChars_2 90 = .ok (.iinc 5 1, 3) := dk_132 5 1 (dk_at dksJ0_appendChars_2_3 19 rfl rfl)
theorem dJ0_appendChars_2_93 : decode cJ0_appendChars_2 93 = .ok (.aload_n 0, 1) := dk_42 (dk_at dksJ0_appendChars_2_3 22 rfl rfl)
theorem dJ0_appendChars_2_94 : decode cJ0_appendChars_2 94 = .ok (.getfield 15, 3) := dk_180 0 15 (dk_at dksJ0_appendChars_2_4 0 rfl rfl)
theorem dJ0_appendChars_2_97 : decode cJ0_appendChars_2 97 = .ok (.iload 6, 2) := dk_21 6 (dk_at dksJ0_appendChars_2_4 3 rfl rfl)
theorem dJ0_appendChars_2_99 : decode cJ0_appendChars_2 99 = .ok (.aload_n 1, 1) := dk_43 (dk_at dksJ0_appendChars_2_4 5 rfl rfl)
theorem dJ0_appendChars_2_100 : decode cJ0_appendChars_2 100 = .ok (.iload 5, 2) := dk_21 5 (dk_at dksJ0_appendChars_2_4 6 rfl rfl)
theorem dJ0_appendChars_2_102 : decode cJ0_appendChars_2 102 = .ok (.iload_n 3, 1) := dk_29 (dk_at dksJ0_appendChars_2_4 8 rfl rfl)
theorem dJ0_appendChars_2_103 : decode cJ0_appendChars_2 103 = .ok (.invokestatic 394, 3) := dk_184 1 138 (dk_at dksJ0_appendChars_2_4 9 rfl rfl)
theorem dJ0_appendChars_2_106 : decode cJ0_appendChars_2 106 = .ok (.aload_n 0, 1) := dk_42 (dk_at dksJ0_appendChars_2_4 12 rfl rfl)
theorem dJ0_appendChars_2_107 : decode cJ0_appendChars_2 107 = .ok (.dup, 1) := dk_89 (dk_at dksJ0_appendChars_2_4 13 rfl rfl)
theorem dJ0_appendChars_2_108 : decode cJ0_appendChars_2 108 = .ok (.getfield 79, 3) := dk_180 0 79 (dk_at dksJ0_appendChars_2_4 14 rfl rfl)
theorem dJ0_appendChars_2_111 : decode cJ0_appendChars_2 111 = .ok (.iload_n 3, 1) := dk_29 (dk_at dksJ0_appendChars_2_4 17 rfl rfl)
theorem dJ0_appendChars_2_112 : decode cJ0_appendChars_2 112 = .ok (.iload 5, 2) := dk_21 5 (dk_at dksJ0_appendChars_2_4 18 rfl rfl)
theorem dJ0_appendChars_2_114 : decode cJ0_appendChars_2 114 = .ok (.isub, 1) := dk_100 (dk_at dksJ0_appendChars_2_4 20 rfl rfl)
theorem dJ0_appendChars_2_115 : decode cJ0_appendChars_2 115 = .ok (.iadd, 1) := dk_96 (dk_at dksJ0_appendChars_2_4 21 rfl rfl)
theorem dJ0_appendChars_2_116 : decode cJ0_appendChars_2 116 = .ok (.putfield 79, 3) := dk_181 0 79 (dk_at dksJ0_appendChars_2_5 0 rfl rfl)
theorem dJ0_appendChars_2_119 : decode cJ0_appendChars_2 119 = .ok (.return_, 1) := dk_177 (dk_at dksJ0_appendChars_2_5 3 rfl rfl)
theorem dJ0_appendChars_2_120 : decode cJ0_appendChars_2 120 = .ok (.iinc 5 1, 3) := dk_132 5 1 (dk_at dksJ0_appendChars_2_5 4 rfl rfl)
theorem dJ0_appendChars_2_123 : decode cJ0_appendChars_2 123 = .ok (.goto (-101), 3) := dk_167 255 155 (dk_at dksJ0_appendChars_2_5 7 rfl rfl)
theorem dJ0_appendChars_2_126 : decode cJ0_appendChars_2 126 = .ok (.goto 17, 3) := dk_167 0 17 (dk_at dksJ0_appendChars_2_5 10 rfl rfl)
theorem dJ0_appendChars_2_129 : decode cJ0_appendChars_2 129 = .ok (.aload_n 0, 1) := dk_42 (dk_at dksJ0_appendChars_2_5 13 rfl rfl)
theorem dJ0_appendChars_2_130 : decode cJ0_appendChars_2 130 = .ok (.getfield 15, 3) := dk_180 0 15 (dk_at dksJ0_appendChars_2_5 14 rfl rfl)
theorem dJ0_appendChars_2_133 : decode cJ0_appendChars_2 133 = .ok (.aload_n 0, 1) := dk_42 (dk_at dksJ0_appendChars_2_5 17 rfl rfl)
theorem dJ0_appendChars_2_134 : decode cJ0_appendChars_2 134 = .ok (.getfield 79, 3) := dk_180 0 79 (dk_at dksJ0_appendChars_2_5 18 rfl rfl)
theorem dJ0_appendChars_2_137 : decode cJ0_appendChars_2 137 = .ok (.aload_n 1, 1) := dk_43 (dk_at dksJ0_appendChars_2_5 21 rfl rfl)
theorem dJ0_appendChars_2_138 : decode cJ0_appendChars_2 138 = .ok (.iload_n 2, 1) := dk_28 (dk_at dksJ0_appendChars_2_5 22 rfl rfl)
theorem dJ0_appendChars_2_139 : decode cJ0_appendChars_2 139 = .ok (.iload_n 3, 1) := dk_29 (dk_at dksJ0_appendChars_2_5 23 rfl rfl)
theorem dJ0_appendChars_2_140 : decode cJ0_appendChars_2 140 = .ok (.invokestatic 394, 3) := dk_184 1 138 (dk_at dksJ0_appendChars_2_6 0 rfl rfl)
theorem dJ0_appendChars_2_143 : decode cJ0_appendChars_2 143 = .ok (.aload_n 0, 1) := dk_42 (dk_at dksJ0_appendChars_2_6 3 rfl rfl)
theorem dJ0_appendChars_2_144 : decode cJ0_appendChars_2 144 = .ok (.dup, 1) := dk_89 (dk_at dksJ0_appendChars_2_6 4 rfl rfl)
theorem dJ0_appendChars_2_145 : decode cJ0_appendChars_2 145 = .ok (.getfield 79, 3) := dk_180 0 79 (dk_at dksJ0_appendChars_2_6 5 rfl rfl)
theorem dJ0_appendChars_2_148 : decode cJ0_appendChars_2 148 = .ok (.iload_n 3, 1) := dk_29 (dk_at dksJ0_appendChars_2_6 8 rfl rfl)
theorem dJ0_appendChars_2_149 : decode cJ0_appendChars_2 149 = .ok (.iload_n 2, 1) := dk_28 (dk_at dksJ0_appendChars_2_6 9 rfl rfl)
theorem dJ0_appendChars_2_150 : decode cJ0_appendChars_2 150 = .ok (.isub, 1) := dk_100 (dk_at dksJ0_appendChars_2_6 10 rfl rfl)
theorem dJ0_appendChars_2_151 : decode cJ0_appendChars_2 151 = .ok (.iadd, 1) := dk_96 (dk_at dksJ0_appendChars_2_6 11 rfl rfl)
theorem dJ0_appendChars_2_152 : decode cJ0_appendChars_2 152 = .ok (.putfield 79, 3) := dk_181 0 79 (dk_at dksJ0_appendChars_2_6 12 rfl rfl)
theorem dJ0_appendChars_2_155 : decode cJ0_appendChars_2 155 = .ok (.return_, 1) := dk_177 (dk_at dksJ0_appendChars_2_6 15 rfl rfl)
theorem q124 : (Jvm.Cond.initialized "java/lang/AbstractStringBuilder") ∈ lw_all := lw_g (lw_at lw_m1 4 rfl) rfl
theorem q205 : (Jvm.Cond.instanceMethod ({ cls := "java/lang/AbstractStringBuilder", name := "<init>", desc := "(I)V" } : Jvm.MethodName)) ∈ lw_all := lw_g (lw_at lw_m1 85 rfl) rfl
theorem q206 : (Jvm.Cond.code ({ cls := "java/lang/AbstractStringBuilder", name := "<init>", desc := "(I)V" } : Jvm.MethodName) prog_26_method_2_code (2 : Nat) (Option.none : Option Jvm.ClassFile.FieldType)) ∈ lw_all := lw_g (lw_at lw_m1 86 rfl) rfl
theorem q207 : (Jvm.Cond.methodLink "java/lang/AbstractStringBuilder" (3 : Nat) ({ cls := "java/lang/Object", name := "<init>", desc := "()V" } : Jvm.MethodName)) ∈ lw_all := lw_g (lw_at lw_m1 87 rfl) rfl
theorem q208 : (Jvm.Cond.fieldLink "java/lang/AbstractStringBuilder" (18 : Nat) "java/lang/String" "COMPACT_STRINGS" "Z") ∈ lw_all := lw_g (lw_at lw_m1 88 rfl) rfl
theorem q210 : (Jvm.Cond.methodLink "java/lang/AbstractStringBuilder" (26 : Nat) ({ cls := "java/lang/StringUTF16", name := "newBytesFor", desc := "(I)[B" } : Jvm.MethodName)) ∈ lw_all := lw_g (lw_at lw_m1 90 rfl) rfl
theorem q302 : (Jvm.Cond.fieldLink "java/lang/AbstractStringBuilder" (15 : Nat) "java/lang/AbstractStringBuilder" "value" "[B") ∈ lw_all := lw_g (lw_at lw_m1 182 rfl) rfl
theorem q303 : (Jvm.Cond.fieldLink "java/lang/AbstractStringBuilder" (22 : Nat) "java/lang/AbstractStringBuilder" "coder" "B") ∈ lw_all := lw_g (lw_at lw_m1 183 rfl) rfl
theorem q304 : (Jvm.Cond.fieldLink "java/lang/AbstractStringBuilder" (73 : Nat) "java/lang/AbstractStringBuilder" "maybeLatin1" "Z") ∈ lw_all := lw_g (lw_at lw_m1 184 rfl) rfl
theorem q306 : (Jvm.Cond.fieldLink "java/lang/AbstractStringBuilder" (79 : Nat) "java/lang/AbstractStringBuilder" "count" "I") ∈ lw_all := lw_g (lw_at lw_m1 186 rfl) rfl
theorem q308 : (Jvm.Cond.soleField "java/lang/AbstractStringBuilder" "value") ∈ lw_all := lw_g (lw_at lw_m1 188 rfl) rfl
theorem q310 : (Jvm.Cond.soleField "java/lang/AbstractStringBuilder" "coder") ∈ lw_all := lw_g (lw_at lw_m1 190 rfl) rfl
theorem q312 : (Jvm.Cond.soleField "java/lang/AbstractStringBuilder" "maybeLatin1") ∈ lw_all := lw_g (lw_at lw_m1 192 rfl) rfl
theorem q314 : (Jvm.Cond.soleField "java/lang/AbstractStringBuilder" "count") ∈ lw_all := lw_g (lw_at lw_m1 194 rfl) rfl
theorem q1019 : (Jvm.Cond.instanceMethod ({ cls := "java/lang/AbstractStringBuilder", name := "append", desc := "(Ljava/lang/String;)Ljava/lang/AbstractStringBuilder;" } : Jvm.MethodName)) ∈ lw_all := lw_g (lw_at lw_m4 179 rfl) rfl
theorem q1020 : (Jvm.Cond.code ({ cls := "java/lang/AbstractStringBuilder", name := "append", desc := "(Ljava/lang/String;)Ljava/lang/AbstractStringBuilder;" } : Jvm.MethodName) prog_26_method_22_code (3 : Nat) (Option.some (Jvm.ClassFile.FieldType.object "java/lang/AbstractStringBuilder"))) ∈ lw_all := lw_g (lw_at lw_m4 180 rfl) rfl
theorem q1021 : (Jvm.Cond.methodLink "java/lang/AbstractStringBuilder" (204 : Nat) ({ cls := "java/lang/AbstractStringBuilder", name := "appendNull", desc := "()Ljava/lang/AbstractStringBuilder;" } : Jvm.MethodName)) ∈ lw_all := lw_g (lw_at lw_m4 181 rfl) rfl
theorem q1022 : (Jvm.Cond.privateMethod ({ cls := "java/lang/AbstractStringBuilder", name := "appendNull", desc := "()Ljava/lang/AbstractStringBuilder;" } : Jvm.MethodName)) ∈ lw_tbl := lw_at lw_m4 182 rfl
theorem q1023 : (Jvm.Cond.instanceMethod ({ cls := "java/lang/AbstractStringBuilder", name := "appendNull", desc := "()Ljava/lang/AbstractStringBuilder;" } : Jvm.MethodName)) ∈ lw_all := lw_g (lw_at lw_m4 183 rfl) rfl
theorem q1024 : (Jvm.Cond.code ({ cls := "java/lang/AbstractStringBuilder", name := "appendNull", desc := "()Ljava/lang/AbstractStringBuilder;" } : Jvm.MethodName) prog_26_method_26_code (3 : Nat) (Option.some (Jvm.ClassFile.FieldType.object "java/lang/AbstractStringBuilder"))) ∈ lw_all := lw_g (lw_at lw_m4 184 rfl) rfl
theorem q1025 : (Jvm.Cond.methodLink "java/lang/AbstractStringBuilder" (100 : Nat) ({ cls := "java/lang/AbstractStringBuilder", name := "ensureCapacityInternal", desc := "(I)V" } : Jvm.MethodName)) ∈ lw_all := lw_g (lw_at lw_m4 185 rfl) rfl
theorem q1026 : (Jvm.Cond.privateMethod ({ cls := "java/lang/AbstractStringBuilder", name := "ensureCapacityInternal", desc := "(I)V" } : Jvm.MethodName)) ∈ lw_tbl := lw_at lw_m4 186 rfl
theorem q1027 : (Jvm.Cond.instanceMethod ({ cls := "java/lang/AbstractStringBuilder", name := "ensureCapacityInternal", desc := "(I)V" } : Jvm.MethodName)) ∈ lw_all := lw_g (lw_at lw_m4 187 rfl) rfl
theorem q1028 : (Jvm.Cond.code ({ cls := "java/lang/AbstractStringBuilder", name := "ensureCapacityInternal", desc := "(I)V" } : Jvm.MethodName) prog_26_method_9_code (3 : Nat) (Option.none : Option Jvm.ClassFile.FieldType)) ∈ lw_all := lw_g (lw_at lw_m4 188 rfl) rfl
theorem q1029 : (Jvm.Cond.methodLink "java/lang/AbstractStringBuilder" (104 : Nat) ({ cls := "java/lang/AbstractStringBuilder", name := "newCapacity", desc := "(I)I" } : Jvm.MethodName)) ∈ lw_all := lw_g (lw_at lw_m4 189 rfl) rfl
theorem q1030 : (Jvm.Cond.privateMethod ({ cls := "java/lang/AbstractStringBuilder", name := "newCapacity", desc := "(I)I" } : Jvm.MethodName)) ∈ lw_tbl := lw_at lw_m4 190 rfl
theorem q1031 : (Jvm.Cond.instanceMethod ({ cls := "java/lang/AbstractStringBuilder", name := "newCapacity", desc := "(I)I" } : Jvm.MethodName)) ∈ lw_all := lw_g (lw_at lw_m4 191 rfl) rfl
theorem q1032 : (Jvm.Cond.code ({ cls := "java/lang/AbstractStringBuilder", name := "newCapacity", desc := "(I)I" } : Jvm.MethodName) prog_26_method_10_code (6 : Nat) (Option.some Jvm.ClassFile.FieldType.int)) ∈ lw_all := lw_g (lw_at lw_m4 192 rfl) rfl
theorem q1033 : (Jvm.Cond.methodLink "java/lang/AbstractStringBuilder" (114 : Nat) ({ cls := "jdk/internal/util/ArraysSupport", name := "newLength", desc := "(III)I" } : Jvm.MethodName)) ∈ lw_all := lw_g (lw_at lw_m4 193 rfl) rfl
theorem q1043 : (Jvm.Cond.constant "java/lang/AbstractStringBuilder" (39 : Nat) (2147483647 : Int32)) ∈ lw_all := lw_g (lw_at lw_m4 203 rfl) rfl
theorem q1044 : (Jvm.Cond.methodLink "java/lang/AbstractStringBuilder" (108 : Nat) ({ cls := "java/util/Arrays", name := "copyOf", desc := "([BI)[B" } : Jvm.MethodName)) ∈ lw_all := lw_g (lw_at lw_m4 204 rfl) rfl
theorem q1058 : (Jvm.Cond.methodLink "java/lang/AbstractStringBuilder" (83 : Nat) ({ cls := "java/lang/AbstractStringBuilder", name := "isLatin1", desc := "()Z" } : Jvm.MethodName)) ∈ lw_all := lw_g (lw_at lw_m4 218 rfl) rfl
theorem q1059 : (Jvm.Cond.instanceMethod ({ cls := "java/lang/AbstractStringBuilder", name := "isLatin1", desc := "()Z" } : Jvm.MethodName)) ∈ lw_all := lw_g (lw_at lw_m4 219 rfl) rfl
theorem q1060 : (Jvm.Cond.sameMethod "java/lang/AbstractStringBuilder" "java/lang/AbstractStringBuilder" "isLatin1" "()Z") ∈ lw_all := lw_g (lw_at lw_m4 220 rfl) rfl
theorem q1062 : (Jvm.Cond.code ({ cls := "java/lang/AbstractStringBuilder", name := "isLatin1", desc := "()Z" } : Jvm.MethodName) prog_26_method_68_code (1 : Nat) (Option.some Jvm.ClassFile.FieldType.boolean)) ∈ lw_all := lw_g (lw_at lw_m4 222 rfl) rfl
theorem q1063 : (Jvm.Cond.methodLink "java/lang/AbstractStringBuilder" (226 : Nat) ({ cls := "java/lang/StringUTF16", name := "putCharsAt", desc := "([BICCCC)I" } : Jvm.MethodName)) ∈ lw_all := lw_g (lw_at lw_m4 223 rfl) rfl
theorem q1078 : (Jvm.Cond.methodLink "java/lang/AbstractStringBuilder" (32 : Nat) ({ cls := "java/lang/String", name := "length", desc := "()I" } : Jvm.MethodName)) ∈ lw_all := lw_g (lw_at lw_m4 238 rfl) rfl
theorem q1079 : (Jvm.Cond.methodLink "java/lang/AbstractStringBuilder" (208 : Nat) ({ cls := "java/lang/AbstractStringBuilder", name := "putStringAt", desc := "(ILjava/lang/String;)V" } : Jvm.MethodName)) ∈ lw_all := lw_g (lw_at lw_m4 239 rfl) rfl
theorem q1080 : (Jvm.Cond.privateMethod ({ cls := "java/lang/AbstractStringBuilder", name := "putStringAt", desc := "(ILjava/lang/String;)V" } : Jvm.MethodName)) ∈ lw_tbl := lw_at lw_m5 0 rfl
theorem q1081 : (Jvm.Cond.instanceMethod ({ cls := "java/lang/AbstractStringBuilder", name := "putStringAt", desc := "(ILjava/lang/String;)V" } : Jvm.MethodName)) ∈ lw_all := lw_g (lw_at lw_m5 1 rfl) rfl
theorem q1082 : (Jvm.Cond.code ({ cls := "java/lang/AbstractStringBuilder", name := "putStringAt", desc := "(ILjava/lang/String;)V" } : Jvm.MethodName) prog_26_method_73_code (3 : Nat) (Option.none : Option Jvm.ClassFile.FieldType)) ∈ lw_all := lw_g (lw_at lw_m5 2 rfl) rfl
theorem q1083 : (Jvm.Cond.methodLink "java/lang/AbstractStringBuilder" (397 : Nat) ({ cls := "java/lang/AbstractStringBuilder", name := "inflateIfNeededFor", desc := "(Ljava/lang/String;)V" } : Jvm.MethodName)) ∈ lw_all := lw_g (lw_at lw_m5 3 rfl) rfl
theorem q1084 : (Jvm.Cond.privateMethod ({ cls := "java/lang/AbstractStringBuilder", name := "inflateIfNeededFor", desc := "(Ljava/lang/String;)V" } : Jvm.MethodName)) ∈ lw_tbl := lw_at lw_m5 4 rfl
theorem q1085 : (Jvm.Cond.instanceMethod ({ cls := "java/lang/AbstractStringBuilder", name := "inflateIfNeededFor", desc := "(Ljava/lang/String;)V" } : Jvm.MethodName)) ∈ lw_all := lw_g (lw_at lw_m5 5 rfl) rfl
theorem q1086 : (Jvm.Cond.code ({ cls := "java/lang/AbstractStringBuilder", name := "inflateIfNeededFor", desc := "(Ljava/lang/String;)V" } : Jvm.MethodName) prog_26_method_71_code (2 : Nat) (Option.none : Option Jvm.ClassFile.FieldType)) ∈ lw_all := lw_g (lw_at lw_m5 6 rfl) rfl
theorem q1087 : (Jvm.Cond.methodLink "java/lang/AbstractStringBuilder" (40 : Nat) ({ cls := "java/lang/String", name := "coder", desc := "()B" } : Jvm.MethodName)) ∈ lw_all := lw_g (lw_at lw_m5 7 rfl) rfl
theorem q1088 : (Jvm.Cond.methodLink "java/lang/AbstractStringBuilder" (195 : Nat) ({ cls := "java/lang/AbstractStringBuilder", name := "inflate", desc := "()V" } : Jvm.MethodName)) ∈ lw_all := lw_g (lw_at lw_m5 8 rfl) rfl
theorem q1089 : (Jvm.Cond.privateMethod ({ cls := "java/lang/AbstractStringBuilder", name := "inflate", desc := "()V" } : Jvm.MethodName)) ∈ lw_tbl := lw_at lw_m5 9 rfl
theorem q1090 : (Jvm.Cond.instanceMethod ({ cls := "java/lang/AbstractStringBuilder", name := "inflate", desc := "()V" } : Jvm.MethodName)) ∈ lw_all := lw_g (lw_at lw_m5 10 rfl) rfl
theorem q1091 : (Jvm.Cond.code ({ cls := "java/lang/AbstractStringBuilder", name := "inflate", desc := "()V" } : Jvm.MethodName) prog_26_method_11_code (2 : Nat) (Option.none : Option Jvm.ClassFile.FieldType)) ∈ lw_all := lw_g (lw_at lw_m5 11 rfl) rfl
theorem q1092 : (Jvm.Cond.methodLink "java/lang/AbstractStringBuilder" (125 : Nat) ({ cls := "java/lang/StringLatin1", name := "inflate", desc := "([BI[BII)V" } : Jvm.MethodName)) ∈ lw_all := lw_g (lw_at lw_m5 12 rfl) rfl
theorem q1107 : (Jvm.Cond.methodLink "java/lang/AbstractStringBuilder" (399 : Nat) ({ cls := "java/lang/String", name := "getBytes", desc := "([BIB)V" } : Jvm.MethodName)) ∈ lw_all := lw_g (lw_at lw_m5 27 rfl) rfl
theorem q1118 : (Jvm.Cond.instanceMethod ({ cls := "java/lang/AbstractStringBuilder", name := "append", desc := "(C)Ljava/lang/AbstractStringBuilder;" } : Jvm.MethodName)) ∈ lw_all := lw_g (lw_at lw_m5 38 rfl) rfl
theorem q1119 : (Jvm.Cond.code ({ cls := "java/lang/AbstractStringBuilder", name := "append", desc := "(C)Ljava/lang/AbstractStringBuilder;" } : Jvm.MethodName) prog_26_method_31_code (2 : Nat) (Option.some (Jvm.ClassFile.FieldType.object "java/lang/AbstractStringBuilder"))) ∈ lw_all := lw_g (lw_at lw_m5 39 rfl) rfl
theorem q1120 : (Jvm.Cond.methodLink "java/lang/AbstractStringBuilder" (191 : Nat) ({ cls := "java/lang/StringLatin1", name := "canEncode", desc := "(C)Z" } : Jvm.MethodName)) ∈ lw_all := lw_g (lw_at lw_m5 40 rfl) rfl
theorem q1123 : (Jvm.Cond.methodLink "java/lang/AbstractStringBuilder" (197 : Nat) ({ cls := "java/lang/StringUTF16", name := "putCharSB", desc := "([BII)V" } : Jvm.MethodName)) ∈ lw_all := lw_g (lw_at lw_m5 43 rfl) rfl
theorem q1139 : (Jvm.Cond.instanceMethod ({ cls := "java/lang/AbstractStringBuilder", name := "getValue", desc := "()[B" } : Jvm.MethodName)) ∈ lw_all := lw_g (lw_at lw_m5 59 rfl) rfl
theorem q1140 : (Jvm.Cond.sameMethod "java/lang/AbstractStringBuilder" "java/lang/AbstractStringBuilder" "getValue" "()[B") ∈ lw_all := lw_g (lw_at lw_m5 60 rfl) rfl
theorem q1142 : (Jvm.Cond.code ({ cls := "java/lang/AbstractStringBuilder", name := "getValue", desc := "()[B" } : Jvm.MethodName) prog_26_method_64_code (1 : Nat) (Option.some (Jvm.ClassFile.FieldType.array Jvm.ClassFile.FieldType.byte))) ∈ lw_all := lw_g (lw_at lw_m5 62 rfl) rfl
theorem q1144 : (Jvm.Cond.instanceMethod ({ cls := "java/lang/AbstractStringBuilder", name := "length", desc := "()I" } : Jvm.MethodName)) ∈ lw_all := lw_g (lw_at lw_m5 64 rfl) rfl
theorem q1145 : (Jvm.Cond.sameMethod "java/lang/AbstractStringBuilder" "java/lang/AbstractStringBuilder" "length" "()I") ∈ lw_all := lw_g (lw_at lw_m5 65 rfl) rfl
theorem q1150 : (Jvm.Cond.code ({ cls := "java/lang/AbstractStringBuilder", name := "length", desc := "()I" } : Jvm.MethodName) prog_26_method_6_code (1 : Nat) (Option.some Jvm.ClassFile.FieldType.int)) ∈ lw_all := lw_g (lw_at lw_m5 70 rfl) rfl
theorem q1840 : (Jvm.Cond.instanceMethod ({ cls := "java/lang/AbstractStringBuilder", name := "append", desc := "(I)Ljava/lang/AbstractStringBuilder;" } : Jvm.MethodName)) ∈ lw_all := lw_g (lw_at lw_m8 40 rfl) rfl
theorem q1841 : (Jvm.Cond.code ({ cls := "java/lang/AbstractStringBuilder", name := "append", desc := "(I)Ljava/lang/AbstractStringBuilder;" } : Jvm.MethodName) prog_26_method_32_code (4 : Nat) (Option.some (Jvm.ClassFile.FieldType.object "java/lang/AbstractStringBuilder"))) ∈ lw_all := lw_g (lw_at lw_m8 41 rfl) rfl
theorem q1842 : (Jvm.Cond.methodLink "java/lang/AbstractStringBuilder" (245 : Nat) ({ cls := "java/lang/Integer", name := "stringSize", desc := "(I)I" } : Jvm.MethodName)) ∈ lw_all := lw_g (lw_at lw_m8 42 rfl) rfl
theorem q1845 : (Jvm.Cond.methodLink "java/lang/AbstractStringBuilder" (248 : Nat) ({ cls := "java/lang/Integer", name := "getChars", desc := "(II[B)I" } : Jvm.MethodName)) ∈ lw_all := lw_g (lw_at lw_m8 45 rfl) rfl
theorem q1852 : (Jvm.Cond.methodLink "java/lang/AbstractStringBuilder" (251 : Nat) ({ cls := "java/lang/StringUTF16", name := "getChars", desc := "(III[B)I" } : Jvm.MethodName)) ∈ lw_all := lw_g (lw_at lw_m8 52 rfl) rfl
theorem q2038 : (Jvm.Cond.instanceMethod ({ cls := "java/lang/AbstractStringBuilder", name := "charAt", desc := "(I)C" } : Jvm.MethodName)) ∈ lw_all := lw_g (lw_at lw_m8 238 rfl) rfl
theorem q2039 : (Jvm.Cond.code ({ cls := "java/lang/AbstractStringBuilder", name := "charAt", desc := "(I)C" } : Jvm.MethodName) prog_26_method_14_code (5 : Nat) (Option.some Jvm.ClassFile.FieldType.char)) ∈ lw_all := lw_g (lw_at lw_m8 239 rfl) rfl
theorem q2040 : (Jvm.Cond.methodLink "java/lang/AbstractStringBuilder" (138 : Nat) ({ cls := "java/lang/Math", name := "min", desc := "(II)I" } : Jvm.MethodName)) ∈ lw_all := lw_g (lw_at lw_m9 0 rfl) rfl
theorem q2041 : (Jvm.Cond.methodLink "java/lang/AbstractStringBuilder" (144 : Nat) ({ cls := "java/lang/String", name := "checkIndex", desc := "(II)V" } : Jvm.MethodName)) ∈ lw_all := lw_g (lw_at lw_m9 1 rfl) rfl
theorem q2042 : (Jvm.Cond.methodLink "java/lang/AbstractStringBuilder" (148 : Nat) ({ cls := "java/lang/StringUTF16", name := "getChar", desc := "([BI)C" } : Jvm.MethodName)) ∈ lw_all := lw_g (lw_at lw_m9 2 rfl) rfl
theorem q2191 : (Jvm.Cond.instanceMethod ({ cls := "java/lang/AbstractStringBuilder", name := "subSequence", desc := "(II)Ljava/lang/CharSequence;" } : Jvm.MethodName)) ∈ lw_all := lw_g (lw_at lw_m9 151 rfl) rfl
theorem q2192 : (Jvm.Cond.code ({ cls := "java/lang/AbstractStringBuilder", name := "subSequence", desc := "(II)Ljava/lang/CharSequence;" } : Jvm.MethodName) prog_26_method_41_code (3 : Nat) (Option.some (Jvm.ClassFile.FieldType.object "java/lang/CharSequence"))) ∈ lw_all := lw_g (lw_at lw_m9 152 rfl) rfl
theorem q2193 : (Jvm.Cond.methodLink "java/lang/AbstractStringBuilder" (300 : Nat) ({ cls := "java/lang/AbstractStringBuilder", name := "substring", desc := "(II)Ljava/lang/String;" } : Jvm.MethodName)) ∈ lw_all := lw_g (lw_at lw_m9 153 rfl) rfl
theorem q2194 : (Jvm.Cond.instanceMethod ({ cls := "java/lang/AbstractStringBuilder", name := "substring", desc := "(II)Ljava/lang/String;" } : Jvm.MethodName)) ∈ lw_all := lw_g (lw_at lw_m9 154 rfl) rfl
theorem q2195 : (Jvm.Cond.sameMethod "java/lang/AbstractStringBuilder" "java/lang/AbstractStringBuilder" "substring" "(II)Ljava/lang/String;") ∈ lw_all := lw_g (lw_at lw_m9 155 rfl) rfl
theorem q2200 : (Jvm.Cond.code ({ cls := "java/lang/AbstractStringBuilder", name := "substring", desc := "(II)Ljava/lang/String;" } : Jvm.MethodName) prog_26_method_42_code (3 : Nat) (Option.some (Jvm.ClassFile.FieldType.object "java/lang/String"))) ∈ lw_all := lw_g (lw_at lw_m9 160 rfl) rfl
theorem q2201 : (Jvm.Cond.fieldLink "java/lang/AbstractStringBuilder" (179 : Nat) "jdk/internal/util/Preconditions" "SIOOBE_FORMATTER" "Ljava/util/function/BiFunction;") ∈ lw_all := lw_g (lw_at lw_m9 161 rfl) rfl
theorem q2202 : (Jvm.Cond.methodLink "java/lang/AbstractStringBuilder" (161 : Nat) ({ cls := "jdk/internal/util/Preconditions", name := "checkFromToIndex", desc := "(IIILjava/util/function/BiFunction;)I" } : Jvm.MethodName)) ∈ lw_all := lw_g (lw_at lw_m9 162 rfl) rfl
theorem q2203 : (Jvm.Cond.methodLink "java/lang/AbstractStringBuilder" (304 : Nat) ({ cls := "java/lang/StringLatin1", name := "newString", desc := "([BII)Ljava/lang/String;" } : Jvm.MethodName)) ∈ lw_all := lw_g (lw_at lw_m9 163 rfl) rfl
theorem q2204 : (Jvm.Cond.methodLink "java/lang/AbstractStringBuilder" (308 : Nat) ({ cls := "java/lang/StringUTF16", name := "newString", desc := "([BII)Ljava/lang/String;" } : Jvm.MethodName)) ∈ lw_all := lw_g (lw_at lw_m9 164 rfl) rfl
theorem q2357 : (Jvm.Cond.instanceMethod ({ cls := "java/lang/AbstractStringBuilder", name := "insert", desc := "(ILjava/lang/String;)Ljava/lang/AbstractStringBuilder;" } : Jvm.MethodName)) ∈ lw_all := lw_g (lw_at lw_m10 77 rfl) rfl
theorem q2358 : (Jvm.Cond.code ({ cls := "java/lang/AbstractStringBuilder", name := "insert", desc := "(ILjava/lang/String;)Ljava/lang/AbstractStringBuilder;" } : Jvm.MethodName) prog_26_method_46_code (4 : Nat) (Option.some (Jvm.ClassFile.FieldType.object "java/lang/AbstractStringBuilder"))) ∈ lw_all := lw_g (lw_at lw_m10 78 rfl) rfl
theorem q2359 : (Jvm.Cond.methodLink "java/lang/AbstractStringBuilder" (315 : Nat) ({ cls := "java/lang/String", name := "checkOffset", desc := "(II)V" } : Jvm.MethodName)) ∈ lw_all := lw_g (lw_at lw_m10 79 rfl) rfl
theorem q2362 : (Jvm.Cond.stringRef "java/lang/AbstractStringBuilder" (230 : Nat) "null") ∈ lw_tbl := lw_at lw_m10 82 rfl
theorem q2363 : (Jvm.Cond.methodLink "java/lang/AbstractStringBuilder" (283 : Nat) ({ cls := "java/lang/AbstractStringBuilder", name := "shift", desc := "(II)V" } : Jvm.MethodName)) ∈ lw_all := lw_g (lw_at lw_m10 83 rfl) rfl
theorem q2364 : (Jvm.Cond.privateMethod ({ cls := "java/lang/AbstractStringBuilder", name := "shift", desc := "(II)V" } : Jvm.MethodName)) ∈ lw_tbl := lw_at lw_m10 84 rfl
theorem q2365 : (Jvm.Cond.instanceMethod ({ cls := "java/lang/AbstractStringBuilder", name := "shift", desc := "(II)V" } : Jvm.MethodName)) ∈ lw_all := lw_g (lw_at lw_m10 85 rfl) rfl
theorem q2366 : (Jvm.Cond.code ({ cls := "java/lang/AbstractStringBuilder", name := "shift", desc := "(II)V" } : Jvm.MethodName) prog_26_method_43_code (3 : Nat) (Option.none : Option Jvm.ClassFile.FieldType)) ∈ lw_all := lw_g (lw_at lw_m10 86 rfl) rfl
theorem q2367 : (Jvm.Cond.methodLink "java/lang/AbstractStringBuilder" (309 : Nat) ({ cls := "java/lang/System", name := "arraycopy", desc := "(Ljava/lang/Object;ILjava/lang/Object;II)V" } : Jvm.MethodName)) ∈ lw_all := lw_g (lw_at lw_m10 87 rfl) rfl
theorem q2373 : (Jvm.Cond.instanceMethod ({ cls := "java/lang/AbstractStringBuilder", name := "delete", desc := "(II)Ljava/lang/AbstractStringBuilder;" } : Jvm.MethodName)) ∈ lw_all := lw_g (lw_at lw_m10 93 rfl) rfl
theorem q2374 : (Jvm.Cond.code ({ cls := "java/lang/AbstractStringBuilder", name := "delete", desc := "(II)Ljava/lang/AbstractStringBuilder;" } : Jvm.MethodName) prog_26_method_36_code (5 : Nat) (Option.some (Jvm.ClassFile.FieldType.object "java/lang/AbstractStringBuilder"))) ∈ lw_all := lw_g (lw_at lw_m10 94 rfl) rfl
theorem q2380 : (Jvm.Cond.instanceMethod ({ cls := "java/lang/AbstractStringBuilder", name := "setCharAt", desc := "(IC)V" } : Jvm.MethodName)) ∈ lw_all := lw_g (lw_at lw_m10 100 rfl) rfl
theorem q2381 : (Jvm.Cond.code ({ cls := "java/lang/AbstractStringBuilder", name := "setCharAt", desc := "(IC)V" } : Jvm.MethodName) prog_26_method_20_code (3 : Nat) (Option.none : Option Jvm.ClassFile.FieldType)) ∈ lw_all := lw_g (lw_at lw_m10 101 rfl) rfl
theorem q2814 : (Jvm.Cond.instanceMethod ({ cls := "java/lang/AbstractStringBuilder", name := "setLength", desc := "(I)V" } : Jvm.MethodName)) ∈ lw_all := lw_g (lw_at lw_m12 54 rfl) rfl
theorem q2815 : (Jvm.Cond.code ({ cls := "java/lang/AbstractStringBuilder", name := "setLength", desc := "(I)V" } : Jvm.MethodName) prog_26_method_13_code (2 : Nat) (Option.none : Option Jvm.ClassFile.FieldType)) ∈ lw_all := lw_g (lw_at lw_m12 55 rfl) rfl
theorem q2816 : (Jvm.Cond.classLink "java/lang/AbstractStringBuilder" (129 : Nat) "java/lang/StringIndexOutOfBoundsException") ∈ lw_all := lw_g (lw_at lw_m12 56 rfl) rfl
theorem q2818 : (Jvm.Cond.methodLink "java/lang/AbstractStringBuilder" (131 : Nat) ({ cls := "java/lang/StringIndexOutOfBoundsException", name := "<init>", desc := "(I)V" } : Jvm.MethodName)) ∈ lw_all := lw_g (lw_at lw_m12 58 rfl) rfl
theorem q2835 : (Jvm.Cond.methodLink "java/lang/AbstractStringBuilder" (133 : Nat) ({ cls := "java/lang/StringLatin1", name := "fillNull", desc := "([BII)V" } : Jvm.MethodName)) ∈ lw_all := lw_g (lw_at lw_m12 75 rfl) rfl
theorem q2854 : (Jvm.Cond.methodLink "java/lang/AbstractStringBuilder" (137 : Nat) ({ cls := "java/lang/StringUTF16", name := "fillNull", desc := "([BII)V" } : Jvm.MethodName)) ∈ lw_all := lw_g (lw_at lw_m12 94 rfl) rfl
theorem q2863 : (Jvm.Cond.instanceMethod ({ cls := "java/lang/AbstractStringBuilder", name := "append", desc := "(Ljava/lang/CharSequence;)Ljava/lang/AbstractStringBuilder;" } : Jvm.MethodName)) ∈ lw_all := lw_g (lw_at lw_m12 103 rfl) rfl
theorem q2864 : (Jvm.Cond.code ({ cls := "java/lang/AbstractStringBuilder", name := "append", desc := "(Ljava/lang/CharSequence;)Ljava/lang/AbstractStringBuilder;" } : Jvm.MethodName) prog_26_method_25_code (2 : Nat) (Option.some (Jvm.ClassFile.FieldType.object "java/lang/AbstractStringBuilder"))) ∈ lw_all := lw_g (lw_at lw_m12 104 rfl) rfl
theorem q2865 : (Jvm.Cond.classLink "java/lang/AbstractStringBuilder" (1 : Nat) "java/lang/String") ∈ lw_all := lw_g (lw_at lw_m12 105 rfl) rfl
theorem q2866 : (Jvm.Cond.methodLink "java/lang/AbstractStringBuilder" (43 : Nat) ({ cls := "java/lang/AbstractStringBuilder", name := "append", desc := "(Ljava/lang/String;)Ljava/lang/AbstractStringBuilder;" } : Jvm.MethodName)) ∈ lw_all := lw_g (lw_at lw_m12 106 rfl) rfl
theorem q2870 : (Jvm.Cond.classLink "java/lang/AbstractStringBuilder" (10 : Nat) "java/lang/AbstractStringBuilder") ∈ lw_all := lw_g (lw_at lw_m12 110 rfl) rfl
theorem q2871 : (Jvm.Cond.methodLink "java/lang/AbstractStringBuilder" (212 : Nat) ({ cls := "java/lang/AbstractStringBuilder", name := "append", desc := "(Ljava/lang/AbstractStringBuilder;)Ljava/lang/AbstractStringBuilder;" } : Jvm.MethodName)) ∈ lw_all := lw_g (lw_at lw_m12 111 rfl) rfl
theorem q2872 : (Jvm.Cond.instanceMethod ({ cls := "java/lang/AbstractStringBuilder", name := "append", desc := "(Ljava/lang/AbstractStringBuilder;)Ljava/lang/AbstractStringBuilder;" } : Jvm.MethodName)) ∈ lw_all := lw_g (lw_at lw_m12 112 rfl) rfl
theorem q2873 : (Jvm.Cond.sameMethod "java/lang/AbstractStringBuilder" "java/lang/AbstractStringBuilder" "append" "(Ljava/lang/AbstractStringBuilder;)Ljava/lang/AbstractStringBuilder;") ∈ lw_all := lw_g (lw_at lw_m12 113 rfl) rfl
theorem q2875 : (Jvm.Cond.code ({ cls := "java/lang/AbstractStringBuilder", name := "append", desc := "(Ljava/lang/AbstractStringBuilder;)Ljava/lang/AbstractStringBuilder;" } : Jvm.MethodName) prog_26_method_24_code (3 : Nat) (Option.some (Jvm.ClassFile.FieldType.object "java/lang/AbstractStringBuilder"))) ∈ lw_all := lw_g (lw_at lw_m12 115 rfl) rfl
theorem q2876 : (Jvm.Cond.methodLink "java/lang/AbstractStringBuilder" (160 : Nat) ({ cls := "java/lang/AbstractStringBuilder", name := "length", desc := "()I" } : Jvm.MethodName)) ∈ lw_all := lw_g (lw_at lw_m12 116 rfl) rfl
theorem q2877 : (Jvm.Cond.methodLink "java/lang/AbstractStringBuilder" (215 : Nat) ({ cls := "java/lang/AbstractStringBuilder", name := "inflateIfNeededFor", desc := "(Ljava/lang/AbstractStringBuilder;)V" } : Jvm.MethodName)) ∈ lw_all := lw_g (lw_at lw_m12 117 rfl) rfl
theorem q2878 : (Jvm.Cond.privateMethod ({ cls := "java/lang/AbstractStringBuilder", name := "inflateIfNeededFor", desc := "(Ljava/lang/AbstractStringBuilder;)V" } : Jvm.MethodName)) ∈ lw_tbl := lw_at lw_m12 118 rfl
theorem q2879 : (Jvm.Cond.instanceMethod ({ cls := "java/lang/AbstractStringBuilder", name := "inflateIfNeededFor", desc := "(Ljava/lang/AbstractStringBuilder;)V" } : Jvm.MethodName)) ∈ lw_all := lw_g (lw_at lw_m12 119 rfl) rfl
theorem q2880 : (Jvm.Cond.code ({ cls := "java/lang/AbstractStringBuilder", name := "inflateIfNeededFor", desc := "(Ljava/lang/AbstractStringBuilder;)V" } : Jvm.MethodName) prog_26_method_72_code (2 : Nat) (Option.none : Option Jvm.ClassFile.FieldType)) ∈ lw_all := lw_g (lw_at lw_m12 120 rfl) rfl
theorem q2881 : (Jvm.Cond.methodLink "java/lang/AbstractStringBuilder" (70 : Nat) ({ cls := "java/lang/AbstractStringBuilder", name := "getCoder", desc := "()B" } : Jvm.MethodName)) ∈ lw_all := lw_g (lw_at lw_m12 121 rfl) rfl
theorem q2882 : (Jvm.Cond.instanceMethod ({ cls := "java/lang/AbstractStringBuilder", name := "getCoder", desc := "()B" } : Jvm.MethodName)) ∈ lw_all := lw_g (lw_at lw_m12 122 rfl) rfl
theorem q2883 : (Jvm.Cond.sameMethod "java/lang/AbstractStringBuilder" "java/lang/AbstractStringBuilder" "getCoder" "()B") ∈ lw_all := lw_g (lw_at lw_m12 123 rfl) rfl
theorem q2885 : (Jvm.Cond.code ({ cls := "java/lang/AbstractStringBuilder", name := "getCoder", desc := "()B" } : Jvm.MethodName) prog_26_method_67_code (1 : Nat) (Option.some Jvm.ClassFile.FieldType.byte)) ∈ lw_all := lw_g (lw_at lw_m12 125 rfl) rfl
theorem q2886 : (Jvm.Cond.methodLink "java/lang/AbstractStringBuilder" (219 : Nat) ({ cls := "java/lang/AbstractStringBuilder", name := "getBytes", desc := "([BIB)V" } : Jvm.MethodName)) ∈ lw_all := lw_g (lw_at lw_m12 126 rfl) rfl
theorem q2887 : (Jvm.Cond.instanceMethod ({ cls := "java/lang/AbstractStringBuilder", name := "getBytes", desc := "([BIB)V" } : Jvm.MethodName)) ∈ lw_all := lw_g (lw_at lw_m12 127 rfl) rfl
theorem q2888 : (Jvm.Cond.sameMethod "java/lang/AbstractStringBuilder" "java/lang/AbstractStringBuilder" "getBytes" "([BIB)V") ∈ lw_all := lw_g (lw_at lw_m12 128 rfl) rfl
theorem q2890 : (Jvm.Cond.code ({ cls := "java/lang/AbstractStringBuilder", name := "getBytes", desc := "([BIB)V" } : Jvm.MethodName) prog_26_method_65_code (4 : Nat) (Option.none : Option Jvm.ClassFile.FieldType)) ∈ lw_all := lw_g (lw_at lw_m12 130 rfl) rfl
theorem q2891 : (Jvm.Cond.interfaceEntry "java/lang/AbstractStringBuilder" (47 : Nat)) ∈ lw_tbl := lw_at lw_m12 131 rfl
theorem q2892 : (Jvm.Cond.methodLink "java/lang/AbstractStringBuilder" (47 : Nat) ({ cls := "java/lang/CharSequence", name := "length", desc := "()I" } : Jvm.MethodName)) ∈ lw_all := lw_g (lw_at lw_m12 132 rfl) rfl
theorem q2893 : (Jvm.Cond.methodLink "java/lang/AbstractStringBuilder" (223 : Nat) ({ cls := "java/lang/AbstractStringBuilder", name := "append", desc := "(Ljava/lang/CharSequence;II)Ljava/lang/AbstractStringBuilder;" } : Jvm.MethodName)) ∈ lw_all := lw_g (lw_at lw_m12 133 rfl) rfl
theorem q2894 : (Jvm.Cond.instanceMethod ({ cls := "java/lang/AbstractStringBuilder", name := "append", desc := "(Ljava/lang/CharSequence;II)Ljava/lang/AbstractStringBuilder;" } : Jvm.MethodName)) ∈ lw_all := lw_g (lw_at lw_m12 134 rfl) rfl
theorem q2895 : (Jvm.Cond.sameMethod "java/lang/AbstractStringBuilder" "java/lang/AbstractStringBuilder" "append" "(Ljava/lang/CharSequence;II)Ljava/lang/AbstractStringBuilder;") ∈ lw_all := lw_g (lw_at lw_m12 135 rfl) rfl
theorem q2904 : (Jvm.Cond.code ({ cls := "java/lang/AbstractStringBuilder", name := "append", desc := "(Ljava/lang/CharSequence;II)Ljava/lang/AbstractStringBuilder;" } : Jvm.MethodName) prog_26_method_27_code (5 : Nat) (Option.some (Jvm.ClassFile.FieldType.object "java/lang/AbstractStringBuilder"))) ∈ lw_all := lw_g (lw_at lw_m12 144 rfl) rfl
theorem q2905 : (Jvm.Cond.fieldLink "java/lang/AbstractStringBuilder" (183 : Nat) "jdk/internal/util/Preconditions" "IOOBE_FORMATTER" "Ljava/util/function/BiFunction;") ∈ lw_all := lw_g (lw_at lw_m12 145 rfl) rfl
theorem q2907 : (Jvm.Cond.methodLink "java/lang/AbstractStringBuilder" (232 : Nat) ({ cls := "java/lang/AbstractStringBuilder", name := "appendChars", desc := "(Ljava/lang/String;II)V" } : Jvm.MethodName)) ∈ lw_all := lw_g (lw_at lw_m12 147 rfl) rfl
theorem q2908 : (Jvm.Cond.privateMethod ({ cls := "java/lang/AbstractStringBuilder", name := "appendChars", desc := "(Ljava/lang/String;II)V" } : Jvm.MethodName)) ∈ lw_tbl := lw_at lw_m12 148 rfl
theorem q2909 : (Jvm.Cond.instanceMethod ({ cls := "java/lang/AbstractStringBuilder", name := "appendChars", desc := "(Ljava/lang/String;II)V" } : Jvm.MethodName)) ∈ lw_all := lw_g (lw_at lw_m12 149 rfl) rfl
theorem q2910 : (Jvm.Cond.code ({ cls := "java/lang/AbstractStringBuilder", name := "appendChars", desc := "(Ljava/lang/String;II)V" } : Jvm.MethodName) prog_26_method_75_code (8 : Nat) (Option.none : Option Jvm.ClassFile.FieldType)) ∈ lw_all := lw_g (lw_at lw_m12 150 rfl) rfl
theorem q2911 : (Jvm.Cond.methodLink "java/lang/AbstractStringBuilder" (400 : Nat) ({ cls := "java/lang/String", name := "isLatin1", desc := "()Z" } : Jvm.MethodName)) ∈ lw_all := lw_g (lw_at lw_m12 151 rfl) rfl
theorem q2912 : (Jvm.Cond.methodLink "java/lang/AbstractStringBuilder" (401 : Nat) ({ cls := "java/lang/String", name := "value", desc := "()[B" } : Jvm.MethodName)) ∈ lw_all := lw_g (lw_at lw_m12 152 rfl) rfl
theorem q2916 : (Jvm.Cond.methodLink "java/lang/AbstractStringBuilder" (404 : Nat) ({ cls := "java/lang/String", name := "charAt", desc := "(I)C" } : Jvm.MethodName)) ∈ lw_all := lw_g (lw_at lw_m12 156 rfl) rfl
theorem q2917 : (Jvm.Cond.methodLink "java/lang/AbstractStringBuilder" (394 : Nat) ({ cls := "java/lang/StringUTF16", name := "putCharsSB", desc := "([BILjava/lang/CharSequence;II)V" } : Jvm.MethodName)) ∈ lw_all := lw_g (lw_at lw_m12 157 rfl) rfl
theorem q2922 : (Jvm.Cond.methodLink "java/lang/AbstractStringBuilder" (236 : Nat) ({ cls := "java/lang/AbstractStringBuilder", name := "appendChars", desc := "(Ljava/lang/CharSequence;II)V" } : Jvm.MethodName)) ∈ lw_all := lw_g (lw_at lw_m12 162 rfl) rfl
theorem q2923 : (Jvm.Cond.privateMethod ({ cls := "java/lang/AbstractStringBuilder", name := "appendChars", desc := "(Ljava/lang/CharSequence;II)V" } : Jvm.MethodName)) ∈ lw_tbl := lw_at lw_m12 163 rfl
theorem q2924 : (Jvm.Cond.instanceMethod ({ cls := "java/lang/AbstractStringBuilder", name := "appendChars", desc := "(Ljava/lang/CharSequence;II)V" } : Jvm.MethodName)) ∈ lw_all := lw_g (lw_at lw_m12 164 rfl) rfl
theorem q2925 : (Jvm.Cond.code ({ cls := "java/lang/AbstractStringBuilder", name := "appendChars", desc := "(Ljava/lang/CharSequence;II)V" } : Jvm.MethodName) prog_26_method_76_code (8 : Nat) (Option.none : Option Jvm.ClassFile.FieldType)) ∈ lw_all := lw_g (lw_at lw_m12 165 rfl) rfl
theorem q2926 : (Jvm.Cond.interfaceEntry "java/lang/AbstractStringBuilder" (390 : Nat)) ∈ lw_tbl := lw_at lw_m12 166 rfl
theorem q2927 : (Jvm.Cond.methodLink "java/lang/AbstractStringBuilder" (390 : Nat) ({ cls := "java/lang/CharSequence", name := "charAt", desc := "(I)C" } : Jvm.MethodName)) ∈ lw_all := lw_g (lw_at lw_m12 167 rfl) rfl
theorem q3584 : (Jvm.Cond.sameMethod "java/lang/AbstractStringBuilder" "java/lang/AbstractStringBuilder" "append" "(Ljava/lang/String;)Ljava/lang/AbstractStringBuilder;") ∈ lw_all := lw_g (lw_at lw_m15 104 rfl) rfl
theorem q3585 : (Jvm.Cond.sameMethod "java/lang/AbstractStringBuilder" "java/lang/AbstractStringBuilder" "appendNull" "()Ljava/lang/AbstractStringBuilder;") ∈ lw_all := lw_g (lw_at lw_m15 105 rfl) rfl
theorem q3586 : (Jvm.Cond.sameMethod "java/lang/AbstractStringBuilder" "java/lang/AbstractStringBuilder" "ensureCapacityInternal" "(I)V") ∈ lw_all := lw_g (lw_at lw_m15 106 rfl) rfl
theorem q3587 : (Jvm.Cond.sameMethod "java/lang/AbstractStringBuilder" "java/lang/AbstractStringBuilder" "newCapacity" "(I)I") ∈ lw_all := lw_g (lw_at lw_m15 107 rfl) rfl
theorem q3588 : (Jvm.Cond.sameMethod "java/lang/AbstractStringBuilder" "java/lang/AbstractStringBuilder" "putStringAt" "(ILjava/lang/String;)V") ∈ lw_all := lw_g (lw_at lw_m15 108 rfl) rfl
theorem q3589 : (Jvm.Cond.sameMethod "java/lang/AbstractStringBuilder" "java/lang/AbstractStringBuilder" "inflateIfNeededFor" "(Ljava/lang/String;)V") ∈ lw_all := lw_g (lw_at lw_m15 109 rfl) rfl
theorem q3590 : (Jvm.Cond.sameMethod "java/lang/AbstractStringBuilder" "java/lang/AbstractStringBuilder" "inflate" "()V") ∈ lw_all := lw_g (lw_at lw_m15 110 rfl) rfl
theorem q3591 : (Jvm.Cond.sameMethod "java/lang/AbstractStringBuilder" "java/lang/AbstractStringBuilder" "append" "(C)Ljava/lang/AbstractStringBuilder;") ∈ lw_all := lw_g (lw_at lw_m15 111 rfl) rfl
theorem q3597 : (Jvm.Cond.sameMethod "java/lang/AbstractStringBuilder" "java/lang/AbstractStringBuilder" "append" "(I)Ljava/lang/AbstractStringBuilder;") ∈ lw_all := lw_g (lw_at lw_m15 117 rfl) rfl
theorem q3599 : (Jvm.Cond.sameMethod "java/lang/AbstractStringBuilder" "java/lang/AbstractStringBuilder" "charAt" "(I)C") ∈ lw_all := lw_g (lw_at lw_m15 119 rfl) rfl
theorem q3601 : (Jvm.Cond.sameMethod "java/lang/AbstractStringBuilder" "java/lang/AbstractStringBuilder" "subSequence" "(II)Ljava/lang/CharSequence;") ∈ lw_all := lw_g (lw_at lw_m15 121 rfl) rfl
theorem q3604 : (Jvm.Cond.sameMethod "java/lang/AbstractStringBuilder" "java/lang/AbstractStringBuilder" "insert" "(ILjava/lang/String;)Ljava/lang/AbstractStringBuilder;") ∈ lw_all := lw_g (lw_at lw_m15 124 rfl) rfl
theorem q3605 : (Jvm.Cond.sameMethod "java/lang/AbstractStringBuilder" "java/lang/AbstractStringBuilder" "shift" "(II)V") ∈ lw_all := lw_g (lw_at lw_m15 125 rfl) rfl
theorem q3606 : (Jvm.Cond.sameMethod "java/lang/AbstractStringBuilder" "java/lang/AbstractStringBuilder" "delete" "(II)Ljava/lang/AbstractStringBuilder;") ∈ lw_all := lw_g (lw_at lw_m15 126 rfl) rfl
theorem q3607 : (Jvm.Cond.sameMethod "java/lang/AbstractStringBuilder" "java/lang/AbstractStringBuilder" "setCharAt" "(IC)V") ∈ lw_all := lw_g (lw_at lw_m15 127 rfl) rfl
theorem q3611 : (Jvm.Cond.sameMethod "java/lang/AbstractStringBuilder" "java/lang/AbstractStringBuilder" "setLength" "(I)V") ∈ lw_all := lw_g (lw_at lw_m15 131 rfl) rfl
theorem q3612 : (Jvm.Cond.sameMethod "java/lang/AbstractStringBuilder" "java/lang/AbstractStringBuilder" "append" "(Ljava/lang/CharSequence;)Ljava/lang/AbstractStringBuilder;") ∈ lw_all := lw_g (lw_at lw_m15 132 rfl) rfl
theorem q3614 : (Jvm.Cond.sameMethod "java/lang/AbstractStringBuilder" "java/lang/AbstractStringBuilder" "inflateIfNeededFor" "(Ljava/lang/AbstractStringBuilder;)V") ∈ lw_all := lw_g (lw_at lw_m15 134 rfl) rfl
theorem q3615 : (Jvm.Cond.sameMethod "java/lang/AbstractStringBuilder" "java/lang/AbstractStringBuilder" "appendChars" "(Ljava/lang/String;II)V") ∈ lw_all := lw_g (lw_at lw_m15 135 rfl) rfl
theorem q3616 : (Jvm.Cond.sameMethod "java/lang/AbstractStringBuilder" "java/lang/AbstractStringBuilder" "appendChars" "(Ljava/lang/CharSequence;II)V") ∈ lw_all := lw_g (lw_at lw_m15 136 rfl) rfl

/-! java/lang/StringBuilder -/
set_option maxRecDepth 100000
def RJ1 : String := "java/lang/StringBuilder"
def TJ1 : u_T := fun k => match k with
  | 0 => ("java/lang/AbstractStringBuilder", "value", "[B", false)
  | 1 => ("java/lang/AbstractStringBuilder", "coder", "B", false)
  | 2 => ("java/lang/AbstractStringBuilder", "maybeLatin1", "Z", false)
  | _ => ("java/lang/AbstractStringBuilder", "count", "I", false)
def tyJ1 : Nat → FieldType := fun k => match k with
  | 0 => .array .byte
  | 1 => .byte
  | 2 => .boolean
  | _ => .int
abbrev wsJ10 : List Cond := u_ws RJ1 TJ1 4
theorem nmJ1 : ∀ a, a < 4 → ∀ b, b < 4 → a ≠ b → (TJ1 a).2.1 ≠ (TJ1 b).2.1 := by decide +kernel
theorem tyJ1_ok : ∀ k, k < 4 → parseFieldDescriptor (TJ1 k).2.2.1 = some (tyJ1 k) := by decide +kernel
abbrev cJ1_init : ByteArray := prog_44_method_1_code
def yJ1_init : MethodName := ⟨RJ1, "<init>", "()V"⟩
def dkwJ1_init_0 : List UInt8 := [42, 16, 16, 183, 0, 1, 177]
abbrev dktJ1_init_0 : List UInt8 := dkwJ1_init_0 ++ []
theorem dksJ1_init_0 : cJ1_init.data.toList.drop 0 = dktJ1_init_0 := by decide +kernel
theorem dJ1_init_0 : decode cJ1_init 0 = .ok (.aload_n 0, 1) := dk_42 (dk_at dksJ1_init_0 0 rfl rfl)
theorem dJ1_init_1 : decode cJ1_init 1 = .ok (.bipush 16, 2) := dk_16 16 (dk_at dksJ1_init_0 1 rfl rfl)
theorem dJ1_init_3 : decode cJ1_init 3 = .ok (.invokespecial 1, 3) := dk_183 0 1 (dk_at dksJ1_init_0 3 rfl rfl)
theorem dJ1_init_6 : decode cJ1_init 6 = .ok (.return_, 1) := dk_177 (dk_at dksJ1_init_0 6 rfl rfl)
abbrev cJ1_append : ByteArray := prog_44_method_7_code
def yJ1_append : MethodName := ⟨RJ1, "append", "(Ljava/lang/String;)Ljava/lang/StringBuilder;"⟩
def dkwJ1_append_0 : List UInt8 := [42, 43, 183, 0, 29, 87, 42, 176]
abbrev dktJ1_append_0 : List UInt8 := dkwJ1_append_0 ++ []
theorem dksJ1_append_0 : cJ1_append.data.toList.drop 0 = dktJ1_append_0 := by decide +kernel
theorem dJ1_append_0 : decode cJ1_append 0 = .ok (.aload_n 0, 1) := dk_42 (dk_at dksJ1_append_0 0 rfl rfl)
theorem dJ1_append_1 : decode cJ1_append 1 = .ok (.aload_n 1, 1) := dk_43 (dk_at dksJ1_append_0 1 rfl rfl)
theorem dJ1_append_2 : decode cJ1_append 2 = .ok (.invokespecial 29, 3) := dk_183 0 29 (dk_at dksJ1_append_0 2 rfl rfl)
theorem dJ1_append_5 : decode cJ1_append 5 = .ok (.pop, 1) := dk_87 (dk_at dksJ1_append_0 5 rfl rfl)
theorem dJ1_append_6 : decode cJ1_append 6 = .ok (.aload_n 0, 1) := dk_42 (dk_at dksJ1_append_0 6 rfl rfl)
theorem dJ1_append_7 : decode cJ1_append 7 = .ok (.areturn, 1) := dk_176 (dk_at dksJ1_append_0 7 rfl rfl)
abbrev cJ1_append_2 : ByteArray := prog_44_method_14_code
def yJ1_append_2 : MethodName := ⟨RJ1, "append", "(C)Ljava/lang/StringBuilder;"⟩
def dkwJ1_append_2_0 : List UInt8 := [42, 27, 183, 0, 50, 87, 42, 176]
abbrev dktJ1_append_2_0 : List UInt8 := dkwJ1_append_2_0 ++ []
theorem dksJ1_append_2_0 : cJ1_append_2.data.toList.drop 0 = dktJ1_append_2_0 := by decide +kernel
theorem dJ1_append_2_0 : decode cJ1_append_2 0 = .ok (.aload_n 0, 1) := dk_42 (dk_at dksJ1_append_2_0 0 rfl rfl)
theorem dJ1_append_2_1 : decode cJ1_append_2 1 = .ok (.iload_n 1, 1) := dk_27 (dk_at dksJ1_append_2_0 1 rfl rfl)
theorem dJ1_append_2_2 : decode cJ1_append_2 2 = .ok (.invokespecial 50, 3) := dk_183 0 50 (dk_at dksJ1_append_2_0 2 rfl rfl)
theorem dJ1_append_2_5 : decode cJ1_append_2 5 = .ok (.pop, 1) := dk_87 (dk_at dksJ1_append_2_0 5 rfl rfl)
theorem dJ1_append_2_6 : decode cJ1_append_2 6 = .ok (.aload_n 0, 1) := dk_42 (dk_at dksJ1_append_2_0 6 rfl rfl)
theorem dJ1_append_2_7 : decode cJ1_append_2 7 = .ok (.areturn, 1) := dk_176 (dk_at dksJ1_append_2_0 7 rfl rfl)
abbrev cJ1_toString : ByteArray := prog_44_method_42_code
def yJ1_toString : MethodName := ⟨RJ1, "toString", "()Ljava/lang/String;"⟩
def dkwJ1_toString_0 : List UInt8 := [187, 0, 18, 89, 42, 183, 0, 137, 176]
abbrev dktJ1_toString_0 : List UInt8 := dkwJ1_toString_0 ++ []
theorem dksJ1_toString_0 : cJ1_toString.data.toList.drop 0 = dktJ1_toString_0 := by decide +kernel
theorem dJ1_toString_0 : decode cJ1_toString 0 = .ok (.new 18, 3) := dk_187 0 18 (dk_at dksJ1_toString_0 0 rfl rfl)
theorem dJ1_toString_3 : decode cJ1_toString 3 = .ok (.dup, 1) := dk_89 (dk_at dksJ1_toString_0 3 rfl rfl)
theorem dJ1_toString_4 : decode cJ1_toString 4 = .ok (.aload_n 0, 1) := dk_42 (dk_at dksJ1_toString_0 4 rfl rfl)
theorem dJ1_toString_5 : decode cJ1_toString 5 = .ok (.invokespecial 137, 3) := dk_183 0 137 (dk_at dksJ1_toString_0 5 rfl rfl)
theorem dJ1_toString_8 : decode cJ1_toString 8 = .ok (.areturn, 1) := dk_176 (dk_at dksJ1_toString_0 8 rfl rfl)
abbrev cJ1_length : ByteArray := prog_44_method_93_code
def yJ1_length : MethodName := ⟨RJ1, "length", "()I"⟩
theorem dJ1_length_0 : decode cJ1_length 0 = .ok (.aload_n 0, 1) := by decide +kernel
theorem dJ1_length_1 : decode cJ1_length 1 = .ok (.invokespecial 343, 3) := by decide +kernel
theorem dJ1_length_4 : decode cJ1_length 4 = .ok (.ireturn, 1) := by decide +kernel
abbrev cJ1_append_3 : ByteArray := prog_44_method_15_code
def yJ1_append_3 : MethodName := ⟨RJ1, "append", "(I)Ljava/lang/StringBuilder;"⟩
def dkwJ1_append_3_0 : List UInt8 := [42, 27, 183, 0, 53, 87, 42, 176]
abbrev dktJ1_append_3_0 : List UInt8 := dkwJ1_append_3_0 ++ []
theorem dksJ1_append_3_0 : cJ1_append_3.data.toList.drop 0 = dktJ1_append_3_0 := by decide +kernel
theorem dJ1_append_3_0 : decode cJ1_append_3 0 = .ok (.aload_n 0, 1) := dk_42 (dk_at dksJ1_append_3_0 0 rfl rfl)
theorem dJ1_append_3_1 : decode cJ1_append_3 1 = .ok (.iload_n 1, 1) := dk_27 (dk_at dksJ1_append_3_0 1 rfl rfl)
theorem dJ1_append_3_2 : decode cJ1_append_3 2 = .ok (.invokespecial 53, 3) := dk_183 0 53 (dk_at dksJ1_append_3_0 2 rfl rfl)
theorem dJ1_append_3_5 : decode cJ1_append_3 5 = .ok (.pop, 1) := dk_87 (dk_at dksJ1_append_3_0 5 rfl rfl)
theorem dJ1_append_3_6 : decode cJ1_append_3 6 = .ok (.aload_n 0, 1) := dk_42 (dk_at dksJ1_append_3_0 6 rfl rfl)
theorem dJ1_append_3_7 : decode cJ1_append_3 7 = .ok (.areturn, 1) := dk_176 (dk_at dksJ1_append_3_0 7 rfl rfl)
abbrev cJ1_charAt : ByteArray := prog_44_method_88_code
def yJ1_charAt : MethodName := ⟨RJ1, "charAt", "(I)C"⟩
def dkwJ1_charAt_0 : List UInt8 := [42, 27, 183, 1, 73, 172]
abbrev dktJ1_charAt_0 : List UInt8 := dkwJ1_charAt_0 ++ []
theorem dksJ1_charAt_0 : cJ1_charAt.data.toList.drop 0 = dktJ1_charAt_0 := by decide +kernel
theorem dJ1_charAt_0 : decode cJ1_charAt 0 = .ok (.aload_n 0, 1) := dk_42 (dk_at dksJ1_charAt_0 0 rfl rfl)
theorem dJ1_charAt_1 : decode cJ1_charAt 1 = .ok (.iload_n 1, 1) := dk_27 (dk_at dksJ1_charAt_0 1 rfl rfl)
theorem dJ1_charAt_2 : decode cJ1_charAt 2 = .ok (.invokespecial 329, 3) := dk_183 1 73 (dk_at dksJ1_charAt_0 2 rfl rfl)
theorem dJ1_charAt_5 : decode cJ1_charAt 5 = .ok (.ireturn, 1) := dk_172 (dk_at dksJ1_charAt_0 5 rfl rfl)
abbrev cJ1_subSequence : ByteArray := prog_44_method_63_code
def yJ1_subSequence : MethodName := ⟨RJ1, "subSequence", "(II)Ljava/lang/CharSequence;"⟩
def dkwJ1_subSequence_0 : List UInt8 := [42, 27, 28, 183, 1, 0, 176]
abbrev dktJ1_subSequence_0 : List UInt8 := dkwJ1_subSequence_0 ++ []
theorem dksJ1_subSequence_0 : cJ1_subSequence.data.toList.drop 0 = dktJ1_subSequence_0 := by decide +kernel
theorem dJ1_subSequence_0 : decode cJ1_subSequence 0 = .ok (.aload_n 0, 1) := dk_42 (dk_at dksJ1_subSequence_0 0 rfl rfl)
theorem dJ1_subSequence_1 : decode cJ1_subSequence 1 = .ok (.iload_n 1, 1) := dk_27 (dk_at dksJ1_subSequence_0 1 rfl rfl)
theorem dJ1_subSequence_2 : decode cJ1_subSequence 2 = .ok (.iload_n 2, 1) := dk_28 (dk_at dksJ1_subSequence_0 2 rfl rfl)
theorem dJ1_subSequence_3 : decode cJ1_subSequence 3 = .ok (.invokespecial 256, 3) := dk_183 1 0 (dk_at dksJ1_subSequence_0 3 rfl rfl)
theorem dJ1_subSequence_6 : decode cJ1_subSequence 6 = .ok (.areturn, 1) := dk_176 (dk_at dksJ1_subSequence_0 6 rfl rfl)
abbrev cJ1_substring : ByteArray := prog_44_method_62_code
def yJ1_substring : MethodName := ⟨RJ1, "substring", "(II)Ljava/lang/String;"⟩
def dkwJ1_substring_0 : List UInt8 := [42, 27, 28, 183, 0, 252, 176]
abbrev dktJ1_substring_0 : List UInt8 := dkwJ1_substring_0 ++ []
theorem dksJ1_substring_0 : cJ1_substring.data.toList.drop 0 = dktJ1_substring_0 := by decide +kernel
theorem dJ1_substring_0 : decode cJ1_substring 0 = .ok (.aload_n 0, 1) := dk_42 (dk_at dksJ1_substring_0 0 rfl rfl)
theorem dJ1_substring_1 : decode cJ1_substring 1 = .ok (.iload_n 1, 1) := dk_27 (dk_at dksJ1_substring_0 1 rfl rfl)
theorem dJ1_substring_2 : decode cJ1_substring 2 = .ok (.iload_n 2, 1) := dk_28 (dk_at dksJ1_substring_0 2 rfl rfl)
theorem dJ1_substring_3 : decode cJ1_substring 3 = .ok (.invokespecial 252, 3) := dk_183 0 252 (dk_at dksJ1_substring_0 3 rfl rfl)
theorem dJ1_substring_6 : decode cJ1_substring 6 = .ok (.areturn, 1) := dk_176 (dk_at dksJ1_substring_0 6 rfl rfl)
abbrev cJ1_insert : ByteArray := prog_44_method_25_code
def yJ1_insert : MethodName := ⟨RJ1, "insert", "(ILjava/lang/String;)Ljava/lang/StringBuilder;"⟩
def dkwJ1_insert_0 : List UInt8 := [42, 27, 44, 183, 0, 86, 87, 42, 176]
abbrev dktJ1_insert_0 : List UInt8 := dkwJ1_insert_0 ++ []
theorem dksJ1_insert_0 : cJ1_insert.data.toList.drop 0 = dktJ1_insert_0 := by decide +kernel
theorem dJ1_insert_0 : decode cJ1_insert 0 = .ok (.aload_n 0, 1) := dk_42 (dk_at dksJ1_insert_0 0 rfl rfl)
theorem dJ1_insert_1 : decode cJ1_insert 1 = .ok (.iload_n 1, 1) := dk_27 (dk_at dksJ1_insert_0 1 rfl rfl)
theorem dJ1_insert_2 : decode cJ1_insert 2 = .ok (.aload_n 2, 1) := dk_44 (dk_at dksJ1_insert_0 2 rfl rfl)
theorem dJ1_insert_3 : decode cJ1_insert 3 = .ok (.invokespecial 86, 3) := dk_183 0 86 (dk_at dksJ1_insert_0 3 rfl rfl)
theorem dJ1_insert_6 : decode cJ1_insert 6 = .ok (.pop, 1) := dk_87 (dk_at dksJ1_insert_0 6 rfl rfl)
theorem dJ1_insert_7 : decode cJ1_insert 7 = .ok (.aload_n 0, 1) := dk_42 (dk_at dksJ1_insert_0 7 rfl rfl)
theorem dJ1_insert_8 : decode cJ1_insert 8 = .ok (.areturn, 1) := dk_176 (dk_at dksJ1_insert_0 8 rfl rfl)
abbrev cJ1_delete : ByteArray := prog_44_method_20_code
def yJ1_delete : MethodName := ⟨RJ1, "delete", "(II)Ljava/lang/StringBuilder;"⟩
def dkwJ1_delete_0 : List UInt8 := [42, 27, 28, 183, 0, 68, 87, 42, 176]
abbrev dktJ1_delete_0 : List UInt8 := dkwJ1_delete_0 ++ []
theorem dksJ1_delete_0 : cJ1_delete.data.toList.drop 0 = dktJ1_delete_0 := by decide +kernel
theorem dJ1_delete_0 : decode cJ1_delete 0 = .ok (.aload_n 0, 1) := dk_42 (dk_at dksJ1_delete_0 0 rfl rfl)
theorem dJ1_delete_1 : decode cJ1_delete 1 = .ok (.iload_n 1, 1) := dk_27 (dk_at dksJ1_delete_0 1 rfl rfl)
theorem dJ1_delete_2 : decode cJ1_delete 2 = .ok (.iload_n 2, 1) := dk_28 (dk_at dksJ1_delete_0 2 rfl rfl)
theorem dJ1_delete_3 : decode cJ1_delete 3 = .ok (.invokespecial 68, 3) := dk_183 0 68 (dk_at dksJ1_delete_0 3 rfl rfl)
theorem dJ1_delete_6 : decode cJ1_delete 6 = .ok (.pop, 1) := dk_87 (dk_at dksJ1_delete_0 6 rfl rfl)
theorem dJ1_delete_7 : decode cJ1_delete 7 = .ok (.aload_n 0, 1) := dk_42 (dk_at dksJ1_delete_0 7 rfl rfl)
theorem dJ1_delete_8 : decode cJ1_delete 8 = .ok (.areturn, 1) := dk_176 (dk_at dksJ1_delete_0 8 rfl rfl)
abbrev cJ1_setCharAt : ByteArray := prog_44_method_82_code
def yJ1_setCharAt : MethodName := ⟨RJ1, "setCharAt", "(IC)V"⟩
def dkwJ1_setCharAt_0 : List UInt8 := [42, 27, 28, 183, 1, 52, 177]
abbrev dktJ1_setCharAt_0 : List UInt8 := dkwJ1_setCharAt_0 ++ []
theorem dksJ1_setCharAt_0 : cJ1_setCharAt.data.toList.drop 0 = dktJ1_setCharAt_0 := by decide +kernel
theorem dJ1_setCharAt_0 : decode cJ1_setCharAt 0 = .ok (.aload_n 0, 1) := dk_42 (dk_at dksJ1_setCharAt_0 0 rfl rfl)
theorem dJ1_setCharAt_1 : decode cJ1_setCharAt 1 = .ok (.iload_n 1, 1) := dk_27 (dk_at dksJ1_setCharAt_0 1 rfl rfl)
theorem dJ1_setCharAt_2 : decode cJ1_setCharAt 2 = .ok (.iload_n 2, 1) := dk_28 (dk_at dksJ1_setCharAt_0 2 rfl rfl)
theorem dJ1_setCharAt_3 : decode cJ1_setCharAt 3 = .ok (.invokespecial 308, 3) := dk_183 1 52 (dk_at dksJ1_setCharAt_0 3 rfl rfl)
theorem dJ1_setCharAt_6 : decode cJ1_setCharAt 6 = .ok (.return_, 1) := dk_177 (dk_at dksJ1_setCharAt_0 6 rfl rfl)
abbrev cJ1_setLength : ByteArray := prog_44_method_89_code
def yJ1_setLength : MethodName := ⟨RJ1, "setLength", "(I)V"⟩
def dkwJ1_setLength_0 : List UInt8 := [42, 27, 183, 1, 77, 177]
abbrev dktJ1_setLength_0 : List UInt8 := dkwJ1_setLength_0 ++ []
theorem dksJ1_setLength_0 : cJ1_setLength.data.toList.drop 0 = dktJ1_setLength_0 := by decide +kernel
theorem dJ1_setLength_0 : decode cJ1_setLength 0 = .ok (.aload_n 0, 1) := dk_42 (dk_at dksJ1_setLength_0 0 rfl rfl)
theorem dJ1_setLength_1 : decode cJ1_setLength 1 = .ok (.iload_n 1, 1) := dk_27 (dk_at dksJ1_setLength_0 1 rfl rfl)
theorem dJ1_setLength_2 : decode cJ1_setLength 2 = .ok (.invokespecial 333, 3) := dk_183 1 77 (dk_at dksJ1_setLength_0 2 rfl rfl)
theorem dJ1_setLength_5 : decode cJ1_setLength 5 = .ok (.return_, 1) := dk_177 (dk_at dksJ1_setLength_0 5 rfl rfl)
abbrev cJ1_append_4 : ByteArray := prog_44_method_9_code
def yJ1_append_4 : MethodName := ⟨RJ1, "append", "(Ljava/lang/CharSequence;)Ljava/lang/StringBuilder;"⟩
def dkwJ1_append_4_0 : List UInt8 := [42, 43, 183, 0, 35, 87, 42, 176]
abbrev dktJ1_append_4_0 : List UInt8 := dkwJ1_append_4_0 ++ []
theorem dksJ1_append_4_0 : cJ1_append_4.data.toList.drop 0 = dktJ1_append_4_0 := by decide +kernel
theorem dJ1_append_4_0 : decode cJ1_append_4 0 = .ok (.aload_n 0, 1) := dk_42 (dk_at dksJ1_append_4_0 0 rfl rfl)
theorem dJ1_append_4_1 : decode cJ1_append_4 1 = .ok (.aload_n 1, 1) := dk_43 (dk_at dksJ1_append_4_0 1 rfl rfl)
theorem dJ1_append_4_2 : decode cJ1_append_4 2 = .ok (.invokespecial 35, 3) := dk_183 0 35 (dk_at dksJ1_append_4_0 2 rfl rfl)
theorem dJ1_append_4_5 : decode cJ1_append_4 5 = .ok (.pop, 1) := dk_87 (dk_at dksJ1_append_4_0 5 rfl rfl)
theorem dJ1_append_4_6 : decode cJ1_append_4 6 = .ok (.aload_n 0, 1) := dk_42 (dk_at dksJ1_append_4_0 6 rfl rfl)
theorem dJ1_append_4_7 : decode cJ1_append_4 7 = .ok (.areturn, 1) := dk_176 (dk_at dksJ1_append_4_0 7 rfl rfl)
abbrev cJ1_append_5 : ByteArray := prog_44_method_80_code
def yJ1_append_5 : MethodName := ⟨RJ1, "append", "(Ljava/lang/String;)Ljava/lang/AbstractStringBuilder;"⟩
def dkwJ1_append_5_0 : List UInt8 := [42, 43, 182, 0, 23, 176]
abbrev dktJ1_append_5_0 : List UInt8 := dkwJ1_append_5_0 ++ []
theorem dksJ1_append_5_0 : cJ1_append_5.data.toList.drop 0 = dktJ1_append_5_0 := by decide +kernel
theorem dJ1_append_5_0 : decode cJ1_append_5 0 = .ok (.aload_n 0, 1) := dk_42 (dk_at dksJ1_append_5_0 0 rfl rfl)
theorem dJ1_append_5_1 : decode cJ1_append_5 1 = .ok (.aload_n 1, 1) := dk_43 (dk_at dksJ1_append_5_0 1 rfl rfl)
theorem dJ1_append_5_2 : decode cJ1_append_5 2 = .ok (.invokevirtual 23, 3) := dk_182 0 23 (dk_at dksJ1_append_5_0 2 rfl rfl)
theorem dJ1_append_5_5 : decode cJ1_append_5 5 = .ok (.areturn, 1) := dk_176 (dk_at dksJ1_append_5_0 5 rfl rfl)
abbrev cJ1_append_6 : ByteArray := prog_44_method_77_code
def yJ1_append_6 : MethodName := ⟨RJ1, "append", "(Ljava/lang/CharSequence;II)Ljava/lang/AbstractStringBuilder;"⟩
def dkwJ1_append_6_0 : List UInt8 := [42, 43, 28, 29, 182, 1, 40, 176]
abbrev dktJ1_append_6_0 : List UInt8 := dkwJ1_append_6_0 ++ []
theorem dksJ1_append_6_0 : cJ1_append_6.data.toList.drop 0 = dktJ1_append_6_0 := by decide +kernel
theorem dJ1_append_6_0 : decode cJ1_append_6 0 = .ok (.aload_n 0, 1) := dk_42 (dk_at dksJ1_append_6_0 0 rfl rfl)
theorem dJ1_append_6_1 : decode cJ1_append_6 1 = .ok (.aload_n 1, 1) := dk_43 (dk_at dksJ1_append_6_0 1 rfl rfl)
theorem dJ1_append_6_2 : decode cJ1_append_6 2 = .ok (.iload_n 2, 1) := dk_28 (dk_at dksJ1_append_6_0 2 rfl rfl)
theorem dJ1_append_6_3 : decode cJ1_append_6 3 = .ok (.iload_n 3, 1) := dk_29 (dk_at dksJ1_append_6_0 3 rfl rfl)
theorem dJ1_append_6_4 : decode cJ1_append_6 4 = .ok (.invokevirtual 296, 3) := dk_182 1 40 (dk_at dksJ1_append_6_0 4 rfl rfl)
theorem dJ1_append_6_7 : decode cJ1_append_6 7 = .ok (.areturn, 1) := dk_176 (dk_at dksJ1_append_6_0 7 rfl rfl)
abbrev cJ1_append_7 : ByteArray := prog_44_method_10_code
def yJ1_append_7 : MethodName := ⟨RJ1, "append", "(Ljava/lang/CharSequence;II)Ljava/lang/StringBuilder;"⟩
def dkwJ1_append_7_0 : List UInt8 := [42, 43, 28, 29, 183, 0, 38, 87, 42, 176]
abbrev dktJ1_append_7_0 : List UInt8 := dkwJ1_append_7_0 ++ []
theorem dksJ1_append_7_0 : cJ1_append_7.data.toList.drop 0 = dktJ1_append_7_0 := by decide +kernel
theorem dJ1_append_7_0 : decode cJ1_append_7 0 = .ok (.aload_n 0, 1) := dk_42 (dk_at dksJ1_append_7_0 0 rfl rfl)
theorem dJ1_append_7_1 : decode cJ1_append_7 1 = .ok (.aload_n 1, 1) := dk_43 (dk_at dksJ1_append_7_0 1 rfl rfl)
theorem dJ1_append_7_2 : decode cJ1_append_7 2 = .ok (.iload_n 2, 1) := dk_28 (dk_at dksJ1_append_7_0 2 rfl rfl)
theorem dJ1_append_7_3 : decode cJ1_append_7 3 = .ok (.iload_n 3, 1) := dk_29 (dk_at dksJ1_append_7_0 3 rfl rfl)
theorem dJ1_append_7_4 : decode cJ1_append_7 4 = .ok (.invokespecial 38, 3) := dk_183 0 38 (dk_at dksJ1_append_7_0 4 rfl rfl)
theorem dJ1_append_7_7 : decode cJ1_append_7 7 = .ok (.pop, 1) := dk_87 (dk_at dksJ1_append_7_0 7 rfl rfl)
theorem dJ1_append_7_8 : decode cJ1_append_7 8 = .ok (.aload_n 0, 1) := dk_42 (dk_at dksJ1_append_7_0 8 rfl rfl)
theorem dJ1_append_7_9 : decode cJ1_append_7 9 = .ok (.areturn, 1) := dk_176 (dk_at dksJ1_append_7_0 9 rfl rfl)
theorem q125 : (Jvm.Cond.initialized "java/lang/StringBuilder") ∈ lw_all := lw_g (lw_at lw_m1 5 rfl) rfl
theorem q200 : (Jvm.Cond.instantiable "java/lang/StringBuilder" (4 : Nat)) ∈ lw_all := lw_g (lw_at lw_m1 80 rfl) rfl
theorem q202 : (Jvm.Cond.instanceMethod ({ cls := "java/lang/StringBuilder", name := "<init>", desc := "()V" } : Jvm.MethodName)) ∈ lw_all := lw_g (lw_at lw_m1 82 rfl) rfl
theorem q203 : (Jvm.Cond.code ({ cls := "java/lang/StringBuilder", name := "<init>", desc := "()V" } : Jvm.MethodName) prog_44_method_1_code (1 : Nat) (Option.none : Option Jvm.ClassFile.FieldType)) ∈ lw_all := lw_g (lw_at lw_m1 83 rfl) rfl
theorem q204 : (Jvm.Cond.methodLink "java/lang/StringBuilder" (1 : Nat) ({ cls := "java/lang/AbstractStringBuilder", name := "<init>", desc := "(I)V" } : Jvm.MethodName)) ∈ lw_all := lw_g (lw_at lw_m1 84 rfl) rfl
theorem q307 : (Jvm.Cond.lays "java/lang/StringBuilder" "java/lang/AbstractStringBuilder" "value" "[B") ∈ lw_all := lw_g (lw_at lw_m1 187 rfl) rfl
theorem q309 : (Jvm.Cond.lays "java/lang/StringBuilder" "java/lang/AbstractStringBuilder" "coder" "B") ∈ lw_all := lw_g (lw_at lw_m1 189 rfl) rfl
theorem q311 : (Jvm.Cond.lays "java/lang/StringBuilder" "java/lang/AbstractStringBuilder" "maybeLatin1" "Z") ∈ lw_all := lw_g (lw_at lw_m1 191 rfl) rfl
theorem q313 : (Jvm.Cond.lays "java/lang/StringBuilder" "java/lang/AbstractStringBuilder" "count" "I") ∈ lw_all := lw_g (lw_at lw_m1 193 rfl) rfl
theorem q315 : (Jvm.Cond.superclass "java/lang/StringBuilder" "java/lang/AbstractStringBuilder") ∈ lw_all := lw_g (lw_at lw_m1 195 rfl) rfl
theorem q1015 : (Jvm.Cond.instanceMethod ({ cls := "java/lang/StringBuilder", name := "append", desc := "(Ljava/lang/String;)Ljava/lang/StringBuilder;" } : Jvm.MethodName)) ∈ lw_all := lw_g (lw_at lw_m4 175 rfl) rfl
theorem q1016 : (Jvm.Cond.selects "java/lang/StringBuilder" ({ cls := "java/lang/StringBuilder", name := "append", desc := "(Ljava/lang/String;)Ljava/lang/StringBuilder;" } : Jvm.MethodName) ({ cls := "java/lang/StringBuilder", name := "append", desc := "(Ljava/lang/String;)Ljava/lang/StringBuilder;" } : Jvm.MethodName)) ∈ lw_all := lw_g (lw_at lw_m4 176 rfl) rfl
theorem q1017 : (Jvm.Cond.code ({ cls := "java/lang/StringBuilder", name := "append", desc := "(Ljava/lang/String;)Ljava/lang/StringBuilder;" } : Jvm.MethodName) prog_44_method_7_code (2 : Nat) (Option.some (Jvm.ClassFile.FieldType.object "java/lang/StringBuilder"))) ∈ lw_all := lw_g (lw_at lw_m4 177 rfl) rfl
theorem q1018 : (Jvm.Cond.methodLink "java/lang/StringBuilder" (29 : Nat) ({ cls := "java/lang/AbstractStringBuilder", name := "append", desc := "(Ljava/lang/String;)Ljava/lang/AbstractStringBuilder;" } : Jvm.MethodName)) ∈ lw_all := lw_g (lw_at lw_m4 178 rfl) rfl
theorem q1061 : (Jvm.Cond.selects "java/lang/StringBuilder" ({ cls := "java/lang/AbstractStringBuilder", name := "isLatin1", desc := "()Z" } : Jvm.MethodName) ({ cls := "java/lang/AbstractStringBuilder", name := "isLatin1", desc := "()Z" } : Jvm.MethodName)) ∈ lw_all := lw_g (lw_at lw_m4 221 rfl) rfl
theorem q1114 : (Jvm.Cond.instanceMethod ({ cls := "java/lang/StringBuilder", name := "append", desc := "(C)Ljava/lang/StringBuilder;" } : Jvm.MethodName)) ∈ lw_all := lw_g (lw_at lw_m5 34 rfl) rfl
theorem q1115 : (Jvm.Cond.selects "java/lang/StringBuilder" ({ cls := "java/lang/StringBuilder", name := "append", desc := "(C)Ljava/lang/StringBuilder;" } : Jvm.MethodName) ({ cls := "java/lang/StringBuilder", name := "append", desc := "(C)Ljava/lang/StringBuilder;" } : Jvm.MethodName)) ∈ lw_all := lw_g (lw_at lw_m5 35 rfl) rfl
theorem q1116 : (Jvm.Cond.code ({ cls := "java/lang/StringBuilder", name := "append", desc := "(C)Ljava/lang/StringBuilder;" } : Jvm.MethodName) prog_44_method_14_code (2 : Nat) (Option.some (Jvm.ClassFile.FieldType.object "java/lang/StringBuilder"))) ∈ lw_all := lw_g (lw_at lw_m5 36 rfl) rfl
theorem q1117 : (Jvm.Cond.methodLink "java/lang/StringBuilder" (50 : Nat) ({ cls := "java/lang/AbstractStringBuilder", name := "append", desc := "(C)Ljava/lang/AbstractStringBuilder;" } : Jvm.MethodName)) ∈ lw_all := lw_g (lw_at lw_m5 37 rfl) rfl
theorem q1127 : (Jvm.Cond.instanceMethod ({ cls := "java/lang/StringBuilder", name := "toString", desc := "()Ljava/lang/String;" } : Jvm.MethodName)) ∈ lw_all := lw_g (lw_at lw_m5 47 rfl) rfl
theorem q1128 : (Jvm.Cond.selects "java/lang/StringBuilder" ({ cls := "java/lang/StringBuilder", name := "toString", desc := "()Ljava/lang/String;" } : Jvm.MethodName) ({ cls := "java/lang/StringBuilder", name := "toString", desc := "()Ljava/lang/String;" } : Jvm.MethodName)) ∈ lw_all := lw_g (lw_at lw_m5 48 rfl) rfl
theorem q1129 : (Jvm.Cond.code ({ cls := "java/lang/StringBuilder", name := "toString", desc := "()Ljava/lang/String;" } : Jvm.MethodName) prog_44_method_42_code (1 : Nat) (Option.some (Jvm.ClassFile.FieldType.object "java/lang/String"))) ∈ lw_all := lw_g (lw_at lw_m5 49 rfl) rfl
theorem q1130 : (Jvm.Cond.classLink "java/lang/StringBuilder" (18 : Nat) "java/lang/String") ∈ lw_all := lw_g (lw_at lw_m5 50 rfl) rfl
theorem q1131 : (Jvm.Cond.methodLink "java/lang/StringBuilder" (137 : Nat) ({ cls := "java/lang/String", name := "<init>", desc := "(Ljava/lang/StringBuilder;)V" } : Jvm.MethodName)) ∈ lw_all := lw_g (lw_at lw_m5 51 rfl) rfl
theorem q1141 : (Jvm.Cond.selects "java/lang/StringBuilder" ({ cls := "java/lang/AbstractStringBuilder", name := "getValue", desc := "()[B" } : Jvm.MethodName) ({ cls := "java/lang/AbstractStringBuilder", name := "getValue", desc := "()[B" } : Jvm.MethodName)) ∈ lw_all := lw_g (lw_at lw_m5 61 rfl) rfl
theorem q1146 : (Jvm.Cond.selects "java/lang/StringBuilder" ({ cls := "java/lang/AbstractStringBuilder", name := "length", desc := "()I" } : Jvm.MethodName) ({ cls := "java/lang/StringBuilder", name := "length", desc := "()I" } : Jvm.MethodName)) ∈ lw_all := lw_g (lw_at lw_m5 66 rfl) rfl
theorem q1147 : (Jvm.Cond.instanceMethod ({ cls := "java/lang/StringBuilder", name := "length", desc := "()I" } : Jvm.MethodName)) ∈ lw_all := lw_g (lw_at lw_m5 67 rfl) rfl
theorem q1148 : (Jvm.Cond.code ({ cls := "java/lang/StringBuilder", name := "length", desc := "()I" } : Jvm.MethodName) prog_44_method_93_code (1 : Nat) (Option.some Jvm.ClassFile.FieldType.int)) ∈ lw_all := lw_g (lw_at lw_m5 68 rfl) rfl
theorem q1149 : (Jvm.Cond.methodLink "java/lang/StringBuilder" (343 : Nat) ({ cls := "java/lang/AbstractStringBuilder", name := "length", desc := "()I" } : Jvm.MethodName)) ∈ lw_all := lw_g (lw_at lw_m5 69 rfl) rfl
theorem q1309 : (Jvm.Cond.castable "java/lang/StringBuilder" "java/lang/CharSequence") ∈ lw_tbl := lw_at lw_m5 229 rfl
theorem q1310 : (Jvm.Cond.selects "java/lang/StringBuilder" ({ cls := "java/lang/CharSequence", name := "toString", desc := "()Ljava/lang/String;" } : Jvm.MethodName) ({ cls := "java/lang/StringBuilder", name := "toString", desc := "()Ljava/lang/String;" } : Jvm.MethodName)) ∈ lw_all := lw_g (lw_at lw_m5 230 rfl) rfl
theorem q1311 : (Jvm.Cond.unhidden "java/lang/StringBuilder" "toString" "()Ljava/lang/String;") ∈ lw_tbl := lw_at lw_m5 231 rfl
theorem q1312 : (Jvm.Cond.publicMethod ({ cls := "java/lang/StringBuilder", name := "toString", desc := "()Ljava/lang/String;" } : Jvm.MethodName)) ∈ lw_tbl := lw_at lw_m5 232 rfl
theorem q1467 : (Jvm.Cond.selects "java/lang/StringBuilder" ({ cls := "java/lang/Object", name := "getClass", desc := "()Ljava/lang/Class;" } : Jvm.MethodName) ({ cls := "java/lang/Object", name := "getClass", desc := "()Ljava/lang/Class;" } : Jvm.MethodName)) ∈ lw_all := lw_g (lw_at lw_m6 147 rfl) rfl
theorem q1836 : (Jvm.Cond.instanceMethod ({ cls := "java/lang/StringBuilder", name := "append", desc := "(I)Ljava/lang/StringBuilder;" } : Jvm.MethodName)) ∈ lw_all := lw_g (lw_at lw_m8 36 rfl) rfl
theorem q1837 : (Jvm.Cond.selects "java/lang/StringBuilder" ({ cls := "java/lang/StringBuilder", name := "append", desc := "(I)Ljava/lang/StringBuilder;" } : Jvm.MethodName) ({ cls := "java/lang/StringBuilder", name := "append", desc := "(I)Ljava/lang/StringBuilder;" } : Jvm.MethodName)) ∈ lw_all := lw_g (lw_at lw_m8 37 rfl) rfl
theorem q1838 : (Jvm.Cond.code ({ cls := "java/lang/StringBuilder", name := "append", desc := "(I)Ljava/lang/StringBuilder;" } : Jvm.MethodName) prog_44_method_15_code (2 : Nat) (Option.some (Jvm.ClassFile.FieldType.object "java/lang/StringBuilder"))) ∈ lw_all := lw_g (lw_at lw_m8 38 rfl) rfl
theorem q1839 : (Jvm.Cond.methodLink "java/lang/StringBuilder" (53 : Nat) ({ cls := "java/lang/AbstractStringBuilder", name := "append", desc := "(I)Ljava/lang/AbstractStringBuilder;" } : Jvm.MethodName)) ∈ lw_all := lw_g (lw_at lw_m8 39 rfl) rfl
theorem q2022 : (Jvm.Cond.selects "java/lang/StringBuilder" ({ cls := "java/lang/CharSequence", name := "length", desc := "()I" } : Jvm.MethodName) ({ cls := "java/lang/StringBuilder", name := "length", desc := "()I" } : Jvm.MethodName)) ∈ lw_all := lw_g (lw_at lw_m8 222 rfl) rfl
theorem q2023 : (Jvm.Cond.unhidden "java/lang/StringBuilder" "length" "()I") ∈ lw_tbl := lw_at lw_m8 223 rfl
theorem q2024 : (Jvm.Cond.publicMethod ({ cls := "java/lang/StringBuilder", name := "length", desc := "()I" } : Jvm.MethodName)) ∈ lw_tbl := lw_at lw_m8 224 rfl
theorem q2032 : (Jvm.Cond.selects "java/lang/StringBuilder" ({ cls := "java/lang/CharSequence", name := "charAt", desc := "(I)C" } : Jvm.MethodName) ({ cls := "java/lang/StringBuilder", name := "charAt", desc := "(I)C" } : Jvm.MethodName)) ∈ lw_all := lw_g (lw_at lw_m8 232 rfl) rfl
theorem q2033 : (Jvm.Cond.unhidden "java/lang/StringBuilder" "charAt" "(I)C") ∈ lw_tbl := lw_at lw_m8 233 rfl
theorem q2034 : (Jvm.Cond.instanceMethod ({ cls := "java/lang/StringBuilder", name := "charAt", desc := "(I)C" } : Jvm.MethodName)) ∈ lw_all := lw_g (lw_at lw_m8 234 rfl) rfl
theorem q2035 : (Jvm.Cond.publicMethod ({ cls := "java/lang/StringBuilder", name := "charAt", desc := "(I)C" } : Jvm.MethodName)) ∈ lw_tbl := lw_at lw_m8 235 rfl
theorem q2036 : (Jvm.Cond.code ({ cls := "java/lang/StringBuilder", name := "charAt", desc := "(I)C" } : Jvm.MethodName) prog_44_method_88_code (2 : Nat) (Option.some Jvm.ClassFile.FieldType.char)) ∈ lw_all := lw_g (lw_at lw_m8 236 rfl) rfl
theorem q2037 : (Jvm.Cond.methodLink "java/lang/StringBuilder" (329 : Nat) ({ cls := "java/lang/AbstractStringBuilder", name := "charAt", desc := "(I)C" } : Jvm.MethodName)) ∈ lw_all := lw_g (lw_at lw_m8 237 rfl) rfl
theorem q2187 : (Jvm.Cond.instanceMethod ({ cls := "java/lang/StringBuilder", name := "subSequence", desc := "(II)Ljava/lang/CharSequence;" } : Jvm.MethodName)) ∈ lw_all := lw_g (lw_at lw_m9 147 rfl) rfl
theorem q2188 : (Jvm.Cond.selects "java/lang/StringBuilder" ({ cls := "java/lang/StringBuilder", name := "subSequence", desc := "(II)Ljava/lang/CharSequence;" } : Jvm.MethodName) ({ cls := "java/lang/StringBuilder", name := "subSequence", desc := "(II)Ljava/lang/CharSequence;" } : Jvm.MethodName)) ∈ lw_all := lw_g (lw_at lw_m9 148 rfl) rfl
theorem q2189 : (Jvm.Cond.code ({ cls := "java/lang/StringBuilder", name := "subSequence", desc := "(II)Ljava/lang/CharSequence;" } : Jvm.MethodName) prog_44_method_63_code (3 : Nat) (Option.some (Jvm.ClassFile.FieldType.object "java/lang/CharSequence"))) ∈ lw_all := lw_g (lw_at lw_m9 149 rfl) rfl
theorem q2190 : (Jvm.Cond.methodLink "java/lang/StringBuilder" (256 : Nat) ({ cls := "java/lang/AbstractStringBuilder", name := "subSequence", desc := "(II)Ljava/lang/CharSequence;" } : Jvm.MethodName)) ∈ lw_all := lw_g (lw_at lw_m9 150 rfl) rfl
theorem q2196 : (Jvm.Cond.selects "java/lang/StringBuilder" ({ cls := "java/lang/AbstractStringBuilder", name := "substring", desc := "(II)Ljava/lang/String;" } : Jvm.MethodName) ({ cls := "java/lang/StringBuilder", name := "substring", desc := "(II)Ljava/lang/String;" } : Jvm.MethodName)) ∈ lw_all := lw_g (lw_at lw_m9 156 rfl) rfl
theorem q2197 : (Jvm.Cond.instanceMethod ({ cls := "java/lang/StringBuilder", name := "substring", desc := "(II)Ljava/lang/String;" } : Jvm.MethodName)) ∈ lw_all := lw_g (lw_at lw_m9 157 rfl) rfl
theorem q2198 : (Jvm.Cond.code ({ cls := "java/lang/StringBuilder", name := "substring", desc := "(II)Ljava/lang/String;" } : Jvm.MethodName) prog_44_method_62_code (3 : Nat) (Option.some (Jvm.ClassFile.FieldType.object "java/lang/String"))) ∈ lw_all := lw_g (lw_at lw_m9 158 rfl) rfl
theorem q2199 : (Jvm.Cond.methodLink "java/lang/StringBuilder" (252 : Nat) ({ cls := "java/lang/AbstractStringBuilder", name := "substring", desc := "(II)Ljava/lang/String;" } : Jvm.MethodName)) ∈ lw_all := lw_g (lw_at lw_m9 159 rfl) rfl
theorem q2353 : (Jvm.Cond.instanceMethod ({ cls := "java/lang/StringBuilder", name := "insert", desc := "(ILjava/lang/String;)Ljava/lang/StringBuilder;" } : Jvm.MethodName)) ∈ lw_all := lw_g (lw_at lw_m10 73 rfl) rfl
theorem q2354 : (Jvm.Cond.selects "java/lang/StringBuilder" ({ cls := "java/lang/StringBuilder", name := "insert", desc := "(ILjava/lang/String;)Ljava/lang/StringBuilder;" } : Jvm.MethodName) ({ cls := "java/lang/StringBuilder", name := "insert", desc := "(ILjava/lang/String;)Ljava/lang/StringBuilder;" } : Jvm.MethodName)) ∈ lw_all := lw_g (lw_at lw_m10 74 rfl) rfl
theorem q2355 : (Jvm.Cond.code ({ cls := "java/lang/StringBuilder", name := "insert", desc := "(ILjava/lang/String;)Ljava/lang/StringBuilder;" } : Jvm.MethodName) prog_44_method_25_code (3 : Nat) (Option.some (Jvm.ClassFile.FieldType.object "java/lang/StringBuilder"))) ∈ lw_all := lw_g (lw_at lw_m10 75 rfl) rfl
theorem q2356 : (Jvm.Cond.methodLink "java/lang/StringBuilder" (86 : Nat) ({ cls := "java/lang/AbstractStringBuilder", name := "insert", desc := "(ILjava/lang/String;)Ljava/lang/AbstractStringBuilder;" } : Jvm.MethodName)) ∈ lw_all := lw_g (lw_at lw_m10 76 rfl) rfl
theorem q2369 : (Jvm.Cond.instanceMethod ({ cls := "java/lang/StringBuilder", name := "delete", desc := "(II)Ljava/lang/StringBuilder;" } : Jvm.MethodName)) ∈ lw_all := lw_g (lw_at lw_m10 89 rfl) rfl
theorem q2370 : (Jvm.Cond.selects "java/lang/StringBuilder" ({ cls := "java/lang/StringBuilder", name := "delete", desc := "(II)Ljava/lang/StringBuilder;" } : Jvm.MethodName) ({ cls := "java/lang/StringBuilder", name := "delete", desc := "(II)Ljava/lang/StringBuilder;" } : Jvm.MethodName)) ∈ lw_all := lw_g (lw_at lw_m10 90 rfl) rfl
theorem q2371 : (Jvm.Cond.code ({ cls := "java/lang/StringBuilder", name := "delete", desc := "(II)Ljava/lang/StringBuilder;" } : Jvm.MethodName) prog_44_method_20_code (3 : Nat) (Option.some (Jvm.ClassFile.FieldType.object "java/lang/StringBuilder"))) ∈ lw_all := lw_g (lw_at lw_m10 91 rfl) rfl
theorem q2372 : (Jvm.Cond.methodLink "java/lang/StringBuilder" (68 : Nat) ({ cls := "java/lang/AbstractStringBuilder", name := "delete", desc := "(II)Ljava/lang/AbstractStringBuilder;" } : Jvm.MethodName)) ∈ lw_all := lw_g (lw_at lw_m10 92 rfl) rfl
theorem q2376 : (Jvm.Cond.instanceMethod ({ cls := "java/lang/StringBuilder", name := "setCharAt", desc := "(IC)V" } : Jvm.MethodName)) ∈ lw_all := lw_g (lw_at lw_m10 96 rfl) rfl
theorem q2377 : (Jvm.Cond.selects "java/lang/StringBuilder" ({ cls := "java/lang/StringBuilder", name := "setCharAt", desc := "(IC)V" } : Jvm.MethodName) ({ cls := "java/lang/StringBuilder", name := "setCharAt", desc := "(IC)V" } : Jvm.MethodName)) ∈ lw_all := lw_g (lw_at lw_m10 97 rfl) rfl
theorem q2378 : (Jvm.Cond.code ({ cls := "java/lang/StringBuilder", name := "setCharAt", desc := "(IC)V" } : Jvm.MethodName) prog_44_method_82_code (3 : Nat) (Option.none : Option Jvm.ClassFile.FieldType)) ∈ lw_all := lw_g (lw_at lw_m10 98 rfl) rfl
theorem q2379 : (Jvm.Cond.methodLink "java/lang/StringBuilder" (308 : Nat) ({ cls := "java/lang/AbstractStringBuilder", name := "setCharAt", desc := "(IC)V" } : Jvm.MethodName)) ∈ lw_all := lw_g (lw_at lw_m10 99 rfl) rfl
theorem q2810 : (Jvm.Cond.instanceMethod ({ cls := "java/lang/StringBuilder", name := "setLength", desc := "(I)V" } : Jvm.MethodName)) ∈ lw_all := lw_g (lw_at lw_m12 50 rfl) rfl
theorem q2811 : (Jvm.Cond.selects "java/lang/StringBuilder" ({ cls := "java/lang/StringBuilder", name := "setLength", desc := "(I)V" } : Jvm.MethodName) ({ cls := "java/lang/StringBuilder", name := "setLength", desc := "(I)V" } : Jvm.MethodName)) ∈ lw_all := lw_g (lw_at lw_m12 51 rfl) rfl
theorem q2812 : (Jvm.Cond.code ({ cls := "java/lang/StringBuilder", name := "setLength", desc := "(I)V" } : Jvm.MethodName) prog_44_method_89_code (2 : Nat) (Option.none : Option Jvm.ClassFile.FieldType)) ∈ lw_all := lw_g (lw_at lw_m12 52 rfl) rfl
theorem q2813 : (Jvm.Cond.methodLink "java/lang/StringBuilder" (333 : Nat) ({ cls := "java/lang/AbstractStringBuilder", name := "setLength", desc := "(I)V" } : Jvm.MethodName)) ∈ lw_all := lw_g (lw_at lw_m12 53 rfl) rfl
theorem q2859 : (Jvm.Cond.instanceMethod ({ cls := "java/lang/StringBuilder", name := "append", desc := "(Ljava/lang/CharSequence;)Ljava/lang/StringBuilder;" } : Jvm.MethodName)) ∈ lw_all := lw_g (lw_at lw_m12 99 rfl) rfl
theorem q2860 : (Jvm.Cond.selects "java/lang/StringBuilder" ({ cls := "java/lang/StringBuilder", name := "append", desc := "(Ljava/lang/CharSequence;)Ljava/lang/StringBuilder;" } : Jvm.MethodName) ({ cls := "java/lang/StringBuilder", name := "append", desc := "(Ljava/lang/CharSequence;)Ljava/lang/StringBuilder;" } : Jvm.MethodName)) ∈ lw_all := lw_g (lw_at lw_m12 100 rfl) rfl
theorem q2861 : (Jvm.Cond.code ({ cls := "java/lang/StringBuilder", name := "append", desc := "(Ljava/lang/CharSequence;)Ljava/lang/StringBuilder;" } : Jvm.MethodName) prog_44_method_9_code (2 : Nat) (Option.some (Jvm.ClassFile.FieldType.object "java/lang/StringBuilder"))) ∈ lw_all := lw_g (lw_at lw_m12 101 rfl) rfl
theorem q2862 : (Jvm.Cond.methodLink "java/lang/StringBuilder" (35 : Nat) ({ cls := "java/lang/AbstractStringBuilder", name := "append", desc := "(Ljava/lang/CharSequence;)Ljava/lang/AbstractStringBuilder;" } : Jvm.MethodName)) ∈ lw_all := lw_g (lw_at lw_m12 102 rfl) rfl
theorem q2867 : (Jvm.Cond.instanceMethod ({ cls := "java/lang/StringBuilder", name := "append", desc := "(Ljava/lang/String;)Ljava/lang/AbstractStringBuilder;" } : Jvm.MethodName)) ∈ lw_all := lw_g (lw_at lw_m12 107 rfl) rfl
theorem q2868 : (Jvm.Cond.code ({ cls := "java/lang/StringBuilder", name := "append", desc := "(Ljava/lang/String;)Ljava/lang/AbstractStringBuilder;" } : Jvm.MethodName) prog_44_method_80_code (2 : Nat) (Option.some (Jvm.ClassFile.FieldType.object "java/lang/AbstractStringBuilder"))) ∈ lw_all := lw_g (lw_at lw_m12 108 rfl) rfl
theorem q2869 : (Jvm.Cond.methodLink "java/lang/StringBuilder" (23 : Nat) ({ cls := "java/lang/StringBuilder", name := "append", desc := "(Ljava/lang/String;)Ljava/lang/StringBuilder;" } : Jvm.MethodName)) ∈ lw_all := lw_g (lw_at lw_m12 109 rfl) rfl
theorem q2874 : (Jvm.Cond.selects "java/lang/StringBuilder" ({ cls := "java/lang/AbstractStringBuilder", name := "append", desc := "(Ljava/lang/AbstractStringBuilder;)Ljava/lang/AbstractStringBuilder;" } : Jvm.MethodName) ({ cls := "java/lang/AbstractStringBuilder", name := "append", desc := "(Ljava/lang/AbstractStringBuilder;)Ljava/lang/AbstractStringBuilder;" } : Jvm.MethodName)) ∈ lw_all := lw_g (lw_at lw_m12 114 rfl) rfl
theorem q2884 : (Jvm.Cond.selects "java/lang/StringBuilder" ({ cls := "java/lang/AbstractStringBuilder", name := "getCoder", desc := "()B" } : Jvm.MethodName) ({ cls := "java/lang/AbstractStringBuilder", name := "getCoder", desc := "()B" } : Jvm.MethodName)) ∈ lw_all := lw_g (lw_at lw_m12 124 rfl) rfl
theorem q2889 : (Jvm.Cond.selects "java/lang/StringBuilder" ({ cls := "java/lang/AbstractStringBuilder", name := "getBytes", desc := "([BIB)V" } : Jvm.MethodName) ({ cls := "java/lang/AbstractStringBuilder", name := "getBytes", desc := "([BIB)V" } : Jvm.MethodName)) ∈ lw_all := lw_g (lw_at lw_m12 129 rfl) rfl
theorem q2896 : (Jvm.Cond.selects "java/lang/StringBuilder" ({ cls := "java/lang/AbstractStringBuilder", name := "append", desc := "(Ljava/lang/CharSequence;II)Ljava/lang/AbstractStringBuilder;" } : Jvm.MethodName) ({ cls := "java/lang/StringBuilder", name := "append", desc := "(Ljava/lang/CharSequence;II)Ljava/lang/AbstractStringBuilder;" } : Jvm.MethodName)) ∈ lw_all := lw_g (lw_at lw_m12 136 rfl) rfl
theorem q2897 : (Jvm.Cond.instanceMethod ({ cls := "java/lang/StringBuilder", name := "append", desc := "(Ljava/lang/CharSequence;II)Ljava/lang/AbstractStringBuilder;" } : Jvm.MethodName)) ∈ lw_all := lw_g (lw_at lw_m12 137 rfl) rfl
theorem q2898 : (Jvm.Cond.code ({ cls := "java/lang/StringBuilder", name := "append", desc := "(Ljava/lang/CharSequence;II)Ljava/lang/AbstractStringBuilder;" } : Jvm.MethodName) prog_44_method_77_code (4 : Nat) (Option.some (Jvm.ClassFile.FieldType.object "java/lang/AbstractStringBuilder"))) ∈ lw_all := lw_g (lw_at lw_m12 138 rfl) rfl
theorem q2899 : (Jvm.Cond.methodLink "java/lang/StringBuilder" (296 : Nat) ({ cls := "java/lang/StringBuilder", name := "append", desc := "(Ljava/lang/CharSequence;II)Ljava/lang/StringBuilder;" } : Jvm.MethodName)) ∈ lw_all := lw_g (lw_at lw_m12 139 rfl) rfl
theorem q2900 : (Jvm.Cond.instanceMethod ({ cls := "java/lang/StringBuilder", name := "append", desc := "(Ljava/lang/CharSequence;II)Ljava/lang/StringBuilder;" } : Jvm.MethodName)) ∈ lw_all := lw_g (lw_at lw_m12 140 rfl) rfl
theorem q2901 : (Jvm.Cond.selects "java/lang/StringBuilder" ({ cls := "java/lang/StringBuilder", name := "append", desc := "(Ljava/lang/CharSequence;II)Ljava/lang/StringBuilder;" } : Jvm.MethodName) ({ cls := "java/lang/StringBuilder", name := "append", desc := "(Ljava/lang/CharSequence;II)Ljava/lang/StringBuilder;" } : Jvm.MethodName)) ∈ lw_all := lw_g (lw_at lw_m12 141 rfl) rfl
theorem q2902 : (Jvm.Cond.code ({ cls := "java/lang/StringBuilder", name := "append", desc := "(Ljava/lang/CharSequence;II)Ljava/lang/StringBuilder;" } : Jvm.MethodName) prog_44_method_10_code (4 : Nat) (Option.some (Jvm.ClassFile.FieldType.object "java/lang/StringBuilder"))) ∈ lw_all := lw_g (lw_at lw_m12 142 rfl) rfl
theorem q2903 : (Jvm.Cond.methodLink "java/lang/StringBuilder" (38 : Nat) ({ cls := "java/lang/AbstractStringBuilder", name := "append", desc := "(Ljava/lang/CharSequence;II)Ljava/lang/AbstractStringBuilder;" } : Jvm.MethodName)) ∈ lw_all := lw_g (lw_at lw_m12 143 rfl) rfl
theorem q3592 : (Jvm.Cond.selects "java/lang/StringBuilder" ({ cls := "java/lang/StringBuilder", name := "length", desc := "()I" } : Jvm.MethodName) ({ cls := "java/lang/StringBuilder", name := "length", desc := "()I" } : Jvm.MethodName)) ∈ lw_all := lw_g (lw_at lw_m15 112 rfl) rfl
theorem q3602 : (Jvm.Cond.selects "java/lang/StringBuilder" ({ cls := "java/lang/StringBuilder", name := "charAt", desc := "(I)C" } : Jvm.MethodName) ({ cls := "java/lang/StringBuilder", name := "charAt", desc := "(I)C" } : Jvm.MethodName)) ∈ lw_all := lw_g (lw_at lw_m15 122 rfl) rfl
theorem q3613 : (Jvm.Cond.selects "java/lang/StringBuilder" ({ cls := "java/lang/AbstractStringBuilder", name := "append", desc := "(Ljava/lang/String;)Ljava/lang/AbstractStringBuilder;" } : Jvm.MethodName) ({ cls := "java/lang/StringBuilder", name := "append", desc := "(Ljava/lang/String;)Ljava/lang/AbstractStringBuilder;" } : Jvm.MethodName)) ∈ lw_all := lw_g (lw_at lw_m15 133 rfl) rfl
theorem q3624 : (Jvm.Cond.castable "java/lang/StringBuilder" "java/lang/AbstractStringBuilder") ∈ lw_tbl := lw_at lw_m15 144 rfl
theorem q3631 : (Jvm.Cond.castable "java/lang/StringBuilder" "java/lang/Object") ∈ lw_tbl := lw_at lw_m15 151 rfl
theorem in_J1 : ∀ w ∈ wsJ10, w ∈ lw_all := lw_in wsJ10 [307, 309, 311, 313] (by decide +kernel) (by decide +kernel)

/-! java/lang/String -/
set_option maxRecDepth 100000
def RJ2 : String := "java/lang/String"
def TJ2 : u_T := fun k => match k with
  | 0 => ("java/lang/String", "value", "[B", true)
  | 1 => ("java/lang/String", "coder", "B", true)
  | 2 => ("java/lang/String", "hash", "I", false)
  | _ => ("java/lang/String", "hashIsZero", "Z", false)
def tyJ2 : Nat → FieldType := fun k => match k with
  | 0 => .array .byte
  | 1 => .byte
  | 2 => .int
  | _ => .boolean
abbrev wsJ20 : List Cond := u_ws RJ2 TJ2 4
theorem nmJ2 : ∀ a, a < 4 → ∀ b, b < 4 → a ≠ b → (TJ2 a).2.1 ≠ (TJ2 b).2.1 := by decide +kernel
theorem tyJ2_ok : ∀ k, k < 4 → parseFieldDescriptor (TJ2 k).2.2.1 = some (tyJ2 k) := by decide +kernel
abbrev cJ2_length : ByteArray := prog_43_method_54_code
def yJ2_length : MethodName := ⟨RJ2, "length", "()I"⟩
def dkwJ2_length_0 : List UInt8 := [42, 180, 0, 9, 190, 42, 182, 1, 79, 122, 172]
abbrev dktJ2_length_0 : List UInt8 := dkwJ2_length_0 ++ []
theorem dksJ2_length_0 : cJ2_length.data.toList.drop 0 = dktJ2_length_0 := by decide +kernel
theorem dJ2_length_0 : decode cJ2_length 0 = .ok (.aload_n 0, 1) := dk_42 (dk_at dksJ2_length_0 0 rfl rfl)
theorem dJ2_length_1 : decode cJ2_length 1 = .ok (.getfield 9, 3) := dk_180 0 9 (dk_at dksJ2_length_0 1 rfl rfl)
theorem dJ2_length_4 : decode cJ2_length 4 = .ok (.arraylength, 1) := dk_190 (dk_at dksJ2_length_0 4 rfl rfl)
theorem dJ2_length_5 : decode cJ2_length 5 = .ok (.aload_n 0, 1) := dk_42 (dk_at dksJ2_length_0 5 rfl rfl)
theorem dJ2_length_6 : decode cJ2_length 6 = .ok (.invokevirtual 335, 3) := dk_182 1 79 (dk_at dksJ2_length_0 6 rfl rfl)
theorem dJ2_length_9 : decode cJ2_length 9 = .ok (.ishr, 1) := dk_122 (dk_at dksJ2_length_0 9 rfl rfl)
theorem dJ2_length_10 : decode cJ2_length 10 = .ok (.ireturn, 1) := dk_172 (dk_at dksJ2_length_0 10 rfl rfl)
abbrev cJ2_coder : ByteArray := prog_43_method_152_code
def yJ2_coder : MethodName := ⟨RJ2, "coder", "()B"⟩
def dkwJ2_coder_0 : List UInt8 := [178, 0, 38, 153, 0, 10, 42, 180, 0, 15, 167, 0, 4, 4, 172]
abbrev dktJ2_coder_0 : List UInt8 := dkwJ2_coder_0 ++ []
theorem dksJ2_coder_0 : cJ2_coder.data.toList.drop 0 = dktJ2_coder_0 := by decide +kernel
theorem dJ2_coder_0 : decode cJ2_coder 0 = .ok (.getstatic 38, 3) := dk_178 0 38 (dk_at dksJ2_coder_0 0 rfl rfl)
theorem dJ2_coder_3 : decode cJ2_coder 3 = .ok (.ifCond .eq 10, 3) := dk_153 0 10 (dk_at dksJ2_coder_0 3 rfl rfl)
theorem dJ2_coder_6 : decode cJ2_coder 6 = .ok (.aload_n 0, 1) := dk_42 (dk_at dksJ2_coder_0 6 rfl rfl)
theorem dJ2_coder_7 : decode cJ2_coder 7 = .ok (.getfield 15, 3) := dk_180 0 15 (dk_at dksJ2_coder_0 7 rfl rfl)
theorem dJ2_coder_10 : decode cJ2_coder 10 = .ok (.goto 4, 3) := dk_167 0 4 (dk_at dksJ2_coder_0 10 rfl rfl)
theorem dJ2_coder_13 : decode cJ2_coder 13 = .ok (.iconst 1, 1) := dk_4 (dk_at dksJ2_coder_0 13 rfl rfl)
theorem dJ2_coder_14 : decode cJ2_coder 14 = .ok (.ireturn, 1) := dk_172 (dk_at dksJ2_coder_0 14 rfl rfl)
abbrev cJ2_charAt : ByteArray := prog_43_method_56_code
def yJ2_charAt : MethodName := ⟨RJ2, "charAt", "(I)C"⟩
def dkwJ2_charAt_1 : List UInt8 := [172]
abbrev dktJ2_charAt_1 : List UInt8 := dkwJ2_charAt_1 ++ []
def dkwJ2_charAt_0 : List UInt8 := [42, 182, 1, 236, 153, 0, 12, 42, 180, 0, 9, 27, 184, 1, 239, 172, 42, 180, 0, 9, 27, 184, 1, 242]
abbrev dktJ2_charAt_0 : List UInt8 := dkwJ2_charAt_0 ++ dktJ2_charAt_1
theorem dksJ2_charAt_0 : cJ2_charAt.data.toList.drop 0 = dktJ2_charAt_0 := by decide +kernel
theorem dksJ2_charAt_1 : cJ2_charAt.data.toList.drop 24 = dktJ2_charAt_1 := dk_seg dksJ2_charAt_0 24 rfl rfl
theorem dJ2_charAt_0 : decode cJ2_charAt 0 = .ok (.aload_n 0, 1) := dk_42 (dk_at dksJ2_charAt_0 0 rfl rfl)
theorem dJ2_charAt_1 : decode cJ2_charAt 1 = .ok (.invokevirtual 492, 3) := dk_182 1 236 (dk_at dksJ2_charAt_0 1 rfl rfl)
theorem dJ2_charAt_4 : decode cJ2_charAt 4 = .ok (.ifCond .eq 12, 3) := dk_153 0 12 (dk_at dksJ2_charAt_0 4 rfl rfl)
theorem dJ2_charAt_7 : decode cJ2_charAt 7 = .ok (.aload_n 0, 1) := dk_42 (dk_at dksJ2_charAt_0 7 rfl rfl)
theorem dJ2_charAt_8 : decode cJ2_charAt 8 = .ok (.getfield 9, 3) := dk_180 0 9 (dk_at dksJ2_charAt_0 8 rfl rfl)
theorem dJ2_charAt_11 : decode cJ2_charAt 11 = .ok (.iload_n 1, 1) := dk_27 (dk_at dksJ2_charAt_0 11 rfl rfl)
theorem dJ2_charAt_12 : decode cJ2_charAt 12 = .ok (.invokestatic 495, 3) := dk_184 1 239 (dk_at dksJ2_charAt_0 12 rfl rfl)
theorem dJ2_charAt_15 : decode cJ2_charAt 15 = .ok (.ireturn, 1) := dk_172 (dk_at dksJ2_charAt_0 15 rfl rfl)
theorem dJ2_charAt_16 : decode cJ2_charAt 16 = .ok (.aload_n 0, 1) := dk_42 (dk_at dksJ2_charAt_0 16 rfl rfl)
theorem dJ2_charAt_17 : decode cJ2_charAt 17 = .ok (.getfield 9, 3) := dk_180 0 9 (dk_at dksJ2_charAt_0 17 rfl rfl)
theorem dJ2_charAt_20 : decode cJ2_charAt 20 = .ok (.iload_n 1, 1) := dk_27 (dk_at dksJ2_charAt_0 20 rfl rfl)
theorem dJ2_charAt_21 : decode cJ2_charAt 21 = .ok (.invokestatic 498, 3) := dk_184 1 242 (dk_at dksJ2_charAt_0 21 rfl rfl)
theorem dJ2_charAt_24 : decode cJ2_charAt 24 = .ok (.ireturn, 1) := dk_172 (dk_at dksJ2_charAt_1 0 rfl rfl)
abbrev cJ2_isLatin1 : ByteArray := prog_43_method_154_code
def yJ2_isLatin1 : MethodName := ⟨RJ2, "isLatin1", "()Z"⟩
def dkwJ2_isLatin1_0 : List UInt8 := [178, 0, 38, 153, 0, 14, 42, 180, 0, 15, 154, 0, 7, 4, 167, 0, 4, 3, 172]
abbrev dktJ2_isLatin1_0 : List UInt8 := dkwJ2_isLatin1_0 ++ []
theorem dksJ2_isLatin1_0 : cJ2_isLatin1.data.toList.drop 0 = dktJ2_isLatin1_0 := by decide +kernel
theorem dJ2_isLatin1_0 : decode cJ2_isLatin1 0 = .ok (.getstatic 38, 3) := dk_178 0 38 (dk_at dksJ2_isLatin1_0 0 rfl rfl)
theorem dJ2_isLatin1_3 : decode cJ2_isLatin1 3 = .ok (.ifCond .eq 14, 3) := dk_153 0 14 (dk_at dksJ2_isLatin1_0 3 rfl rfl)
theorem dJ2_isLatin1_6 : decode cJ2_isLatin1 6 = .ok (.aload_n 0, 1) := dk_42 (dk_at dksJ2_isLatin1_0 6 rfl rfl)
theorem dJ2_isLatin1_7 : decode cJ2_isLatin1 7 = .ok (.getfield 15, 3) := dk_180 0 15 (dk_at dksJ2_isLatin1_0 7 rfl rfl)
theorem dJ2_isLatin1_10 : decode cJ2_isLatin1 10 = .ok (.ifCond .ne 7, 3) := dk_154 0 7 (dk_at dksJ2_isLatin1_0 10 rfl rfl)
theorem dJ2_isLatin1_13 : decode cJ2_isLatin1 13 = .ok (.iconst 1, 1) := dk_4 (dk_at dksJ2_isLatin1_0 13 rfl rfl)
theorem dJ2_isLatin1_14 : decode cJ2_isLatin1 14 = .ok (.goto 4, 3) := dk_167 0 4 (dk_at dksJ2_isLatin1_0 14 rfl rfl)
theorem dJ2_isLatin1_17 : decode cJ2_isLatin1 17 = .ok (.iconst 0, 1) := dk_3 (dk_at dksJ2_isLatin1_0 17 rfl rfl)
theorem dJ2_isLatin1_18 : decode cJ2_isLatin1 18 = .ok (.ireturn, 1) := dk_172 (dk_at dksJ2_isLatin1_0 18 rfl rfl)
abbrev cJ2_checkIndex : ByteArray := prog_43_method_155_code
def yJ2_checkIndex : MethodName := ⟨RJ2, "checkIndex", "(II)V"⟩
def dkwJ2_checkIndex_0 : List UInt8 := [26, 27, 178, 4, 29, 184, 4, 35, 87, 177]
abbrev dktJ2_checkIndex_0 : List UInt8 := dkwJ2_checkIndex_0 ++ []
theorem dksJ2_checkIndex_0 : cJ2_checkIndex.data.toList.drop 0 = dktJ2_checkIndex_0 := by decide +kernel
theorem dJ2_checkIndex_0 : decode cJ2_checkIndex 0 = .ok (.iload_n 0, 1) := dk_26 (dk_at dksJ2_checkIndex_0 0 rfl rfl)
theorem dJ2_checkIndex_1 : decode cJ2_checkIndex 1 = .ok (.iload_n 1, 1) := dk_27 (dk_at dksJ2_checkIndex_0 1 rfl rfl)
theorem dJ2_checkIndex_2 : decode cJ2_checkIndex 2 = .ok (.getstatic 1053, 3) := dk_178 4 29 (dk_at dksJ2_checkIndex_0 2 rfl rfl)
theorem dJ2_checkIndex_5 : decode cJ2_checkIndex 5 = .ok (.invokestatic 1059, 3) := dk_184 4 35 (dk_at dksJ2_checkIndex_0 5 rfl rfl)
theorem dJ2_checkIndex_8 : decode cJ2_checkIndex 8 = .ok (.pop, 1) := dk_87 (dk_at dksJ2_checkIndex_0 8 rfl rfl)
theorem dJ2_checkIndex_9 : decode cJ2_checkIndex 9 = .ok (.return_, 1) := dk_177 (dk_at dksJ2_checkIndex_0 9 rfl rfl)
abbrev cJ2_checkBoundsBeginEnd : ByteArray := prog_43_method_158_code
def yJ2_checkBoundsBeginEnd : MethodName := ⟨RJ2, "checkBoundsBeginEnd", "(III)V"⟩
def dkwJ2_checkBoundsBeginEnd_0 : List UInt8 := [26, 27, 28, 178, 4, 29, 184, 4, 38, 87, 177]
abbrev dktJ2_checkBoundsBeginEnd_0 : List UInt8 := dkwJ2_checkBoundsBeginEnd_0 ++ []
theorem dksJ2_checkBoundsBeginEnd_0 : cJ2_checkBoundsBeginEnd.data.toList.drop 0 = dktJ2_checkBoundsBeginEnd_0 := by decide +kernel
theorem dJ2_checkBoundsBeginEnd_0 : decode cJ2_checkBoundsBeginEnd 0 = .ok (.iload_n 0, 1) := dk_26 (dk_at dksJ2_checkBoundsBeginEnd_0 0 rfl rfl)
theorem dJ2_checkBoundsBeginEnd_1 : decode cJ2_checkBoundsBeginEnd 1 = .ok (.iload_n 1, 1) := dk_27 (dk_at dksJ2_checkBoundsBeginEnd_0 1 rfl rfl)
theorem dJ2_checkBoundsBeginEnd_2 : decode cJ2_checkBoundsBeginEnd 2 = .ok (.iload_n 2, 1) := dk_28 (dk_at dksJ2_checkBoundsBeginEnd_0 2 rfl rfl)
theorem dJ2_checkBoundsBeginEnd_3 : decode cJ2_checkBoundsBeginEnd 3 = .ok (.getstatic 1053, 3) := dk_178 4 29 (dk_at dksJ2_checkBoundsBeginEnd_0 3 rfl rfl)
theorem dJ2_checkBoundsBeginEnd_6 : decode cJ2_checkBoundsBeginEnd 6 = .ok (.invokestatic 1062, 3) := dk_184 4 38 (dk_at dksJ2_checkBoundsBeginEnd_0 6 rfl rfl)
theorem dJ2_checkBoundsBeginEnd_9 : decode cJ2_checkBoundsBeginEnd 9 = .ok (.pop, 1) := dk_87 (dk_at dksJ2_checkBoundsBeginEnd_0 9 rfl rfl)
theorem dJ2_checkBoundsBeginEnd_10 : decode cJ2_checkBoundsBeginEnd 10 = .ok (.return_, 1) := dk_177 (dk_at dksJ2_checkBoundsBeginEnd_0 10 rfl rfl)
abbrev cJ2_checkBoundsOffCount : ByteArray := prog_43_method_157_code
def yJ2_checkBoundsOffCount : MethodName := ⟨RJ2, "checkBoundsOffCount", "(III)I"⟩
def dkwJ2_checkBoundsOffCount_0 : List UInt8 := [26, 27, 28, 178, 4, 29, 184, 4, 41, 172]
abbrev dktJ2_checkBoundsOffCount_0 : List UInt8 := dkwJ2_checkBoundsOffCount_0 ++ []
theorem dksJ2_checkBoundsOffCount_0 : cJ2_checkBoundsOffCount.data.toList.drop 0 = dktJ2_checkBoundsOffCount_0 := by decide +kernel
theorem dJ2_checkBoundsOffCount_0 : decode cJ2_checkBoundsOffCount 0 = .ok (.iload_n 0, 1) := dk_26 (dk_at dksJ2_checkBoundsOffCount_0 0 rfl rfl)
theorem dJ2_checkBoundsOffCount_1 : decode cJ2_checkBoundsOffCount 1 = .ok (.iload_n 1, 1) := dk_27 (dk_at dksJ2_checkBoundsOffCount_0 1 rfl rfl)
theorem dJ2_checkBoundsOffCount_2 : decode cJ2_checkBoundsOffCount 2 = .ok (.iload_n 2, 1) := dk_28 (dk_at dksJ2_checkBoundsOffCount_0 2 rfl rfl)
theorem dJ2_checkBoundsOffCount_3 : decode cJ2_checkBoundsOffCount 3 = .ok (.getstatic 1053, 3) := dk_178 4 29 (dk_at dksJ2_checkBoundsOffCount_0 3 rfl rfl)
theorem dJ2_checkBoundsOffCount_6 : decode cJ2_checkBoundsOffCount 6 = .ok (.invokestatic 1065, 3) := dk_184 4 41 (dk_at dksJ2_checkBoundsOffCount_0 6 rfl rfl)
theorem dJ2_checkBoundsOffCount_9 : decode cJ2_checkBoundsOffCount 9 = .ok (.ireturn, 1) := dk_172 (dk_at dksJ2_checkBoundsOffCount_0 9 rfl rfl)
abbrev cJ2_getBytes : ByteArray := prog_43_method_147_code
def yJ2_getBytes : MethodName := ⟨RJ2, "getBytes", "([BIB)V"⟩
def dkwJ2_getBytes_1 : List UInt8 := [184, 0, 212, 167, 0, 18, 42, 180, 0, 9, 3, 43, 28, 42, 180, 0, 9, 190, 184, 0, 106, 177]
abbrev dktJ2_getBytes_1 : List UInt8 := dkwJ2_getBytes_1 ++ []
def dkwJ2_getBytes_0 : List UInt8 := [42, 182, 1, 79, 29, 160, 0, 23, 42, 180, 0, 9, 3, 43, 28, 29, 120, 42, 180, 0, 9, 190]
abbrev dktJ2_getBytes_0 : List UInt8 := dkwJ2_getBytes_0 ++ dktJ2_getBytes_1
theorem dksJ2_getBytes_0 : cJ2_getBytes.data.toList.drop 0 = dktJ2_getBytes_0 := by decide +kernel
theorem dksJ2_getBytes_1 : cJ2_getBytes.data.toList.drop 22 = dktJ2_getBytes_1 := dk_seg dksJ2_getBytes_0 22 rfl rfl
theorem dJ2_getBytes_0 : decode cJ2_getBytes 0 = .ok (.aload_n 0, 1) := dk_42 (dk_at dksJ2_getBytes_0 0 rfl rfl)
theorem dJ2_getBytes_1 : decode cJ2_getBytes 1 = .ok (.invokevirtual 335, 3) := dk_182 1 79 (dk_at dksJ2_getBytes_0 1 rfl rfl)
theorem dJ2_getBytes_4 : decode cJ2_getBytes 4 = .ok (.iload_n 3, 1) := dk_29 (dk_at dksJ2_getBytes_0 4 rfl rfl)
theorem dJ2_getBytes_5 : decode cJ2_getBytes 5 = .ok (.if_icmp .ne 23, 3) := dk_160 0 23 (dk_at dksJ2_getBytes_0 5 rfl rfl)
theorem dJ2_getBytes_8 : decode cJ2_getBytes 8 = .ok (.aload_n 0, 1) := dk_42 (dk_at dksJ2_getBytes_0 8 rfl rfl)
theorem dJ2_getBytes_9 : decode cJ2_getBytes 9 = .ok (.getfield 9, 3) := dk_180 0 9 (dk_at dksJ2_getBytes_0 9 rfl rfl)
theorem dJ2_getBytes_12 : decode cJ2_getBytes 12 = .ok (.iconst 0, 1) := dk_3 (dk_at dksJ2_getBytes_0 12 rfl rfl)
theorem dJ2_getBytes_13 : decode cJ2_getBytes 13 = .ok (.aload_n 1, 1) := dk_43 (dk_at dksJ2_getBytes_0 13 rfl rfl)
theorem dJ2_getBytes_14 : decode cJ2_getBytes 14 = .ok (.iload_n 2, 1) := dk_28 (dk_at dksJ2_getBytes_0 14 rfl rfl)
theorem dJ2_getBytes_15 : decode cJ2_getBytes 15 = .ok (.iload_n 3, 1) := dk_29 (dk_at dksJ2_getBytes_0 15 rfl rfl)
theorem dJ2_getBytes_16 : decode cJ2_getBytes 16 = .ok (.ishl, 1) := dk_120 (dk_at dksJ2_getBytes_0 16 rfl rfl)
theorem dJ2_getBytes_17 : decode cJ2_getBytes 17 = .ok (.aload_n 0, 1) := dk_42 (dk_at dksJ2_getBytes_0 17 rfl rfl)
theorem dJ2_getBytes_18 : decode cJ2_getBytes 18 = .ok (.getfield 9, 3) := dk_180 0 9 (dk_at dksJ2_getBytes_0 18 rfl rfl)
theorem dJ2_getBytes_21 : decode cJ2_getBytes 21 = .ok (.arraylength, 1) := dk_190 (dk_at dksJ2_getBytes_0 21 rfl rfl)
theorem dJ2_getBytes_22 : decode cJ2_getBytes 22 = .ok (.invokestatic 212, 3) := dk_184 0 212 (dk_at dksJ2_getBytes_1 0 rfl rfl)
theorem dJ2_getBytes_25 : decode cJ2_getBytes 25 = .ok (.goto 18, 3) := dk_167 0 18 (dk_at dksJ2_getBytes_1 3 rfl rfl)
theorem dJ2_getBytes_28 : decode cJ2_getBytes 28 = .ok (.aload_n 0, 1) := dk_42 (dk_at dksJ2_getBytes_1 6 rfl rfl)
theorem dJ2_getBytes_29 : decode cJ2_getBytes 29 = .ok (.getfield 9, 3) := dk_180 0 9 (dk_at dksJ2_getBytes_1 7 rfl rfl)
theorem dJ2_getBytes_32 : decode cJ2_getBytes 32 = .ok (.iconst 0, 1) := dk_3 (dk_at dksJ2_getBytes_1 10 rfl rfl)
theorem dJ2_getBytes_33 : decode cJ2_getBytes 33 = .ok (.aload_n 1, 1) := dk_43 (dk_at dksJ2_getBytes_1 11 rfl rfl)
theorem dJ2_getBytes_34 : decode cJ2_getBytes 34 = .ok (.iload_n 2, 1) := dk_28 (dk_at dksJ2_getBytes_1 12 rfl rfl)
theorem dJ2_getBytes_35 : decode cJ2_getBytes 35 = .ok (.aload_n 0, 1) := dk_42 (dk_at dksJ2_getBytes_1 13 rfl rfl)
theorem dJ2_getBytes_36 : decode cJ2_getBytes 36 = .ok (.getfield 9, 3) := dk_180 0 9 (dk_at dksJ2_getBytes_1 14 rfl rfl)
theorem dJ2_getBytes_39 : decode cJ2_getBytes 39 = .ok (.arraylength, 1) := dk_190 (dk_at dksJ2_getBytes_1 17 rfl rfl)
theorem dJ2_getBytes_40 : decode cJ2_getBytes 40 = .ok (.invokestatic 106, 3) := dk_184 0 106 (dk_at dksJ2_getBytes_1 18 rfl rfl)
theorem dJ2_getBytes_43 : decode cJ2_getBytes 43 = .ok (.return_, 1) := dk_177 (dk_at dksJ2_getBytes_1 21 rfl rfl)
abbrev cJ2_init : ByteArray := prog_43_method_53_code
def yJ2_init : MethodName := ⟨RJ2, "<init>", "(Ljava/lang/StringBuilder;)V"⟩
def dkwJ2_init_0 : List UInt8 := [42, 43, 1, 183, 1, 233, 177]
abbrev dktJ2_init_0 : List UInt8 := dkwJ2_init_0 ++ []
theorem dksJ2_init_0 : cJ2_init.data.toList.drop 0 = dktJ2_init_0 := by decide +kernel
theorem dJ2_init_0 : decode cJ2_init 0 = .ok (.aload_n 0, 1) := dk_42 (dk_at dksJ2_init_0 0 rfl rfl)
theorem dJ2_init_1 : decode cJ2_init 1 = .ok (.aload_n 1, 1) := dk_43 (dk_at dksJ2_init_0 1 rfl rfl)
theorem dJ2_init_2 : decode cJ2_init 2 = .ok (.aconst_null, 1) := dk_1 (dk_at dksJ2_init_0 2 rfl rfl)
theorem dJ2_init_3 : decode cJ2_init 3 = .ok (.invokespecial 489, 3) := dk_183 1 233 (dk_at dksJ2_init_0 3 rfl rfl)
theorem dJ2_init_6 : decode cJ2_init 6 = .ok (.return_, 1) := dk_177 (dk_at dksJ2_init_0 6 rfl rfl)
abbrev cJ2_init_2 : ByteArray := prog_43_method_150_code
def yJ2_init_2 : MethodName := ⟨RJ2, "<init>", "(Ljava/lang/AbstractStringBuilder;Ljava/lang/Void;)V"⟩
def dkwJ2_init_2_4 : List UInt8 := [181, 0, 9, 177]
abbrev dktJ2_init_2_4 : List UInt8 := dkwJ2_init_2_4 ++ []
def dkwJ2_init_2_3 : List UInt8 := [184, 0, 47, 181, 0, 15, 177, 42, 4, 181, 0, 15, 42, 45, 3, 21, 4, 4, 120, 184, 0, 54]
abbrev dktJ2_init_2_3 : List UInt8 := dkwJ2_init_2_3 ++ dktJ2_init_2_4
def dkwJ2_init_2_2 : List UInt8 := [180, 4, 24, 153, 0, 28, 42, 45, 3, 21, 4, 184, 4, 27, 181, 0, 9, 42, 42, 180, 0, 9, 21, 4]
abbrev dktJ2_init_2_2 : List UInt8 := dkwJ2_init_2_2 ++ dktJ2_init_2_3
def dkwJ2_init_2_1 : List UInt8 := [181, 0, 15, 42, 45, 3, 21, 4, 184, 0, 54, 181, 0, 9, 167, 0, 59, 178, 0, 38, 153, 0, 35, 43]
abbrev dktJ2_init_2_1 : List UInt8 := dkwJ2_init_2_1 ++ dktJ2_init_2_2
def dkwJ2_init_2_0 : List UInt8 := [42, 183, 0, 1, 43, 182, 2, 40, 78, 43, 182, 2, 37, 54, 4, 43, 182, 4, 23, 153, 0, 22, 42, 3]
abbrev dktJ2_init_2_0 : List UInt8 := dkwJ2_init_2_0 ++ dktJ2_init_2_1
theorem dksJ2_init_2_0 : cJ2_init_2.data.toList.drop 0 = dktJ2_init_2_0 := by decide +kernel
theorem dksJ2_init_2_1 : cJ2_init_2.data.toList.drop 24 = dktJ2_init_2_1 := dk_seg dksJ2_init_2_0 24 rfl rfl
theorem dksJ2_init_2_2 : cJ2_init_2.data.toList.drop 48 = dktJ2_init_2_2 := dk_seg dksJ2_init_2_1 24 rfl rfl
theorem dksJ2_init_2_3 : cJ2_init_2.data.toList.drop 72 = dktJ2_init_2_3 := dk_seg dksJ2_init_2_2 24 rfl rfl
theorem dksJ2_init_2_4 : cJ2_init_2.data.toList.drop 94 = dktJ2_init_2_4 := dk_seg dksJ2_init_2_3 22 rfl rfl
theorem dJ2_init_2_0 : decode cJ2_init_2 0 = .ok (.aload_n 0, 1) := dk_42 (dk_at dksJ2_init_2_0 0 rfl rfl)
theorem dJ2_init_2_1 : decode cJ2_init_2 1 = .ok (.invokespecial 1, 3) := dk_183 0 1 (dk_at dksJ2_init_2_0 1 rfl rfl)
theorem dJ2_init_2_4 : decode cJ2_init_2 4 = .ok (.aload_n 1, 1) := dk_43 (dk_at dksJ2_init_2_0 4 rfl rfl)
theorem dJ2_init_2_5 : decode cJ2_init_2 5 = .ok (.invokevirtual 552, 3) := dk_182 2 40 (dk_at dksJ2_init_2_0 5 rfl rfl)
theorem dJ2_init_2_8 : decode cJ2_init_2 8 = .ok (.astore_n 3, 1) := dk_78 (dk_at dksJ2_init_2_0 8 rfl rfl)
theorem dJ2_init_2_9 : decode cJ2_init_2 9 = .ok (.aload_n 1, 1) := dk_43 (dk_at dksJ2_init_2_0 9 rfl rfl)
theorem dJ2_init_2_10 : decode cJ2_init_2 10 = .ok (.invokevirtual 549, 3) := dk_182 2 37 (dk_at dksJ2_init_2_0 10 rfl rfl)
theorem dJ2_init_2_13 : decode cJ2_init_2 13 = .ok (.istore 4, 2) := dk_54 4 (dk_at dksJ2_init_2_0 13 rfl rfl)
theorem dJ2_init_2_15 : decode cJ2_init_2 15 = .ok (.aload_n 1, 1) := dk_43 (dk_at dksJ2_init_2_0 15 rfl rfl)
theorem dJ2_init_2_16 : decode cJ2_init_2 16 = .ok (.invokevirtual 1047, 3) := dk_182 4 23 (dk_at dksJ2_init_2_0 16 rfl rfl)
theorem dJ2_init_2_19 : decode cJ2_init_2 19 = .ok (.ifCond .eq 22, 3) := dk_153 0 22 (dk_at dksJ2_init_2_0 19 rfl rfl)
theorem dJ2_init_2_22 : decode cJ2_init_2 22 = .ok (.aload_n 0, 1) := dk_42 (dk_at dksJ2_init_2_0 22 rfl rfl)
theorem dJ2_init_2_23 : decode cJ2_init_2 23 = .ok (.iconst 0, 1) := dk_3 (dk_at dksJ2_init_2_0 23 rfl rfl)
theorem dJ2_init_2_24 : decode cJ2_init_2 24 = .ok (.putfield 15, 3) := dk_181 0 15 (dk_at dksJ2_init_2_1 0 rfl rfl)
theorem dJ2_init_2_27 : decode cJ2_init_2 27 = .ok (.aload_n 0, 1) := dk_42 (dk_at dksJ2_init_2_1 3 rfl rfl)
theorem dJ2_init_2_28 : decode cJ2_init_2 28 = .ok (.aload_n 3, 1) := dk_45 (dk_at dksJ2_init_2_1 4 rfl rfl)
theorem dJ2_init_2_29 : decode cJ2_init_2 29 = .ok (.iconst 0, 1) := dk_3 (dk_at dksJ2_init_2_1 5 rfl rfl)
theorem dJ2_init_2_30 : decode cJ2_init_2 30 = .ok (.iload 4, 2) := dk_21 4 (dk_at dksJ2_init_2_1 6 rfl rfl)
theorem dJ2_init_2_32 : decode cJ2_init_2 32 = .ok (.invokestatic 54, 3) := dk_184 0 54 (dk_at dksJ2_init_2_1 8 rfl rfl)
theorem dJ2_init_2_35 : decode cJ2_init_2 35 = .ok (.putfield 9, 3) := dk_181 0 9 (dk_at dksJ2_init_2_1 11 rfl rfl)
theorem dJ2_init_2_38 : decode cJ2_init_2 38 = .ok (.goto 59, 3) := dk_167 0 59 (dk_at dksJ2_init_2_1 14 rfl rfl)
theorem dJ2_init_2_41 : decode cJ2_init_2 41 = .ok (.getstatic 38, 3) := dk_178 0 38 (dk_at dksJ2_init_2_1 17 rfl rfl)
theorem dJ2_init_2_44 : decode cJ2_init_2 44 = .ok (.ifCond .eq 35, 3) := dk_153 0 35 (dk_at dksJ2_init_2_1 20 rfl rfl)
theorem dJ2_init_2_47 : decode cJ2_init_2 47 = .ok (.aload_n 1, 1) := dk_43 (dk_at dksJ2_init_2_1 23 rfl rfl)
theorem dJ2_init_2_48 : decode cJ2_init_2 48 = .ok (.getfield 1048, 3) := dk_180 4 24 (dk_at dksJ2_init_2_2 0 rfl rfl)
theorem dJ2_init_2_51 : decode cJ2_init_2 51 = .ok (.ifCond .eq 28, 3) := dk_153 0 28 (dk_at dksJ2_init_2_2 3 rfl rfl)
theorem dJ2_init_2_54 : decode cJ2_init_2 54 = .ok (.aload_n 0, 1) := dk_42 (dk_at dksJ2_init_2_2 6 rfl rfl)
theorem dJ2_init_2_55 : decode cJ2_init_2 55 = .ok (.aload_n 3, 1) := dk_45 (dk_at dksJ2_init_2_2 7 rfl rfl)
theorem dJ2_init_2_56 : decode cJ2_init_2 56 = .ok (.iconst 0, 1) := dk_3 (dk_at dksJ2_init_2_2 8 rfl rfl)
theorem dJ2_init_2_57 : decode cJ2_init_2 57 = .ok (.iload 4, 2) := dk_21 4 (dk_at dksJ2_init_2_2 9 rfl rfl)
theorem dJ2_init_2_59 : decode cJ2_init_2 59 = .ok (.invokestatic 1051, 3) := dk_184 4 27 (dk_at dksJ2_init_2_2 11 rfl rfl)
theorem dJ2_init_2_62 : decode cJ2_init_2 62 = .ok (.putfield 9, 3) := dk_181 0 9 (dk_at dksJ2_init_2_2 14 rfl rfl)
theorem dJ2_init_2_65 : decode cJ2_init_2 65 = .ok (.aload_n 0, 1) := dk_42 (dk_at dksJ2_init_2_2 17 rfl rfl)
theorem dJ2_init_2_66 : decode cJ2_init_2 66 = .ok (.aload_n 0, 1) := dk_42 (dk_at dksJ2_init_2_2 18 rfl rfl)
theorem dJ2_init_2_67 : decode cJ2_init_2 67 = .ok (.getfield 9, 3) := dk_180 0 9 (dk_at dksJ2_init_2_2 19 rfl rfl)
theorem dJ2_init_2_70 : decode cJ2_init_2 70 = .ok (.iload 4, 2) := dk_21 4 (dk_at dksJ2_init_2_2 22 rfl rfl)
theorem dJ2_init_2_72 : decode cJ2_init_2 72 = .ok (.invokestatic 47, 3) := dk_184 0 47 (dk_at dksJ2_init_2_3 0 rfl rfl)
theorem dJ2_init_2_75 : decode cJ2_init_2 75 = .ok (.putfield 15, 3) := dk_181 0 15 (dk_at dksJ2_init_2_3 3 rfl rfl)
theorem dJ2_init_2_78 : decode cJ2_init_2 78 = .ok (.return_, 1) := dk_177 (dk_at dksJ2_init_2_3 6 rfl rfl)
theorem dJ2_init_2_79 : decode cJ2_init_2 79 = .ok (.aload_n 0, 1) := dk_42 (dk_at dksJ2_init_2_3 7 rfl rfl)
theorem dJ2_init_2_80 : decode cJ2_init_2 80 = .ok (.iconst 1, 1) := dk_4 (dk_at dksJ2_init_2_3 8 rfl rfl)
theorem dJ2_init_2_81 : decode cJ2_init_2 81 = .ok (.putfield 15, 3) := dk_181 0 15 (dk_at dksJ2_init_2_3 9 rfl rfl)
theorem dJ2_init_2_84 : decode cJ2_init_2 84 = .ok (.aload_n 0, 1) := dk_42 (dk_at dksJ2_init_2_3 12 rfl rfl)
theorem dJ2_init_2_85 : decode cJ2_init_2 85 = .ok (.aload_n 3, 1) := dk_45 (dk_at dksJ2_init_2_3 13 rfl rfl)
theorem dJ2_init_2_86 : decode cJ2_init_2 86 = .ok (.iconst 0, 1) := dk_3 (dk_at dksJ2_init_2_3 14 rfl rfl)
theorem dJ2_init_2_87 : decode cJ2_init_2 87 = .ok (.iload 4, 2) := dk_21 4 (dk_at dksJ2_init_2_3 15 rfl rfl)
theorem dJ2_init_2_89 : decode cJ2_init_2 89 = .ok (.iconst 1, 1) := dk_4 (dk_at dksJ2_init_2_3 17 rfl rfl)
theorem dJ2_init_2_90 : decode cJ2_init_2 90 = .ok (.ishl, 1) := dk_120 (dk_at dksJ2_init_2_3 18 rfl rfl)
theorem dJ2_init_2_91 : decode cJ2_init_2 91 = .ok (.invokestatic 54, 3) := dk_184 0 54 (dk_at dksJ2_init_2_3 19 rfl rfl)
theorem dJ2_init_2_94 : decode cJ2_init_2 94 = .ok (.putfield 9, 3) := dk_181 0 9 (dk_at dksJ2_init_2_4 0 rfl rfl)
theorem dJ2_init_2_97 : decode cJ2_init_2 97 = .ok (.return_, 1) := dk_177 (dk_at dksJ2_init_2_4 3 rfl rfl)
abbrev cJ2_hashCode : ByteArray := prog_43_method_78_code
def yJ2_hashCode : MethodName := ⟨RJ2, "hashCode", "()I"⟩
def dkwJ2_hashCode_2 : List UInt8 := [181, 0, 23, 167, 0, 8, 42, 27, 181, 0, 19, 27, 172]
abbrev dktJ2_hashCode_2 : List UInt8 := dkwJ2_hashCode_2 ++ []
def dkwJ2_hashCode_1 : List UInt8 := [180, 0, 9, 184, 2, 116, 167, 0, 10, 42, 180, 0, 9, 184, 2, 120, 60, 27, 154, 0, 11, 42, 4]
abbrev dktJ2_hashCode_1 : List UInt8 := dkwJ2_hashCode_1 ++ dktJ2_hashCode_2
def dkwJ2_hashCode_0 : List UInt8 := [42, 180, 0, 19, 60, 27, 154, 0, 52, 42, 180, 0, 23, 154, 0, 45, 42, 182, 1, 236, 153, 0, 13, 42]
abbrev dktJ2_hashCode_0 : List UInt8 := dkwJ2_hashCode_0 ++ dktJ2_hashCode_1
theorem dksJ2_hashCode_0 : cJ2_hashCode.data.toList.drop 0 = dktJ2_hashCode_0 := by decide +kernel
theorem dksJ2_hashCode_1 : cJ2_hashCode.data.toList.drop 24 = dktJ2_hashCode_1 := dk_seg dksJ2_hashCode_0 24 rfl rfl
theorem dksJ2_hashCode_2 : cJ2_hashCode.data.toList.drop 47 = dktJ2_hashCode_2 := dk_seg dksJ2_hashCode_1 23 rfl rfl
theorem dJ2_hashCode_0 : decode cJ2_hashCode 0 = .ok (.aload_n 0, 1) := dk_42 (dk_at dksJ2_hashCode_0 0 rfl rfl)
theorem dJ2_hashCode_1 : decode cJ2_hashCode 1 = .ok (.getfield 19, 3) := dk_180 0 19 (dk_at dksJ2_hashCode_0 1 rfl rfl)
theorem dJ2_hashCode_4 : decode cJ2_hashCode 4 = .ok (.istore_n 1, 1) := dk_60 (dk_at dksJ2_hashCode_0 4 rfl rfl)
theorem dJ2_hashCode_5 : decode cJ2_hashCode 5 = .ok (.iload_n 1, 1) := dk_27 (dk_at dksJ2_hashCode_0 5 rfl rfl)
theorem dJ2_hashCode_6 : decode cJ2_hashCode 6 = .ok (.ifCond .ne 52, 3) := dk_154 0 52 (dk_at dksJ2_hashCode_0 6 rfl rfl)
theorem dJ2_hashCode_9 : decode cJ2_hashCode 9 = .ok (.aload_n 0, 1) := dk_42 (dk_at dksJ2_hashCode_0 9 rfl rfl)
theorem dJ2_hashCode_10 : decode cJ2_hashCode 10 = .ok (.getfield 23, 3) := dk_180 0 23 (dk_at dksJ2_hashCode_0 10 rfl rfl)
theorem dJ2_hashCode_13 : decode cJ2_hashCode 13 = .ok (.ifCond .ne 45, 3) := dk_154 0 45 (dk_at dksJ2_hashCode_0 13 rfl rfl)
theorem dJ2_hashCode_16 : decode cJ2_hashCode 16 = .ok (.aload_n 0, 1) := dk_42 (dk_at dksJ2_hashCode_0 16 rfl rfl)
theorem dJ2_hashCode_17 : decode cJ2_hashCode 17 = .ok (.invokevirtual 492, 3) := dk_182 1 236 (dk_at dksJ2_hashCode_0 17 rfl rfl)
theorem dJ2_hashCode_20 : decode cJ2_hashCode 20 = .ok (.ifCond .eq 13, 3) := dk_153 0 13 (dk_at dksJ2_hashCode_0 20 rfl rfl)
theorem dJ2_hashCode_23 : decode cJ2_hashCode 23 = .ok (.aload_n 0, 1) := dk_42 (dk_at dksJ2_hashCode_0 23 rfl rfl)
theorem dJ2_hashCode_24 : decode cJ2_hashCode 24 = .ok (.getfield 9, 3) := dk_180 0 9 (dk_at dksJ2_hashCode_1 0 rfl rfl)
theorem dJ2_hashCode_27 : decode cJ2_hashCode 27 = .ok (.invokestatic 628, 3) := dk_184 2 116 (dk_at dksJ2_hashCode_1 3 rfl rfl)
theorem dJ2_hashCode_30 : decode cJ2_hashCode 30 = .ok (.goto 10, 3) := dk_167 0 10 (dk_at dksJ2_hashCode_1 6 rfl rfl)
theorem dJ2_hashCode_33 : decode cJ2_hashCode 33 = .ok (.aload_n 0, 1) := dk_42 (dk_at dksJ2_hashCode_1 9 rfl rfl)
theorem dJ2_hashCode_34 : decode cJ2_hashCode 34 = .ok (.getfield 9, 3) := dk_180 0 9 (dk_at dksJ2_hashCode_1 10 rfl rfl)
theorem dJ2_hashCode_37 : decode cJ2_hashCode 37 = .ok (.invokestatic 632, 3) := dk_184 2 120 (dk_at dksJ2_hashCode_1 13 rfl rfl)
theorem dJ2_hashCode_40 : decode cJ2_hashCode 40 = .ok (.istore_n 1, 1) := dk_60 (dk_at dksJ2_hashCode_1 16 rfl rfl)
theorem dJ2_hashCode_41 : decode cJ2_hashCode 41 = .ok (.iload_n 1, 1) := dk_27 (dk_at dksJ2_hashCode_1 17 rfl rfl)
theorem dJ2_hashCode_42 : decode cJ2_hashCode 42 = .ok (.ifCond .ne 11, 3) := dk_154 0 11 (dk_at dksJ2_hashCode_1 18 rfl rfl)
theorem dJ2_hashCode_45 : decode cJ2_hashCode 45 = .ok (.aload_n 0, 1) := dk_42 (dk_at dksJ2_hashCode_1 21 rfl rfl)
theorem dJ2_hashCode_46 : decode cJ2_hashCode 46 = .ok (.iconst 1, 1) := dk_4 (dk_at dksJ2_hashCode_1 22 rfl rfl)
theorem dJ2_hashCode_47 : decode cJ2_hashCode 47 = .ok (.putfield 23, 3) := dk_181 0 23 (dk_at dksJ2_hashCode_2 0 rfl rfl)
theorem dJ2_hashCode_50 : decode cJ2_hashCode 50 = .ok (.goto 8, 3) := dk_167 0 8 (dk_at dksJ2_hashCode_2 3 rfl rfl)
theorem dJ2_hashCode_53 : decode cJ2_hashCode 53 = .ok (.aload_n 0, 1) := dk_42 (dk_at dksJ2_hashCode_2 6 rfl rfl)
theorem dJ2_hashCode_54 : decode cJ2_hashCode 54 = .ok (.iload_n 1, 1) := dk_27 (dk_at dksJ2_hashCode_2 7 rfl rfl)
theorem dJ2_hashCode_55 : decode cJ2_hashCode 55 = .ok (.putfield 19, 3) := dk_181 0 19 (dk_at dksJ2_hashCode_2 8 rfl rfl)
theorem dJ2_hashCode_58 : decode cJ2_hashCode 58 = .ok (.iload_n 1, 1) := dk_27 (dk_at dksJ2_hashCode_2 11 rfl rfl)
theorem dJ2_hashCode_59 : decode cJ2_hashCode 59 = .ok (.ireturn, 1) := dk_172 (dk_at dksJ2_hashCode_2 12 rfl rfl)
abbrev cJ2_equals : ByteArray := prog_43_method_66_code
def yJ2_equals : MethodName := ⟨RJ2, "equals", "(Ljava/lang/Object;)Z"⟩
def dkwJ2_equals_2 : List UInt8 := [184, 2, 29, 153, 0, 7, 4, 167, 0, 4, 3, 172]
abbrev dktJ2_equals_2 : List UInt8 := dkwJ2_equals_2 ++ []
def dkwJ2_equals_1 : List UInt8 := [153, 0, 14, 42, 180, 0, 15, 44, 180, 0, 15, 160, 0, 21, 42, 180, 0, 9, 44, 180, 0, 9]
abbrev dktJ2_equals_1 : List UInt8 := dkwJ2_equals_1 ++ dktJ2_equals_2
def dkwJ2_equals_0 : List UInt8 := [42, 43, 166, 0, 5, 4, 172, 43, 193, 0, 10, 153, 0, 43, 43, 192, 0, 10, 77, 178, 0, 38]
abbrev dktJ2_equals_0 : List UInt8 := dkwJ2_equals_0 ++ dktJ2_equals_1
theorem dksJ2_equals_0 : cJ2_equals.data.toList.drop 0 = dktJ2_equals_0 := by decide +kernel
theorem dksJ2_equals_1 : cJ2_equals.data.toList.drop 22 = dktJ2_equals_1 := dk_seg dksJ2_equals_0 22 rfl rfl
theorem dksJ2_equals_2 : cJ2_equals.data.toList.drop 44 = dktJ2_equals_2 := dk_seg dksJ2_equals_1 22 rfl rfl
theorem dJ2_equals_0 : decode cJ2_equals 0 = .ok (.aload_n 0, 1) := dk_42 (dk_at dksJ2_equals_0 0 rfl rfl)
theorem dJ2_equals_1 : decode cJ2_equals 1 = .ok (.aload_n 1, 1) := dk_43 (dk_at dksJ2_equals_0 1 rfl rfl)
theorem dJ2_equals_2 : decode cJ2_equals 2 = .ok (.if_acmp .ne 5, 3) := dk_166 0 5 (dk_at dksJ2_equals_0 2 rfl rfl)
theorem dJ2_equals_5 : decode cJ2_equals 5 = .ok (.iconst 1, 1) := dk_4 (dk_at dksJ2_equals_0 5 rfl rfl)
theorem dJ2_equals_6 : decode cJ2_equals 6 = .ok (.ireturn, 1) := dk_172 (dk_at dksJ2_equals_0 6 rfl rfl)
theorem dJ2_equals_7 : decode cJ2_equals 7 = .ok (.aload_n 1, 1) := dk_43 (dk_at dksJ2_equals_0 7 rfl rfl)
theorem dJ2_equals_8 : decode cJ2_equals 8 = .ok (.instanceof 10, 3) := dk_193 0 10 (dk_at dksJ2_equals_0 8 rfl rfl)
theorem dJ2_equals_11 : decode cJ2_equals 11 = .ok (.ifCond .eq 43, 3) := dk_153 0 43 (dk_at dksJ2_equals_0 11 rfl rfl)
theorem dJ2_equals_14 : decode cJ2_equals 14 = .ok (.aload_n 1, 1) := dk_43 (dk_at dksJ2_equals_0 14 rfl rfl)
theorem dJ2_equals_15 : decode cJ2_equals 15 = .ok (.checkcast 10, 3) := dk_192 0 10 (dk_at dksJ2_equals_0 15 rfl rfl)
theorem dJ2_equals_18 : decode cJ2_equals 18 = .ok (.astore_n 2, 1) := dk_77 (dk_at dksJ2_equals_0 18 rfl rfl)
theorem dJ2_equals_19 : decode cJ2_equals 19 = .ok (.getstatic 38, 3) := dk_178 0 38 (dk_at dksJ2_equals_0 19 rfl rfl)
theorem dJ2_equals_22 : decode cJ2_equals 22 = .ok (.ifCond .eq 14, 3) := dk_153 0 14 (dk_at dksJ2_equals_1 0 rfl rfl)
theorem dJ2_equals_25 : decode cJ2_equals 25 = .ok (.aload_n 0, 1) := dk_42 (dk_at dksJ2_equals_1 3 rfl rfl)
theorem dJ2_equals_26 : decode cJ2_equals 26 = .ok (.getfield 15, 3) := dk_180 0 15 (dk_at dksJ2_equals_1 4 rfl rfl)
theorem dJ2_equals_29 : decode cJ2_equals 29 = .ok (.aload_n 2, 1) := dk_44 (dk_at dksJ2_equals_1 7 rfl rfl)
theorem dJ2_equals_30 : decode cJ2_equals 30 = .ok (.getfield 15, 3) := dk_180 0 15 (dk_at dksJ2_equals_1 8 rfl rfl)
theorem dJ2_equals_33 : decode cJ2_equals 33 = .ok (.if_icmp .ne 21, 3) := dk_160 0 21 (dk_at dksJ2_equals_1 11 rfl rfl)
theorem dJ2_equals_36 : decode cJ2_equals 36 = .ok (.aload_n 0, 1) := dk_42 (dk_at dksJ2_equals_1 14 rfl rfl)
theorem dJ2_equals_37 : decode cJ2_equals 37 = .ok (.getfield 9, 3) := dk_180 0 9 (dk_at dksJ2_equals_1 15 rfl rfl)
theorem dJ2_equals_40 : decode cJ2_equals 40 = .ok (.aload_n 2, 1) := dk_44 (dk_at dksJ2_equals_1 18 rfl rfl)
theorem dJ2_equals_41 : decode cJ2_equals 41 = .ok (.getfield 9, 3) := dk_180 0 9 (dk_at dksJ2_equals_1 19 rfl rfl)
theorem dJ2_equals_44 : decode cJ2_equals 44 = .ok (.invokestatic 541, 3) := dk_184 2 29 (dk_at dksJ2_equals_2 0 rfl rfl)
theorem dJ2_equals_47 : decode cJ2_equals 47 = .ok (.ifCond .eq 7, 3) := dk_153 0 7 (dk_at dksJ2_equals_2 3 rfl rfl)
theorem dJ2_equals_50 : decode cJ2_equals 50 = .ok (.iconst 1, 1) := dk_4 (dk_at dksJ2_equals_2 6 rfl rfl)
theorem dJ2_equals_51 : decode cJ2_equals 51 = .ok (.goto 4, 3) := dk_167 0 4 (dk_at dksJ2_equals_2 7 rfl rfl)
theorem dJ2_equals_54 : decode cJ2_equals 54 = .ok (.iconst 0, 1) := dk_3 (dk_at dksJ2_equals_2 10 rfl rfl)
theorem dJ2_equals_55 : decode cJ2_equals 55 = .ok (.ireturn, 1) := dk_172 (dk_at dksJ2_equals_2 11 rfl rfl)
abbrev cJ2_toString : ByteArray := prog_43_method_126_code
def yJ2_toString : MethodName := ⟨RJ2, "toString", "()Ljava/lang/String;"⟩
theorem dJ2_toString_0 : decode cJ2_toString 0 = .ok (.aload_n 0, 1) := by decide +kernel
theorem dJ2_toString_1 : decode cJ2_toString 1 = .ok (.areturn, 1) := by decide +kernel
abbrev cJ2_substring : ByteArray := prog_43_method_92_code
def yJ2_substring : MethodName := ⟨RJ2, "substring", "(II)Ljava/lang/String;"⟩
def dkwJ2_substring_2 : List UInt8 := [180, 0, 9, 27, 21, 4, 184, 2, 177, 176]
abbrev dktJ2_substring_2 : List UInt8 := dkwJ2_substring_2 ++ []
def dkwJ2_substring_1 : List UInt8 := [100, 54, 4, 42, 182, 1, 236, 153, 0, 16, 42, 180, 0, 9, 27, 21, 4, 184, 2, 173, 167, 0, 13, 42]
abbrev dktJ2_substring_1 : List UInt8 := dkwJ2_substring_1 ++ dktJ2_substring_2
def dkwJ2_substring_0 : List UInt8 := [42, 182, 1, 249, 62, 27, 28, 29, 184, 2, 9, 27, 154, 0, 10, 28, 29, 160, 0, 5, 42, 176, 28, 27]
abbrev dktJ2_substring_0 : List UInt8 := dkwJ2_substring_0 ++ dktJ2_substring_1
theorem dksJ2_substring_0 : cJ2_substring.data.toList.drop 0 = dktJ2_substring_0 := by decide +kernel
theorem dksJ2_substring_1 : cJ2_substring.data.toList.drop 24 = dktJ2_substring_1 := dk_seg dksJ2_substring_0 24 rfl rfl
theorem dksJ2_substring_2 : cJ2_substring.data.toList.drop 48 = dktJ2_substring_2 := dk_seg dksJ2_substring_1 24 rfl rfl
theorem dJ2_substring_0 : decode cJ2_substring 0 = .ok (.aload_n 0, 1) := dk_42 (dk_at dksJ2_substring_0 0 rfl rfl)
theorem dJ2_substring_1 : decode cJ2_substring 1 = .ok (.invokevirtual 505, 3) := dk_182 1 249 (dk_at dksJ2_substring_0 1 rfl rfl)
theorem dJ2_substring_4 : decode cJ2_substring 4 = .ok (.istore_n 3, 1) := dk_62 (dk_at dksJ2_substring_0 4 rfl rfl)
theorem dJ2_substring_5 : decode cJ2_substring 5 = .ok (.iload_n 1, 1) := dk_27 (dk_at dksJ2_substring_0 5 rfl rfl)
theorem dJ2_substring_6 : decode cJ2_substring 6 = .ok (.iload_n 2, 1) := dk_28 (dk_at dksJ2_substring_0 6 rfl rfl)
theorem dJ2_substring_7 : decode cJ2_substring 7 = .ok (.iload_n 3, 1) := dk_29 (dk_at dksJ2_substring_0 7 rfl rfl)
theorem dJ2_substring_8 : decode cJ2_substring 8 = .ok (.invokestatic 521, 3) := dk_184 2 9 (dk_at dksJ2_substring_0 8 rfl rfl)
theorem dJ2_substring_11 : decode cJ2_substring 11 = .ok (.iload_n 1, 1) := dk_27 (dk_at dksJ2_substring_0 11 rfl rfl)
theorem dJ2_substring_12 : decode cJ2_substring 12 = .ok (.ifCond .ne 10, 3) := dk_154 0 10 (dk_at dksJ2_substring_0 12 rfl rfl)
theorem dJ2_substring_15 : decode cJ2_substring 15 = .ok (.iload_n 2, 1) := dk_28 (dk_at dksJ2_substring_0 15 rfl rfl)
theorem dJ2_substring_16 : decode cJ2_substring 16 = .ok (.iload_n 3, 1) := dk_29 (dk_at dksJ2_substring_0 16 rfl rfl)
theorem dJ2_substring_17 : decode cJ2_substring 17 = .ok (.if_icmp .ne 5, 3) := dk_160 0 5 (dk_at dksJ2_substring_0 17 rfl rfl)
theorem dJ2_substring_20 : decode cJ2_substring 20 = .ok (.aload_n 0, 1) := dk_42 (dk_at dksJ2_substring_0 20 rfl rfl)
theorem dJ2_substring_21 : decode cJ2_substring 21 = .ok (.areturn, 1) := dk_176 (dk_at dksJ2_substring_0 21 rfl rfl)
theorem dJ2_substring_22 : decode cJ2_substring 22 = .ok (.iload_n 2, 1) := dk_28 (dk_at dksJ2_substring_0 22 rfl rfl)
theorem dJ2_substring_23 : decode cJ2_substring 23 = .ok (.iload_n 1, 1) := dk_27 (dk_at dksJ2_substring_0 23 rfl rfl)
theorem dJ2_substring_24 : decode cJ2_substring 24 = .ok (.isub, 1) := dk_100 (dk_at dksJ2_substring_1 0 rfl rfl)
theorem dJ2_substring_25 : decode cJ2_substring 25 = .ok (.istore 4, 2) := dk_54 4 (dk_at dksJ2_substring_1 1 rfl rfl)
theorem dJ2_substring_27 : decode cJ2_substring 27 = .ok (.aload_n 0, 1) := dk_42 (dk_at dksJ2_substring_1 3 rfl rfl)
theorem dJ2_substring_28 : decode cJ2_substring 28 = .ok (.invokevirtual 492, 3) := dk_182 1 236 (dk_at dksJ2_substring_1 4 rfl rfl)
theorem dJ2_substring_31 : decode cJ2_substring 31 = .ok (.ifCond .eq 16, 3) := dk_153 0 16 (dk_at dksJ2_substring_1 7 rfl rfl)
theorem dJ2_substring_34 : decode cJ2_substring 34 = .ok (.aload_n 0, 1) := dk_42 (dk_at dksJ2_substring_1 10 rfl rfl)
theorem dJ2_substring_35 : decode cJ2_substring 35 = .ok (.getfield 9, 3) := dk_180 0 9 (dk_at dksJ2_substring_1 11 rfl rfl)
theorem dJ2_substring_38 : decode cJ2_substring 38 = .ok (.iload_n 1, 1) := dk_27 (dk_at dksJ2_substring_1 14 rfl rfl)
theorem dJ2_substring_39 : decode cJ2_substring 39 = .ok (.iload 4, 2) := dk_21 4 (dk_at dksJ2_substring_1 15 rfl rfl)
theorem dJ2_substring_41 : decode cJ2_substring 41 = .ok (.invokestatic 685, 3) := dk_184 2 173 (dk_at dksJ2_substring_1 17 rfl rfl)
theorem dJ2_substring_44 : decode cJ2_substring 44 = .ok (.goto 13, 3) := dk_167 0 13 (dk_at dksJ2_substring_1 20 rfl rfl)
theorem dJ2_substring_47 : decode cJ2_substring 47 = .ok (.aload_n 0, 1) := dk_42 (dk_at dksJ2_substring_1 23 rfl rfl)
theorem dJ2_substring_48 : decode cJ2_substring 48 = .ok (.getfield 9, 3) := dk_180 0 9 (dk_at dksJ2_substring_2 0 rfl rfl)
theorem dJ2_substring_51 : decode cJ2_substring 51 = .ok (.iload_n 1, 1) := dk_27 (dk_at dksJ2_substring_2 3 rfl rfl)
theorem dJ2_substring_52 : decode cJ2_substring 52 = .ok (.iload 4, 2) := dk_21 4 (dk_at dksJ2_substring_2 4 rfl rfl)
theorem dJ2_substring_54 : decode cJ2_substring 54 = .ok (.invokestatic 689, 3) := dk_184 2 177 (dk_at dksJ2_substring_2 6 rfl rfl)
theorem dJ2_substring_57 : decode cJ2_substring 57 = .ok (.areturn, 1) := dk_176 (dk_at dksJ2_substring_2 9 rfl rfl)
abbrev cJ2_init_3 : ByteArray := prog_43_method_151_code
def yJ2_init_3 : MethodName := ⟨RJ2, "<init>", "([BB)V"⟩
def dkwJ2_init_3_0 : List UInt8 := [42, 183, 0, 1, 42, 43, 181, 0, 9, 42, 28, 181, 0, 15, 177]
abbrev dktJ2_init_3_0 : List UInt8 := dkwJ2_init_3_0 ++ []
theorem dksJ2_init_3_0 : cJ2_init_3.data.toList.drop 0 = dktJ2_init_3_0 := by decide +kernel
theorem dJ2_init_3_0 : decode cJ2_init_3 0 = .ok (.aload_n 0, 1) := dk_42 (dk_at dksJ2_init_3_0 0 rfl rfl)
theorem dJ2_init_3_1 : decode cJ2_init_3 1 = .ok (.invokespecial 1, 3) := dk_183 0 1 (dk_at dksJ2_init_3_0 1 rfl rfl)
theorem dJ2_init_3_4 : decode cJ2_init_3 4 = .ok (.aload_n 0, 1) := dk_42 (dk_at dksJ2_init_3_0 4 rfl rfl)
theorem dJ2_init_3_5 : decode cJ2_init_3 5 = .ok (.aload_n 1, 1) := dk_43 (dk_at dksJ2_init_3_0 5 rfl rfl)
theorem dJ2_init_3_6 : decode cJ2_init_3 6 = .ok (.putfield 9, 3) := dk_181 0 9 (dk_at dksJ2_init_3_0 6 rfl rfl)
theorem dJ2_init_3_9 : decode cJ2_init_3 9 = .ok (.aload_n 0, 1) := dk_42 (dk_at dksJ2_init_3_0 9 rfl rfl)
theorem dJ2_init_3_10 : decode cJ2_init_3 10 = .ok (.iload_n 2, 1) := dk_28 (dk_at dksJ2_init_3_0 10 rfl rfl)
theorem dJ2_init_3_11 : decode cJ2_init_3 11 = .ok (.putfield 15, 3) := dk_181 0 15 (dk_at dksJ2_init_3_0 11 rfl rfl)
theorem dJ2_init_3_14 : decode cJ2_init_3 14 = .ok (.return_, 1) := dk_177 (dk_at dksJ2_init_3_0 14 rfl rfl)
abbrev cJ2_checkOffset : ByteArray := prog_43_method_156_code
def yJ2_checkOffset : MethodName := ⟨RJ2, "checkOffset", "(II)V"⟩
def dkwJ2_checkOffset_0 : List UInt8 := [26, 27, 27, 178, 4, 29, 184, 4, 38, 87, 177]
abbrev dktJ2_checkOffset_0 : List UInt8 := dkwJ2_checkOffset_0 ++ []
theorem dksJ2_checkOffset_0 : cJ2_checkOffset.data.toList.drop 0 = dktJ2_checkOffset_0 := by decide +kernel
theorem dJ2_checkOffset_0 : decode cJ2_checkOffset 0 = .ok (.iload_n 0, 1) := dk_26 (dk_at dksJ2_checkOffset_0 0 rfl rfl)
theorem dJ2_checkOffset_1 : decode cJ2_checkOffset 1 = .ok (.iload_n 1, 1) := dk_27 (dk_at dksJ2_checkOffset_0 1 rfl rfl)
theorem dJ2_checkOffset_2 : decode cJ2_checkOffset 2 = .ok (.iload_n 1, 1) := dk_27 (dk_at dksJ2_checkOffset_0 2 rfl rfl)
theorem dJ2_checkOffset_3 : decode cJ2_checkOffset 3 = .ok (.getstatic 1053, 3) := dk_178 4 29 (dk_at dksJ2_checkOffset_0 3 rfl rfl)
theorem dJ2_checkOffset_6 : decode cJ2_checkOffset 6 = .ok (.invokestatic 1062, 3) := dk_184 4 38 (dk_at dksJ2_checkOffset_0 6 rfl rfl)
theorem dJ2_checkOffset_9 : decode cJ2_checkOffset 9 = .ok (.pop, 1) := dk_87 (dk_at dksJ2_checkOffset_0 9 rfl rfl)
theorem dJ2_checkOffset_10 : decode cJ2_checkOffset 10 = .ok (.return_, 1) := dk_177 (dk_at dksJ2_checkOffset_0 10 rfl rfl)
abbrev cJ2_value : ByteArray := prog_43_method_153_code
def yJ2_value : MethodName := ⟨RJ2, "value", "()[B"⟩
theorem dJ2_value_0 : decode cJ2_value 0 = .ok (.aload_n 0, 1) := by decide +kernel
theorem dJ2_value_1 : decode cJ2_value 1 = .ok (.getfield 9, 3) := by decide +kernel
theorem dJ2_value_4 : decode cJ2_value 4 = .ok (.areturn, 1) := by decide +kernel
theorem q126 : (Jvm.Cond.initialized "java/lang/String") ∈ lw_all := lw_g (lw_at lw_m1 6 rfl) rfl
theorem q209 : (Jvm.Cond.laysStatic "java/lang/String" "COMPACT_STRINGS" "Z") ∈ lw_tbl := lw_at lw_m1 89 rfl
theorem q305 : (Jvm.Cond.fieldLink "java/lang/String" (1048 : Nat) "java/lang/AbstractStringBuilder" "maybeLatin1" "Z") ∈ lw_all := lw_g (lw_at lw_m1 185 rfl) rfl
theorem q616 : (Jvm.Cond.instantiable "java/lang/String" (4 : Nat)) ∈ lw_all := lw_g (lw_at lw_m3 16 rfl) rfl
theorem q617 : (Jvm.Cond.laysFinal "java/lang/String" "java/lang/String" "value" "[B") ∈ lw_all := lw_g (lw_at lw_m3 17 rfl) rfl
theorem q618 : (Jvm.Cond.soleField "java/lang/String" "value") ∈ lw_all := lw_g (lw_at lw_m3 18 rfl) rfl
theorem q619 : (Jvm.Cond.laysFinal "java/lang/String" "java/lang/String" "coder" "B") ∈ lw_all := lw_g (lw_at lw_m3 19 rfl) rfl
theorem q620 : (Jvm.Cond.soleField "java/lang/String" "coder") ∈ lw_all := lw_g (lw_at lw_m3 20 rfl) rfl
theorem q874 : (Jvm.Cond.instanceMethod ({ cls := "java/lang/String", name := "length", desc := "()I" } : Jvm.MethodName)) ∈ lw_all := lw_g (lw_at lw_m4 34 rfl) rfl
theorem q875 : (Jvm.Cond.selects "java/lang/String" ({ cls := "java/lang/String", name := "length", desc := "()I" } : Jvm.MethodName) ({ cls := "java/lang/String", name := "length", desc := "()I" } : Jvm.MethodName)) ∈ lw_all := lw_g (lw_at lw_m4 35 rfl) rfl
theorem q876 : (Jvm.Cond.code ({ cls := "java/lang/String", name := "length", desc := "()I" } : Jvm.MethodName) prog_43_method_54_code (1 : Nat) (Option.some Jvm.ClassFile.FieldType.int)) ∈ lw_all := lw_g (lw_at lw_m4 36 rfl) rfl
theorem q877 : (Jvm.Cond.methodLink "java/lang/String" (335 : Nat) ({ cls := "java/lang/String", name := "coder", desc := "()B" } : Jvm.MethodName)) ∈ lw_all := lw_g (lw_at lw_m4 37 rfl) rfl
theorem q878 : (Jvm.Cond.instanceMethod ({ cls := "java/lang/String", name := "coder", desc := "()B" } : Jvm.MethodName)) ∈ lw_all := lw_g (lw_at lw_m4 38 rfl) rfl
theorem q879 : (Jvm.Cond.selects "java/lang/String" ({ cls := "java/lang/String", name := "coder", desc := "()B" } : Jvm.MethodName) ({ cls := "java/lang/String", name := "coder", desc := "()B" } : Jvm.MethodName)) ∈ lw_all := lw_g (lw_at lw_m4 39 rfl) rfl
theorem q880 : (Jvm.Cond.code ({ cls := "java/lang/String", name := "coder", desc := "()B" } : Jvm.MethodName) prog_43_method_152_code (1 : Nat) (Option.some Jvm.ClassFile.FieldType.byte)) ∈ lw_all := lw_g (lw_at lw_m4 40 rfl) rfl
theorem q881 : (Jvm.Cond.fieldLink "java/lang/String" (38 : Nat) "java/lang/String" "COMPACT_STRINGS" "Z") ∈ lw_all := lw_g (lw_at lw_m4 41 rfl) rfl
theorem q892 : (Jvm.Cond.instanceMethod ({ cls := "java/lang/String", name := "charAt", desc := "(I)C" } : Jvm.MethodName)) ∈ lw_all := lw_g (lw_at lw_m4 52 rfl) rfl
theorem q893 : (Jvm.Cond.selects "java/lang/String" ({ cls := "java/lang/String", name := "charAt", desc := "(I)C" } : Jvm.MethodName) ({ cls := "java/lang/String", name := "charAt", desc := "(I)C" } : Jvm.MethodName)) ∈ lw_all := lw_g (lw_at lw_m4 53 rfl) rfl
theorem q894 : (Jvm.Cond.code ({ cls := "java/lang/String", name := "charAt", desc := "(I)C" } : Jvm.MethodName) prog_43_method_56_code (2 : Nat) (Option.some Jvm.ClassFile.FieldType.char)) ∈ lw_all := lw_g (lw_at lw_m4 54 rfl) rfl
theorem q895 : (Jvm.Cond.methodLink "java/lang/String" (492 : Nat) ({ cls := "java/lang/String", name := "isLatin1", desc := "()Z" } : Jvm.MethodName)) ∈ lw_all := lw_g (lw_at lw_m4 55 rfl) rfl
theorem q896 : (Jvm.Cond.instanceMethod ({ cls := "java/lang/String", name := "isLatin1", desc := "()Z" } : Jvm.MethodName)) ∈ lw_all := lw_g (lw_at lw_m4 56 rfl) rfl
theorem q897 : (Jvm.Cond.selects "java/lang/String" ({ cls := "java/lang/String", name := "isLatin1", desc := "()Z" } : Jvm.MethodName) ({ cls := "java/lang/String", name := "isLatin1", desc := "()Z" } : Jvm.MethodName)) ∈ lw_all := lw_g (lw_at lw_m4 57 rfl) rfl
theorem q898 : (Jvm.Cond.code ({ cls := "java/lang/String", name := "isLatin1", desc := "()Z" } : Jvm.MethodName) prog_43_method_154_code (1 : Nat) (Option.some Jvm.ClassFile.FieldType.boolean)) ∈ lw_all := lw_g (lw_at lw_m4 58 rfl) rfl
theorem q899 : (Jvm.Cond.methodLink "java/lang/String" (495 : Nat) ({ cls := "java/lang/StringLatin1", name := "charAt", desc := "([BI)C" } : Jvm.MethodName)) ∈ lw_all := lw_g (lw_at lw_m4 59 rfl) rfl
theorem q903 : (Jvm.Cond.static ({ cls := "java/lang/String", name := "checkIndex", desc := "(II)V" } : Jvm.MethodName)) ∈ lw_all := lw_g (lw_at lw_m4 63 rfl) rfl
theorem q904 : (Jvm.Cond.code ({ cls := "java/lang/String", name := "checkIndex", desc := "(II)V" } : Jvm.MethodName) prog_43_method_155_code (2 : Nat) (Option.none : Option Jvm.ClassFile.FieldType)) ∈ lw_all := lw_g (lw_at lw_m4 64 rfl) rfl
theorem q905 : (Jvm.Cond.fieldLink "java/lang/String" (1053 : Nat) "jdk/internal/util/Preconditions" "SIOOBE_FORMATTER" "Ljava/util/function/BiFunction;") ∈ lw_all := lw_g (lw_at lw_m4 65 rfl) rfl
theorem q907 : (Jvm.Cond.methodLink "java/lang/String" (1059 : Nat) ({ cls := "jdk/internal/util/Preconditions", name := "checkIndex", desc := "(IILjava/util/function/BiFunction;)I" } : Jvm.MethodName)) ∈ lw_all := lw_g (lw_at lw_m4 67 rfl) rfl
theorem q908 : (Jvm.Cond.methodLink "java/lang/String" (498 : Nat) ({ cls := "java/lang/StringUTF16", name := "charAt", desc := "([BI)C" } : Jvm.MethodName)) ∈ lw_all := lw_g (lw_at lw_m4 68 rfl) rfl
theorem q1070 : (Jvm.Cond.static ({ cls := "java/lang/String", name := "checkBoundsBeginEnd", desc := "(III)V" } : Jvm.MethodName)) ∈ lw_all := lw_g (lw_at lw_m4 230 rfl) rfl
theorem q1071 : (Jvm.Cond.code ({ cls := "java/lang/String", name := "checkBoundsBeginEnd", desc := "(III)V" } : Jvm.MethodName) prog_43_method_158_code (3 : Nat) (Option.none : Option Jvm.ClassFile.FieldType)) ∈ lw_all := lw_g (lw_at lw_m4 231 rfl) rfl
theorem q1072 : (Jvm.Cond.methodLink "java/lang/String" (1062 : Nat) ({ cls := "jdk/internal/util/Preconditions", name := "checkFromToIndex", desc := "(IIILjava/util/function/BiFunction;)I" } : Jvm.MethodName)) ∈ lw_all := lw_g (lw_at lw_m4 232 rfl) rfl
theorem q1102 : (Jvm.Cond.static ({ cls := "java/lang/String", name := "checkBoundsOffCount", desc := "(III)I" } : Jvm.MethodName)) ∈ lw_all := lw_g (lw_at lw_m5 22 rfl) rfl
theorem q1103 : (Jvm.Cond.code ({ cls := "java/lang/String", name := "checkBoundsOffCount", desc := "(III)I" } : Jvm.MethodName) prog_43_method_157_code (3 : Nat) (Option.some Jvm.ClassFile.FieldType.int)) ∈ lw_all := lw_g (lw_at lw_m5 23 rfl) rfl
theorem q1104 : (Jvm.Cond.methodLink "java/lang/String" (1065 : Nat) ({ cls := "jdk/internal/util/Preconditions", name := "checkFromIndexSize", desc := "(IIILjava/util/function/BiFunction;)I" } : Jvm.MethodName)) ∈ lw_all := lw_g (lw_at lw_m5 24 rfl) rfl
theorem q1108 : (Jvm.Cond.instanceMethod ({ cls := "java/lang/String", name := "getBytes", desc := "([BIB)V" } : Jvm.MethodName)) ∈ lw_all := lw_g (lw_at lw_m5 28 rfl) rfl
theorem q1109 : (Jvm.Cond.selects "java/lang/String" ({ cls := "java/lang/String", name := "getBytes", desc := "([BIB)V" } : Jvm.MethodName) ({ cls := "java/lang/String", name := "getBytes", desc := "([BIB)V" } : Jvm.MethodName)) ∈ lw_all := lw_g (lw_at lw_m5 29 rfl) rfl
theorem q1110 : (Jvm.Cond.code ({ cls := "java/lang/String", name := "getBytes", desc := "([BIB)V" } : Jvm.MethodName) prog_43_method_147_code (4 : Nat) (Option.none : Option Jvm.ClassFile.FieldType)) ∈ lw_all := lw_g (lw_at lw_m5 30 rfl) rfl
theorem q1111 : (Jvm.Cond.methodLink "java/lang/String" (212 : Nat) ({ cls := "java/lang/System", name := "arraycopy", desc := "(Ljava/lang/Object;ILjava/lang/Object;II)V" } : Jvm.MethodName)) ∈ lw_all := lw_g (lw_at lw_m5 31 rfl) rfl
theorem q1112 : (Jvm.Cond.methodLink "java/lang/String" (106 : Nat) ({ cls := "java/lang/StringLatin1", name := "inflate", desc := "([BI[BII)V" } : Jvm.MethodName)) ∈ lw_all := lw_g (lw_at lw_m5 32 rfl) rfl
theorem q1132 : (Jvm.Cond.instanceMethod ({ cls := "java/lang/String", name := "<init>", desc := "(Ljava/lang/StringBuilder;)V" } : Jvm.MethodName)) ∈ lw_all := lw_g (lw_at lw_m5 52 rfl) rfl
theorem q1133 : (Jvm.Cond.code ({ cls := "java/lang/String", name := "<init>", desc := "(Ljava/lang/StringBuilder;)V" } : Jvm.MethodName) prog_43_method_53_code (2 : Nat) (Option.none : Option Jvm.ClassFile.FieldType)) ∈ lw_all := lw_g (lw_at lw_m5 53 rfl) rfl
theorem q1134 : (Jvm.Cond.methodLink "java/lang/String" (489 : Nat) ({ cls := "java/lang/String", name := "<init>", desc := "(Ljava/lang/AbstractStringBuilder;Ljava/lang/Void;)V" } : Jvm.MethodName)) ∈ lw_all := lw_g (lw_at lw_m5 54 rfl) rfl
theorem q1135 : (Jvm.Cond.instanceMethod ({ cls := "java/lang/String", name := "<init>", desc := "(Ljava/lang/AbstractStringBuilder;Ljava/lang/Void;)V" } : Jvm.MethodName)) ∈ lw_all := lw_g (lw_at lw_m5 55 rfl) rfl
theorem q1136 : (Jvm.Cond.code ({ cls := "java/lang/String", name := "<init>", desc := "(Ljava/lang/AbstractStringBuilder;Ljava/lang/Void;)V" } : Jvm.MethodName) prog_43_method_150_code (5 : Nat) (Option.none : Option Jvm.ClassFile.FieldType)) ∈ lw_all := lw_g (lw_at lw_m5 56 rfl) rfl
theorem q1137 : (Jvm.Cond.methodLink "java/lang/String" (1 : Nat) ({ cls := "java/lang/Object", name := "<init>", desc := "()V" } : Jvm.MethodName)) ∈ lw_all := lw_g (lw_at lw_m5 57 rfl) rfl
theorem q1138 : (Jvm.Cond.methodLink "java/lang/String" (552 : Nat) ({ cls := "java/lang/AbstractStringBuilder", name := "getValue", desc := "()[B" } : Jvm.MethodName)) ∈ lw_all := lw_g (lw_at lw_m5 58 rfl) rfl
theorem q1143 : (Jvm.Cond.methodLink "java/lang/String" (549 : Nat) ({ cls := "java/lang/AbstractStringBuilder", name := "length", desc := "()I" } : Jvm.MethodName)) ∈ lw_all := lw_g (lw_at lw_m5 63 rfl) rfl
theorem q1151 : (Jvm.Cond.methodLink "java/lang/String" (1047 : Nat) ({ cls := "java/lang/AbstractStringBuilder", name := "isLatin1", desc := "()Z" } : Jvm.MethodName)) ∈ lw_all := lw_g (lw_at lw_m5 71 rfl) rfl
theorem q1152 : (Jvm.Cond.methodLink "java/lang/String" (54 : Nat) ({ cls := "java/util/Arrays", name := "copyOfRange", desc := "([BII)[B" } : Jvm.MethodName)) ∈ lw_all := lw_g (lw_at lw_m5 72 rfl) rfl
theorem q1161 : (Jvm.Cond.methodLink "java/lang/String" (1051 : Nat) ({ cls := "java/lang/StringUTF16", name := "compress", desc := "([BII)[B" } : Jvm.MethodName)) ∈ lw_all := lw_g (lw_at lw_m5 81 rfl) rfl
theorem q1168 : (Jvm.Cond.methodLink "java/lang/String" (47 : Nat) ({ cls := "java/lang/StringUTF16", name := "coderFromArrayLen", desc := "([BI)B" } : Jvm.MethodName)) ∈ lw_all := lw_g (lw_at lw_m5 88 rfl) rfl
theorem q1171 : (Jvm.Cond.fieldLink "java/lang/String" (9 : Nat) "java/lang/String" "value" "[B") ∈ lw_all := lw_g (lw_at lw_m5 91 rfl) rfl
theorem q1172 : (Jvm.Cond.fieldLink "java/lang/String" (15 : Nat) "java/lang/String" "coder" "B") ∈ lw_all := lw_g (lw_at lw_m5 92 rfl) rfl
theorem q1173 : (Jvm.Cond.fieldLink "java/lang/String" (19 : Nat) "java/lang/String" "hash" "I") ∈ lw_all := lw_g (lw_at lw_m5 93 rfl) rfl
theorem q1174 : (Jvm.Cond.fieldLink "java/lang/String" (23 : Nat) "java/lang/String" "hashIsZero" "Z") ∈ lw_all := lw_g (lw_at lw_m5 94 rfl) rfl
theorem q1175 : (Jvm.Cond.lays "java/lang/String" "java/lang/String" "hash" "I") ∈ lw_all := lw_g (lw_at lw_m5 95 rfl) rfl
theorem q1176 : (Jvm.Cond.soleField "java/lang/String" "hash") ∈ lw_all := lw_g (lw_at lw_m5 96 rfl) rfl
theorem q1177 : (Jvm.Cond.lays "java/lang/String" "java/lang/String" "hashIsZero" "Z") ∈ lw_all := lw_g (lw_at lw_m5 97 rfl) rfl
theorem q1178 : (Jvm.Cond.soleField "java/lang/String" "hashIsZero") ∈ lw_all := lw_g (lw_at lw_m5 98 rfl) rfl
theorem q1179 : (Jvm.Cond.superclass "java/lang/String" "java/lang/Object") ∈ lw_all := lw_g (lw_at lw_m5 99 rfl) rfl
theorem q1182 : (Jvm.Cond.instanceMethod ({ cls := "java/lang/String", name := "hashCode", desc := "()I" } : Jvm.MethodName)) ∈ lw_all := lw_g (lw_at lw_m5 102 rfl) rfl
theorem q1183 : (Jvm.Cond.selects "java/lang/String" ({ cls := "java/lang/String", name := "hashCode", desc := "()I" } : Jvm.MethodName) ({ cls := "java/lang/String", name := "hashCode", desc := "()I" } : Jvm.MethodName)) ∈ lw_all := lw_g (lw_at lw_m5 103 rfl) rfl
theorem q1184 : (Jvm.Cond.code ({ cls := "java/lang/String", name := "hashCode", desc := "()I" } : Jvm.MethodName) prog_43_method_78_code (2 : Nat) (Option.some Jvm.ClassFile.FieldType.int)) ∈ lw_all := lw_g (lw_at lw_m5 104 rfl) rfl
theorem q1185 : (Jvm.Cond.methodLink "java/lang/String" (628 : Nat) ({ cls := "java/lang/StringLatin1", name := "hashCode", desc := "([B)I" } : Jvm.MethodName)) ∈ lw_all := lw_g (lw_at lw_m5 105 rfl) rfl
theorem q1226 : (Jvm.Cond.methodLink "java/lang/String" (632 : Nat) ({ cls := "java/lang/StringUTF16", name := "hashCode", desc := "([B)I" } : Jvm.MethodName)) ∈ lw_all := lw_g (lw_at lw_m5 146 rfl) rfl
theorem q1232 : (Jvm.Cond.instanceMethod ({ cls := "java/lang/String", name := "equals", desc := "(Ljava/lang/Object;)Z" } : Jvm.MethodName)) ∈ lw_all := lw_g (lw_at lw_m5 152 rfl) rfl
theorem q1233 : (Jvm.Cond.selects "java/lang/String" ({ cls := "java/lang/String", name := "equals", desc := "(Ljava/lang/Object;)Z" } : Jvm.MethodName) ({ cls := "java/lang/String", name := "equals", desc := "(Ljava/lang/Object;)Z" } : Jvm.MethodName)) ∈ lw_all := lw_g (lw_at lw_m5 153 rfl) rfl
theorem q1234 : (Jvm.Cond.code ({ cls := "java/lang/String", name := "equals", desc := "(Ljava/lang/Object;)Z" } : Jvm.MethodName) prog_43_method_66_code (3 : Nat) (Option.some Jvm.ClassFile.FieldType.boolean)) ∈ lw_all := lw_g (lw_at lw_m5 154 rfl) rfl
theorem q1235 : (Jvm.Cond.classLink "java/lang/String" (10 : Nat) "java/lang/String") ∈ lw_all := lw_g (lw_at lw_m5 155 rfl) rfl
theorem q1236 : (Jvm.Cond.methodLink "java/lang/String" (541 : Nat) ({ cls := "java/lang/StringLatin1", name := "equals", desc := "([B[B)Z" } : Jvm.MethodName)) ∈ lw_all := lw_g (lw_at lw_m5 156 rfl) rfl
theorem q1303 : (Jvm.Cond.castable "java/lang/String" "java/lang/CharSequence") ∈ lw_tbl := lw_at lw_m5 223 rfl
theorem q1304 : (Jvm.Cond.selects "java/lang/String" ({ cls := "java/lang/CharSequence", name := "toString", desc := "()Ljava/lang/String;" } : Jvm.MethodName) ({ cls := "java/lang/String", name := "toString", desc := "()Ljava/lang/String;" } : Jvm.MethodName)) ∈ lw_all := lw_g (lw_at lw_m5 224 rfl) rfl
theorem q1305 : (Jvm.Cond.unhidden "java/lang/String" "toString" "()Ljava/lang/String;") ∈ lw_tbl := lw_at lw_m5 225 rfl
theorem q1306 : (Jvm.Cond.instanceMethod ({ cls := "java/lang/String", name := "toString", desc := "()Ljava/lang/String;" } : Jvm.MethodName)) ∈ lw_all := lw_g (lw_at lw_m5 226 rfl) rfl
theorem q1307 : (Jvm.Cond.publicMethod ({ cls := "java/lang/String", name := "toString", desc := "()Ljava/lang/String;" } : Jvm.MethodName)) ∈ lw_tbl := lw_at lw_m5 227 rfl
theorem q1308 : (Jvm.Cond.code ({ cls := "java/lang/String", name := "toString", desc := "()Ljava/lang/String;" } : Jvm.MethodName) prog_43_method_126_code (1 : Nat) (Option.some (Jvm.ClassFile.FieldType.object "java/lang/String"))) ∈ lw_all := lw_g (lw_at lw_m5 228 rfl) rfl
theorem q1466 : (Jvm.Cond.selects "java/lang/String" ({ cls := "java/lang/Object", name := "getClass", desc := "()Ljava/lang/Class;" } : Jvm.MethodName) ({ cls := "java/lang/Object", name := "getClass", desc := "()Ljava/lang/Class;" } : Jvm.MethodName)) ∈ lw_all := lw_g (lw_at lw_m6 146 rfl) rfl
theorem q1762 : (Jvm.Cond.instanceMethod ({ cls := "java/lang/String", name := "substring", desc := "(II)Ljava/lang/String;" } : Jvm.MethodName)) ∈ lw_all := lw_g (lw_at lw_m7 202 rfl) rfl
theorem q1763 : (Jvm.Cond.selects "java/lang/String" ({ cls := "java/lang/String", name := "substring", desc := "(II)Ljava/lang/String;" } : Jvm.MethodName) ({ cls := "java/lang/String", name := "substring", desc := "(II)Ljava/lang/String;" } : Jvm.MethodName)) ∈ lw_all := lw_g (lw_at lw_m7 203 rfl) rfl
theorem q1764 : (Jvm.Cond.code ({ cls := "java/lang/String", name := "substring", desc := "(II)Ljava/lang/String;" } : Jvm.MethodName) prog_43_method_92_code (5 : Nat) (Option.some (Jvm.ClassFile.FieldType.object "java/lang/String"))) ∈ lw_all := lw_g (lw_at lw_m7 204 rfl) rfl
theorem q1765 : (Jvm.Cond.methodLink "java/lang/String" (505 : Nat) ({ cls := "java/lang/String", name := "length", desc := "()I" } : Jvm.MethodName)) ∈ lw_all := lw_g (lw_at lw_m7 205 rfl) rfl
theorem q1766 : (Jvm.Cond.methodLink "java/lang/String" (521 : Nat) ({ cls := "java/lang/String", name := "checkBoundsBeginEnd", desc := "(III)V" } : Jvm.MethodName)) ∈ lw_all := lw_g (lw_at lw_m7 206 rfl) rfl
theorem q1767 : (Jvm.Cond.methodLink "java/lang/String" (685 : Nat) ({ cls := "java/lang/StringLatin1", name := "newString", desc := "([BII)Ljava/lang/String;" } : Jvm.MethodName)) ∈ lw_all := lw_g (lw_at lw_m7 207 rfl) rfl
theorem q1774 : (Jvm.Cond.instanceMethod ({ cls := "java/lang/String", name := "<init>", desc := "([BB)V" } : Jvm.MethodName)) ∈ lw_all := lw_g (lw_at lw_m7 214 rfl) rfl
theorem q1775 : (Jvm.Cond.code ({ cls := "java/lang/String", name := "<init>", desc := "([BB)V" } : Jvm.MethodName) prog_43_method_151_code (3 : Nat) (Option.none : Option Jvm.ClassFile.FieldType)) ∈ lw_all := lw_g (lw_at lw_m7 215 rfl) rfl
theorem q1776 : (Jvm.Cond.methodLink "java/lang/String" (689 : Nat) ({ cls := "java/lang/StringUTF16", name := "newString", desc := "([BII)Ljava/lang/String;" } : Jvm.MethodName)) ∈ lw_all := lw_g (lw_at lw_m7 216 rfl) rfl
theorem q2019 : (Jvm.Cond.selects "java/lang/String" ({ cls := "java/lang/CharSequence", name := "length", desc := "()I" } : Jvm.MethodName) ({ cls := "java/lang/String", name := "length", desc := "()I" } : Jvm.MethodName)) ∈ lw_all := lw_g (lw_at lw_m8 219 rfl) rfl
theorem q2020 : (Jvm.Cond.unhidden "java/lang/String" "length" "()I") ∈ lw_tbl := lw_at lw_m8 220 rfl
theorem q2021 : (Jvm.Cond.publicMethod ({ cls := "java/lang/String", name := "length", desc := "()I" } : Jvm.MethodName)) ∈ lw_tbl := lw_at lw_m8 221 rfl
theorem q2029 : (Jvm.Cond.selects "java/lang/String" ({ cls := "java/lang/CharSequence", name := "charAt", desc := "(I)C" } : Jvm.MethodName) ({ cls := "java/lang/String", name := "charAt", desc := "(I)C" } : Jvm.MethodName)) ∈ lw_all := lw_g (lw_at lw_m8 229 rfl) rfl
theorem q2030 : (Jvm.Cond.unhidden "java/lang/String" "charAt" "(I)C") ∈ lw_tbl := lw_at lw_m8 230 rfl
theorem q2031 : (Jvm.Cond.publicMethod ({ cls := "java/lang/String", name := "charAt", desc := "(I)C" } : Jvm.MethodName)) ∈ lw_tbl := lw_at lw_m8 231 rfl
theorem q2360 : (Jvm.Cond.static ({ cls := "java/lang/String", name := "checkOffset", desc := "(II)V" } : Jvm.MethodName)) ∈ lw_all := lw_g (lw_at lw_m10 80 rfl) rfl
theorem q2361 : (Jvm.Cond.code ({ cls := "java/lang/String", name := "checkOffset", desc := "(II)V" } : Jvm.MethodName) prog_43_method_156_code (2 : Nat) (Option.none : Option Jvm.ClassFile.FieldType)) ∈ lw_all := lw_g (lw_at lw_m10 81 rfl) rfl
theorem q2913 : (Jvm.Cond.instanceMethod ({ cls := "java/lang/String", name := "value", desc := "()[B" } : Jvm.MethodName)) ∈ lw_all := lw_g (lw_at lw_m12 153 rfl) rfl
theorem q2914 : (Jvm.Cond.selects "java/lang/String" ({ cls := "java/lang/String", name := "value", desc := "()[B" } : Jvm.MethodName) ({ cls := "java/lang/String", name := "value", desc := "()[B" } : Jvm.MethodName)) ∈ lw_all := lw_g (lw_at lw_m12 154 rfl) rfl
theorem q2915 : (Jvm.Cond.code ({ cls := "java/lang/String", name := "value", desc := "()[B" } : Jvm.MethodName) prog_43_method_153_code (1 : Nat) (Option.some (Jvm.ClassFile.FieldType.array Jvm.ClassFile.FieldType.byte))) ∈ lw_all := lw_g (lw_at lw_m12 155 rfl) rfl
theorem q3646 : (Jvm.Cond.castable "java/lang/String" "java/lang/Object") ∈ lw_tbl := lw_at lw_m15 166 rfl
theorem in_J2 : ∀ w ∈ wsJ20, w ∈ lw_all := lw_in wsJ20 [617, 619, 1175, 1177] (by decide +kernel) (by decide +kernel)
