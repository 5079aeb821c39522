set_option maxRecDepth 100000
abbrev cJ0_init : ByteArray := prog_66_method_2_code
def yJ0_init : MethodName := ⟨RJ0, "<init>", "(I)V"⟩
def dkwJ0_init_1 : List UInt8 := [167, 0, 16, 42, 27, 184, 0, 26, 181, 0, 15, 42, 4, 181, 0, 22, 177]
abbrev dktJ0_init_1 : List UInt8 := dkwJ0_init_1 ++ []
def dkwJ0_init_0 : List UInt8 := [42, 183, 0, 3, 178, 0, 18, 153, 0, 18, 42, 27, 188, 8, 181, 0, 15, 42, 3, 181, 0, 22]
abbrev dktJ0_init_0 : List UInt8 := dkwJ0_init_0 ++ dktJ0_init_1
theorem dksJ0_init_0 : cJ0_init.data.toList.drop 0 = dktJ0_init_0 := by decide +kernel
theorem dksJ0_init_1 : cJ0_init.data.toList.drop 22 = dktJ0_init_1 := dk_seg dksJ0_init_0 22 rfl rfl
theorem dJ0_init_0 : decode cJ0_init 0 = .ok (.aload_n 0, 1) := dk_42 (dk_at dksJ0_init_0 0 rfl rfl)
theorem dJ0_init_1 : decode cJ0_init 1 = .ok (.invokespecial 3, 3) := dk_183 0 3 (dk_at dksJ0_init_0 1 rfl rfl)
theorem dJ0_init_4 : decode cJ0_init 4 = .ok (.getstatic 18, 3) := dk_178 0 18 (dk_at dksJ0_init_0 4 rfl rfl)
theorem dJ0_init_7 : decode cJ0_init 7 = .ok (.ifCond .eq 18, 3) := dk_153 0 18 (dk_at dksJ0_init_0 7 rfl rfl)
theorem dJ0_init_10 : decode cJ0_init 10 = .ok (.aload_n 0, 1) := dk_42 (dk_at dksJ0_init_0 10 rfl rfl)
theorem dJ0_init_11 : decode cJ0_init 11 = .ok (.iload_n 1, 1) := dk_27 (dk_at dksJ0_init_0 11 rfl rfl)
theorem dJ0_init_12 : decode cJ0_init 12 = .ok (.newarray .byte, 2) := dk_188_8 (dk_at dksJ0_init_0 12 rfl rfl)
theorem dJ0_init_14 : decode cJ0_init 14 = .ok (.putfield 15, 3) := dk_181 0 15 (dk_at dksJ0_init_0 14 rfl rfl)
theorem dJ0_init_17 : decode cJ0_init 17 = .ok (.aload_n 0, 1) := dk_42 (dk_at dksJ0_init_0 17 rfl rfl)
theorem dJ0_init_18 : decode cJ0_init 18 = .ok (.iconst 0, 1) := dk_3 (dk_at dksJ0_init_0 18 rfl rfl)
theorem dJ0_init_19 : decode cJ0_init 19 = .ok (.putfield 22, 3) := dk_181 0 22 (dk_at dksJ0_init_0 19 rfl rfl)
theorem dJ0_init_22 : decode cJ0_init 22 = .ok (.goto 16, 3) := dk_167 0 16 (dk_at dksJ0_init_1 0 rfl rfl)
theorem dJ0_init_25 : decode cJ0_init 25 = .ok (.aload_n 0, 1) := dk_42 (dk_at dksJ0_init_1 3 rfl rfl)
theorem dJ0_init_26 : decode cJ0_init 26 = .ok (.iload_n 1, 1) := dk_27 (dk_at dksJ0_init_1 4 rfl rfl)
theorem dJ0_init_27 : decode cJ0_init 27 = .ok (.invokestatic 26, 3) := dk_184 0 26 (dk_at dksJ0_init_1 5 rfl rfl)
theorem dJ0_init_30 : decode cJ0_init 30 = .ok (.putfield 15, 3) := dk_181 0 15 (dk_at dksJ0_init_1 8 rfl rfl)
theorem dJ0_init_33 : decode cJ0_init 33 = .ok (.aload_n 0, 1) := dk_42 (dk_at dksJ0_init_1 11 rfl rfl)
theorem dJ0_init_34 : decode cJ0_init 34 = .ok (.iconst 1, 1) := dk_4 (dk_at dksJ0_init_1 12 rfl rfl)
theorem dJ0_init_35 : decode cJ0_init 35 = .ok (.putfield 22, 3) := dk_181 0 22 (dk_at dksJ0_init_1 13 rfl rfl)
theorem dJ0_init_38 : decode cJ0_init 38 = .ok (.return_, 1) := dk_177 (dk_at dksJ0_init_1 16 rfl rfl)
abbrev cJ0_length : ByteArray := prog_66_method_6_code
def yJ0_length : MethodName := ⟨RJ0, "length", "()I"⟩
theorem dJ0_length_0 : decode cJ0_length 0 = .ok (.aload_n 0, 1) := by decide +kernel
theorem dJ0_length_1 : decode cJ0_length 1 = .ok (.getfield 79, 3) := by decide +kernel
theorem dJ0_length_4 : decode cJ0_length 4 = .ok (.ireturn, 1) := by decide +kernel
abbrev cJ0_append : ByteArray := prog_66_method_31_code
def yJ0_append : MethodName := ⟨RJ0, "append", "(C)Ljava/lang/AbstractStringBuilder;"⟩
def dkwJ0_append_3 : List UInt8 := [181, 0, 79, 27, 184, 0, 197, 42, 176]
abbrev dktJ0_append_3 : List UInt8 := dkwJ0_append_3 ++ []
def dkwJ0_append_2 : List UInt8 := [182, 0, 83, 153, 0, 7, 42, 182, 0, 195, 42, 180, 0, 15, 42, 89, 180, 0, 79, 90, 4, 96]
abbrev dktJ0_append_2 : List UInt8 := dkwJ0_append_2 ++ dktJ0_append_3
def dkwJ0_append_1 : List UInt8 := [42, 180, 0, 15, 42, 89, 180, 0, 79, 90, 4, 96, 181, 0, 79, 27, 145, 84, 167, 0, 33, 42]
abbrev dktJ0_append_1 : List UInt8 := dkwJ0_append_1 ++ dktJ0_append_2
def dkwJ0_append_0 : List UInt8 := [42, 42, 180, 0, 79, 4, 96, 182, 0, 100, 42, 182, 0, 83, 153, 0, 31, 27, 184, 0, 191, 153, 0, 24]
abbrev dktJ0_append_0 : List UInt8 := dkwJ0_append_0 ++ dktJ0_append_1
theorem dksJ0_append_0 : cJ0_append.data.toList.drop 0 = dktJ0_append_0 := by decide +kernel
theorem dksJ0_append_1 : cJ0_append.data.toList.drop 24 = dktJ0_append_1 := dk_seg dksJ0_append_0 24 rfl rfl
theorem dksJ0_append_2 : cJ0_append.data.toList.drop 46 = dktJ0_append_2 := dk_seg dksJ0_append_1 22 rfl rfl
theorem dksJ0_append_3 : cJ0_append.data.toList.drop 68 = dktJ0_append_3 := dk_seg dksJ0_append_2 22 rfl rfl
theorem dJ0_append_0 : decode cJ0_append 0 = .ok (.aload_n 0, 1) := dk_42 (dk_at dksJ0_append_0 0 rfl rfl)
theorem dJ0_append_1 : decode cJ0_append 1 = .ok (.aload_n 0, 1) := dk_42 (dk_at dksJ0_append_0 1 rfl rfl)
theorem dJ0_append_2 : decode cJ0_append 2 = .ok (.getfield 79, 3) := dk_180 0 79 (dk_at dksJ0_append_0 2 rfl rfl)
theorem dJ0_append_5 : decode cJ0_append 5 = .ok (.iconst 1, 1) := dk_4 (dk_at dksJ0_append_0 5 rfl rfl)
theorem dJ0_append_6 : decode cJ0_append 6 = .ok (.iadd, 1) := dk_96 (dk_at dksJ0_append_0 6 rfl rfl)
theorem dJ0_append_7 : decode cJ0_append 7 = .ok (.invokevirtual 100, 3) := dk_182 0 100 (dk_at dksJ0_append_0 7 rfl rfl)
theorem dJ0_append_10 : decode cJ0_append 10 = .ok (.aload_n 0, 1) := dk_42 (dk_at dksJ0_append_0 10 rfl rfl)
theorem dJ0_append_11 : decode cJ0_append 11 = .ok (.invokevirtual 83, 3) := dk_182 0 83 (dk_at dksJ0_append_0 11 rfl rfl)
theorem dJ0_append_14 : decode cJ0_append 14 = .ok (.ifCond .eq 31, 3) := dk_153 0 31 (dk_at dksJ0_append_0 14 rfl rfl)
theorem dJ0_append_17 : decode cJ0_append 17 = .ok (.iload_n 1, 1) := dk_27 (dk_at dksJ0_append_0 17 rfl rfl)
theorem dJ0_append_18 : decode cJ0_append 18 = .ok (.invokestatic 191, 3) := dk_184 0 191 (dk_at dksJ0_append_0 18 rfl rfl)
theorem dJ0_append_21 : decode cJ0_append 21 = .ok (.ifCond .eq 24, 3) := dk_153 0 24 (dk_at dksJ0_append_0 21 rfl rfl)
theorem dJ0_append_24 : decode cJ0_append 24 = .ok (.aload_n 0, 1) := dk_42 (dk_at dksJ0_append_1 0 rfl rfl)
theorem dJ0_append_25 : decode cJ0_append 25 = .ok (.getfield 15, 3) := dk_180 0 15 (dk_at dksJ0_append_1 1 rfl rfl)
theorem dJ0_append_28 : decode cJ0_append 28 = .ok (.aload_n 0, 1) := dk_42 (dk_at dksJ0_append_1 4 rfl rfl)
theorem dJ0_append_29 : decode cJ0_append 29 = .ok (.dup, 1) := dk_89 (dk_at dksJ0_append_1 5 rfl rfl)
theorem dJ0_append_30 : decode cJ0_append 30 = .ok (.getfield 79, 3) := dk_180 0 79 (dk_at dksJ0_append_1 6 rfl rfl)
theorem dJ0_append_33 : decode cJ0_append 33 = .ok (.dup_x1, 1) := dk_90 (dk_at dksJ0_append_1 9 rfl rfl)
theorem dJ0_append_34 : decode cJ0_append 34 = .ok (.iconst 1, 1) := dk_4 (dk_at dksJ0_append_1 10 rfl rfl)
theorem dJ0_append_35 : decode cJ0_append 35 = .ok (.iadd, 1) := dk_96 (dk_at dksJ0_append_1 11 rfl rfl)
theorem dJ0_append_36 : decode cJ0_append 36 = .ok (.putfield 79, 3) := dk_181 0 79 (dk_at dksJ0_append_1 12 rfl rfl)
theorem dJ0_append_39 : decode cJ0_append 39 = .ok (.iload_n 1, 1) := dk_27 (dk_at dksJ0_append_1 15 rfl rfl)
theorem dJ0_append_40 : decode cJ0_append 40 = .ok (.i2b, 1) := dk_145 (dk_at dksJ0_append_1 16 rfl rfl)
theorem dJ0_append_41 : decode cJ0_append 41 = .ok (.bastore, 1) := dk_84 (dk_at dksJ0_append_1 17 rfl rfl)
theorem dJ0_append_42 : decode cJ0_append 42 = .ok (.goto 33, 3) := dk_167 0 33 (dk_at dksJ0_append_1 18 rfl rfl)
theorem dJ0_append_45 : decode cJ0_append 45 = .ok (.aload_n 0, 1) := dk_42 (dk_at dksJ0_append_1 21 rfl rfl)
theorem dJ0_append_46 : decode cJ0_append 46 = .ok (.invokevirtual 83, 3) := dk_182 0 83 (dk_at dksJ0_append_2 0 rfl rfl)
theorem dJ0_append_49 : decode cJ0_append 49 = .ok (.ifCond .eq 7, 3) := dk_153 0 7 (dk_at dksJ0_append_2 3 rfl rfl)
theorem dJ0_append_52 : decode cJ0_append 52 = .ok (.aload_n 0, 1) := dk_42 (dk_at dksJ0_append_2 6 rfl rfl)
theorem dJ0_append_53 : decode cJ0_append 53 = .ok (.invokevirtual 195, 3) := dk_182 0 195 (dk_at dksJ0_append_2 7 rfl rfl)
theorem dJ0_append_56 : decode cJ0_append 56 = .ok (.aload_n 0, 1) := dk_42 (dk_at dksJ0_append_2 10 rfl rfl)
theorem dJ0_append_57 : decode cJ0_append 57 = .ok (.getfield 15, 3) := dk_180 0 15 (dk_at dksJ0_append_2 11 rfl rfl)
theorem dJ0_append_60 : decode cJ0_append 60 = .ok (.aload_n 0, 1) := dk_42 (dk_at dksJ0_append_2 14 rfl rfl)
theorem dJ0_append_61 : decode cJ0_append 61 = .ok (.dup, 1) := dk_89 (dk_at dksJ0_append_2 15 rfl rfl)
theorem dJ0_append_62 : decode cJ0_append 62 = .ok (.getfield 79, 3) := dk_180 0 79 (dk_at dksJ0_append_2 16 rfl rfl)
theorem dJ0_append_65 : decode cJ0_append 65 = .ok (.dup_x1, 1) := dk_90 (dk_at dksJ0_append_2 19 rfl rfl)
theorem dJ0_append_66 : decode cJ0_append 66 = .ok (.iconst 1, 1) := dk_4 (dk_at dksJ0_append_2 20 rfl rfl)
theorem dJ0_append_67 : decode cJ0_append 67 = .ok (.iadd, 1) := dk_96 (dk_at dksJ0_append_2 21 rfl rfl)
theorem dJ0_append_68 : decode cJ0_append 68 = .ok (.putfield 79, 3) := dk_181 0 79 (dk_at dksJ0_append_3 0 rfl rfl)
theorem dJ0_append_71 : decode cJ0_append 71 = .ok (.iload_n 1, 1) := dk_27 (dk_at dksJ0_append_3 3 rfl rfl)
theorem dJ0_append_72 : decode cJ0_append 72 = .ok (.invokestatic 197, 3) := dk_184 0 197 (dk_at dksJ0_append_3 4 rfl rfl)
theorem dJ0_append_75 : decode cJ0_append 75 = .ok (.aload_n 0, 1) := dk_42 (dk_at dksJ0_append_3 7 rfl rfl)
theorem dJ0_append_76 : decode cJ0_append 76 = .ok (.areturn, 1) := dk_176 (dk_at dksJ0_append_3 8 rfl rfl)
abbrev cJ0_ensureCapacityInternal : ByteArray := prog_66_method_9_code
def yJ0_ensureCapacityInternal : MethodName := ⟨RJ0, "ensureCapacityInternal", "(I)V"⟩
def dkwJ0_ensureCapacityInternal_1 : List UInt8 := [182, 0, 104, 42, 180, 0, 22, 120, 184, 0, 108, 181, 0, 15, 177]
abbrev dktJ0_ensureCapacityInternal_1 : List UInt8 := dkwJ0_ensureCapacityInternal_1 ++ []
def dkwJ0_ensureCapacityInternal_0 : List UInt8 := [42, 180, 0, 15, 190, 42, 180, 0, 22, 122, 61, 27, 28, 100, 158, 0, 24, 42, 42, 180, 0, 15, 42, 27]
abbrev dktJ0_ensureCapacityInternal_0 : List UInt8 := dkwJ0_ensureCapacityInternal_0 ++ dktJ0_ensureCapacityInternal_1
theorem dksJ0_ensureCapacityInternal_0 : cJ0_ensureCapacityInternal.data.toList.drop 0 = dktJ0_ensureCapacityInternal_0 := by decide +kernel
theorem dksJ0_ensureCapacityInternal_1 : cJ0_ensureCapacityInternal.data.toList.drop 24 = dktJ0_ensureCapacityInternal_1 := dk_seg dksJ0_ensureCapacityInternal_0 24 rfl rfl
theorem dJ0_ensureCapacityInternal_0 : decode cJ0_ensureCapacityInternal 0 = .ok (.aload_n 0, 1) := dk_42 (dk_at dksJ0_ensureCapacityInternal_0 0 rfl rfl)
theorem dJ0_ensureCapacityInternal_1 : decode cJ0_ensureCapacityInternal 1 = .ok (.getfield 15, 3) := dk_180 0 15 (dk_at dksJ0_ensureCapacityInternal_0 1 rfl rfl)
theorem dJ0_ensureCapacityInternal_4 : decode cJ0_ensureCapacityInternal 4 = .ok (.arraylength, 1) := dk_190 (dk_at dksJ0_ensureCapacityInternal_0 4 rfl rfl)
theorem dJ0_ensureCapacityInternal_5 : decode cJ0_ensureCapacityInternal 5 = .ok (.aload_n 0, 1) := dk_42 (dk_at dksJ0_ensureCapacityInternal_0 5 rfl rfl)
theorem dJ0_ensureCapacityInternal_6 : decode cJ0_ensureCapacityInternal 6 = .ok (.getfield 22, 3) := dk_180 0 22 (dk_at dksJ0_ensureCapacityInternal_0 6 rfl rfl)
theorem dJ0_ensureCapacityInternal_9 : decode cJ0_ensureCapacityInternal 9 = .ok (.ishr, 1) := dk_122 (dk_at dksJ0_ensureCapacityInternal_0 9 rfl rfl)
theorem dJ0_ensureCapacityInternal_10 : decode cJ0_ensureCapacityInternal 10 = .ok (.istore_n 2, 1) := dk_61 (dk_at dksJ0_ensureCapacityInternal_0 10 rfl rfl)
theorem dJ0_ensureCapacityInternal_11 : decode cJ0_ensureCapacityInternal 11 = .ok (.iload_n 1, 1) := dk_27 (dk_at dksJ0_ensureCapacityInternal_0 11 rfl rfl)
theorem dJ0_ensureCapacityInternal_12 : decode cJ0_ensureCapacityInternal 12 = .ok (.iload_n 2, 1) := dk_28 (dk_at dksJ0_ensureCapacityInternal_0 12 rfl rfl)
theorem dJ0_ensureCapacityInternal_13 : decode cJ0_ensureCapacityInternal 13 = .ok (.isub, 1) := dk_100 (dk_at dksJ0_ensureCapacityInternal_0 13 rfl rfl)
theorem dJ0_ensureCapacityInternal_14 : decode cJ0_ensureCapacityInternal 14 = .ok (.ifCond .le 24, 3) := dk_158 0 24 (dk_at dksJ0_ensureCapacityInternal_0 14 rfl rfl)
theorem dJ0_ensureCapacityInternal_17 : decode cJ0_ensureCapacityInternal 17 = .ok (.aload_n 0, 1) := dk_42 (dk_at dksJ0_ensureCapacityInternal_0 17 rfl rfl)
theorem dJ0_ensureCapacityInternal_18 : decode cJ0_ensureCapacityInternal 18 = .ok (.aload_n 0, 1) := dk_42 (dk_at dksJ0_ensureCapacityInternal_0 18 rfl rfl)
theorem dJ0_ensureCapacityInternal_19 : decode cJ0_ensureCapacityInternal 19 = .ok (.getfield 15, 3) := dk_180 0 15 (dk_at dksJ0_ensureCapacityInternal_0 19 rfl rfl)
theorem dJ0_ensureCapacityInternal_22 : decode cJ0_ensureCapacityInternal 22 = .ok (.aload_n 0, 1) := dk_42 (dk_at dksJ0_ensureCapacityInternal_0 22 rfl rfl)
theorem dJ0_ensureCapacityInternal_23 : decode cJ0_ensureCapacityInternal 23 = .ok (.iload_n 1, 1) := dk_27 (dk_at dksJ0_ensureCapacityInternal_0 23 rfl rfl)
theorem dJ0_ensureCapacityInternal_24 : decode cJ0_ensureCapacityInternal 24 = .ok (.invokevirtual 104, 3) := dk_182 0 104 (dk_at dksJ0_ensureCapacityInternal_1 0 rfl rfl)
theorem dJ0_ensureCapacityInternal_27 : decode cJ0_ensureCapacityInternal 27 = .ok (.aload_n 0, 1) := dk_42 (dk_at dksJ0_ensureCapacityInternal_1 3 rfl rfl)
theorem dJ0_ensureCapacityInternal_28 : decode cJ0_ensureCapacityInternal 28 = .ok (.getfield 22, 3) := dk_180 0 22 (dk_at dksJ0_ensureCapacityInternal_1 4 rfl rfl)
theorem dJ0_ensureCapacityInternal_31 : decode cJ0_ensureCapacityInternal 31 = .ok (.ishl, 1) := dk_120 (dk_at dksJ0_ensureCapacityInternal_1 7 rfl rfl)
theorem dJ0_ensureCapacityInternal_32 : decode cJ0_ensureCapacityInternal 32 = .ok (.invokestatic 108, 3) := dk_184 0 108 (dk_at dksJ0_ensureCapacityInternal_1 8 rfl rfl)
theorem dJ0_ensureCapacityInternal_35 : decode cJ0_ensureCapacityInternal 35 = .ok (.putfield 15, 3) := dk_181 0 15 (dk_at dksJ0_ensureCapacityInternal_1 11 rfl rfl)
theorem dJ0_ensureCapacityInternal_38 : decode cJ0_ensureCapacityInternal 38 = .ok (.return_, 1) := dk_177 (dk_at dksJ0_ensureCapacityInternal_1 14 rfl rfl)
abbrev cJ0_newCapacity : ByteArray := prog_66_method_10_code
def yJ0_newCapacity : MethodName := ⟨RJ0, "newCapacity", "(I)I"⟩
def dkwJ0_newCapacity_2 : List UInt8 := [183, 0, 124, 191, 21, 5, 42, 180, 0, 22, 122, 172]
abbrev dktJ0_newCapacity_2 : List UInt8 := dkwJ0_newCapacity_2 ++ []
def dkwJ0_newCapacity_1 : List UInt8 := [180, 0, 22, 120, 96, 184, 0, 114, 54, 5, 21, 5, 18, 39, 160, 0, 13, 187, 0, 120, 89, 18, 122]
abbrev dktJ0_newCapacity_1 : List UInt8 := dkwJ0_newCapacity_1 ++ dktJ0_newCapacity_2
def dkwJ0_newCapacity_0 : List UInt8 := [42, 180, 0, 15, 190, 61, 27, 42, 180, 0, 22, 120, 62, 29, 28, 100, 54, 4, 28, 21, 4, 28, 5, 42]
abbrev dktJ0_newCapacity_0 : List UInt8 := dkwJ0_newCapacity_0 ++ dktJ0_newCapacity_1
theorem dksJ0_newCapacity_0 : cJ0_newCapacity.data.toList.drop 0 = dktJ0_newCapacity_0 := by decide +kernel
theorem dksJ0_newCapacity_1 : cJ0_newCapacity.data.toList.drop 24 = dktJ0_newCapacity_1 := dk_seg dksJ0_newCapacity_0 24 rfl rfl
theorem dksJ0_newCapacity_2 : cJ0_newCapacity.data.toList.drop 47 = dktJ0_newCapacity_2 := dk_seg dksJ0_newCapacity_1 23 rfl rfl
theorem dJ0_newCapacity_0 : decode cJ0_newCapacity 0 = .ok (.aload_n 0, 1) := dk_42 (dk_at dksJ0_newCapacity_0 0 rfl rfl)
theorem dJ0_newCapacity_1 : decode cJ0_newCapacity 1 = .ok (.getfield 15, 3) := dk_180 0 15 (dk_at dksJ0_newCapacity_0 1 rfl rfl)
theorem dJ0_newCapacity_4 : decode cJ0_newCapacity 4 = .ok (.arraylength, 1) := dk_190 (dk_at dksJ0_newCapacity_0 4 rfl rfl)
theorem dJ0_newCapacity_5 : decode cJ0_newCapacity 5 = .ok (.istore_n 2, 1) := dk_61 (dk_at dksJ0_newCapacity_0 5 rfl rfl)
theorem dJ0_newCapacity_6 : decode cJ0_newCapacity 6 = .ok (.iload_n 1, 1) := dk_27 (dk_at dksJ0_newCapacity_0 6 rfl rfl)
theorem dJ0_newCapacity_7 : decode cJ0_newCapacity 7 = .ok (.aload_n 0, 1) := dk_42 (dk_at dksJ0_newCapacity_0 7 rfl rfl)
theorem dJ0_newCapacity_8 : decode cJ0_newCapacity 8 = .ok (.getfield 22, 3) := dk_180 0 22 (dk_at dksJ0_newCapacity_0 8 rfl rfl)
theorem dJ0_newCapacity_11 : decode cJ0_newCapacity 11 = .ok (.ishl, 1) := dk_120 (dk_at dksJ0_newCapacity_0 11 rfl rfl)
theorem dJ0_newCapacity_12 : decode cJ0_newCapacity 12 = .ok (.istore_n 3, 1) := dk_62 (dk_at dksJ0_newCapacity_0 12 rfl rfl)
theorem dJ0_newCapacity_13 : decode cJ0_newCapacity 13 = .ok (.iload_n 3, 1) := dk_29 (dk_at dksJ0_newCapacity_0 13 rfl rfl)
theorem dJ0_newCapacity_14 : decode cJ0_newCapacity 14 = .ok (.iload_n 2, 1) := dk_28 (dk_at dksJ0_newCapacity_0 14 rfl rfl)
theorem dJ0_newCapacity_15 : decode cJ0_newCapacity 15 = .ok (.isub, 1) := dk_100 (dk_at dksJ0_newCapacity_0 15 rfl rfl)
theorem dJ0_newCapacity_16 : decode cJ0_newCapacity 16 = .ok (.istore 4, 2) := dk_54 4 (dk_at dksJ0_newCapacity_0 16 rfl rfl)
theorem dJ0_newCapacity_18 : decode cJ0_newCapacity 18 = .ok (.iload_n 2, 1) := dk_28 (dk_at dksJ0_newCapacity_0 18 rfl rfl)
theorem dJ0_newCapacity_19 : decode cJ0_newCapacity 19 = .ok (.iload 4, 2) := dk_21 4 (dk_at dksJ0_newCapacity_0 19 rfl rfl)
theorem dJ0_newCapacity_21 : decode cJ0_newCapacity 21 = .ok (.iload_n 2, 1) := dk_28 (dk_at dksJ0_newCapacity_0 21 rfl rfl)
theorem dJ0_newCapacity_22 : decode cJ0_newCapacity 22 = .ok (.iconst 2, 1) := dk_5 (dk_at dksJ0_newCapacity_0 22 rfl rfl)
theorem dJ0_newCapacity_23 : decode cJ0_newCapacity 23 = .ok (.aload_n 0, 1) := dk_42 (dk_at dksJ0_newCapacity_0 23 rfl rfl)
theorem dJ0_newCapacity_24 : decode cJ0_newCapacity 24 = .ok (.getfield 22, 3) := dk_180 0 22 (dk_at dksJ0_newCapacity_1 0 rfl rfl)
theorem dJ0_newCapacity_27 : decode cJ0_newCapacity 27 = .ok (.ishl, 1) := dk_120 (dk_at dksJ0_newCapacity_1 3 rfl rfl)
theorem dJ0_newCapacity_28 : decode cJ0_newCapacity 28 = .ok (.iadd, 1) := dk_96 (dk_at dksJ0_newCapacity_1 4 rfl rfl)
theorem dJ0_newCapacity_29 : decode cJ0_newCapacity 29 = .ok (.invokestatic 114, 3) := dk_184 0 114 (dk_at dksJ0_newCapacity_1 5 rfl rfl)
theorem dJ0_newCapacity_32 : decode cJ0_newCapacity 32 = .ok (.istore 5, 2) := dk_54 5 (dk_at dksJ0_newCapacity_1 8 rfl rfl)
theorem dJ0_newCapacity_34 : decode cJ0_newCapacity 34 = .ok (.iload 5, 2) := dk_21 5 (dk_at dksJ0_newCapacity_1 10 rfl rfl)
theorem dJ0_newCapacity_36 : decode cJ0_newCapacity 36 = .ok (.ldc 39, 2) := dk_18 39 (dk_at dksJ0_newCapacity_1 12 rfl rfl)
theorem dJ0_newCapacity_38 : decode cJ0_newCapacity 38 = .ok (.if_icmp .ne 13, 3) := dk_160 0 13 (dk_at dksJ0_newCapacity_1 14 rfl rfl)
theorem dJ0_newCapacity_41 : decode cJ0_newCapacity 41 = .ok (.new 120, 3) := dk_187 0 120 (dk_at dksJ0_newCapacity_1 17 rfl rfl)
theorem dJ0_newCapacity_44 : decode cJ0_newCapacity 44 = .ok (.dup, 1) := dk_89 (dk_at dksJ0_newCapacity_1 20 rfl rfl)
theorem dJ0_newCapacity_45 : decode cJ0_newCapacity 45 = .ok (.ldc 122, 2) := dk_18 122 (dk_at dksJ0_newCapacity_1 21 rfl rfl)
theorem dJ0_newCapacity_47 : decode cJ0_newCapacity 47 = .ok (.invokespecial 124, 3) := dk_183 0 124 (dk_at dksJ0_newCapacity_2 0 rfl rfl)
theorem dJ0_newCapacity_50 : decode cJ0_newCapacity 50 = .ok (.athrow, 1) := dk_191 (dk_at dksJ0_newCapacity_2 3 rfl rfl)
theorem dJ0_newCapacity_51 : decode cJ0_newCapacity 51 = .ok (.iload 5, 2) := dk_21 5 (dk_at dksJ0_newCapacity_2 4 rfl rfl)
theorem dJ0_newCapacity_53 : decode cJ0_newCapacity 53 = .ok (.aload_n 0, 1) := dk_42 (dk_at dksJ0_newCapacity_2 6 rfl rfl)
theorem dJ0_newCapacity_54 : decode cJ0_newCapacity 54 = .ok (.getfield 22, 3) := dk_180 0 22 (dk_at dksJ0_newCapacity_2 7 rfl rfl)
theorem dJ0_newCapacity_57 : decode cJ0_newCapacity 57 = .ok (.ishr, 1) := dk_122 (dk_at dksJ0_newCapacity_2 10 rfl rfl)
theorem dJ0_newCapacity_58 : decode cJ0_newCapacity 58 = .ok (.ireturn, 1) := dk_172 (dk_at dksJ0_newCapacity_2 11 rfl rfl)
abbrev cJ0_isLatin1 : ByteArray := prog_66_method_68_code
def yJ0_isLatin1 : MethodName := ⟨RJ0, "isLatin1", "()Z"⟩
def dkwJ0_isLatin1_0 : List UInt8 := [178, 0, 18, 153, 0, 14, 42, 180, 0, 22, 154, 0, 7, 4, 167, 0, 4, 3, 172]
abbrev dktJ0_isLatin1_0 : List UInt8 := dkwJ0_isLatin1_0 ++ []
theorem dksJ0_isLatin1_0 : cJ0_isLatin1.data.toList.drop 0 = dktJ0_isLatin1_0 := by decide +kernel
theorem dJ0_isLatin1_0 : decode cJ0_isLatin1 0 = .ok (.getstatic 18, 3) := dk_178 0 18 (dk_at dksJ0_isLatin1_0 0 rfl rfl)
theorem dJ0_isLatin1_3 : decode cJ0_isLatin1 3 = .ok (.ifCond .eq 14, 3) := dk_153 0 14 (dk_at dksJ0_isLatin1_0 3 rfl rfl)
theorem dJ0_isLatin1_6 : decode cJ0_isLatin1 6 = .ok (.aload_n 0, 1) := dk_42 (dk_at dksJ0_isLatin1_0 6 rfl rfl)
theorem dJ0_isLatin1_7 : decode cJ0_isLatin1 7 = .ok (.getfield 22, 3) := dk_180 0 22 (dk_at dksJ0_isLatin1_0 7 rfl rfl)
theorem dJ0_isLatin1_10 : decode cJ0_isLatin1 10 = .ok (.ifCond .ne 7, 3) := dk_154 0 7 (dk_at dksJ0_isLatin1_0 10 rfl rfl)
theorem dJ0_isLatin1_13 : decode cJ0_isLatin1 13 = .ok (.iconst 1, 1) := dk_4 (dk_at dksJ0_isLatin1_0 13 rfl rfl)
theorem dJ0_isLatin1_14 : decode cJ0_isLatin1 14 = .ok (.goto 4, 3) := dk_167 0 4 (dk_at dksJ0_isLatin1_0 14 rfl rfl)
theorem dJ0_isLatin1_17 : decode cJ0_isLatin1 17 = .ok (.iconst 0, 1) := dk_3 (dk_at dksJ0_isLatin1_0 17 rfl rfl)
theorem dJ0_isLatin1_18 : decode cJ0_isLatin1 18 = .ok (.ireturn, 1) := dk_172 (dk_at dksJ0_isLatin1_0 18 rfl rfl)
abbrev cJ0_inflate : ByteArray := prog_66_method_11_code
def yJ0_inflate : MethodName := ⟨RJ0, "inflate", "()V"⟩
def dkwJ0_inflate_1 : List UInt8 := [42, 180, 0, 79, 184, 0, 125, 42, 43, 181, 0, 15, 42, 4, 181, 0, 22, 177]
abbrev dktJ0_inflate_1 : List UInt8 := dkwJ0_inflate_1 ++ []
def dkwJ0_inflate_0 : List UInt8 := [42, 182, 0, 83, 154, 0, 4, 177, 42, 180, 0, 15, 190, 184, 0, 26, 76, 42, 180, 0, 15, 3, 43, 3]
abbrev dktJ0_inflate_0 : List UInt8 := dkwJ0_inflate_0 ++ dktJ0_inflate_1
theorem dksJ0_inflate_0 : cJ0_inflate.data.toList.drop 0 = dktJ0_inflate_0 := by decide +kernel
theorem dksJ0_inflate_1 : cJ0_inflate.data.toList.drop 24 = dktJ0_inflate_1 := dk_seg dksJ0_inflate_0 24 rfl rfl
theorem dJ0_inflate_0 : decode cJ0_inflate 0 = .ok (.aload_n 0, 1) := dk_42 (dk_at dksJ0_inflate_0 0 rfl rfl)
theorem dJ0_inflate_1 : decode cJ0_inflate 1 = .ok (.invokevirtual 83, 3) := dk_182 0 83 (dk_at dksJ0_inflate_0 1 rfl rfl)
theorem dJ0_inflate_4 : decode cJ0_inflate 4 = .ok (.ifCond .ne 4, 3) := dk_154 0 4 (dk_at dksJ0_inflate_0 4 rfl rfl)
theorem dJ0_inflate_7 : decode cJ0_inflate 7 = .ok (.return_, 1) := dk_177 (dk_at dksJ0_inflate_0 7 rfl rfl)
theorem dJ0_inflate_8 : decode cJ0_inflate 8 = .ok (.aload_n 0, 1) := dk_42 (dk_at dksJ0_inflate_0 8 rfl rfl)
theorem dJ0_inflate_9 : decode cJ0_inflate 9 = .ok (.getfield 15, 3) := dk_180 0 15 (dk_at dksJ0_inflate_0 9 rfl rfl)
theorem dJ0_inflate_12 : decode cJ0_inflate 12 = .ok (.arraylength, 1) := dk_190 (dk_at dksJ0_inflate_0 12 rfl rfl)
theorem dJ0_inflate_13 : decode cJ0_inflate 13 = .ok (.invokestatic 26, 3) := dk_184 0 26 (dk_at dksJ0_inflate_0 13 rfl rfl)
theorem dJ0_inflate_16 : decode cJ0_inflate 16 = .ok (.astore_n 1, 1) := dk_76 (dk_at dksJ0_inflate_0 16 rfl rfl)
theorem dJ0_inflate_17 : decode cJ0_inflate 17 = .ok (.aload_n 0, 1) := dk_42 (dk_at dksJ0_inflate_0 17 rfl rfl)
theorem dJ0_inflate_18 : decode cJ0_inflate 18 = .ok (.getfield 15, 3) := dk_180 0 15 (dk_at dksJ0_inflate_0 18 rfl rfl)
theorem dJ0_inflate_21 : decode cJ0_inflate 21 = .ok (.iconst 0, 1) := dk_3 (dk_at dksJ0_inflate_0 21 rfl rfl)
theorem dJ0_inflate_22 : decode cJ0_inflate 22 = .ok (.aload_n 1, 1) := dk_43 (dk_at dksJ0_inflate_0 22 rfl rfl)
theorem dJ0_inflate_23 : decode cJ0_inflate 23 = .ok (.iconst 0, 1) := dk_3 (dk_at dksJ0_inflate_0 23 rfl rfl)
theorem dJ0_inflate_24 : decode cJ0_inflate 24 = .ok (.aload_n 0, 1) := dk_42 (dk_at dksJ0_inflate_1 0 rfl rfl)
theorem dJ0_inflate_25 : decode cJ0_inflate 25 = .ok (.getfield 79, 3) := dk_180 0 79 (dk_at dksJ0_inflate_1 1 rfl rfl)
theorem dJ0_inflate_28 : decode cJ0_inflate 28 = .ok (.invokestatic 125, 3) := dk_184 0 125 (dk_at dksJ0_inflate_1 4 rfl rfl)
theorem dJ0_inflate_31 : decode cJ0_inflate 31 = .ok (.aload_n 0, 1) := dk_42 (dk_at dksJ0_inflate_1 7 rfl rfl)
theorem dJ0_inflate_32 : decode cJ0_inflate 32 = .ok (.aload_n 1, 1) := dk_43 (dk_at dksJ0_inflate_1 8 rfl rfl)
theorem dJ0_inflate_33 : decode cJ0_inflate 33 = .ok (.putfield 15, 3) := dk_181 0 15 (dk_at dksJ0_inflate_1 9 rfl rfl)
theorem dJ0_inflate_36 : decode cJ0_inflate 36 = .ok (.aload_n 0, 1) := dk_42 (dk_at dksJ0_inflate_1 12 rfl rfl)
theorem dJ0_inflate_37 : decode cJ0_inflate 37 = .ok (.iconst 1, 1) := dk_4 (dk_at dksJ0_inflate_1 13 rfl rfl)
theorem dJ0_inflate_38 : decode cJ0_inflate 38 = .ok (.putfield 22, 3) := dk_181 0 22 (dk_at dksJ0_inflate_1 14 rfl rfl)
theorem dJ0_inflate_41 : decode cJ0_inflate 41 = .ok (.return_, 1) := dk_177 (dk_at dksJ0_inflate_1 17 rfl rfl)
abbrev cJ0_charAt : ByteArray := prog_66_method_14_code
def yJ0_charAt : MethodName := ⟨RJ0, "charAt", "(I)C"⟩
def dkwJ0_charAt_1 : List UInt8 := [21, 4, 184, 0, 144, 28, 154, 0, 12, 45, 27, 51, 17, 0, 255, 126, 146, 172, 45, 27, 184, 0, 148, 172]
abbrev dktJ0_charAt_1 : List UInt8 := dkwJ0_charAt_1 ++ []
def dkwJ0_charAt_0 : List UInt8 := [42, 180, 0, 22, 61, 42, 180, 0, 15, 78, 42, 180, 0, 79, 45, 190, 28, 122, 184, 0, 138, 54, 4, 27]
abbrev dktJ0_charAt_0 : List UInt8 := dkwJ0_charAt_0 ++ dktJ0_charAt_1
theorem dksJ0_charAt_0 : cJ0_charAt.data.toList.drop 0 = dktJ0_charAt_0 := by decide +kernel
theorem dksJ0_charAt_1 : cJ0_charAt.data.toList.drop 24 = dktJ0_charAt_1 := dk_seg dksJ0_charAt_0 24 rfl rfl
theorem dJ0_charAt_0 : decode cJ0_charAt 0 = .ok (.aload_n 0, 1) := dk_42 (dk_at dksJ0_charAt_0 0 rfl rfl)
theorem dJ0_charAt_1 : decode cJ0_charAt 1 = .ok (.getfield 22, 3) := dk_180 0 22 (dk_at dksJ0_charAt_0 1 rfl rfl)
theorem dJ0_charAt_4 : decode cJ0_charAt 4 = .ok (.istore_n 2, 1) := dk_61 (dk_at dksJ0_charAt_0 4 rfl rfl)
theorem dJ0_charAt_5 : decode cJ0_charAt 5 = .ok (.aload_n 0, 1) := dk_42 (dk_at dksJ0_charAt_0 5 rfl rfl)
theorem dJ0_charAt_6 : decode cJ0_charAt 6 = .ok (.getfield 15, 3) := dk_180 0 15 (dk_at dksJ0_charAt_0 6 rfl rfl)
theorem dJ0_charAt_9 : decode cJ0_charAt 9 = .ok (.astore_n 3, 1) := dk_78 (dk_at dksJ0_charAt_0 9 rfl rfl)
theorem dJ0_charAt_10 : decode cJ0_charAt 10 = .ok (.aload_n 0, 1) := dk_42 (dk_at dksJ0_charAt_0 10 rfl rfl)
theorem dJ0_charAt_11 : decode cJ0_charAt 11 = .ok (.getfield 79, 3) := dk_180 0 79 (dk_at dksJ0_charAt_0 11 rfl rfl)
theorem dJ0_charAt_14 : decode cJ0_charAt 14 = .ok (.aload_n 3, 1) := dk_45 (dk_at dksJ0_charAt_0 14 rfl rfl)
theorem dJ0_charAt_15 : decode cJ0_charAt 15 = .ok (.arraylength, 1) := dk_190 (dk_at dksJ0_charAt_0 15 rfl rfl)
theorem dJ0_charAt_16 : decode cJ0_charAt 16 = .ok (.iload_n 2, 1) := dk_28 (dk_at dksJ0_charAt_0 16 rfl rfl)
theorem dJ0_charAt_17 : decode cJ0_charAt 17 = .ok (.ishr, 1) := dk_122 (dk_at dksJ0_charAt_0 17 rfl rfl)
theorem dJ0_charAt_18 : decode cJ0_charAt 18 = .ok (.invokestatic 138, 3) := dk_184 0 138 (dk_at dksJ0_charAt_0 18 rfl rfl)
theorem dJ0_charAt_21 : decode cJ0_charAt 21 = .ok (.istore 4, 2) := dk_54 4 (dk_at dksJ0_charAt_0 21 rfl rfl)
theorem dJ0_charAt_23 : decode cJ0_charAt 23 = .ok (.iload_n 1, 1) := dk_27 (dk_at dksJ0_charAt_0 23 rfl rfl)
theorem dJ0_charAt_24 : decode cJ0_charAt 24 = .ok (.iload 4, 2) := dk_21 4 (dk_at dksJ0_charAt_1 0 rfl rfl)
theorem dJ0_charAt_26 : decode cJ0_charAt 26 = .ok (.invokestatic 144, 3) := dk_184 0 144 (dk_at dksJ0_charAt_1 2 rfl rfl)
theorem dJ0_charAt_29 : decode cJ0_charAt 29 = .ok (.iload_n 2, 1) := dk_28 (dk_at dksJ0_charAt_1 5 rfl rfl)
theorem dJ0_charAt_30 : decode cJ0_charAt 30 = .ok (.ifCond .ne 12, 3) := dk_154 0 12 (dk_at dksJ0_charAt_1 6 rfl rfl)
theorem dJ0_charAt_33 : decode cJ0_charAt 33 = .ok (.aload_n 3, 1) := dk_45 (dk_at dksJ0_charAt_1 9 rfl rfl)
theorem dJ0_charAt_34 : decode cJ0_charAt 34 = .ok (.iload_n 1, 1) := dk_27 (dk_at dksJ0_charAt_1 10 rfl rfl)
theorem dJ0_charAt_35 : decode cJ0_charAt 35 = .ok (.baload, 1) := dk_51 (dk_at dksJ0_charAt_1 11 rfl rfl)
theorem dJ0_charAt_36 : decode cJ0_charAt 36 = .ok (.sipush 255, 3) := dk_17 0 255 (dk_at dksJ0_charAt_1 12 rfl rfl)
theorem dJ0_charAt_39 : decode cJ0_charAt 39 = .ok (.iand, 1) := dk_126 (dk_at dksJ0_charAt_1 15 rfl rfl)
theorem dJ0_charAt_40 : decode cJ0_charAt 40 = .ok (.i2c, 1) := dk_146 (dk_at dksJ0_charAt_1 16 rfl rfl)
theorem dJ0_charAt_41 : decode cJ0_charAt 41 = .ok (.ireturn, 1) := dk_172 (dk_at dksJ0_charAt_1 17 rfl rfl)
theorem dJ0_charAt_42 : decode cJ0_charAt 42 = .ok (.aload_n 3, 1) := dk_45 (dk_at dksJ0_charAt_1 18 rfl rfl)
theorem dJ0_charAt_43 : decode cJ0_charAt 43 = .ok (.iload_n 1, 1) := dk_27 (dk_at dksJ0_charAt_1 19 rfl rfl)
theorem dJ0_charAt_44 : decode cJ0_charAt 44 = .ok (.invokestatic 148, 3) := dk_184 0 148 (dk_at dksJ0_charAt_1 20 rfl rfl)
theorem dJ0_charAt_47 : decode cJ0_charAt 47 = .ok (.ireturn, 1) := dk_172 (dk_at dksJ0_charAt_1 23 rfl rfl)
abbrev cJ0_getValue : ByteArray := prog_66_method_64_code
def yJ0_getValue : MethodName := ⟨RJ0, "getValue", "()[B"⟩
theorem dJ0_getValue_0 : decode cJ0_getValue 0 = .ok (.aload_n 0, 1) := by decide +kernel
theorem dJ0_getValue_1 : decode cJ0_getValue 1 = .ok (.getfield 15, 3) := by decide +kernel
theorem dJ0_getValue_4 : decode cJ0_getValue 4 = .ok (.areturn, 1) := by decide +kernel
abbrev cJ0_append_2 : ByteArray := prog_66_method_32_code
def yJ0_append_2 : MethodName := ⟨RJ0, "append", "(I)Ljava/lang/AbstractStringBuilder;"⟩
def dkwJ0_append_2_2 : List UInt8 := [42, 29, 181, 0, 79, 42, 176]
abbrev dktJ0_append_2_2 : List UInt8 := dkwJ0_append_2_2 ++ []
def dkwJ0_append_2_1 : List UInt8 := [27, 29, 42, 180, 0, 15, 184, 0, 248, 87, 167, 0, 14, 27, 28, 29, 42, 180, 0, 15, 184, 0, 251, 87]
abbrev dktJ0_append_2_1 : List UInt8 := dkwJ0_append_2_1 ++ dktJ0_append_2_2
def dkwJ0_append_2_0 : List UInt8 := [42, 180, 0, 79, 61, 28, 27, 184, 0, 245, 96, 62, 42, 29, 182, 0, 100, 42, 182, 0, 83, 153, 0, 16]
abbrev dktJ0_append_2_0 : List UInt8 := dkwJ0_append_2_0 ++ dktJ0_append_2_1
theorem dksJ0_append_2_0 : cJ0_append_2.data.toList.drop 0 = dktJ0_append_2_0 := by decide +kernel
theorem dksJ0_append_2_1 : cJ0_append_2.data.toList.drop 24 = dktJ0_append_2_1 := dk_seg dksJ0_append_2_0 24 rfl rfl
theorem dksJ0_append_2_2 : cJ0_append_2.data.toList.drop 48 = dktJ0_append_2_2 := dk_seg dksJ0_append_2_1 24 rfl rfl
theorem dJ0_append_2_0 : decode cJ0_append_2 0 = .ok (.aload_n 0, 1) := dk_42 (dk_at dksJ0_append_2_0 0 rfl rfl)
theorem dJ0_append_2_1 : decode cJ0_append_2 1 = .ok (.getfield 79, 3) := dk_180 0 79 (dk_at dksJ0_append_2_0 1 rfl rfl)
theorem dJ0_append_2_4 : decode cJ0_append_2 4 = .ok (.istore_n 2, 1) := dk_61 (dk_at dksJ0_append_2_0 4 rfl rfl)
theorem dJ0_append_2_5 : decode cJ0_append_2 5 = .ok (.iload_n 2, 1) := dk_28 (dk_at dksJ0_append_2_0 5 rfl rfl)
theorem dJ0_append_2_6 : decode cJ0_append_2 6 = .ok (.iload_n 1, 1) := dk_27 (dk_at dksJ0_append_2_0 6 rfl rfl)
theorem dJ0_append_2_7 : decode cJ0_append_2 7 = .ok (.invokestatic 245, 3) := dk_184 0 245 (dk_at dksJ0_append_2_0 7 rfl rfl)
theorem dJ0_append_2_10 : decode cJ0_append_2 10 = .ok (.iadd, 1) := dk_96 (dk_at dksJ0_append_2_0 10 rfl rfl)
theorem dJ0_append_2_11 : decode cJ0_append_2 11 = .ok (.istore_n 3, 1) := dk_62 (dk_at dksJ0_append_2_0 11 rfl rfl)
theorem dJ0_append_2_12 : decode cJ0_append_2 12 = .ok (.aload_n 0, 1) := dk_42 (dk_at dksJ0_append_2_0 12 rfl rfl)
theorem dJ0_append_2_13 : decode cJ0_append_2 13 = .ok (.iload_n 3, 1) := dk_29 (dk_at dksJ0_append_2_0 13 rfl rfl)
theorem dJ0_append_2_14 : decode cJ0_append_2 14 = .ok (.invokevirtual 100, 3) := dk_182 0 100 (dk_at dksJ0_append_2_0 14 rfl rfl)
theorem dJ0_append_2_17 : decode cJ0_append_2 17 = .ok (.aload_n 0, 1) := dk_42 (dk_at dksJ0_append_2_0 17 rfl rfl)
theorem dJ0_append_2_18 : decode cJ0_append_2 18 = .ok (.invokevirtual 83, 3) := dk_182 0 83 (dk_at dksJ0_append_2_0 18 rfl rfl)
theorem dJ0_append_2_21 : decode cJ0_append_2 21 = .ok (.ifCond .eq 16, 3) := dk_153 0 16 (dk_at dksJ0_append_2_0 21 rfl rfl)
theorem dJ0_append_2_24 : decode cJ0_append_2 24 = .ok (.iload_n 1, 1) := dk_27 (dk_at dksJ0_append_2_1 0 rfl rfl)
theorem dJ0_append_2_25 : decode cJ0_append_2 25 = .ok (.iload_n 3, 1) := dk_29 (dk_at dksJ0_append_2_1 1 rfl rfl)
theorem dJ0_append_2_26 : decode cJ0_append_2 26 = .ok (.aload_n 0, 1) := dk_42 (dk_at dksJ0_append_2_1 2 rfl rfl)
theorem dJ0_append_2_27 : decode cJ0_append_2 27 = .ok (.getfield 15, 3) := dk_180 0 15 (dk_at dksJ0_append_2_1 3 rfl rfl)
theorem dJ0_append_2_30 : decode cJ0_append_2 30 = .ok (.invokestatic 248, 3) := dk_184 0 248 (dk_at dksJ0_append_2_1 6 rfl rfl)
theorem dJ0_append_2_33 : decode cJ0_append_2 33 = .ok (.pop, 1) := dk_87 (dk_at dksJ0_append_2_1 9 rfl rfl)
theorem dJ0_append_2_34 : decode cJ0_append_2 34 = .ok (.goto 14, 3) := dk_167 0 14 (dk_at dksJ0_append_2_1 10 rfl rfl)
theorem dJ0_append_2_37 : decode cJ0_append_2 37 = .ok (.iload_n 1, 1) := dk_27 (dk_at dksJ0_append_2_1 13 rfl rfl)
theorem dJ0_append_2_38 : decode cJ0_append_2 38 = .ok (.iload_n 2, 1) := dk_28 (dk_at dksJ0_append_2_1 14 rfl rfl)
theorem dJ0_append_2_39 : decode cJ0_append_2 39 = .ok (.iload_n 3, 1) := dk_29 (dk_at dksJ0_append_2_1 15 rfl rfl)
theorem dJ0_append_2_40 : decode cJ0_append_2 40 = .ok (.aload_n 0, 1) := dk_42 (dk_at dksJ0_append_2_1 16 rfl rfl)
theorem dJ0_append_2_41 : decode cJ0_append_2 41 = .ok (.getfield 15, 3) := dk_180 0 15 (dk_at dksJ0_append_2_1 17 rfl rfl)
theorem dJ0_append_2_44 : decode cJ0_append_2 44 = .ok (.invokestatic 251, 3) := dk_184 0 251 (dk_at dksJ0_append_2_1 20 rfl rfl)
theorem dJ0_append_2_47 : decode cJ0_append_2 47 = .ok (.pop, 1) := dk_87 (dk_at dksJ0_append_2_1 23 rfl rfl)
theorem dJ0_append_2_48 : decode cJ0_append_2 48 = .ok (.aload_n 0, 1) := dk_42 (dk_at dksJ0_append_2_2 0 rfl rfl)
theorem dJ0_append_2_49 : decode cJ0_append_2 49 = .ok (.iload_n 3, 1) := dk_29 (dk_at dksJ0_append_2_2 1 rfl rfl)
theorem dJ0_append_2_50 : decode cJ0_append_2 50 = .ok (.putfield 79, 3) := dk_181 0 79 (dk_at dksJ0_append_2_2 2 rfl rfl)
theorem dJ0_append_2_53 : decode cJ0_append_2 53 = .ok (.aload_n 0, 1) := dk_42 (dk_at dksJ0_append_2_2 5 rfl rfl)
theorem dJ0_append_2_54 : decode cJ0_append_2 54 = .ok (.areturn, 1) := dk_176 (dk_at dksJ0_append_2_2 6 rfl rfl)
abbrev cJ0_append_3 : ByteArray := prog_66_method_22_code
def yJ0_append_3 : MethodName := ⟨RJ0, "append", "(Ljava/lang/String;)Ljava/lang/AbstractStringBuilder;"⟩
def dkwJ0_append_3_1 : List UInt8 := [42, 42, 180, 0, 79, 43, 182, 0, 208, 42, 89, 180, 0, 79, 28, 96, 181, 0, 79, 42, 176]
abbrev dktJ0_append_3_1 : List UInt8 := dkwJ0_append_3_1 ++ []
def dkwJ0_append_3_0 : List UInt8 := [43, 199, 0, 8, 42, 182, 0, 204, 176, 43, 182, 0, 32, 61, 42, 42, 180, 0, 79, 28, 96, 182, 0, 100]
abbrev dktJ0_append_3_0 : List UInt8 := dkwJ0_append_3_0 ++ dktJ0_append_3_1
theorem dksJ0_append_3_0 : cJ0_append_3.data.toList.drop 0 = dktJ0_append_3_0 := by decide +kernel
theorem dksJ0_append_3_1 : cJ0_append_3.data.toList.drop 24 = dktJ0_append_3_1 := dk_seg dksJ0_append_3_0 24 rfl rfl
theorem dJ0_append_3_0 : decode cJ0_append_3 0 = .ok (.aload_n 1, 1) := dk_43 (dk_at dksJ0_append_3_0 0 rfl rfl)
theorem dJ0_append_3_1 : decode cJ0_append_3 1 = .ok (.ifnonnull 8, 3) := dk_199 0 8 (dk_at dksJ0_append_3_0 1 rfl rfl)
theorem dJ0_append_3_4 : decode cJ0_append_3 4 = .ok (.aload_n 0, 1) := dk_42 (dk_at dksJ0_append_3_0 4 rfl rfl)
theorem dJ0_append_3_5 : decode cJ0_append_3 5 = .ok (.invokevirtual 204, 3) := dk_182 0 204 (dk_at dksJ0_append_3_0 5 rfl rfl)
theorem dJ0_append_3_8 : decode cJ0_append_3 8 = .ok (.areturn, 1) := dk_176 (dk_at dksJ0_append_3_0 8 rfl rfl)
theorem dJ0_append_3_9 : decode cJ0_append_3 9 = .ok (.aload_n 1, 1) := dk_43 (dk_at dksJ0_append_3_0 9 rfl rfl)
theorem dJ0_append_3_10 : decode cJ0_append_3 10 = .ok (.invokevirtual 32, 3) := dk_182 0 32 (dk_at dksJ0_append_3_0 10 rfl rfl)
theorem dJ0_append_3_13 : decode cJ0_append_3 13 = .ok (.istore_n 2, 1) := dk_61 (dk_at dksJ0_append_3_0 13 rfl rfl)
theorem dJ0_append_3_14 : decode cJ0_append_3 14 = .ok (.aload_n 0, 1) := dk_42 (dk_at dksJ0_append_3_0 14 rfl rfl)
theorem dJ0_append_3_15 : decode cJ0_append_3 15 = .ok (.aload_n 0, 1) := dk_42 (dk_at dksJ0_append_3_0 15 rfl rfl)
theorem dJ0_append_3_16 : decode cJ0_append_3 16 = .ok (.getfield 79, 3) := dk_180 0 79 (dk_at dksJ0_append_3_0 16 rfl rfl)
theorem dJ0_append_3_19 : decode cJ0_append_3 19 = .ok (.iload_n 2, 1) := dk_28 (dk_at dksJ0_append_3_0 19 rfl rfl)
theorem dJ0_append_3_20 : decode cJ0_append_3 20 = .ok (.iadd, 1) := dk_96 (dk_at dksJ0_append_3_0 20 rfl rfl)
theorem dJ0_append_3_21 : decode cJ0_append_3 21 = .ok (.invokevirtual 100, 3) := dk_182 0 100 (dk_at dksJ0_append_3_0 21 rfl rfl)
theorem dJ0_append_3_24 : decode cJ0_append_3 24 = .ok (.aload_n 0, 1) := dk_42 (dk_at dksJ0_append_3_1 0 rfl rfl)
theorem dJ0_append_3_25 : decode cJ0_append_3 25 = .ok (.aload_n 0, 1) := dk_42 (dk_at dksJ0_append_3_1 1 rfl rfl)
theorem dJ0_append_3_26 : decode cJ0_append_3 26 = .ok (.getfield 79, 3) := dk_180 0 79 (dk_at dksJ0_append_3_1 2 rfl rfl)
theorem dJ0_append_3_29 : decode cJ0_append_3 29 = .ok (.aload_n 1, 1) := dk_43 (dk_at dksJ0_append_3_1 5 rfl rfl)
theorem dJ0_append_3_30 : decode cJ0_append_3 30 = .ok (.invokevirtual 208, 3) := dk_182 0 208 (dk_at dksJ0_append_3_1 6 rfl rfl)
theorem dJ0_append_3_33 : decode cJ0_append_3 33 = .ok (.aload_n 0, 1) := dk_42 (dk_at dksJ0_append_3_1 9 rfl rfl)
theorem dJ0_append_3_34 : decode cJ0_append_3 34 = .ok (.dup, 1) := dk_89 (dk_at dksJ0_append_3_1 10 rfl rfl)
theorem dJ0_append_3_35 : decode cJ0_append_3 35 = .ok (.getfield 79, 3) := dk_180 0 79 (dk_at dksJ0_append_3_1 11 rfl rfl)
theorem dJ0_append_3_38 : decode cJ0_append_3 38 = .ok (.iload_n 2, 1) := dk_28 (dk_at dksJ0_append_3_1 14 rfl rfl)
theorem dJ0_append_3_39 : decode cJ0_append_3 39 = .ok (.iadd, 1) := dk_96 (dk_at dksJ0_append_3_1 15 rfl rfl)
theorem dJ0_append_3_40 : decode cJ0_append_3 40 = .ok (.putfield 79, 3) := dk_181 0 79 (dk_at dksJ0_append_3_1 16 rfl rfl)
theorem dJ0_append_3_43 : decode cJ0_append_3 43 = .ok (.aload_n 0, 1) := dk_42 (dk_at dksJ0_append_3_1 19 rfl rfl)
theorem dJ0_append_3_44 : decode cJ0_append_3 44 = .ok (.areturn, 1) := dk_176 (dk_at dksJ0_append_3_1 20 rfl rfl)
abbrev cJ0_appendNull : ByteArray := prog_66_method_26_code
def yJ0_appendNull : MethodName := ⟨RJ0, "appendNull", "()Ljava/lang/AbstractStringBuilder;"⟩
def dkwJ0_appendNull_3 : List UInt8 := [184, 0, 226, 60, 42, 27, 181, 0, 79, 42, 176]
abbrev dktJ0_appendNull_3 : List UInt8 := dkwJ0_appendNull_3 ++ []
def dkwJ0_appendNull_2 : List UInt8 := [16, 108, 84, 44, 27, 132, 1, 1, 16, 108, 84, 167, 0, 17, 44, 27, 16, 110, 16, 117, 16, 108, 16, 108]
abbrev dktJ0_appendNull_2 : List UInt8 := dkwJ0_appendNull_2 ++ dktJ0_appendNull_3
def dkwJ0_appendNull_1 : List UInt8 := [153, 0, 38, 44, 27, 132, 1, 1, 16, 110, 84, 44, 27, 132, 1, 1, 16, 117, 84, 44, 27, 132, 1, 1]
abbrev dktJ0_appendNull_1 : List UInt8 := dkwJ0_appendNull_1 ++ dktJ0_appendNull_2
def dkwJ0_appendNull_0 : List UInt8 := [42, 42, 180, 0, 79, 7, 96, 182, 0, 100, 42, 180, 0, 79, 60, 42, 180, 0, 15, 77, 42, 182, 0, 83]
abbrev dktJ0_appendNull_0 : List UInt8 := dkwJ0_appendNull_0 ++ dktJ0_appendNull_1
theorem dksJ0_appendNull_0 : cJ0_appendNull.data.toList.drop 0 = dktJ0_appendNull_0 := by decide +kernel
theorem dksJ0_appendNull_1 : cJ0_appendNull.data.toList.drop 24 = dktJ0_appendNull_1 := dk_seg dksJ0_appendNull_0 24 rfl rfl
theorem dksJ0_appendNull_2 : cJ0_appendNull.data.toList.drop 48 = dktJ0_appendNull_2 := dk_seg dksJ0_appendNull_1 24 rfl rfl
theorem dksJ0_appendNull_3 : cJ0_appendNull.data.toList.drop 72 = dktJ0_appendNull_3 := dk_seg dksJ0_appendNull_2 24 rfl rfl
theorem dJ0_appendNull_0 : decode cJ0_appendNull 0 = .ok (.aload_n 0, 1) := dk_42 (dk_at dksJ0_appendNull_0 0 rfl rfl)
theorem dJ0_appendNull_1 : decode cJ0_appendNull 1 = .ok (.aload_n 0, 1) := dk_42 (dk_at dksJ0_appendNull_0 1 rfl rfl)
theorem dJ0_appendNull_2 : decode cJ0_appendNull 2 = .ok (.getfield 79, 3) := dk_180 0 79 (dk_at dksJ0_appendNull_0 2 rfl rfl)
theorem dJ0_appendNull_5 : decode cJ0_appendNull 5 = .ok (.iconst 4, 1) := dk_7 (dk_at dksJ0_appendNull_0 5 rfl rfl)
theorem dJ0_appendNull_6 : decode cJ0_appendNull 6 = .ok (.iadd, 1) := dk_96 (dk_at dksJ0_appendNull_0 6 rfl rfl)
theorem dJ0_appendNull_7 : decode cJ0_appendNull 7 = .ok (.invokevirtual 100, 3) := dk_182 0 100 (dk_at dksJ0_appendNull_0 7 rfl rfl)
theorem dJ0_appendNull_10 : decode cJ0_appendNull 10 = .ok (.aload_n 0, 1) := dk_42 (dk_at dksJ0_appendNull_0 10 rfl rfl)
theorem dJ0_appendNull_11 : decode cJ0_appendNull 11 = .ok (.getfield 79, 3) := dk_180 0 79 (dk_at dksJ0_appendNull_0 11 rfl rfl)
theorem dJ0_appendNull_14 : decode cJ0_appendNull 14 = .ok (.istore_n 1, 1) := dk_60 (dk_at dksJ0_appendNull_0 14 rfl rfl)
theorem dJ0_appendNull_15 : decode cJ0_appendNull 15 = .ok (.aload_n 0, 1) := dk_42 (dk_at dksJ0_appendNull_0 15 rfl rfl)
theorem dJ0_appendNull_16 : decode cJ0_appendNull 16 = .ok (.getfield 15, 3) := dk_180 0 15 (dk_at dksJ0_appendNull_0 16 rfl rfl)
theorem dJ0_appendNull_19 : decode cJ0_appendNull 19 = .ok (.astore_n 2, 1) := dk_77 (dk_at dksJ0_appendNull_0 19 rfl rfl)
theorem dJ0_appendNull_20 : decode cJ0_appendNull 20 = .ok (.aload_n 0, 1) := dk_42 (dk_at dksJ0_appendNull_0 20 rfl rfl)
theorem dJ0_appendNull_21 : decode cJ0_appendNull 21 = .ok (.invokevirtual 83, 3) := dk_182 0 83 (dk_at dksJ0_appendNull_0 21 rfl rfl)
theorem dJ0_appendNull_24 : decode cJ0_appendNull 24 = .ok (.ifCond .eq 38, 3) := dk_153 0 38 (dk_at dksJ0_appendNull_1 0 rfl rfl)
theorem dJ0_appendNull_27 : decode cJ0_appendNull 27 = .ok (.aload_n 2, 1) := dk_44 (dk_at dksJ0_appendNull_1 3 rfl rfl)
theorem dJ0_appendNull_28 : decode cJ0_appendNull 28 = .ok (.iload_n 1, 1) := dk_27 (dk_at dksJ0_appendNull_1 4 rfl rfl)
theorem dJ0_appendNull_29 : decode cJ0_appendNull 29 = .ok (.iinc 1 1, 3) := dk_132 1 1 (dk_at dksJ0_appendNull_1 5 rfl rfl)
theorem dJ0_appendNull_32 : decode cJ0_appendNull 32 = .ok (.bipush 110, 2) := dk_16 110 (dk_at dksJ0_appendNull_1 8 rfl rfl)
theorem dJ0_appendNull_34 : decode cJ0_appendNull 34 = .ok (.bastore, 1) := dk_84 (dk_at dksJ0_appendNull_1 10 rfl rfl)
theorem dJ0_appendNull_35 : decode cJ0_appendNull 35 = .ok (.aload_n 2, 1) := dk_44 (dk_at dksJ0_appendNull_1 11 rfl rfl)
theorem dJ0_appendNull_36 : decode cJ0_appendNull 36 = .ok (.iload_n 1, 1) := dk_27 (dk_at dksJ0_appendNull_1 12 rfl rfl)
theorem dJ0_appendNull_37 : decode cJ0_appendNull 37 = .ok (.iinc 1 1, 3) := dk_132 1 1 (dk_at dksJ0_appendNull_1 13 rfl rfl)
theorem dJ0_appendNull_40 : decode cJ0_appendNull 40 = .ok (.bipush 117, 2) := dk_16 117 (dk_at dksJ0_appendNull_1 16 rfl rfl)
theorem dJ0_appendNull_42 : decode cJ0_appendNull 42 = .ok (.bastore, 1) := dk_84 (dk_at dksJ0_appendNull_1 18 rfl rfl)
theorem dJ0_appendNull_43 : decode cJ0_appendNull 43 = .ok (.aload_n 2, 1) := dk_44 (dk_at dksJ0_appendNull_1 19 rfl rfl)
theorem dJ0_appendNull_44 : decode cJ0_appendNull 44 = .ok (.iload_n 1, 1) := dk_27 (dk_at dksJ0_appendNull_1 20 rfl rfl)
theorem dJ0_appendNull_45 : decode cJ0_appendNull 45 = .ok (.iinc 1 1, 3) := dk_132 1 1 (dk_at dksJ0_appendNull_1 21 rfl rfl)
theorem dJ0_appendNull_48 : decode cJ0_appendNull 48 = .ok (.bipush 108, 2) := dk_16 108 (dk_at dksJ0_appendNull_2 0 rfl rfl)
theorem dJ0_appendNull_50 : decode cJ0_appendNull 50 = .ok (.bastore, 1) := dk_84 (dk_at dksJ0_appendNull_2 2 rfl rfl)
theorem dJ0_appendNull_51 : decode cJ0_appendNull 51 = .ok (.aload_n 2, 1) := dk_44 (dk_at dksJ0_appendNull_2 3 rfl rfl)
theorem dJ0_appendNull_52 : decode cJ0_appendNull 52 = .ok (.iload_n 1, 1) := dk_27 (dk_at dksJ0_appendNull_2 4 rfl rfl)
theorem dJ0_appendNull_53 : decode cJ0_appendNull 53 = .ok (.iinc 1 1, 3) := dk_132 1 1 (dk_at dksJ0_appendNull_2 5 rfl rfl)
theorem dJ0_appendNull_56 : decode cJ0_appendNull 56 = .ok (.bipush 108, 2) := dk_16 108 (dk_at dksJ0_appendNull_2 8 rfl rfl)
theorem dJ0_appendNull_58 : decode cJ0_appendNull 58 = .ok (.bastore, 1) := dk_84 (dk_at dksJ0_appendNull_2 10 rfl rfl)
theorem dJ0_appendNull_59 : decode cJ0_appendNull 59 = .ok (.goto 17, 3) := dk_167 0 17 (dk_at dksJ0_appendNull_2 11 rfl rfl)
theorem dJ0_appendNull_62 : decode cJ0_appendNull 62 = .ok (.aload_n 2, 1) := dk_44 (dk_at dksJ0_appendNull_2 14 rfl rfl)
theorem dJ0_appendNull_63 : decode cJ0_appendNull 63 = .ok (.iload_n 1, 1) := dk_27 (dk_at dksJ0_appendNull_2 15 rfl rfl)
theorem dJ0_appendNull_64 : decode cJ0_appendNull 64 = .ok (.bipush 110, 2) := dk_16 110 (dk_at dksJ0_appendNull_2 16 rfl rfl)
theorem dJ0_appendNull_66 : decode cJ0_appendNull 66 = .ok (.bipush 117, 2) := dk_16 117 (dk_at dksJ0_appendNull_2 18 rfl rfl)
theorem dJ0_appendNull_68 : decode cJ0_appendNull 68 = .ok (.bipush 108, 2) := dk_16 108 (dk_at dksJ0_appendNull_2 20 rfl rfl)
theorem dJ0_appendNull_70 : decode cJ0_appendNull 70 = .ok (.bipush 108, 2) := dk_16 108 (dk_at dksJ0_appendNull_2 22 rfl rfl)
theorem dJ0_appendNull_72 : decode cJ0_appendNull 72 = .ok (.invokestatic 226, 3) := dk_184 0 226 (dk_at dksJ0_appendNull_3 0 rfl rfl)
theorem dJ0_appendNull_75 : decode cJ0_appendNull 75 = .ok (.istore_n 1, 1) := dk_60 (dk_at dksJ0_appendNull_3 3 rfl rfl)
theorem dJ0_appendNull_76 : decode cJ0_appendNull 76 = .ok (.aload_n 0, 1) := dk_42 (dk_at dksJ0_appendNull_3 4 rfl rfl)
theorem dJ0_appendNull_77 : decode cJ0_appendNull 77 = .ok (.iload_n 1, 1) := dk_27 (dk_at dksJ0_appendNull_3 5 rfl rfl)
theorem dJ0_appendNull_78 : decode cJ0_appendNull 78 = .ok (.putfield 79, 3) := dk_181 0 79 (dk_at dksJ0_appendNull_3 6 rfl rfl)
theorem dJ0_appendNull_81 : decode cJ0_appendNull 81 = .ok (.aload_n 0, 1) := dk_42 (dk_at dksJ0_appendNull_3 9 rfl rfl)
theorem dJ0_appendNull_82 : decode cJ0_appendNull 82 = .ok (.areturn, 1) := dk_176 (dk_at dksJ0_appendNull_3 10 rfl rfl)
abbrev cJ0_putStringAt : ByteArray := prog_66_method_73_code
def yJ0_putStringAt : MethodName := ⟨RJ0, "putStringAt", "(ILjava/lang/String;)V"⟩
def dkwJ0_putStringAt_0 : List UInt8 := [42, 44, 182, 1, 141, 44, 42, 180, 0, 15, 27, 42, 180, 0, 22, 182, 1, 143, 177]
abbrev dktJ0_putStringAt_0 : List UInt8 := dkwJ0_putStringAt_0 ++ []
theorem dksJ0_putStringAt_0 : cJ0_putStringAt.data.toList.drop 0 = dktJ0_putStringAt_0 := by decide +kernel
theorem dJ0_putStringAt_0 : decode cJ0_putStringAt 0 = .ok (.aload_n 0, 1) := dk_42 (dk_at dksJ0_putStringAt_0 0 rfl rfl)
theorem dJ0_putStringAt_1 : decode cJ0_putStringAt 1 = .ok (.aload_n 2, 1) := dk_44 (dk_at dksJ0_putStringAt_0 1 rfl rfl)
theorem dJ0_putStringAt_2 : decode cJ0_putStringAt 2 = .ok (.invokevirtual 397, 3) := dk_182 1 141 (dk_at dksJ0_putStringAt_0 2 rfl rfl)
theorem dJ0_putStringAt_5 : decode cJ0_putStringAt 5 = .ok (.aload_n 2, 1) := dk_44 (dk_at dksJ0_putStringAt_0 5 rfl rfl)
theorem dJ0_putStringAt_6 : decode cJ0_putStringAt 6 = .ok (.aload_n 0, 1) := dk_42 (dk_at dksJ0_putStringAt_0 6 rfl rfl)
theorem dJ0_putStringAt_7 : decode cJ0_putStringAt 7 = .ok (.getfield 15, 3) := dk_180 0 15 (dk_at dksJ0_putStringAt_0 7 rfl rfl)
theorem dJ0_putStringAt_10 : decode cJ0_putStringAt 10 = .ok (.iload_n 1, 1) := dk_27 (dk_at dksJ0_putStringAt_0 10 rfl rfl)
theorem dJ0_putStringAt_11 : decode cJ0_putStringAt 11 = .ok (.aload_n 0, 1) := dk_42 (dk_at dksJ0_putStringAt_0 11 rfl rfl)
theorem dJ0_putStringAt_12 : decode cJ0_putStringAt 12 = .ok (.getfield 22, 3) := dk_180 0 22 (dk_at dksJ0_putStringAt_0 12 rfl rfl)
theorem dJ0_putStringAt_15 : decode cJ0_putStringAt 15 = .ok (.invokevirtual 399, 3) := dk_182 1 143 (dk_at dksJ0_putStringAt_0 15 rfl rfl)
theorem dJ0_putStringAt_18 : decode cJ0_putStringAt 18 = .ok (.return_, 1) := dk_177 (dk_at dksJ0_putStringAt_0 18 rfl rfl)
abbrev cJ0_inflateIfNeededFor : ByteArray := prog_66_method_71_code
def yJ0_inflateIfNeededFor : MethodName := ⟨RJ0, "inflateIfNeededFo\x72", "(Ljava/lang/String;)V"⟩
def dkwJ0_inflateIfNeededFor_0 : List UInt8 := [178, 0, 18, 153, 0, 18, 42, 180, 0, 22, 43, 182, 0, 40, 159, 0, 7, 42, 182, 0, 195, 177]
abbrev dktJ0_inflateIfNeededFor_0 : List UInt8 := dkwJ0_inflateIfNeededFor_0 ++ []
theorem dksJ0_inflateIfNeededFor_0 : cJ0_inflateIfNeededFor.data.toList.drop 0 = dktJ0_inflateIfNeededFor_0 := by decide +kernel
theorem dJ0_inflateIfNeededFor_0 : decode cJ0_inflateIfNeededFor 0 = .ok (.getstatic 18, 3) := dk_178 0 18 (dk_at dksJ0_inflateIfNeededFor_0 0 rfl rfl)
theorem dJ0_inflateIfNeededFor_3 : decode cJ0_inflateIfNeededFor 3 = .ok (.ifCond .eq 18, 3) := dk_153 0 18 (dk_at dksJ0_inflateIfNeededFor_0 3 rfl rfl)
theorem dJ0_inflateIfNeededFor_6 : decode cJ0_inflateIfNeededFor 6 = .ok (.aload_n 0, 1) := dk_42 (dk_at dksJ0_inflateIfNeededFor_0 6 rfl rfl)
theorem dJ0_inflateIfNeededFor_7 : decode cJ0_inflateIfNeededFor 7 = .ok (.getfield 22, 3) := dk_180 0 22 (dk_at dksJ0_inflateIfNeededFor_0 7 rfl rfl)
theorem dJ0_inflateIfNeededFor_10 : decode cJ0_inflateIfNeededFor 10 = .ok (.aload_n 1, 1) := dk_43 (dk_at dksJ0_inflateIfNeededFor_0 10 rfl rfl)
theorem dJ0_inflateIfNeededFor_11 : decode cJ0_inflateIfNeededFor 11 = .ok (.invokevirtual 40, 3) := dk_182 0 40 (dk_at dksJ0_inflateIfNeededFor_0 11 rfl rfl)
theorem dJ0_inflateIfNeededFor_14 : decode cJ0_inflateIfNeededFor 14 = .ok (.if_icmp .eq 7, 3) := dk_159 0 7 (dk_at dksJ0_inflateIfNeededFor_0 14 rfl rfl)
theorem dJ0_inflateIfNeededFor_17 : decode cJ0_inflateIfNeededFor 17 = .ok (.aload_n 0, 1) := dk_42 (dk_at dksJ0_inflateIfNeededFor_0 17 rfl rfl)
theorem dJ0_inflateIfNeededFor_18 : decode cJ0_inflateIfNeededFor 18 = .ok (.invokevirtual 195, 3) := dk_182 0 195 (dk_at dksJ0_inflateIfNeededFor_0 18 rfl rfl)
theorem dJ0_inflateIfNeededFor_21 : decode cJ0_inflateIfNeededFor 21 = .ok (.return_, 1) := dk_177 (dk_at dksJ0_inflateIfNeededFor_0 21 rfl rfl)
abbrev cJ0_setLength : ByteArray := prog_66_method_13_code
def yJ0_setLength : MethodName := ⟨RJ0, "setLength", "(I)V"⟩
def dkwJ0_setLength_3 : List UInt8 := [164, 0, 8, 42, 4, 181, 0, 73, 42, 27, 181, 0, 79, 177]
abbrev dktJ0_setLength_3 : List UInt8 := dkwJ0_setLength_3 ++ []
def dkwJ0_setLength_2 : List UInt8 := [167, 0, 31, 42, 180, 0, 15, 42, 180, 0, 79, 27, 184, 0, 137, 167, 0, 16, 42, 180, 0, 79, 27]
abbrev dktJ0_setLength_2 : List UInt8 := dkwJ0_setLength_2 ++ dktJ0_setLength_3
def dkwJ0_setLength_1 : List UInt8 := [162, 0, 40, 42, 182, 0, 83, 153, 0, 18, 42, 180, 0, 15, 42, 180, 0, 79, 27, 184, 0, 133]
abbrev dktJ0_setLength_1 : List UInt8 := dkwJ0_setLength_1 ++ dktJ0_setLength_2
def dkwJ0_setLength_0 : List UInt8 := [27, 156, 0, 12, 187, 0, 129, 89, 27, 183, 0, 131, 191, 42, 27, 182, 0, 100, 42, 180, 0, 79, 27]
abbrev dktJ0_setLength_0 : List UInt8 := dkwJ0_setLength_0 ++ dktJ0_setLength_1
theorem dksJ0_setLength_0 : cJ0_setLength.data.toList.drop 0 = dktJ0_setLength_0 := by decide +kernel
theorem dksJ0_setLength_1 : cJ0_setLength.data.toList.drop 23 = dktJ0_setLength_1 := dk_seg dksJ0_setLength_0 23 rfl rfl
theorem dksJ0_setLength_2 : cJ0_setLength.data.toList.drop 45 = dktJ0_setLength_2 := dk_seg dksJ0_setLength_1 22 rfl rfl
theorem dksJ0_setLength_3 : cJ0_setLength.data.toList.drop 68 = dktJ0_setLength_3 := dk_seg dksJ0_setLength_2 23 rfl rfl
theorem dJ0_setLength_0 : decode cJ0_setLength 0 = .ok (.iload_n 1, 1) := dk_27 (dk_at dksJ0_setLength_0 0 rfl rfl)
theorem dJ0_setLength_1 : decode cJ0_setLength 1 = .ok (.ifCond .ge 12, 3) := dk_156 0 12 (dk_at dksJ0_setLength_0 1 rfl rfl)
theorem dJ0_setLength_4 : decode cJ0_setLength 4 = .ok (.new 129, 3) := dk_187 0 129 (dk_at dksJ0_setLength_0 4 rfl rfl)
theorem dJ0_setLength_7 : decode cJ0_setLength 7 = .ok (.dup, 1) := dk_89 (dk_at dksJ0_setLength_0 7 rfl rfl)
theorem dJ0_setLength_8 : decode cJ0_setLength 8 = .ok (.iload_n 1, 1) := dk_27 (dk_at dksJ0_setLength_0 8 rfl rfl)
theorem dJ0_setLength_9 : decode cJ0_setLength 9 = .ok (.invokespecial 131, 3) := dk_183 0 131 (dk_at dksJ0_setLength_0 9 rfl rfl)
theorem dJ0_setLength_12 : decode cJ0_setLength 12 = .ok (.athrow, 1) := dk_191 (dk_at dksJ0_setLength_0 12 rfl rfl)
theorem dJ0_setLength_13 : decode cJ0_setLength 13 = .ok (.aload_n 0, 1) := dk_42 (dk_at dksJ0_setLength_0 13 rfl rfl)
theorem dJ0_setLength_14 : decode cJ0_setLength 14 = .ok (.iload_n 1, 1) := dk_27 (dk_at dksJ0_setLength_0 14 rfl rfl)
theorem dJ0_setLength_15 : decode cJ0_setLength 15 = .ok (.invokevirtual 100, 3) := dk_182 0 100 (dk_at dksJ0_setLength_0 15 rfl rfl)
theorem dJ0_setLength_18 : decode cJ0_setLength 18 = .ok (.aload_n 0, 1) := dk_42 (dk_at dksJ0_setLength_0 18 rfl rfl)
theorem dJ0_setLength_19 : decode cJ0_setLength 19 = .ok (.getfield 79, 3) := dk_180 0 79 (dk_at dksJ0_setLength_0 19 rfl rfl)
theorem dJ0_setLength_22 : decode cJ0_setLength 22 = .ok (.iload_n 1, 1) := dk_27 (dk_at dksJ0_setLength_0 22 rfl rfl)
theorem dJ0_setLength_23 : decode cJ0_setLength 23 = .ok (.if_icmp .ge 40, 3) := dk_162 0 40 (dk_at dksJ0_setLength_1 0 rfl rfl)
theorem dJ0_setLength_26 : decode cJ0_setLength 26 = .ok (.aload_n 0, 1) := dk_42 (dk_at dksJ0_setLength_1 3 rfl rfl)
theorem dJ0_setLength_27 : decode cJ0_setLength 27 = .ok (.invokevirtual 83, 3) := dk_182 0 83 (dk_at dksJ0_setLength_1 4 rfl rfl)
theorem dJ0_setLength_30 : decode cJ0_setLength 30 = .ok (.ifCond .eq 18, 3) := dk_153 0 18 (dk_at dksJ0_setLength_1 7 rfl rfl)
theorem dJ0_setLength_33 : decode cJ0_setLength 33 = .ok (.aload_n 0, 1) := dk_42 (dk_at dksJ0_setLength_1 10 rfl rfl)
theorem dJ0_setLength_34 : decode cJ0_setLength 34 = .ok (.getfield 15, 3) := dk_180 0 15 (dk_at dksJ0_setLength_1 11 rfl rfl)
theorem dJ0_setLength_37 : decode cJ0_setLength 37 = .ok (.aload_n 0, 1) := dk_42 (dk_at dksJ0_setLength_1 14 rfl rfl)
theorem dJ0_setLength_38 : decode cJ0_setLength 38 = .ok (.getfield 79, 3) := dk_180 0 79 (dk_at dksJ0_setLength_1 15 rfl rfl)
theorem dJ0_setLength_41 : decode cJ0_setLength 41 = .ok (.iload_n 1, 1) := dk_27 (dk_at dksJ0_setLength_1 18 rfl rfl)
theorem dJ0_setLength_42 : decode cJ0_setLength 42 = .ok (.invokestatic 133, 3) := dk_184 0 133 (dk_at dksJ0_setLength_1 19 rfl rfl)
theorem dJ0_setLength_45 : decode cJ0_setLength 45 = .ok (.goto 31, 3) := dk_167 0 31 (dk_at dksJ0_setLength_2 0 rfl rfl)
theorem dJ0_setLength_48 : decode cJ0_setLength 48 = .ok (.aload_n 0, 1) := dk_42 (dk_at dksJ0_setLength_2 3 rfl rfl)
theorem dJ0_setLength_49 : decode cJ0_setLength 49 = .ok (.getfield 15, 3) := dk_180 0 15 (dk_at dksJ0_setLength_2 4 rfl rfl)
theorem dJ0_setLength_52 : decode cJ0_setLength 52 = .ok (.aload_n 0, 1) := dk_42 (dk_at dksJ0_setLength_2 7 rfl rfl)
theorem dJ0_setLength_53 : decode cJ0_setLength 53 = .ok (.getfield 79, 3) := dk_180 0 79 (dk_at dksJ0_setLength_2 8 rfl rfl)
theorem dJ0_setLength_56 : decode cJ0_setLength 56 = .ok (.iload_n 1, 1) := dk_27 (dk_at dksJ0_setLength_2 11 rfl rfl)
theorem dJ0_setLength_57 : decode cJ0_setLength 57 = .ok (.invokestatic 137, 3) := dk_184 0 137 (dk_at dksJ0_setLength_2 12 rfl rfl)
theorem dJ0_setLength_60 : decode cJ0_setLength 60 = .ok (.goto 16, 3) := dk_167 0 16 (dk_at dksJ0_setLength_2 15 rfl rfl)
theorem dJ0_setLength_63 : decode cJ0_setLength 63 = .ok (.aload_n 0, 1) := dk_42 (dk_at dksJ0_setLength_2 18 rfl rfl)
theorem dJ0_setLength_64 : decode cJ0_setLength 64 = .ok (.getfield 79, 3) := dk_180 0 79 (dk_at dksJ0_setLength_2 19 rfl rfl)
theorem dJ0_setLength_67 : decode cJ0_setLength 67 = .ok (.iload_n 1, 1) := dk_27 (dk_at dksJ0_setLength_2 22 rfl rfl)
theorem dJ0_setLength_68 : decode cJ0_setLength 68 = .ok (.if_icmp .le 8, 3) := dk_164 0 8 (dk_at dksJ0_setLength_3 0 rfl rfl)
theorem dJ0_setLength_71 : decode cJ0_setLength 71 = .ok (.aload_n 0, 1) := dk_42 (dk_at dksJ0_setLength_3 3 rfl rfl)
theorem dJ0_setLength_72 : decode cJ0_setLength 72 = .ok (.iconst 1, 1) := dk_4 (dk_at dksJ0_setLength_3 4 rfl rfl)
theorem dJ0_setLength_73 : decode cJ0_setLength 73 = .ok (.putfield 73, 3) := dk_181 0 73 (dk_at dksJ0_setLength_3 5 rfl rfl)
theorem dJ0_setLength_76 : decode cJ0_setLength 76 = .ok (.aload_n 0, 1) := dk_42 (dk_at dksJ0_setLength_3 8 rfl rfl)
theorem dJ0_setLength_77 : decode cJ0_setLength 77 = .ok (.iload_n 1, 1) := dk_27 (dk_at dksJ0_setLength_3 9 rfl rfl)
theorem dJ0_setLength_78 : decode cJ0_setLength 78 = .ok (.putfield 79, 3) := dk_181 0 79 (dk_at dksJ0_setLength_3 10 rfl rfl)
theorem dJ0_setLength_81 : decode cJ0_setLength 81 = .ok (.return_, 1) := dk_177 (dk_at dksJ0_setLength_3 13 rfl rfl)
abbrev cJ0_append_4 : ByteArray := prog_66_method_27_code
def yJ0_append_4 : MethodName := ⟨RJ0, "append", "(Ljava/lang/CharSequence;II)Ljava/lang/AbstractStringBuilder;"⟩
def dkwJ0_append_4_2 : List UInt8 := [192, 0, 1, 28, 29, 182, 0, 232, 167, 0, 10, 42, 43, 28, 29, 182, 0, 236, 42, 176]
abbrev dktJ0_append_4_2 : List UInt8 := dkwJ0_append_4_2 ++ []
def dkwJ0_append_4_1 : List UInt8 := [100, 54, 4, 42, 42, 180, 0, 79, 21, 4, 96, 182, 0, 100, 43, 193, 0, 1, 153, 0, 16, 42, 43]
abbrev dktJ0_append_4_1 : List UInt8 := dkwJ0_append_4_1 ++ dktJ0_append_4_2
def dkwJ0_append_4_0 : List UInt8 := [43, 199, 0, 6, 18, 230, 76, 28, 29, 43, 185, 0, 47, 1, 0, 178, 0, 183, 184, 0, 161, 87, 29, 28]
abbrev dktJ0_append_4_0 : List UInt8 := dkwJ0_append_4_0 ++ dktJ0_append_4_1
theorem dksJ0_append_4_0 : cJ0_append_4.data.toList.drop 0 = dktJ0_append_4_0 := by decide +kernel
theorem dksJ0_append_4_1 : cJ0_append_4.data.toList.drop 24 = dktJ0_append_4_1 := dk_seg dksJ0_append_4_0 24 rfl rfl
theorem dksJ0_append_4_2 : cJ0_append_4.data.toList.drop 47 = dktJ0_append_4_2 := dk_seg dksJ0_append_4_1 23 rfl rfl
theorem dJ0_append_4_0 : decode cJ0_append_4 0 = .ok (.aload_n 1, 1) := dk_43 (dk_at dksJ0_append_4_0 0 rfl rfl)
theorem dJ0_append_4_1 : decode cJ0_append_4 1 = .ok (.ifnonnull 6, 3) := dk_199 0 6 (dk_at dksJ0_append_4_0 1 rfl rfl)
theorem dJ0_append_4_4 : decode cJ0_append_4 4 = .ok (.ldc 230, 2) := dk_18 230 (dk_at dksJ0_append_4_0 4 rfl rfl)
theorem dJ0_append_4_6 : decode cJ0_append_4 6 = .ok (.astore_n 1, 1) := dk_76 (dk_at dksJ0_append_4_0 6 rfl rfl)
theorem dJ0_append_4_7 : decode cJ0_append_4 7 = .ok (.iload_n 2, 1) := dk_28 (dk_at dksJ0_append_4_0 7 rfl rfl)
theorem dJ0_append_4_8 : decode cJ0_append_4 8 = .ok (.iload_n 3, 1) := dk_29 (dk_at dksJ0_append_4_0 8 rfl rfl)
theorem dJ0_append_4_9 : decode cJ0_append_4 9 = .ok (.aload_n 1, 1) := dk_43 (dk_at dksJ0_append_4_0 9 rfl rfl)
theorem dJ0_append_4_10 : decode cJ0_append_4 10 = .ok (.invokeinterface 47 1, 5) := by decide +kernel
theorem dJ0_append_4_15 : decode cJ0_append_4 15 = .ok (.getstatic 183, 3) := dk_178 0 183 (dk_at dksJ0_append_4_0 15 rfl rfl)
theorem dJ0_append_4_18 : decode cJ0_append_4 18 = .ok (.invokestatic 161, 3) := dk_184 0 161 (dk_at dksJ0_append_4_0 18 rfl rfl)
theorem dJ0_append_4_21 : decode cJ0_append_4 21 = .ok (.pop, 1) := dk_87 (dk_at dksJ0_append_4_0 21 rfl rfl)
theorem dJ0_append_4_22 : decode cJ0_append_4 22 = .ok (.iload_n 3, 1) := dk_29 (dk_at dksJ0_append_4_0 22 rfl rfl)
theorem dJ0_append_4_23 : decode cJ0_append_4 23 = .ok (.iload_n 2, 1) := dk_28 (dk_at dksJ0_append_4_0 23 rfl rfl)
theorem dJ0_append_4_24 : decode cJ0_append_4 24 = .ok (.isub, 1) := dk_100 (dk_at dksJ0_append_4_1 0 rfl rfl)
theorem dJ0_append_4_25 : decode cJ0_append_4 25 = .ok (.istore 4, 2) := dk_54 4 (dk_at dksJ0_append_4_1 1 rfl rfl)
theorem dJ0_append_4_27 : decode cJ0_append_4 27 = .ok (.aload_n 0, 1) := dk_42 (dk_at dksJ0_append_4_1 3 rfl rfl)
theorem dJ0_append_4_28 : decode cJ0_append_4 28 = .ok (.aload_n 0, 1) := dk_42 (dk_at dksJ0_append_4_1 4 rfl rfl)
theorem dJ0_append_4_29 : decode cJ0_append_4 29 = .ok (.getfield 79, 3) := dk_180 0 79 (dk_at dksJ0_append_4_1 5 rfl rfl)
theorem dJ0_append_4_32 : decode cJ0_append_4 32 = .ok (.iload 4, 2) := dk_21 4 (dk_at dksJ0_append_4_1 8 rfl rfl)
theorem dJ0_append_4_34 : decode cJ0_append_4 34 = .ok (.iadd, 1) := dk_96 (dk_at dksJ0_append_4_1 10 rfl rfl)
theorem dJ0_append_4_35 : decode cJ0_append_4 35 = .ok (.invokevirtual 100, 3) := dk_182 0 100 (dk_at dksJ0_append_4_1 11 rfl rfl)
theorem dJ0_append_4_38 : decode cJ0_append_4 38 = .ok (.aload_n 1, 1) := dk_43 (dk_at dksJ0_append_4_1 14 rfl rfl)
theorem dJ0_append_4_39 : decode cJ0_append_4 39 = .ok (.instanceof 1, 3) := dk_193 0 1 (dk_at dksJ0_append_4_1 15 rfl rfl)
theorem dJ0_append_4_42 : decode cJ0_append_4 42 = .ok (.ifCond .eq 16, 3) := dk_153 0 16 (dk_at dksJ0_append_4_1 18 rfl rfl)
theorem dJ0_append_4_45 : decode cJ0_append_4 45 = .ok (.aload_n 0, 1) := dk_42 (dk_at dksJ0_append_4_1 21 rfl rfl)
theorem dJ0_append_4_46 : decode cJ0_append_4 46 = .ok (.aload_n 1, 1) := dk_43 (dk_at dksJ0_append_4_1 22 rfl rfl)
theorem dJ0_append_4_47 : decode cJ0_append_4 47 = .ok (.checkcast 1, 3) := dk_192 0 1 (dk_at dksJ0_append_4_2 0 rfl rfl)
theorem dJ0_append_4_50 : decode cJ0_append_4 50 = .ok (.iload_n 2, 1) := dk_28 (dk_at dksJ0_append_4_2 3 rfl rfl)
theorem dJ0_append_4_51 : decode cJ0_append_4 51 = .ok (.iload_n 3, 1) := dk_29 (dk_at dksJ0_append_4_2 4 rfl rfl)
theorem dJ0_append_4_52 : decode cJ0_append_4 52 = .ok (.invokevirtual 232, 3) := dk_182 0 232 (dk_at dksJ0_append_4_2 5 rfl rfl)
theorem dJ0_append_4_55 : decode cJ0_append_4 55 = .ok (.goto 10, 3) := dk_167 0 10 (dk_at dksJ0_append_4_2 8 rfl rfl)
theorem dJ0_append_4_58 : decode cJ0_append_4 58 = .ok (.aload_n 0, 1) := dk_42 (dk_at dksJ0_append_4_2 11 rfl rfl)
theorem dJ0_append_4_59 : decode cJ0_append_4 59 = .ok (.aload_n 1, 1) := dk_43 (dk_at dksJ0_append_4_2 12 rfl rfl)
theorem dJ0_append_4_60 : decode cJ0_append_4 60 = .ok (.iload_n 2, 1) := dk_28 (dk_at dksJ0_append_4_2 13 rfl rfl)
theorem dJ0_append_4_61 : decode cJ0_append_4 61 = .ok (.iload_n 3, 1) := dk_29 (dk_at dksJ0_append_4_2 14 rfl rfl)
theorem dJ0_append_4_62 : decode cJ0_append_4 62 = .ok (.invokevirtual 236, 3) := dk_182 0 236 (dk_at dksJ0_append_4_2 15 rfl rfl)
theorem dJ0_append_4_65 : decode cJ0_append_4 65 = .ok (.aload_n 0, 1) := dk_42 (dk_at dksJ0_append_4_2 18 rfl rfl)
theorem dJ0_append_4_66 : decode cJ0_append_4 66 = .ok (.areturn, 1) := dk_176 (dk_at dksJ0_append_4_2 19 rfl rfl)
abbrev cJ0_appendChars : ByteArray := prog_66_method_75_code
def yJ0_appendChars : MethodName := ⟨RJ0, "appendChars", "(Ljava/lang/String;II)V"⟩
def dkwJ0_appendChars_8 : List UInt8 := [120, 184, 1, 53, 42, 89, 180, 0, 79, 29, 28, 100, 96, 181, 0, 79, 177]
abbrev dktJ0_appendChars_8 : List UInt8 := dkwJ0_appendChars_8 ++ []
def dkwJ0_appendChars_7 : List UInt8 := [167, 0, 28, 43, 182, 1, 145, 28, 4, 120, 42, 180, 0, 15, 42, 180, 0, 79, 4, 120, 29, 28, 100, 4]
abbrev dktJ0_appendChars_7 : List UInt8 := dkwJ0_appendChars_7 ++ dktJ0_appendChars_8
def dkwJ0_appendChars_6 : List UInt8 := [167, 0, 52, 43, 182, 1, 144, 153, 0, 20, 42, 180, 0, 15, 42, 180, 0, 79, 43, 28, 29, 184, 1, 138]
abbrev dktJ0_appendChars_6 : List UInt8 := dkwJ0_appendChars_6 ++ dktJ0_appendChars_7
def dkwJ0_appendChars_5 : List UInt8 := [120, 184, 1, 53, 42, 89, 180, 0, 79, 29, 21, 5, 100, 96, 181, 0, 79, 177, 132, 5, 1, 167, 255, 168]
abbrev dktJ0_appendChars_5 : List UInt8 := dkwJ0_appendChars_5 ++ dktJ0_appendChars_6
def dkwJ0_appendChars_4 : List UInt8 := [182, 0, 195, 43, 182, 1, 145, 21, 5, 4, 120, 42, 180, 0, 15, 21, 6, 4, 120, 29, 21, 5, 100, 4]
abbrev dktJ0_appendChars_4 : List UInt8 := dkwJ0_appendChars_4 ++ dktJ0_appendChars_5
def dkwJ0_appendChars_3 : List UInt8 := [153, 0, 17, 25, 4, 21, 6, 132, 6, 1, 21, 7, 145, 84, 167, 0, 52, 42, 21, 6, 181, 0, 79, 42]
abbrev dktJ0_appendChars_3 : List UInt8 := dkwJ0_appendChars_3 ++ dktJ0_appendChars_4
def dkwJ0_appendChars_2 : List UInt8 := [180, 0, 79, 54, 6, 21, 5, 29, 162, 0, 88, 43, 21, 5, 182, 1, 148, 54, 7, 21, 7, 184, 0, 191]
abbrev dktJ0_appendChars_2 : List UInt8 := dkwJ0_appendChars_2 ++ dktJ0_appendChars_3
def dkwJ0_appendChars_1 : List UInt8 := [180, 0, 79, 29, 28, 100, 184, 1, 53, 167, 0, 161, 42, 180, 0, 15, 58, 4, 28, 54, 5, 42]
abbrev dktJ0_appendChars_1 : List UInt8 := dkwJ0_appendChars_1 ++ dktJ0_appendChars_2
def dkwJ0_appendChars_0 : List UInt8 := [42, 182, 0, 83, 153, 0, 141, 43, 182, 1, 144, 153, 0, 25, 43, 182, 1, 145, 28, 42, 180, 0, 15, 42]
abbrev dktJ0_appendChars_0 : List UInt8 := dkwJ0_appendChars_0 ++ dktJ0_appendChars_1
theorem dksJ0_appendChars_0 : cJ0_appendChars.data.toList.drop 0 = dktJ0_appendChars_0 := by decide +kernel
theorem dksJ0_appendChars_1 : cJ0_appendChars.data.toList.drop 24 = dktJ0_appendChars_1 := dk_seg dksJ0_appendChars_0 24 rfl rfl
theorem dksJ0_appendChars_2 : cJ0_appendChars.data.toList.drop 46 = dktJ0_appendChars_2 := dk_seg dksJ0_appendChars_1 22 rfl rfl
theorem dksJ0_appendChars_3 : cJ0_appendChars.data.toList.drop 70 = dktJ0_appendChars_3 := dk_seg dksJ0_appendChars_2 24 rfl rfl
theorem dksJ0_appendChars_4 : cJ0_appendChars.data.toList.drop 94 = dktJ0_appendChars_4 := dk_seg dksJ0_appendChars_3 24 rfl rfl
theorem dksJ0_appendChars_5 : cJ0_appendChars.data.toList.drop 118 = dktJ0_appendChars_5 := dk_seg dksJ0_appendChars_4 24 rfl rfl
theorem dksJ0_appendChars_6 : cJ0_appendChars.data.toList.drop 142 = dktJ0_appendChars_6 := dk_seg dksJ0_appendChars_5 24 rfl rfl
theorem dksJ0_appendChars_7 : cJ0_appendChars.data.toList.drop 166 = dktJ0_appendChars_7 := dk_seg dksJ0_appendChars_6 24 rfl rfl
theorem dksJ0_appendChars_8 : cJ0_appendChars.data.toList.drop 190 = dktJ0_appendChars_8 := dk_seg dksJ0_appendChars_7 24 rfl rfl
theorem dJ0_appendChars_0 : decode cJ0_appendChars 0 = .ok (.aload_n 0, 1) := dk_42 (dk_at dksJ0_appendChars_0 0 rfl rfl)
theorem dJ0_appendChars_1 : decode cJ0_appendChars 1 = .ok (.invokevirtual 83, 3) := dk_182 0 83 (dk_at dksJ0_appendChars_0 1 rfl rfl)
theorem dJ0_appendChars_4 : decode cJ0_appendChars 4 = .ok (.ifCond .eq 141, 3) := dk_153 0 141 (dk_at dksJ0_appendChars_0 4 rfl rfl)
theorem dJ0_appendChars_7 : decode cJ0_appendChars 7 = .ok (.aload_n 1, 1) := dk_43 (dk_at dksJ0_appendChars_0 7 rfl rfl)
theorem dJ0_appendChars_8 : decode cJ0_appendChars 8 = .ok (.invokevirtual 400, 3) := dk_182 1 144 (dk_at dksJ0_appendChars_0 8 rfl rfl)
theorem dJ0_appendChars_11 : decode cJ0_appendChars 11 = .ok (.ifCond .eq 25, 3) := dk_153 0 25 (dk_at dksJ0_appendChars_0 11 rfl rfl)
theorem dJ0_appendChars_14 : decode cJ0_appendChars 14 = .ok (.aload_n 1, 1) := dk_43 (dk_at dksJ0_appendChars_0 14 rfl rfl)
theorem dJ0_appendChars_15 : decode cJ0_appendChars 15 = .ok (.invokevirtual 401, 3) := dk_182 1 145 (dk_at dksJ0_appendChars_0 15 rfl rfl)
theorem dJ0_appendChars_18 : decode cJ0_appendChars 18 = .ok (.iload_n 2, 1) := dk_28 (dk_at dksJ0_appendChars_0 18 rfl rfl)
theorem dJ0_appendChars_19 : decode cJ0_appendChars 19 = .ok (.aload_n 0, 1) := dk_42 (dk_at dksJ0_appendChars_0 19 rfl rfl)
theorem dJ0_appendChars_20 : decode cJ0_appendChars 20 = .ok (.getfield 15, 3) := dk_180 0 15 (dk_at dksJ0_appendChars_0 20 rfl rfl)
theorem dJ0_appendChars_23 : decode cJ0_appendChars 23 = .ok (.aload_n 0, 1) := dk_42 (dk_at dksJ0_appendChars_0 23 rfl rfl)
theorem dJ0_appendChars_24 : decode cJ0_appendChars 24 = .ok (.getfield 79, 3) := dk_180 0 79 (dk_at dksJ0_appendChars_1 0 rfl rfl)
theorem dJ0_appendChars_27 : decode cJ0_appendChars 27 = .ok (.iload_n 3, 1) := dk_29 (dk_at dksJ0_appendChars_1 3 rfl rfl)
theorem dJ0_appendChars_28 : decode cJ0_appendChars 28 = .ok (.iload_n 2, 1) := dk_28 (dk_at dksJ0_appendChars_1 4 rfl rfl)
theorem dJ0_appendChars_29 : decode cJ0_appendChars 29 = .ok (.isub, 1) := dk_100 (dk_at dksJ0_appendChars_1 5 rfl rfl)
theorem dJ0_appendChars_30 : decode cJ0_appendChars 30 = .ok (.invokestatic 309, 3) := dk_184 1 53 (dk_at dksJ0_appendChars_1 6 rfl rfl)
theorem dJ0_appendChars_33 : decode cJ0_appendChars 33 = .ok (.goto 161, 3) := dk_167 0 161 (dk_at dksJ0_appendChars_1 9 rfl rfl)
theorem dJ0_appendChars_36 : decode cJ0_appendChars 36 = .ok (.aload_n 0, 1) := dk_42 (dk_at dksJ0_appendChars_1 12 rfl rfl)
theorem dJ0_appendChars_37 : decode cJ0_appendChars 37 = .ok (.getfield 15, 3) := dk_180 0 15 (dk_at dksJ0_appendChars_1 13 rfl rfl)
theorem dJ0_appendChars_40 : decode cJ0_appendChars 40 = .ok (.astore 4, 2) := dk_58 4 (dk_at dksJ0_appendChars_1 16 rfl rfl)
theorem dJ0_appendChars_42 : decode cJ0_appendChars 42 = .ok (.iload_n 2, 1) := dk_28 (dk_at dksJ0_appendChars_1 18 rfl rfl)
theorem dJ0_appendChars_43 : decode cJ0_appendChars 43 = .ok (.istore 5, 2) := dk_54 5 (dk_at dksJ0_appendChars_1 19 rfl rfl)
theorem dJ0_appendChars_45 : decode cJ0_appendChars 45 = .ok (.aload_n 0, 1) := dk_42 (dk_at dksJ0_appendChars_1 21 rfl rfl)
theorem dJ0_appendChars_46 : decode cJ0_appendChars 46 = .ok (.getfield 79, 3) := dk_180 0 79 (dk_at dksJ0_appendChars_2 0 rfl rfl)
theorem dJ0_appendChars_49 : decode cJ0_appendChars 49 = .ok (.istore 6, 2) := dk_54 6 (dk_at dksJ0_appendChars_2 3 rfl rfl)
theorem dJ0_appendChars_51 : decode cJ0_appendChars 51 = .ok (.iload 5, 2) := dk_21 5 (dk_at dksJ0_appendChars_2 5 rfl rfl)
theorem dJ0_appendChars_53 : decode cJ0_appendChars 53 = .ok (.iload_n 3, 1) := dk_29 (dk_at dksJ0_appendChars_2 7 rfl rfl)
theorem dJ0_appendChars_54 : decode cJ0_appendChars 54 = .ok (.if_icmp .ge 88, 3) := dk_162 0 88 (dk_at dksJ0_appendChars_2 8 rfl rfl)
theorem dJ0_appendChars_57 : decode cJ0_appendChars 57 = .ok (.aload_n 1, 1) := dk_43 (dk_at dksJ0_appendChars_2 11 rfl rfl)
theorem dJ0_appendChars_58 : decode cJ0_appendChars 58 = .ok (.iload 5, 2) := dk_21 5 (dk_at dksJ0_appendChars_2 12 rfl rfl)
theorem dJ0_appendChars_60 : decode cJ0_appendChars 60 = .ok (.invokevirtual 404, 3) := dk_182 1 148 (dk_at dksJ0_appendChars_2 14 rfl rfl)
theorem dJ0_appendChars_63 : decode cJ0_appendChars 63 = .ok (.istore 7, 2) := dk_54 7 (dk_at dksJ0_appendChars_2 17 rfl rfl)
theorem dJ0_appendChars_65 : decode cJ0_appendChars 65 = .ok (.iload 7, 2) := dk_21 7 (dk_at dksJ0_appendChars_2 19 rfl rfl)
theorem dJ0_appendChars_67 : decode cJ0_appendChars 67 = .ok (.invokestatic 191, 3) := dk_184 0 191 (dk_at dksJ0_appendChars_2 21 rfl rfl)
theorem dJ0_appendChars_70 : decode cJ0_appendChars 70 = .ok (.ifCond .eq 17, 3) := dk_153 0 17 (dk_at dksJ0_appendChars_3 0 rfl rfl)
theorem dJ0_appendChars_73 : decode cJ0_appendChars 73 = .ok (.aload 4, 2) := dk_25 4 (dk_at dksJ0_appendChars_3 3 rfl rfl)
theorem dJ0_appendChars_75 : decode cJ0_appendChars 75 = .ok (.iload 6, 2) := dk_21 6 (dk_at dksJ0_appendChars_3 5 rfl rfl)
theorem dJ0_appendChars_77 : decode cJ0_appendChars 77 = .ok (.iinc 6 1, 3) := dk_132 6 1 (dk_at dksJ0_appendChars_3 7 rfl rfl)
theorem dJ0_appendChars_80 : decode cJ0_appendChars 80 = .ok (.iload 7, 2) := dk_21 7 (dk_at dksJ0_appendChars_3 10 rfl rfl)
theorem dJ0_appendChars_82 : decode cJ0_appendChars 82 = .ok (.i2b, 1) := dk_145 (dk_at dksJ0_appendChars_3 12 rfl rfl)
theorem dJ0_appendChars_83 : decode cJ0_appendChars 83 = .ok (.bastore, 1) := dk_84 (dk_at dksJ0_appendChars_3 13 rfl rfl)
theorem dJ0_appendChars_84 : decode cJ0_appendChars 84 = .ok (.goto 52, 3) := dk_167 0 52 (dk_at dksJ0_appendChars_3 14 rfl rfl)
theorem dJ0_appendChars_87 : decode cJ0_appendChars 87 = .ok (.aload_n 0, 1) := dk_42 (dk_at dksJ0_appendChars_3 17 rfl rfl)
theorem dJ0_appendChars_88 : decode cJ0_appendChars 88 = .ok (.iload 6, 2) := dk_21 6 (dk_at dksJ0_appendChars_3 18 rfl rfl)
theorem dJ0_appendChars_90 : decode cJ0_appendChars 90 = .ok (.putfield 79, 3) := dk_181 0 79 (dk_at dksJ0_appendChars_3 20 rfl rfl)
theorem dJ0_appendChars_93 : decode cJ0_appendChars 93 = .ok (.aload_n 0, 1) := dk_42 (dk_at dksJ0_appendChars_3 23 rfl rfl)
theorem dJ0_appendChars_94 : decode cJ0_appendChars 94 = .ok (.invokevirtual 195, 3) := dk_182 0 195 (dk_at dksJ0_appendChars_4 0 rfl rfl)
theorem dJ0_appendChars_97 : decode cJ0_appendChars 97 = .ok (.aload_n 1, 1) := dk_43 (dk_at dksJ0_appendChars_4 3 rfl rfl)
theorem dJ0_appendChars_98 : decode cJ0_appendChars 98 = .ok (.invokevirtual 401, 3) := dk_182 1 145 (dk_at dksJ0_appendChars_4 4 rfl rfl)
theorem dJ0_appendChars_101 : decode cJ0_appendChars 101 = .ok (.iload 5, 2) := dk_21 5 (dk_at dksJ0_appendChars_4 7 rfl rfl)
theorem dJ0_appendChars_103 : decode cJ0_appendChars 103 = .ok (.iconst 1, 1) := dk_4 (dk_at dksJ0_appendChars_4 9 rfl rfl)
theorem dJ0_appendChars_104 : decode cJ0_appendChars 104 = .ok (.ishl, 1) := dk_120 (dk_at dksJ0_appendChars_4 10 rfl rfl)
theorem dJ0_appendChars_105 : decode cJ0_appendChars 105 = .ok (.aload_n 0, 1) := dk_42 (dk_at dksJ0_appendChars_4 11 rfl rfl)
theorem dJ0_appendChars_106 : decode cJ0_appendChars 106 = .ok (.getfield 15, 3) := dk_180 0 15 (dk_at dksJ0_appendChars_4 12 rfl rfl)
theorem dJ0_appendChars_109 : decode cJ0_appendChars 109 = .ok (.iload 6, 2) := dk_21 6 (dk_at dksJ0_appendChars_4 15 rfl rfl)
theorem dJ0_appendChars_111 : decode cJ0_appendChars 111 = .ok (.iconst 1, 1) := dk_4 (dk_at dksJ0_appendChars_4 17 rfl rfl)
theorem dJ0_appendChars_112 : decode cJ0_appendChars 112 = .ok (.ishl, 1) := dk_120 (dk_at dksJ0_appendChars_4 18 rfl rfl)
theorem dJ0_appendChars_113 : decode cJ0_appendChars 113 = .ok (.iload_n 3, 1) := dk_29 (dk_at dksJ0_appendChars_4 19 rfl rfl)
theorem dJ0_appendChars_114 : decode cJ0_appendChars 114 = .ok (.iload 5, 2) := dk_21 5 (dk_at dksJ0_appendChars_4 20 rfl rfl)
theorem dJ0_appendChars_116 : decode cJ0_appendChars 116 = .ok (.isub, 1) := dk_100 (dk_at dksJ0_appendChars_4 22 rfl rfl)
theorem dJ0_appendChars_117 : decode cJ0_appendChars 117 = .ok (.iconst 1, 1) := dk_4 (dk_at dksJ0_appendChars_4 23 rfl rfl)
theorem dJ0_appendChars_118 : decode cJ0_appendChars 118 = .ok (.ishl, 1) := dk_120 (dk_at dksJ0_appendChars_5 0 rfl rfl)
theorem dJ0_appendChars_119 : decode cJ0_appendChars 119 = .ok (.invokestatic 309, 3) := dk_184 1 53 (dk_at dksJ0_appendChars_5 1 rfl rfl)
theorem dJ0_appendChars_122 : decode cJ0_appendChars 122 = .ok (.aload_n 0, 1) := dk_42 (dk_at dksJ0_appendChars_5 4 rfl rfl)
theorem dJ0_appendChars_123 : decode cJ0_appendChars 123 = .ok (.dup, 1) := dk_89 (dk_at dksJ0_appendChars_5 5 rfl rfl)
theorem dJ0_appendChars_124 : decode cJ0_appendChars 124 = .ok (.getfield 79, 3) := dk_180 0 79 (dk_at dksJ0_appendChars_5 6 rfl rfl)
theorem dJ0_appendChars_127 : decode cJ0_appendChars 127 = .ok (.iload_n 3, 1) := dk_29 (dk_at dksJ0_appendChars_5 9 rfl rfl)
theorem dJ0_appendChars_128 : decode cJ0_appendChars 128 = .ok (.iload 5, 2) := dk_21 5 (dk_at dksJ0_appendChars_5 10 rfl rfl)
theorem dJ0_appendChars_130 : decode cJ0_appendChars 130 = .ok (.isub, 1) := dk_100 (dk_at dksJ0_appendChars_5 12 rfl rfl)
theorem dJ0_appendChars_131 : decode cJ0_appendChars 131 = .ok (.iadd, 1) := dk_96 (dk_at dksJ0_appendChars_5 13 rfl rfl)
theorem dJ0_appendChars_132 : decode cJ0_appendChars 132 = .ok (.putfield 79, 3) := dk_181 0 79 (dk_at dksJ0_appendChars_5 14 rfl rfl)
theorem dJ0_appendChars_135 : decode cJ0_appendChars 135 = .ok (.return_, 1) := dk_177 (dk_at dksJ0_appendChars_5 17 rfl rfl)
theorem dJ0_appendChars_136 : decode cJ0_appendChars 136 = .ok (.iinc 5 1, 3) := dk_132 5 1 (dk_at dksJ0_appendChars_5 18 rfl rfl)
theorem dJ0_appendChars_139 : decode cJ0_appendChars 139 = .ok (.goto (-88), 3) := dk_167 255 168 (dk_at dksJ0_appendChars_5 21 rfl rfl)
theorem dJ0_appendChars_142 : decode cJ0_appendChars 142 = .ok (.goto 52, 3) := dk_167 0 52 (dk_at dksJ0_appendChars_6 0 rfl rfl)
theorem dJ0_appendChars_145 : decode cJ0_appendChars 145 = .ok (.aload_n 1, 1) := dk_43 (dk_at dksJ0_appendChars_6 3 rfl rfl)
theorem dJ0_appendChars_146 : decode cJ0_appendChars 146 = .ok (.invokevirtual 400, 3) := dk_182 1 144 (dk_at dksJ0_appendChars_6 4 rfl rfl)
theorem dJ0_appendChars_149 : decode cJ0_appendChars 149 = .ok (.ifCond .eq 20, 3) := dk_153 0 20 (dk_at dksJ0_appendChars_6 7 rfl rfl)
theorem dJ0_appendChars_152 : decode cJ0_appendChars 152 = .ok (.aload_n 0, 1) := dk_42 (dk_at dksJ0_appendChars_6 10 rfl rfl)
theorem dJ0_appendChars_153 : decode cJ0_appendChars 153 = .ok (.getfield 15, 3) := dk_180 0 15 (dk_at dksJ0_appendChars_6 11 rfl rfl)
theorem dJ0_appendChars_156 : decode cJ0_appendChars 156 = .ok (.aload_n 0, 1) := dk_42 (dk_at dksJ0_appendChars_6 14 rfl rfl)
theorem dJ0_appendChars_157 : decode cJ0_appendChars 157 = .ok (.getfield 79, 3) := dk_180 0 79 (dk_at dksJ0_appendChars_6 15 rfl rfl)
theorem dJ0_appendChars_160 : decode cJ0_appendChars 160 = .ok (.aload_n 1, 1) := dk_43 (dk_at dksJ0_appendChars_6 18 rfl rfl)
theorem dJ0_appendChars_161 : decode cJ0_appendChars 161 = .ok (.iload_n 2, 1) := dk_28 (dk_at dksJ0_appendChars_6 19 rfl rfl)
theorem dJ0_appendChars_162 : decode cJ0_appendChars 162 = .ok (.iload_n 3, 1) := dk_29 (dk_at dksJ0_appendChars_6 20 rfl rfl)
theorem dJ0_appendChars_163 : decode cJ0_appendChars 163 = .ok (.invokestatic 394, 3) := dk_184 1 138 (dk_at dksJ0_appendChars_6 21 rfl rfl)
theorem dJ0_appendChars_166 : decode cJ0_appendChars 166 = .ok (.goto 28, 3) := dk_167 0 28 (dk_at dksJ0_appendChars_7 0 rfl rfl)
theorem dJ0_appendChars_169 : decode cJ0_appendChars 169 = .ok (.aload_n 1, 1) := dk_43 (dk_at dksJ0_appendChars_7 3 rfl rfl)
theorem dJ0_appendChars_170 : decode cJ0_appendChars 170 = .ok (.invokevirtual 401, 3) := dk_182 1 145 (dk_at dksJ0_appendChars_7 4 rfl rfl)
theorem dJ0_appendChars_173 : decode cJ0_appendChars 173 = .ok (.iload_n 2, 1) := dk_28 (dk_at dksJ0_appendChars_7 7 rfl rfl)
theorem dJ0_appendChars_174 : decode cJ0_appendChars 174 = .ok (.iconst 1, 1) := dk_4 (dk_at dksJ0_appendChars_7 8 rfl rfl)
theorem dJ0_appendChars_175 : decode cJ0_appendChars 175 = .ok (.ishl, 1) := dk_120 (dk_at dksJ0_appendChars_7 9 rfl rfl)
theorem dJ0_appendChars_176 : decode cJ0_appendChars 176 = .ok (.aload_n 0, 1) := dk_42 (dk_at dksJ0_appendChars_7 10 rfl rfl)
theorem dJ0_appendChars_177 : decode cJ0_appendChars 177 = .ok (.getfield 15, 3) := dk_180 0 15 (dk_at dksJ0_appendChars_7 11 rfl rfl)
theorem dJ0_appendChars_180 : decode cJ0_appendChars 180 = .ok (.aload_n 0, 1) := dk_42 (dk_at dksJ0_appendChars_7 14 rfl rfl)
theorem dJ0_appendChars_181 : decode cJ0_appendChars 181 = .ok (.getfield 79, 3) := dk_180 0 79 (dk_at dksJ0_appendChars_7 15 rfl rfl)
theorem dJ0_appendChars_184 : decode cJ0_appendChars 184 = .ok (.iconst 1, 1) := dk_4 (dk_at dksJ0_appendChars_7 18 rfl rfl)
theorem dJ0_appendChars_185 : decode cJ0_appendChars 185 = .ok (.ishl, 1) := dk_120 (dk_at dksJ0_appendChars_7 19 rfl rfl)
theorem dJ0_appendChars_186 : decode cJ0_appendChars 186 = .ok (.iload_n 3, 1) := dk_29 (dk_at dksJ0_appendChars_7 20 rfl rfl)
theorem dJ0_appendChars_187 : decode cJ0_appendChars 187 = .ok (.iload_n 2, 1) := dk_28 (dk_at dksJ0_appendChars_7 21 rfl rfl)
theorem dJ0_appendChars_188 : decode cJ0_appendChars 188 = .ok (.isub, 1) := dk_100 (dk_at dksJ0_appendChars_7 22 rfl rfl)
theorem dJ0_appendChars_189 : decode cJ0_appendChars 189 = .ok (.iconst 1, 1) := dk_4 (dk_at dksJ0_appendChars_7 23 rfl rfl)
theorem dJ0_appendChars_190 : decode cJ0_appendChars 190 = .ok (.ishl, 1) := dk_120 (dk_at dksJ0_appendChars_8 0 rfl rfl)
theorem dJ0_appendChars_191 : decode cJ0_appendChars 191 = .ok (.invokestatic 309, 3) := dk_184 1 53 (dk_at dksJ0_appendChars_8 1 rfl rfl)
theorem dJ0_appendChars_194 : decode cJ0_appendChars 194 = .ok (.aload_n 0, 1) := dk_42 (dk_at dksJ0_appendChars_8 4 rfl rfl)
theorem dJ0_appendChars_195 : decode cJ0_appendChars 195 = .ok (.dup, 1) := dk_89 (dk_at dksJ0_appendChars_8 5 rfl rfl)
theorem dJ0_appendChars_196 : decode cJ0_appendChars 196 = .ok (.getfield 79, 3) := dk_180 0 79 (dk_at dksJ0_appendChars_8 6 rfl rfl)
theorem dJ0_appendChars_199 : decode cJ0_appendChars 199 = .ok (.iload_n 3, 1) := dk_29 (dk_at dksJ0_appendChars_8 9 rfl rfl)
theorem dJ0_appendChars_200 : decode cJ0_appendChars 200 = .ok (.iload_n 2, 1) := dk_28 (dk_at dksJ0_appendChars_8 10 rfl rfl)
theorem dJ0_appendChars_201 : decode cJ0_appendChars 201 = .ok (.isub, 1) := dk_100 (dk_at dksJ0_appendChars_8 11 rfl rfl)
theorem dJ0_appendChars_202 : decode cJ0_appendChars 202 = .ok (.iadd, 1) := dk_96 (dk_at dksJ0_appendChars_8 12 rfl rfl)
theorem dJ0_appendChars_203 : decode cJ0_appendChars 203 = .ok (.putfield 79, 3) := dk_181 0 79 (dk_at dksJ0_appendChars_8 13 rfl rfl)
theorem dJ0_appendChars_206 : decode cJ0_appendChars 206 = .ok (.return_, 1) := dk_177 (dk_at dksJ0_appendChars_8 16 rfl rfl)
abbrev cJ0_appendChars_2 : ByteArray := prog_66_method_76_code
def yJ0_appendChars_2 : MethodName := ⟨RJ0, "appendChars", "(Ljava/lang/CharSequence;II)V"⟩
def dkwJ0_appendChars_2_6 : List UInt8 := [184, 1, 138, 42, 89, 180, 0, 79, 29, 28, 100, 96, 181, 0, 79, 177]
abbrev dktJ0_appendChars_2_6 : List UInt8 := dkwJ0_appendChars_2_6 ++ []
def dkwJ0_appendChars_2_5 : List UInt8 := [181, 0, 79, 177, 132, 5, 1, 167, 255, 155, 167, 0, 17, 42, 180, 0, 15, 42, 180, 0, 79, 43, 28, 29]
abbrev dktJ0_appendChars_2_5 : List UInt8 := dkwJ0_appendChars_2_5 ++ dktJ0_appendChars_2_6
def dkwJ0_appendChars_2_4 : List UInt8 := [180, 0, 15, 21, 6, 43, 21, 5, 29, 184, 1, 138, 42, 89, 180, 0, 79, 29, 21, 5, 100, 96]
abbrev dktJ0_appendChars_2_4 : List UInt8 := dkwJ0_appendChars_2_4 ++ dktJ0_appendChars_2_5
def dkwJ0_appendChars_2_3 : List UInt8 := [180, 0, 15, 21, 6, 132, 6, 1, 21, 7, 184, 0, 197, 42, 21, 6, 181, 0, 79, 132, 5, 1, 42]
abbrev dktJ0_appendChars_2_3 : List UInt8 := dkwJ0_appendChars_2_3 ++ dktJ0_appendChars_2_4
def dkwJ0_appendChars_2_2 : List UInt8 := [21, 6, 132, 6, 1, 21, 7, 145, 84, 167, 0, 63, 42, 21, 6, 181, 0, 79, 42, 182, 0, 195, 42]
abbrev dktJ0_appendChars_2_2 : List UInt8 := dkwJ0_appendChars_2_2 ++ dktJ0_appendChars_2_3
def dkwJ0_appendChars_2_1 : List UInt8 := [29, 162, 0, 101, 43, 21, 5, 185, 1, 134, 2, 0, 54, 7, 21, 7, 184, 0, 191, 153, 0, 17, 25, 4]
abbrev dktJ0_appendChars_2_1 : List UInt8 := dkwJ0_appendChars_2_1 ++ dktJ0_appendChars_2_2
def dkwJ0_appendChars_2_0 : List UInt8 := [42, 182, 0, 83, 153, 0, 125, 42, 180, 0, 15, 58, 4, 28, 54, 5, 42, 180, 0, 79, 54, 6, 21, 5]
abbrev dktJ0_appendChars_2_0 : List UInt8 := dkwJ0_appendChars_2_0 ++ dktJ0_appendChars_2_1
theorem dksJ0_appendChars_2_0 : cJ0_appendChars_2.data.toList.drop 0 = dktJ0_appendChars_2_0 := by decide +kernel
theorem dksJ0_appendChars_2_1 : cJ0_appendChars_2.data.toList.drop 24 = dktJ0_appendChars_2_1 := dk_seg dksJ0_appendChars_2_0 24 rfl rfl
theorem dksJ0_appendChars_2_2 : cJ0_appendChars_2.data.toList.drop 48 = dktJ0_appendChars_2_2 := dk_seg dksJ0_appendChars_2_1 24 rfl rfl
theorem dksJ0_appendChars_2_3 : cJ0_appendChars_2.data.toList.drop 71 = dktJ0_appendChars_2_3 := dk_seg dksJ0_appendChars_2_2 23 rfl rfl
theorem dksJ0_appendChars_2_4 : cJ0_appendChars_2.data.toList.drop 94 = dktJ0_appendChars_2_4 := dk_seg dksJ0_appendChars_2_3 23 rfl rfl
theorem dksJ0_appendChars_2_5 : cJ0_appendChars_2.data.toList.drop 116 = dktJ0_appendChars_2_5 := dk_seg dksJ0_appendChars_2_4 22 rfl rfl
theorem dksJ0_appendChars_2_6 : cJ0_appendChars_2.data.toList.drop 140 = dktJ0_appendChars_2_6 := dk_seg dksJ0_appendChars_2_5 24 rfl rfl
theorem dJ0_appendChars_2_0 : decode cJ0_appendChars_2 0 = .ok (.aload_n 0, 1) := dk_42 (dk_at dksJ0_appendChars_2_0 0 rfl rfl)
theorem dJ0_appendChars_2_1 : decode cJ0_appendChars_2 1 = .ok (.invokevirtual 83, 3) := dk_182 0 83 (dk_at dksJ0_appendChars_2_0 1 rfl rfl)
theorem dJ0_appendChars_2_4 : decode cJ0_appendChars_2 4 = .ok (.ifCond .eq 125, 3) := dk_153 0 125 (dk_at dksJ0_appendChars_2_0 4 rfl rfl)
theorem dJ0_appendChars_2_7 : decode cJ0_appendChars_2 7 = .ok (.aload_n 0, 1) := dk_42 (dk_at dksJ0_appendChars_2_0 7 rfl rfl)
theorem dJ0_appendChars_2_8 : decode cJ0_appendChars_2 8 = .ok (.getfield 15, 3) := dk_180 0 15 (dk_at dksJ0_appendChars_2_0 8 rfl rfl)
theorem dJ0_appendChars_2_11 : decode cJ0_appendChars_2 11 = .ok (.astore 4, 2) := dk_58 4 (dk_at dksJ0_appendChars_2_0 11 rfl rfl)
theorem dJ0_appendChars_2_13 : decode cJ0_appendChars_2 13 = .ok (.iload_n 2, 1) := dk_28 (dk_at dksJ0_appendChars_2_0 13 rfl rfl)
theorem dJ0_appendChars_2_14 : decode cJ0_appendChars_2 14 = .ok (.istore 5, 2) := dk_54 5 (dk_at dksJ0_appendChars_2_0 14 rfl rfl)
theorem dJ0_appendChars_2_16 : decode cJ0_appendChars_2 16 = .ok (.aload_n 0, 1) := dk_42 (dk_at dksJ0_appendChars_2_0 16 rfl rfl)
theorem dJ0_appendChars_2_17 : decode cJ0_appendChars_2 17 = .ok (.getfield 79, 3) := dk_180 0 79 (dk_at dksJ0_appendChars_2_0 17 rfl rfl)
theorem dJ0_appendChars_2_20 : decode cJ0_appendChars_2 20 = .ok (.istore 6, 2) := dk_54 6 (dk_at dksJ0_appendChars_2_0 20 rfl rfl)
theorem dJ0_appendChars_2_22 : decode cJ0_appendChars_2 22 = .ok (.iload 5, 2) := dk_21 5 (dk_at dksJ0_appendChars_2_0 22 rfl rfl)
theorem dJ0_appendChars_2_24 : decode cJ0_appendChars_2 24 = .ok (.iload_n 3, 1) := dk_29 (dk_at dksJ0_appendChars_2_1 0 rfl rfl)
theorem dJ0_appendChars_2_25 : decode cJ0_appendChars_2 25 = .ok (.if_icmp .ge 101, 3) := dk_162 0 101 (dk_at dksJ0_appendChars_2_1 1 rfl rfl)
theorem dJ0_appendChars_2_28 : decode cJ0_appendChars_2 28 = .ok (.aload_n 1, 1) := dk_43 (dk_at dksJ0_appendChars_2_1 4 rfl rfl)
theorem dJ0_appendChars_2_29 : decode cJ0_appendChars_2 29 = .ok (.iload 5, 2) := dk_21 5 (dk_at dksJ0_appendChars_2_1 5 rfl rfl)
theorem dJ0_appendChars_2_31 : decode cJ0_appendChars_2 31 = .ok (.invokeinterface 390 2, 5) := by decide +kernel
theorem dJ0_appendChars_2_36 : decode cJ0_appendChars_2 36 = .ok (.istore 7, 2) := dk_54 7 (dk_at dksJ0_appendChars_2_1 12 rfl rfl)
theorem dJ0_appendChars_2_38 : decode cJ0_appendChars_2 38 = .ok (.iload 7, 2) := dk_21 7 (dk_at dksJ0_appendChars_2_1 14 rfl rfl)
theorem dJ0_appendChars_2_40 : decode cJ0_appendChars_2 40 = .ok (.invokestatic 191, 3) := dk_184 0 191 (dk_at dksJ0_appendChars_2_1 16 rfl rfl)
theorem dJ0_appendChars_2_43 : decode cJ0_appendChars_2 43 = .ok (.ifCond .eq 17, 3) := dk_153 0 17 (dk_at dksJ0_appendChars_2_1 19 rfl rfl)
theorem dJ0_appendChars_2_46 : decode cJ0_appendChars_2 46 = .ok (.aload 4, 2) := dk_25 4 (dk_at dksJ0_appendChars_2_1 22 rfl rfl)
theorem dJ0_appendChars_2_48 : decode cJ0_appendChars_2 48 = .ok (.iload 6, 2) := dk_21 6 (dk_at dksJ0_appendChars_2_2 0 rfl rfl)
theorem dJ0_appendChars_2_50 : decode cJ0_appendChars_2 50 = .ok (.iinc 6 1, 3) := dk_132 6 1 (dk_at dksJ0_appendChars_2_2 2 rfl rfl)
theorem dJ0_appendChars_2_53 : decode cJ0_appendChars_2 53 = .ok (.iload 7, 2) := dk_21 7 (dk_at dksJ0_appendChars_2_2 5 rfl rfl)
theorem dJ0_appendChars_2_55 : decode cJ0_appendChars_2 55 = .ok (.i2b, 1) := dk_145 (dk_at dksJ0_appendChars_2_2 7 rfl rfl)
theorem dJ0_appendChars_2_56 : decode cJ0_appendChars_2 56 = .ok (.bastore, 1) := dk_84 (dk_at dksJ0_appendChars_2_2 8 rfl rfl)
theorem dJ0_appendChars_2_57 : decode cJ0_appendChars_2 57 = .ok (.goto 63, 3) := dk_167 0 63 (dk_at dksJ0_appendChars_2_2 9 rfl rfl)
theorem dJ0_appendChars_2_60 : decode cJ0_appendChars_2 60 = .ok (.aload_n 0, 1) := dk_42 (dk_at dksJ0_appendChars_2_2 12 rfl rfl)
theorem dJ0_appendChars_2_61 : decode cJ0_appendChars_2 61 = .ok (.iload 6, 2) := dk_21 6 (dk_at dksJ0_appendChars_2_2 13 rfl rfl)
theorem dJ0_appendChars_2_63 : decode cJ0_appendChars_2 63 = .ok (.putfield 79, 3) := dk_181 0 79 (dk_at dksJ0_appendChars_2_2 15 rfl rfl)
theorem dJ0_appendChars_2_66 : decode cJ0_appendChars_2 66 = .ok (.aload_n 0, 1) := dk_42 (dk_at dksJ0_appendChars_2_2 18 rfl rfl)
theorem dJ0_appendChars_2_67 : decode cJ0_appendChars_2 67 = .ok (.invokevirtual 195, 3) := dk_182 0 195 (dk_at dksJ0_appendChars_2_2 19 rfl rfl)
theorem dJ0_appendChars_2_70 : decode cJ0_appendChars_2 70 = .ok (.aload_n 0, 1) := dk_42 (dk_at dksJ0_appendChars_2_2 22 rfl rfl)
theorem dJ0_appendChars_2_71 : decode cJ0_appendChars_2 71 = .ok (.getfield 15, 3) := dk_180 0 15 (dk_at dksJ0_appendChars_2_3 0 rfl rfl)
theorem dJ0_appendChars_2_74 : decode cJ0_appendChars_2 74 = .ok (.iload 6, 2) := dk_21 6 (dk_at dksJ0_appendChars_2_3 3 rfl rfl)
theorem dJ0_appendChars_2_76 : decode cJ0_appendChars_2 76 = .ok (.iinc 6 1, 3) := dk_132 6 1 (dk_at dksJ0_appendChars_2_3 5 rfl rfl)
theorem dJ0_appendChars_2_79 : decode cJ0_appendChars_2 79 = .ok (.iload 7, 2) := dk_21 7 (dk_at dksJ0_appendChars_2_3 8 rfl rfl)
theorem dJ0_appendChars_2_81 : decode cJ0_appendChars_2 81 = .ok (.invokestatic 197, 3) := dk_184 0 197 (dk_at dksJ0_appendChars_2_3 10 rfl rfl)
theorem dJ0_appendChars_2_84 : decode cJ0_appendChars_2 84 = .ok (.aload_n 0, 1) := dk_42 (dk_at dksJ0_appendChars_2_3 13 rfl rfl)
theorem dJ0_appendChars_2_85 : decode cJ0_appendChars_2 85 = .ok (.iload 6, 2) := dk_21 6 (dk_at dksJ0_appendChars_2_3 14 rfl rfl)
theorem dJ0_appendChars_2_87 : decode cJ0_appendChars_2 87 = .ok (.putfield 79, 3) := dk_181 0 79 (dk_at dksJ0_appendChars_2_3 16 rfl rfl)
theorem dJ0_appendChars_2_90 : decode cJ0_appendChars_2 90 = .ok (.iinc 5 1, 3) := dk_132 5 1 (dk_at dksJ0_appendChars_2_3 19 rfl rfl)
theorem dJ0_appendChars_2_93 : decode cJ0_appendChars_2 93 = .ok (.aload_n 0, 1) := dk_42 (dk_at dksJ0_appendChars_2_3 22 rfl rfl)
theorem dJ0_appendChars_2_94 : decode cJ0_appendChars_2 94 = .ok (.getfield 15, 3) := dk_180 0 15 (dk_at dksJ0_appendChars_2_4 0 rfl rfl)
theorem dJ0_appendChars_2_97 : decode cJ0_appendChars_2 97 = .ok (.iload 6, 2) := dk_21 6 (dk_at dksJ0_appendChars_2_4 3 rfl rfl)
theorem dJ0_appendChars_2_99 : decode cJ0_appendChars_2 99 = .ok (.aload_n 1, 1) := dk_43 (dk_at dksJ0_appendChars_2_4 5 rfl rfl)
theorem dJ0_appendChars_2_100 : decode cJ0_appendChars_2 100 = .ok (.iload 5, 2) := dk_21 5 (dk_at dksJ0_appendChars_2_4 6 rfl rfl)
theorem dJ0_appendChars_2_102 : decode cJ0_appendChars_2 102 = .ok (.iload_n 3, 1) := dk_29 (dk_at dksJ0_appendChars_2_4 8 rfl rfl)
theorem dJ0_appendChars_2_103 : decode cJ0_appendChars_2 103 = .ok (.invokestatic 394, 3) := dk_184 1 138 (dk_at dksJ0_appendChars_2_4 9 rfl rfl)
theorem dJ0_appendChars_2_106 : decode cJ0_appendChars_2 106 = .ok (.aload_n 0, 1) := dk_42 (dk_at dksJ0_appendChars_2_4 12 rfl rfl)
theorem dJ0_appendChars_2_107 : decode cJ0_appendChars_2 107 = .ok (.dup, 1) := dk_89 (dk_at dksJ0_appendChars_2_4 13 rfl rfl)
theorem dJ0_appendChars_2_108 : decode cJ0_appendChars_2 108 = .ok (.getfield 79, 3) := dk_180 0 79 (dk_at dksJ0_appendChars_2_4 14 rfl rfl)
theorem dJ0_appendChars_2_111 : decode cJ0_appendChars_2 111 = .ok (.iload_n 3, 1) := dk_29 (dk_at dksJ0_appendChars_2_4 17 rfl rfl)
theorem dJ0_appendChars_2_112 : decode cJ0_appendChars_2 112 = .ok (.iload 5, 2) := dk_21 5 (dk_at dksJ0_appendChars_2_4 18 rfl rfl)
theorem dJ0_appendChars_2_114 : decode cJ0_appendChars_2 114 = .ok (.isub, 1) := dk_100 (dk_at dksJ0_appendChars_2_4 20 rfl rfl)
theorem dJ0_appendChars_2_115 : decode cJ0_appendChars_2 115 = .ok (.iadd, 1) := dk_96 (dk_at dksJ0_appendChars_2_4 21 rfl rfl)
theorem dJ0_appendChars_2_116 : decode cJ0_appendChars_2 116 = .ok (.putfield 79, 3) := dk_181 0 79 (dk_at dksJ0_appendChars_2_5 0 rfl rfl)
theorem dJ0_appendChars_2_119 : decode cJ0_appendChars_2 119 = .ok (.return_, 1) := dk_177 (dk_at dksJ0_appendChars_2_5 3 rfl rfl)
theorem dJ0_appendChars_2_120 : decode cJ0_appendChars_2 120 = .ok (.iinc 5 1, 3) := dk_132 5 1 (dk_at dksJ0_appendChars_2_5 4 rfl rfl)
theorem dJ0_appendChars_2_123 : decode cJ0_appendChars_2 123 = .ok (.goto (-101), 3) := dk_167 255 155 (dk_at dksJ0_appendChars_2_5 7 rfl rfl)
theorem dJ0_appendChars_2_126 : decode cJ0_appendChars_2 126 = .ok (.goto 17, 3) := dk_167 0 17 (dk_at dksJ0_appendChars_2_5 10 rfl rfl)
theorem dJ0_appendChars_2_129 : decode cJ0_appendChars_2 129 = .ok (.aload_n 0, 1) := dk_42 (dk_at dksJ0_appendChars_2_5 13 rfl rfl)
theorem dJ0_appendChars_2_130 : decode cJ0_appendChars_2 130 = .ok (.getfield 15, 3) := dk_180 0 15 (dk_at dksJ0_appendChars_2_5 14 rfl rfl)
theorem dJ0_appendChars_2_133 : decode cJ0_appendChars_2 133 = .ok (.aload_n 0, 1) := dk_42 (dk_at dksJ0_appendChars_2_5 17 rfl rfl)
theorem dJ0_appendChars_2_134 : decode cJ0_appendChars_2 134 = .ok (.getfield 79, 3) := dk_180 0 79 (dk_at dksJ0_appendChars_2_5 18 rfl rfl)
theorem dJ0_appendChars_2_137 : decode cJ0_appendChars_2 137 = .ok (.aload_n 1, 1) := dk_43 (dk_at dksJ0_appendChars_2_5 21 rfl rfl)
theorem dJ0_appendChars_2_138 : decode cJ0_appendChars_2 138 = .ok (.iload_n 2, 1) := dk_28 (dk_at dksJ0_appendChars_2_5 22 rfl rfl)
theorem dJ0_appendChars_2_139 : decode cJ0_appendChars_2 139 = .ok (.iload_n 3, 1) := dk_29 (dk_at dksJ0_appendChars_2_5 23 rfl rfl)
theorem dJ0_appendChars_2_140 : decode cJ0_appendChars_2 140 = .ok (.invokestatic 394, 3) := dk_184 1 138 (dk_at dksJ0_appendChars_2_6 0 rfl rfl)
theorem dJ0_appendChars_2_143 : decode cJ0_appendChars_2 143 = .ok (.aload_n 0, 1) := dk_42 (dk_at dksJ0_appendChars_2_6 3 rfl rfl)
theorem dJ0_appendChars_2_144 : decode cJ0_appendChars_2 144 = .ok (.dup, 1) := dk_89 (dk_at dksJ0_appendChars_2_6 4 rfl rfl)
theorem dJ0_appendChars_2_145 : decode cJ0_appendChars_2 145 = .ok (.getfield 79, 3) := dk_180 0 79 (dk_at dksJ0_appendChars_2_6 5 rfl rfl)
theorem dJ0_appendChars_2_148 : decode cJ0_appendChars_2 148 = .ok (.iload_n 3, 1) := dk_29 (dk_at dksJ0_appendChars_2_6 8 rfl rfl)
theorem dJ0_appendChars_2_149 : decode cJ0_appendChars_2 149 = .ok (.iload_n 2, 1) := dk_28 (dk_at dksJ0_appendChars_2_6 9 rfl rfl)
theorem dJ0_appendChars_2_150 : decode cJ0_appendChars_2 150 = .ok (.isub, 1) := dk_100 (dk_at dksJ0_appendChars_2_6 10 rfl rfl)
theorem dJ0_appendChars_2_151 : decode cJ0_appendChars_2 151 = .ok (.iadd, 1) := dk_96 (dk_at dksJ0_appendChars_2_6 11 rfl rfl)
theorem dJ0_appendChars_2_152 : decode cJ0_appendChars_2 152 = .ok (.putfield 79, 3) := dk_181 0 79 (dk_at dksJ0_appendChars_2_6 12 rfl rfl)
theorem dJ0_appendChars_2_155 : decode cJ0_appendChars_2 155 = .ok (.return_, 1) := dk_177 (dk_at dksJ0_appendChars_2_6 15 rfl rfl)
abbrev cJ0_compareTo : ByteArray := prog_66_method_5_code
def yJ0_compareTo : MethodName := ⟨RJ0, "compareTo", "(Ljava/lang/AbstractStringBuilder;)I"⟩
def dkwJ0_compareTo_4 : List UInt8 := [184, 0, 97, 172]
abbrev dktJ0_compareTo_4 : List UInt8 := dkwJ0_compareTo_4 ++ []
def dkwJ0_compareTo_3 : List UInt8 := [182, 0, 83, 153, 0, 15, 44, 45, 21, 4, 21, 5, 184, 0, 94, 167, 0, 12, 44, 45, 21, 4, 21, 5]
abbrev dktJ0_compareTo_3 : List UInt8 := dkwJ0_compareTo_3 ++ dktJ0_compareTo_4
def dkwJ0_compareTo_2 : List UInt8 := [45, 21, 4, 21, 5, 184, 0, 87, 167, 0, 12, 44, 45, 21, 4, 21, 5, 184, 0, 93, 172, 42]
abbrev dktJ0_compareTo_2 : List UInt8 := dkwJ0_compareTo_2 ++ dktJ0_compareTo_3
def dkwJ0_compareTo_1 : List UInt8 := [180, 0, 79, 54, 5, 42, 180, 0, 22, 43, 180, 0, 22, 160, 0, 32, 42, 182, 0, 83, 153, 0, 15, 44]
abbrev dktJ0_compareTo_1 : List UInt8 := dkwJ0_compareTo_1 ++ dktJ0_compareTo_2
def dkwJ0_compareTo_0 : List UInt8 := [42, 43, 166, 0, 5, 3, 172, 42, 180, 0, 15, 77, 43, 180, 0, 15, 78, 42, 180, 0, 79, 54, 4, 43]
abbrev dktJ0_compareTo_0 : List UInt8 := dkwJ0_compareTo_0 ++ dktJ0_compareTo_1
theorem dksJ0_compareTo_0 : cJ0_compareTo.data.toList.drop 0 = dktJ0_compareTo_0 := by decide +kernel
theorem dksJ0_compareTo_1 : cJ0_compareTo.data.toList.drop 24 = dktJ0_compareTo_1 := dk_seg dksJ0_compareTo_0 24 rfl rfl
theorem dksJ0_compareTo_2 : cJ0_compareTo.data.toList.drop 48 = dktJ0_compareTo_2 := dk_seg dksJ0_compareTo_1 24 rfl rfl
theorem dksJ0_compareTo_3 : cJ0_compareTo.data.toList.drop 70 = dktJ0_compareTo_3 := dk_seg dksJ0_compareTo_2 22 rfl rfl
theorem dksJ0_compareTo_4 : cJ0_compareTo.data.toList.drop 94 = dktJ0_compareTo_4 := dk_seg dksJ0_compareTo_3 24 rfl rfl
theorem dJ0_compareTo_0 : decode cJ0_compareTo 0 = .ok (.aload_n 0, 1) := dk_42 (dk_at dksJ0_compareTo_0 0 rfl rfl)
theorem dJ0_compareTo_1 : decode cJ0_compareTo 1 = .ok (.aload_n 1, 1) := dk_43 (dk_at dksJ0_compareTo_0 1 rfl rfl)
theorem dJ0_compareTo_2 : decode cJ0_compareTo 2 = .ok (.if_acmp .ne 5, 3) := dk_166 0 5 (dk_at dksJ0_compareTo_0 2 rfl rfl)
theorem dJ0_compareTo_5 : decode cJ0_compareTo 5 = .ok (.iconst 0, 1) := dk_3 (dk_at dksJ0_compareTo_0 5 rfl rfl)
theorem dJ0_compareTo_6 : decode cJ0_compareTo 6 = .ok (.ireturn, 1) := dk_172 (dk_at dksJ0_compareTo_0 6 rfl rfl)
theorem dJ0_compareTo_7 : decode cJ0_compareTo 7 = .ok (.aload_n 0, 1) := dk_42 (dk_at dksJ0_compareTo_0 7 rfl rfl)
theorem dJ0_compareTo_8 : decode cJ0_compareTo 8 = .ok (.getfield 15, 3) := dk_180 0 15 (dk_at dksJ0_compareTo_0 8 rfl rfl)
theorem dJ0_compareTo_11 : decode cJ0_compareTo 11 = .ok (.astore_n 2, 1) := dk_77 (dk_at dksJ0_compareTo_0 11 rfl rfl)
theorem dJ0_compareTo_12 : decode cJ0_compareTo 12 = .ok (.aload_n 1, 1) := dk_43 (dk_at dksJ0_compareTo_0 12 rfl rfl)
theorem dJ0_compareTo_13 : decode cJ0_compareTo 13 = .ok (.getfield 15, 3) := dk_180 0 15 (dk_at dksJ0_compareTo_0 13 rfl rfl)
theorem dJ0_compareTo_16 : decode cJ0_compareTo 16 = .ok (.astore_n 3, 1) := dk_78 (dk_at dksJ0_compareTo_0 16 rfl rfl)
theorem dJ0_compareTo_17 : decode cJ0_compareTo 17 = .ok (.aload_n 0, 1) := dk_42 (dk_at dksJ0_compareTo_0 17 rfl rfl)
theorem dJ0_compareTo_18 : decode cJ0_compareTo 18 = .ok (.getfield 79, 3) := dk_180 0 79 (dk_at dksJ0_compareTo_0 18 rfl rfl)
theorem dJ0_compareTo_21 : decode cJ0_compareTo 21 = .ok (.istore 4, 2) := dk_54 4 (dk_at dksJ0_compareTo_0 21 rfl rfl)
theorem dJ0_compareTo_23 : decode cJ0_compareTo 23 = .ok (.aload_n 1, 1) := dk_43 (dk_at dksJ0_compareTo_0 23 rfl rfl)
theorem dJ0_compareTo_24 : decode cJ0_compareTo 24 = .ok (.getfield 79, 3) := dk_180 0 79 (dk_at dksJ0_compareTo_1 0 rfl rfl)
theorem dJ0_compareTo_27 : decode cJ0_compareTo 27 = .ok (.istore 5, 2) := dk_54 5 (dk_at dksJ0_compareTo_1 3 rfl rfl)
theorem dJ0_compareTo_29 : decode cJ0_compareTo 29 = .ok (.aload_n 0, 1) := dk_42 (dk_at dksJ0_compareTo_1 5 rfl rfl)
theorem dJ0_compareTo_30 : decode cJ0_compareTo 30 = .ok (.getfield 22, 3) := dk_180 0 22 (dk_at dksJ0_compareTo_1 6 rfl rfl)
theorem dJ0_compareTo_33 : decode cJ0_compareTo 33 = .ok (.aload_n 1, 1) := dk_43 (dk_at dksJ0_compareTo_1 9 rfl rfl)
theorem dJ0_compareTo_34 : decode cJ0_compareTo 34 = .ok (.getfield 22, 3) := dk_180 0 22 (dk_at dksJ0_compareTo_1 10 rfl rfl)
theorem dJ0_compareTo_37 : decode cJ0_compareTo 37 = .ok (.if_icmp .ne 32, 3) := dk_160 0 32 (dk_at dksJ0_compareTo_1 13 rfl rfl)
theorem dJ0_compareTo_40 : decode cJ0_compareTo 40 = .ok (.aload_n 0, 1) := dk_42 (dk_at dksJ0_compareTo_1 16 rfl rfl)
theorem dJ0_compareTo_41 : decode cJ0_compareTo 41 = .ok (.invokevirtual 83, 3) := dk_182 0 83 (dk_at dksJ0_compareTo_1 17 rfl rfl)
theorem dJ0_compareTo_44 : decode cJ0_compareTo 44 = .ok (.ifCond .eq 15, 3) := dk_153 0 15 (dk_at dksJ0_compareTo_1 20 rfl rfl)
theorem dJ0_compareTo_47 : decode cJ0_compareTo 47 = .ok (.aload_n 2, 1) := dk_44 (dk_at dksJ0_compareTo_1 23 rfl rfl)
theorem dJ0_compareTo_48 : decode cJ0_compareTo 48 = .ok (.aload_n 3, 1) := dk_45 (dk_at dksJ0_compareTo_2 0 rfl rfl)
theorem dJ0_compareTo_49 : decode cJ0_compareTo 49 = .ok (.iload 4, 2) := dk_21 4 (dk_at dksJ0_compareTo_2 1 rfl rfl)
theorem dJ0_compareTo_51 : decode cJ0_compareTo 51 = .ok (.iload 5, 2) := dk_21 5 (dk_at dksJ0_compareTo_2 3 rfl rfl)
theorem dJ0_compareTo_53 : decode cJ0_compareTo 53 = .ok (.invokestatic 87, 3) := dk_184 0 87 (dk_at dksJ0_compareTo_2 5 rfl rfl)
theorem dJ0_compareTo_56 : decode cJ0_compareTo 56 = .ok (.goto 12, 3) := dk_167 0 12 (dk_at dksJ0_compareTo_2 8 rfl rfl)
theorem dJ0_compareTo_59 : decode cJ0_compareTo 59 = .ok (.aload_n 2, 1) := dk_44 (dk_at dksJ0_compareTo_2 11 rfl rfl)
theorem dJ0_compareTo_60 : decode cJ0_compareTo 60 = .ok (.aload_n 3, 1) := dk_45 (dk_at dksJ0_compareTo_2 12 rfl rfl)
theorem dJ0_compareTo_61 : decode cJ0_compareTo 61 = .ok (.iload 4, 2) := dk_21 4 (dk_at dksJ0_compareTo_2 13 rfl rfl)
theorem dJ0_compareTo_63 : decode cJ0_compareTo 63 = .ok (.iload 5, 2) := dk_21 5 (dk_at dksJ0_compareTo_2 15 rfl rfl)
theorem dJ0_compareTo_65 : decode cJ0_compareTo 65 = .ok (.invokestatic 93, 3) := dk_184 0 93 (dk_at dksJ0_compareTo_2 17 rfl rfl)
theorem dJ0_compareTo_68 : decode cJ0_compareTo 68 = .ok (.ireturn, 1) := dk_172 (dk_at dksJ0_compareTo_2 20 rfl rfl)
theorem dJ0_compareTo_69 : decode cJ0_compareTo 69 = .ok (.aload_n 0, 1) := dk_42 (dk_at dksJ0_compareTo_2 21 rfl rfl)
theorem dJ0_compareTo_70 : decode cJ0_compareTo 70 = .ok (.invokevirtual 83, 3) := dk_182 0 83 (dk_at dksJ0_compareTo_3 0 rfl rfl)
theorem dJ0_compareTo_73 : decode cJ0_compareTo 73 = .ok (.ifCond .eq 15, 3) := dk_153 0 15 (dk_at dksJ0_compareTo_3 3 rfl rfl)
theorem dJ0_compareTo_76 : decode cJ0_compareTo 76 = .ok (.aload_n 2, 1) := dk_44 (dk_at dksJ0_compareTo_3 6 rfl rfl)
theorem dJ0_compareTo_77 : decode cJ0_compareTo 77 = .ok (.aload_n 3, 1) := dk_45 (dk_at dksJ0_compareTo_3 7 rfl rfl)
theorem dJ0_compareTo_78 : decode cJ0_compareTo 78 = .ok (.iload 4, 2) := dk_21 4 (dk_at dksJ0_compareTo_3 8 rfl rfl)
theorem dJ0_compareTo_80 : decode cJ0_compareTo 80 = .ok (.iload 5, 2) := dk_21 5 (dk_at dksJ0_compareTo_3 10 rfl rfl)
theorem dJ0_compareTo_82 : decode cJ0_compareTo 82 = .ok (.invokestatic 94, 3) := dk_184 0 94 (dk_at dksJ0_compareTo_3 12 rfl rfl)
theorem dJ0_compareTo_85 : decode cJ0_compareTo 85 = .ok (.goto 12, 3) := dk_167 0 12 (dk_at dksJ0_compareTo_3 15 rfl rfl)
theorem dJ0_compareTo_88 : decode cJ0_compareTo 88 = .ok (.aload_n 2, 1) := dk_44 (dk_at dksJ0_compareTo_3 18 rfl rfl)
theorem dJ0_compareTo_89 : decode cJ0_compareTo 89 = .ok (.aload_n 3, 1) := dk_45 (dk_at dksJ0_compareTo_3 19 rfl rfl)
theorem dJ0_compareTo_90 : decode cJ0_compareTo 90 = .ok (.iload 4, 2) := dk_21 4 (dk_at dksJ0_compareTo_3 20 rfl rfl)
theorem dJ0_compareTo_92 : decode cJ0_compareTo 92 = .ok (.iload 5, 2) := dk_21 5 (dk_at dksJ0_compareTo_3 22 rfl rfl)
theorem dJ0_compareTo_94 : decode cJ0_compareTo 94 = .ok (.invokestatic 97, 3) := dk_184 0 97 (dk_at dksJ0_compareTo_4 0 rfl rfl)
theorem dJ0_compareTo_97 : decode cJ0_compareTo 97 = .ok (.ireturn, 1) := dk_172 (dk_at dksJ0_compareTo_4 3 rfl rfl)
abbrev cJ0_init_2 : ByteArray := prog_66_method_3_code
def yJ0_init_2 : MethodName := ⟨RJ0, "<init>", "(Ljava/lang/String;)V"⟩
def dkwJ0_init_2_2 : List UInt8 := [167, 0, 7, 29, 184, 0, 26, 181, 0, 15, 42, 43, 182, 0, 43, 87, 177]
abbrev dktJ0_init_2_2 : List UInt8 := dkwJ0_init_2_2 ++ []
def dkwJ0_init_2_1 : List UInt8 := [62, 43, 182, 0, 40, 54, 4, 42, 21, 4, 181, 0, 22, 42, 21, 4, 154, 0, 9, 29, 188, 8]
abbrev dktJ0_init_2_1 : List UInt8 := dkwJ0_init_2_1 ++ dktJ0_init_2_2
def dkwJ0_init_2_0 : List UInt8 := [42, 183, 0, 3, 43, 182, 0, 32, 61, 28, 18, 38, 162, 0, 10, 28, 16, 16, 96, 167, 0, 5, 18, 39]
abbrev dktJ0_init_2_0 : List UInt8 := dkwJ0_init_2_0 ++ dktJ0_init_2_1
theorem dksJ0_init_2_0 : cJ0_init_2.data.toList.drop 0 = dktJ0_init_2_0 := by decide +kernel
theorem dksJ0_init_2_1 : cJ0_init_2.data.toList.drop 24 = dktJ0_init_2_1 := dk_seg dksJ0_init_2_0 24 rfl rfl
theorem dksJ0_init_2_2 : cJ0_init_2.data.toList.drop 46 = dktJ0_init_2_2 := dk_seg dksJ0_init_2_1 22 rfl rfl
theorem dJ0_init_2_0 : decode cJ0_init_2 0 = .ok (.aload_n 0, 1) := dk_42 (dk_at dksJ0_init_2_0 0 rfl rfl)
theorem dJ0_init_2_1 : decode cJ0_init_2 1 = .ok (.invokespecial 3, 3) := dk_183 0 3 (dk_at dksJ0_init_2_0 1 rfl rfl)
theorem dJ0_init_2_4 : decode cJ0_init_2 4 = .ok (.aload_n 1, 1) := dk_43 (dk_at dksJ0_init_2_0 4 rfl rfl)
theorem dJ0_init_2_5 : decode cJ0_init_2 5 = .ok (.invokevirtual 32, 3) := dk_182 0 32 (dk_at dksJ0_init_2_0 5 rfl rfl)
theorem dJ0_init_2_8 : decode cJ0_init_2 8 = .ok (.istore_n 2, 1) := dk_61 (dk_at dksJ0_init_2_0 8 rfl rfl)
theorem dJ0_init_2_9 : decode cJ0_init_2 9 = .ok (.iload_n 2, 1) := dk_28 (dk_at dksJ0_init_2_0 9 rfl rfl)
theorem dJ0_init_2_10 : decode cJ0_init_2 10 = .ok (.ldc 38, 2) := dk_18 38 (dk_at dksJ0_init_2_0 10 rfl rfl)
theorem dJ0_init_2_12 : decode cJ0_init_2 12 = .ok (.if_icmp .ge 10, 3) := dk_162 0 10 (dk_at dksJ0_init_2_0 12 rfl rfl)
theorem dJ0_init_2_15 : decode cJ0_init_2 15 = .ok (.iload_n 2, 1) := dk_28 (dk_at dksJ0_init_2_0 15 rfl rfl)
theorem dJ0_init_2_16 : decode cJ0_init_2 16 = .ok (.bipush 16, 2) := dk_16 16 (dk_at dksJ0_init_2_0 16 rfl rfl)
theorem dJ0_init_2_18 : decode cJ0_init_2 18 = .ok (.iadd, 1) := dk_96 (dk_at dksJ0_init_2_0 18 rfl rfl)
theorem dJ0_init_2_19 : decode cJ0_init_2 19 = .ok (.goto 5, 3) := dk_167 0 5 (dk_at dksJ0_init_2_0 19 rfl rfl)
theorem dJ0_init_2_22 : decode cJ0_init_2 22 = .ok (.ldc 39, 2) := dk_18 39 (dk_at dksJ0_init_2_0 22 rfl rfl)
theorem dJ0_init_2_24 : decode cJ0_init_2 24 = .ok (.istore_n 3, 1) := dk_62 (dk_at dksJ0_init_2_1 0 rfl rfl)
theorem dJ0_init_2_25 : decode cJ0_init_2 25 = .ok (.aload_n 1, 1) := dk_43 (dk_at dksJ0_init_2_1 1 rfl rfl)
theorem dJ0_init_2_26 : decode cJ0_init_2 26 = .ok (.invokevirtual 40, 3) := dk_182 0 40 (dk_at dksJ0_init_2_1 2 rfl rfl)
theorem dJ0_init_2_29 : decode cJ0_init_2 29 = .ok (.istore 4, 2) := dk_54 4 (dk_at dksJ0_init_2_1 5 rfl rfl)
theorem dJ0_init_2_31 : decode cJ0_init_2 31 = .ok (.aload_n 0, 1) := dk_42 (dk_at dksJ0_init_2_1 7 rfl rfl)
theorem dJ0_init_2_32 : decode cJ0_init_2 32 = .ok (.iload 4, 2) := dk_21 4 (dk_at dksJ0_init_2_1 8 rfl rfl)
theorem dJ0_init_2_34 : decode cJ0_init_2 34 = .ok (.putfield 22, 3) := dk_181 0 22 (dk_at dksJ0_init_2_1 10 rfl rfl)
theorem dJ0_init_2_37 : decode cJ0_init_2 37 = .ok (.aload_n 0, 1) := dk_42 (dk_at dksJ0_init_2_1 13 rfl rfl)
theorem dJ0_init_2_38 : decode cJ0_init_2 38 = .ok (.iload 4, 2) := dk_21 4 (dk_at dksJ0_init_2_1 14 rfl rfl)
theorem dJ0_init_2_40 : decode cJ0_init_2 40 = .ok (.ifCond .ne 9, 3) := dk_154 0 9 (dk_at dksJ0_init_2_1 16 rfl rfl)
theorem dJ0_init_2_43 : decode cJ0_init_2 43 = .ok (.iload_n 3, 1) := dk_29 (dk_at dksJ0_init_2_1 19 rfl rfl)
theorem dJ0_init_2_44 : decode cJ0_init_2 44 = .ok (.newarray .byte, 2) := dk_188_8 (dk_at dksJ0_init_2_1 20 rfl rfl)
theorem dJ0_init_2_46 : decode cJ0_init_2 46 = .ok (.goto 7, 3) := dk_167 0 7 (dk_at dksJ0_init_2_2 0 rfl rfl)
theorem dJ0_init_2_49 : decode cJ0_init_2 49 = .ok (.iload_n 3, 1) := dk_29 (dk_at dksJ0_init_2_2 3 rfl rfl)
theorem dJ0_init_2_50 : decode cJ0_init_2 50 = .ok (.invokestatic 26, 3) := dk_184 0 26 (dk_at dksJ0_init_2_2 4 rfl rfl)
theorem dJ0_init_2_53 : decode cJ0_init_2 53 = .ok (.putfield 15, 3) := dk_181 0 15 (dk_at dksJ0_init_2_2 7 rfl rfl)
theorem dJ0_init_2_56 : decode cJ0_init_2 56 = .ok (.aload_n 0, 1) := dk_42 (dk_at dksJ0_init_2_2 10 rfl rfl)
theorem dJ0_init_2_57 : decode cJ0_init_2 57 = .ok (.aload_n 1, 1) := dk_43 (dk_at dksJ0_init_2_2 11 rfl rfl)
theorem dJ0_init_2_58 : decode cJ0_init_2 58 = .ok (.invokevirtual 43, 3) := dk_182 0 43 (dk_at dksJ0_init_2_2 12 rfl rfl)
theorem dJ0_init_2_61 : decode cJ0_init_2 61 = .ok (.pop, 1) := dk_87 (dk_at dksJ0_init_2_2 15 rfl rfl)
theorem dJ0_init_2_62 : decode cJ0_init_2 62 = .ok (.return_, 1) := dk_177 (dk_at dksJ0_init_2_2 16 rfl rfl)

abbrev cJ1_init : ByteArray := prog_86_method_1_code
def yJ1_init : MethodName := ⟨RJ1, "<init>", "()V"⟩
def dkwJ1_init_0 : List UInt8 := [42, 16, 16, 183, 0, 1, 177]
abbrev dktJ1_init_0 : List UInt8 := dkwJ1_init_0 ++ []
theorem dksJ1_init_0 : cJ1_init.data.toList.drop 0 = dktJ1_init_0 := by decide +kernel
theorem dJ1_init_0 : decode cJ1_init 0 = .ok (.aload_n 0, 1) := dk_42 (dk_at dksJ1_init_0 0 rfl rfl)
theorem dJ1_init_1 : decode cJ1_init 1 = .ok (.bipush 16, 2) := dk_16 16 (dk_at dksJ1_init_0 1 rfl rfl)
theorem dJ1_init_3 : decode cJ1_init 3 = .ok (.invokespecial 1, 3) := dk_183 0 1 (dk_at dksJ1_init_0 3 rfl rfl)
theorem dJ1_init_6 : decode cJ1_init 6 = .ok (.return_, 1) := dk_177 (dk_at dksJ1_init_0 6 rfl rfl)
abbrev cJ1_length : ByteArray := prog_86_method_93_code
def yJ1_length : MethodName := ⟨RJ1, "length", "()I"⟩
theorem dJ1_length_0 : decode cJ1_length 0 = .ok (.aload_n 0, 1) := by decide +kernel
theorem dJ1_length_1 : decode cJ1_length 1 = .ok (.invokespecial 343, 3) := by decide +kernel
theorem dJ1_length_4 : decode cJ1_length 4 = .ok (.ireturn, 1) := by decide +kernel
abbrev cJ1_append : ByteArray := prog_86_method_14_code
def yJ1_append : MethodName := ⟨RJ1, "append", "(C)Ljava/lang/StringBuilder;"⟩
def dkwJ1_append_0 : List UInt8 := [42, 27, 183, 0, 50, 87, 42, 176]
abbrev dktJ1_append_0 : List UInt8 := dkwJ1_append_0 ++ []
theorem dksJ1_append_0 : cJ1_append.data.toList.drop 0 = dktJ1_append_0 := by decide +kernel
theorem dJ1_append_0 : decode cJ1_append 0 = .ok (.aload_n 0, 1) := dk_42 (dk_at dksJ1_append_0 0 rfl rfl)
theorem dJ1_append_1 : decode cJ1_append 1 = .ok (.iload_n 1, 1) := dk_27 (dk_at dksJ1_append_0 1 rfl rfl)
theorem dJ1_append_2 : decode cJ1_append 2 = .ok (.invokespecial 50, 3) := dk_183 0 50 (dk_at dksJ1_append_0 2 rfl rfl)
theorem dJ1_append_5 : decode cJ1_append 5 = .ok (.pop, 1) := dk_87 (dk_at dksJ1_append_0 5 rfl rfl)
theorem dJ1_append_6 : decode cJ1_append 6 = .ok (.aload_n 0, 1) := dk_42 (dk_at dksJ1_append_0 6 rfl rfl)
theorem dJ1_append_7 : decode cJ1_append 7 = .ok (.areturn, 1) := dk_176 (dk_at dksJ1_append_0 7 rfl rfl)
abbrev cJ1_charAt : ByteArray := prog_86_method_88_code
def yJ1_charAt : MethodName := ⟨RJ1, "charAt", "(I)C"⟩
def dkwJ1_charAt_0 : List UInt8 := [42, 27, 183, 1, 73, 172]
abbrev dktJ1_charAt_0 : List UInt8 := dkwJ1_charAt_0 ++ []
theorem dksJ1_charAt_0 : cJ1_charAt.data.toList.drop 0 = dktJ1_charAt_0 := by decide +kernel
theorem dJ1_charAt_0 : decode cJ1_charAt 0 = .ok (.aload_n 0, 1) := dk_42 (dk_at dksJ1_charAt_0 0 rfl rfl)
theorem dJ1_charAt_1 : decode cJ1_charAt 1 = .ok (.iload_n 1, 1) := dk_27 (dk_at dksJ1_charAt_0 1 rfl rfl)
theorem dJ1_charAt_2 : decode cJ1_charAt 2 = .ok (.invokespecial 329, 3) := dk_183 1 73 (dk_at dksJ1_charAt_0 2 rfl rfl)
theorem dJ1_charAt_5 : decode cJ1_charAt 5 = .ok (.ireturn, 1) := dk_172 (dk_at dksJ1_charAt_0 5 rfl rfl)
abbrev cJ1_toString : ByteArray := prog_86_method_42_code
def yJ1_toString : MethodName := ⟨RJ1, "toString", "()Ljava/lang/String;"⟩
def dkwJ1_toString_0 : List UInt8 := [187, 0, 18, 89, 42, 183, 0, 137, 176]
abbrev dktJ1_toString_0 : List UInt8 := dkwJ1_toString_0 ++ []
theorem dksJ1_toString_0 : cJ1_toString.data.toList.drop 0 = dktJ1_toString_0 := by decide +kernel
theorem dJ1_toString_0 : decode cJ1_toString 0 = .ok (.new 18, 3) := dk_187 0 18 (dk_at dksJ1_toString_0 0 rfl rfl)
theorem dJ1_toString_3 : decode cJ1_toString 3 = .ok (.dup, 1) := dk_89 (dk_at dksJ1_toString_0 3 rfl rfl)
theorem dJ1_toString_4 : decode cJ1_toString 4 = .ok (.aload_n 0, 1) := dk_42 (dk_at dksJ1_toString_0 4 rfl rfl)
theorem dJ1_toString_5 : decode cJ1_toString 5 = .ok (.invokespecial 137, 3) := dk_183 0 137 (dk_at dksJ1_toString_0 5 rfl rfl)
theorem dJ1_toString_8 : decode cJ1_toString 8 = .ok (.areturn, 1) := dk_176 (dk_at dksJ1_toString_0 8 rfl rfl)
abbrev cJ1_append_2 : ByteArray := prog_86_method_15_code
def yJ1_append_2 : MethodName := ⟨RJ1, "append", "(I)Ljava/lang/StringBuilder;"⟩
def dkwJ1_append_2_0 : List UInt8 := [42, 27, 183, 0, 53, 87, 42, 176]
abbrev dktJ1_append_2_0 : List UInt8 := dkwJ1_append_2_0 ++ []
theorem dksJ1_append_2_0 : cJ1_append_2.data.toList.drop 0 = dktJ1_append_2_0 := by decide +kernel
theorem dJ1_append_2_0 : decode cJ1_append_2 0 = .ok (.aload_n 0, 1) := dk_42 (dk_at dksJ1_append_2_0 0 rfl rfl)
theorem dJ1_append_2_1 : decode cJ1_append_2 1 = .ok (.iload_n 1, 1) := dk_27 (dk_at dksJ1_append_2_0 1 rfl rfl)
theorem dJ1_append_2_2 : decode cJ1_append_2 2 = .ok (.invokespecial 53, 3) := dk_183 0 53 (dk_at dksJ1_append_2_0 2 rfl rfl)
theorem dJ1_append_2_5 : decode cJ1_append_2 5 = .ok (.pop, 1) := dk_87 (dk_at dksJ1_append_2_0 5 rfl rfl)
theorem dJ1_append_2_6 : decode cJ1_append_2 6 = .ok (.aload_n 0, 1) := dk_42 (dk_at dksJ1_append_2_0 6 rfl rfl)
theorem dJ1_append_2_7 : decode cJ1_append_2 7 = .ok (.areturn, 1) := dk_176 (dk_at dksJ1_append_2_0 7 rfl rfl)
abbrev cJ1_append_3 : ByteArray := prog_86_method_7_code
def yJ1_append_3 : MethodName := ⟨RJ1, "append", "(Ljava/lang/String;)Ljava/lang/StringBuilder;"⟩
def dkwJ1_append_3_0 : List UInt8 := [42, 43, 183, 0, 29, 87, 42, 176]
abbrev dktJ1_append_3_0 : List UInt8 := dkwJ1_append_3_0 ++ []
theorem dksJ1_append_3_0 : cJ1_append_3.data.toList.drop 0 = dktJ1_append_3_0 := by decide +kernel
theorem dJ1_append_3_0 : decode cJ1_append_3 0 = .ok (.aload_n 0, 1) := dk_42 (dk_at dksJ1_append_3_0 0 rfl rfl)
theorem dJ1_append_3_1 : decode cJ1_append_3 1 = .ok (.aload_n 1, 1) := dk_43 (dk_at dksJ1_append_3_0 1 rfl rfl)
theorem dJ1_append_3_2 : decode cJ1_append_3 2 = .ok (.invokespecial 29, 3) := dk_183 0 29 (dk_at dksJ1_append_3_0 2 rfl rfl)
theorem dJ1_append_3_5 : decode cJ1_append_3 5 = .ok (.pop, 1) := dk_87 (dk_at dksJ1_append_3_0 5 rfl rfl)
theorem dJ1_append_3_6 : decode cJ1_append_3 6 = .ok (.aload_n 0, 1) := dk_42 (dk_at dksJ1_append_3_0 6 rfl rfl)
theorem dJ1_append_3_7 : decode cJ1_append_3 7 = .ok (.areturn, 1) := dk_176 (dk_at dksJ1_append_3_0 7 rfl rfl)
abbrev cJ1_setLength : ByteArray := prog_86_method_89_code
def yJ1_setLength : MethodName := ⟨RJ1, "setLength", "(I)V"⟩
def dkwJ1_setLength_0 : List UInt8 := [42, 27, 183, 1, 77, 177]
abbrev dktJ1_setLength_0 : List UInt8 := dkwJ1_setLength_0 ++ []
theorem dksJ1_setLength_0 : cJ1_setLength.data.toList.drop 0 = dktJ1_setLength_0 := by decide +kernel
theorem dJ1_setLength_0 : decode cJ1_setLength 0 = .ok (.aload_n 0, 1) := dk_42 (dk_at dksJ1_setLength_0 0 rfl rfl)
theorem dJ1_setLength_1 : decode cJ1_setLength 1 = .ok (.iload_n 1, 1) := dk_27 (dk_at dksJ1_setLength_0 1 rfl rfl)
theorem dJ1_setLength_2 : decode cJ1_setLength 2 = .ok (.invokespecial 333, 3) := dk_183 1 77 (dk_at dksJ1_setLength_0 2 rfl rfl)
theorem dJ1_setLength_5 : decode cJ1_setLength 5 = .ok (.return_, 1) := dk_177 (dk_at dksJ1_setLength_0 5 rfl rfl)
abbrev cJ1_append_4 : ByteArray := prog_86_method_10_code
def yJ1_append_4 : MethodName := ⟨RJ1, "append", "(Ljava/lang/CharSequence;II)Ljava/lang/StringBuilder;"⟩
def dkwJ1_append_4_0 : List UInt8 := [42, 43, 28, 29, 183, 0, 38, 87, 42, 176]
abbrev dktJ1_append_4_0 : List UInt8 := dkwJ1_append_4_0 ++ []
theorem dksJ1_append_4_0 : cJ1_append_4.data.toList.drop 0 = dktJ1_append_4_0 := by decide +kernel
theorem dJ1_append_4_0 : decode cJ1_append_4 0 = .ok (.aload_n 0, 1) := dk_42 (dk_at dksJ1_append_4_0 0 rfl rfl)
theorem dJ1_append_4_1 : decode cJ1_append_4 1 = .ok (.aload_n 1, 1) := dk_43 (dk_at dksJ1_append_4_0 1 rfl rfl)
theorem dJ1_append_4_2 : decode cJ1_append_4 2 = .ok (.iload_n 2, 1) := dk_28 (dk_at dksJ1_append_4_0 2 rfl rfl)
theorem dJ1_append_4_3 : decode cJ1_append_4 3 = .ok (.iload_n 3, 1) := dk_29 (dk_at dksJ1_append_4_0 3 rfl rfl)
theorem dJ1_append_4_4 : decode cJ1_append_4 4 = .ok (.invokespecial 38, 3) := dk_183 0 38 (dk_at dksJ1_append_4_0 4 rfl rfl)
theorem dJ1_append_4_7 : decode cJ1_append_4 7 = .ok (.pop, 1) := dk_87 (dk_at dksJ1_append_4_0 7 rfl rfl)
theorem dJ1_append_4_8 : decode cJ1_append_4 8 = .ok (.aload_n 0, 1) := dk_42 (dk_at dksJ1_append_4_0 8 rfl rfl)
theorem dJ1_append_4_9 : decode cJ1_append_4 9 = .ok (.areturn, 1) := dk_176 (dk_at dksJ1_append_4_0 9 rfl rfl)
abbrev cJ1_compareTo : ByteArray := prog_86_method_97_code
def yJ1_compareTo : MethodName := ⟨RJ1, "compareTo", "(Ljava/lang/Object;)I"⟩
def dkwJ1_compareTo_0 : List UInt8 := [42, 43, 192, 0, 24, 182, 1, 90, 172]
abbrev dktJ1_compareTo_0 : List UInt8 := dkwJ1_compareTo_0 ++ []
theorem dksJ1_compareTo_0 : cJ1_compareTo.data.toList.drop 0 = dktJ1_compareTo_0 := by decide +kernel
theorem dJ1_compareTo_0 : decode cJ1_compareTo 0 = .ok (.aload_n 0, 1) := dk_42 (dk_at dksJ1_compareTo_0 0 rfl rfl)
theorem dJ1_compareTo_1 : decode cJ1_compareTo 1 = .ok (.aload_n 1, 1) := dk_43 (dk_at dksJ1_compareTo_0 1 rfl rfl)
theorem dJ1_compareTo_2 : decode cJ1_compareTo 2 = .ok (.checkcast 24, 3) := dk_192 0 24 (dk_at dksJ1_compareTo_0 2 rfl rfl)
theorem dJ1_compareTo_5 : decode cJ1_compareTo 5 = .ok (.invokevirtual 346, 3) := dk_182 1 90 (dk_at dksJ1_compareTo_0 5 rfl rfl)
theorem dJ1_compareTo_8 : decode cJ1_compareTo 8 = .ok (.ireturn, 1) := dk_172 (dk_at dksJ1_compareTo_0 8 rfl rfl)
abbrev cJ1_compareTo_2 : ByteArray := prog_86_method_5_code
def yJ1_compareTo_2 : MethodName := ⟨RJ1, "compareTo", "(Ljava/lang/StringBuilder;)I"⟩
def dkwJ1_compareTo_2_0 : List UInt8 := [42, 43, 183, 0, 13, 172]
abbrev dktJ1_compareTo_2_0 : List UInt8 := dkwJ1_compareTo_2_0 ++ []
theorem dksJ1_compareTo_2_0 : cJ1_compareTo_2.data.toList.drop 0 = dktJ1_compareTo_2_0 := by decide +kernel
theorem dJ1_compareTo_2_0 : decode cJ1_compareTo_2 0 = .ok (.aload_n 0, 1) := dk_42 (dk_at dksJ1_compareTo_2_0 0 rfl rfl)
theorem dJ1_compareTo_2_1 : decode cJ1_compareTo_2 1 = .ok (.aload_n 1, 1) := dk_43 (dk_at dksJ1_compareTo_2_0 1 rfl rfl)
theorem dJ1_compareTo_2_2 : decode cJ1_compareTo_2 2 = .ok (.invokespecial 13, 3) := dk_183 0 13 (dk_at dksJ1_compareTo_2_0 2 rfl rfl)
theorem dJ1_compareTo_2_5 : decode cJ1_compareTo_2 5 = .ok (.ireturn, 1) := dk_172 (dk_at dksJ1_compareTo_2_0 5 rfl rfl)
abbrev cJ1_init_2 : ByteArray := prog_86_method_3_code
def yJ1_init_2 : MethodName := ⟨RJ1, "<init>", "(Ljava/lang/String;)V"⟩
def dkwJ1_init_2_0 : List UInt8 := [42, 43, 183, 0, 7, 177]
abbrev dktJ1_init_2_0 : List UInt8 := dkwJ1_init_2_0 ++ []
theorem dksJ1_init_2_0 : cJ1_init_2.data.toList.drop 0 = dktJ1_init_2_0 := by decide +kernel
theorem dJ1_init_2_0 : decode cJ1_init_2 0 = .ok (.aload_n 0, 1) := dk_42 (dk_at dksJ1_init_2_0 0 rfl rfl)
theorem dJ1_init_2_1 : decode cJ1_init_2 1 = .ok (.aload_n 1, 1) := dk_43 (dk_at dksJ1_init_2_0 1 rfl rfl)
theorem dJ1_init_2_2 : decode cJ1_init_2 2 = .ok (.invokespecial 7, 3) := dk_183 0 7 (dk_at dksJ1_init_2_0 2 rfl rfl)
theorem dJ1_init_2_5 : decode cJ1_init_2 5 = .ok (.return_, 1) := dk_177 (dk_at dksJ1_init_2_0 5 rfl rfl)
abbrev cJ1_append_5 : ByteArray := prog_86_method_80_code
def yJ1_append_5 : MethodName := ⟨RJ1, "append", "(Ljava/lang/String;)Ljava/lang/AbstractStringBuilder;"⟩
def dkwJ1_append_5_0 : List UInt8 := [42, 43, 182, 0, 23, 176]
abbrev dktJ1_append_5_0 : List UInt8 := dkwJ1_append_5_0 ++ []
theorem dksJ1_append_5_0 : cJ1_append_5.data.toList.drop 0 = dktJ1_append_5_0 := by decide +kernel
theorem dJ1_append_5_0 : decode cJ1_append_5 0 = .ok (.aload_n 0, 1) := dk_42 (dk_at dksJ1_append_5_0 0 rfl rfl)
theorem dJ1_append_5_1 : decode cJ1_append_5 1 = .ok (.aload_n 1, 1) := dk_43 (dk_at dksJ1_append_5_0 1 rfl rfl)
theorem dJ1_append_5_2 : decode cJ1_append_5 2 = .ok (.invokevirtual 23, 3) := dk_182 0 23 (dk_at dksJ1_append_5_0 2 rfl rfl)
theorem dJ1_append_5_5 : decode cJ1_append_5 5 = .ok (.areturn, 1) := dk_176 (dk_at dksJ1_append_5_0 5 rfl rfl)

abbrev cJ10_newLength : ByteArray := prog_116_method_27_code
def yJ10_newLength : MethodName := ⟨RJ10, "newLength", "(III)I"⟩
def dkwJ10_newLength_1 : List UInt8 := [184, 0, 201, 172]
abbrev dktJ10_newLength_1 : List UInt8 := dkwJ10_newLength_1 ++ []
def dkwJ10_newLength_0 : List UInt8 := [26, 27, 28, 184, 0, 194, 96, 62, 3, 29, 162, 0, 11, 29, 18, 200, 163, 0, 5, 29, 172, 26, 27]
abbrev dktJ10_newLength_0 : List UInt8 := dkwJ10_newLength_0 ++ dktJ10_newLength_1
theorem dksJ10_newLength_0 : cJ10_newLength.data.toList.drop 0 = dktJ10_newLength_0 := by decide +kernel
theorem dksJ10_newLength_1 : cJ10_newLength.data.toList.drop 23 = dktJ10_newLength_1 := dk_seg dksJ10_newLength_0 23 rfl rfl
theorem dJ10_newLength_0 : decode cJ10_newLength 0 = .ok (.iload_n 0, 1) := dk_26 (dk_at dksJ10_newLength_0 0 rfl rfl)
theorem dJ10_newLength_1 : decode cJ10_newLength 1 = .ok (.iload_n 1, 1) := dk_27 (dk_at dksJ10_newLength_0 1 rfl rfl)
theorem dJ10_newLength_2 : decode cJ10_newLength 2 = .ok (.iload_n 2, 1) := dk_28 (dk_at dksJ10_newLength_0 2 rfl rfl)
theorem dJ10_newLength_3 : decode cJ10_newLength 3 = .ok (.invokestatic 194, 3) := dk_184 0 194 (dk_at dksJ10_newLength_0 3 rfl rfl)
theorem dJ10_newLength_6 : decode cJ10_newLength 6 = .ok (.iadd, 1) := dk_96 (dk_at dksJ10_newLength_0 6 rfl rfl)
theorem dJ10_newLength_7 : decode cJ10_newLength 7 = .ok (.istore_n 3, 1) := dk_62 (dk_at dksJ10_newLength_0 7 rfl rfl)
theorem dJ10_newLength_8 : decode cJ10_newLength 8 = .ok (.iconst 0, 1) := dk_3 (dk_at dksJ10_newLength_0 8 rfl rfl)
theorem dJ10_newLength_9 : decode cJ10_newLength 9 = .ok (.iload_n 3, 1) := dk_29 (dk_at dksJ10_newLength_0 9 rfl rfl)
theorem dJ10_newLength_10 : decode cJ10_newLength 10 = .ok (.if_icmp .ge 11, 3) := dk_162 0 11 (dk_at dksJ10_newLength_0 10 rfl rfl)
theorem dJ10_newLength_13 : decode cJ10_newLength 13 = .ok (.iload_n 3, 1) := dk_29 (dk_at dksJ10_newLength_0 13 rfl rfl)
theorem dJ10_newLength_14 : decode cJ10_newLength 14 = .ok (.ldc 200, 2) := dk_18 200 (dk_at dksJ10_newLength_0 14 rfl rfl)
theorem dJ10_newLength_16 : decode cJ10_newLength 16 = .ok (.if_icmp .gt 5, 3) := dk_163 0 5 (dk_at dksJ10_newLength_0 16 rfl rfl)
theorem dJ10_newLength_19 : decode cJ10_newLength 19 = .ok (.iload_n 3, 1) := dk_29 (dk_at dksJ10_newLength_0 19 rfl rfl)
theorem dJ10_newLength_20 : decode cJ10_newLength 20 = .ok (.ireturn, 1) := dk_172 (dk_at dksJ10_newLength_0 20 rfl rfl)
theorem dJ10_newLength_21 : decode cJ10_newLength 21 = .ok (.iload_n 0, 1) := dk_26 (dk_at dksJ10_newLength_0 21 rfl rfl)
theorem dJ10_newLength_22 : decode cJ10_newLength 22 = .ok (.iload_n 1, 1) := dk_27 (dk_at dksJ10_newLength_0 22 rfl rfl)
theorem dJ10_newLength_23 : decode cJ10_newLength 23 = .ok (.invokestatic 201, 3) := dk_184 0 201 (dk_at dksJ10_newLength_1 0 rfl rfl)
theorem dJ10_newLength_26 : decode cJ10_newLength 26 = .ok (.ireturn, 1) := dk_172 (dk_at dksJ10_newLength_1 3 rfl rfl)
abbrev cJ10_hugeLength : ByteArray := prog_116_method_28_code
def yJ10_hugeLength : MethodName := ⟨RJ10, "hugeLength", "(II)I"⟩
def dkwJ10_hugeLength_2 : List UInt8 := [191, 28, 18, 200, 163, 0, 6, 18, 200, 172, 28, 172]
abbrev dktJ10_hugeLength_2 : List UInt8 := dkwJ10_hugeLength_2 ++ []
def dkwJ10_hugeLength_1 : List UInt8 := [26, 182, 0, 98, 18, 208, 182, 0, 94, 27, 182, 0, 98, 18, 210, 182, 0, 94, 182, 0, 101, 183, 0, 212]
abbrev dktJ10_hugeLength_1 : List UInt8 := dkwJ10_hugeLength_1 ++ dktJ10_hugeLength_2
def dkwJ10_hugeLength_0 : List UInt8 := [26, 27, 96, 61, 28, 156, 0, 44, 187, 0, 204, 89, 187, 0, 89, 89, 183, 0, 91, 18, 206, 182, 0, 94]
abbrev dktJ10_hugeLength_0 : List UInt8 := dkwJ10_hugeLength_0 ++ dktJ10_hugeLength_1
theorem dksJ10_hugeLength_0 : cJ10_hugeLength.data.toList.drop 0 = dktJ10_hugeLength_0 := by decide +kernel
theorem dksJ10_hugeLength_1 : cJ10_hugeLength.data.toList.drop 24 = dktJ10_hugeLength_1 := dk_seg dksJ10_hugeLength_0 24 rfl rfl
theorem dksJ10_hugeLength_2 : cJ10_hugeLength.data.toList.drop 48 = dktJ10_hugeLength_2 := dk_seg dksJ10_hugeLength_1 24 rfl rfl
theorem dJ10_hugeLength_0 : decode cJ10_hugeLength 0 = .ok (.iload_n 0, 1) := dk_26 (dk_at dksJ10_hugeLength_0 0 rfl rfl)
theorem dJ10_hugeLength_1 : decode cJ10_hugeLength 1 = .ok (.iload_n 1, 1) := dk_27 (dk_at dksJ10_hugeLength_0 1 rfl rfl)
theorem dJ10_hugeLength_2 : decode cJ10_hugeLength 2 = .ok (.iadd, 1) := dk_96 (dk_at dksJ10_hugeLength_0 2 rfl rfl)
theorem dJ10_hugeLength_3 : decode cJ10_hugeLength 3 = .ok (.istore_n 2, 1) := dk_61 (dk_at dksJ10_hugeLength_0 3 rfl rfl)
theorem dJ10_hugeLength_4 : decode cJ10_hugeLength 4 = .ok (.iload_n 2, 1) := dk_28 (dk_at dksJ10_hugeLength_0 4 rfl rfl)
theorem dJ10_hugeLength_5 : decode cJ10_hugeLength 5 = .ok (.ifCond .ge 44, 3) := dk_156 0 44 (dk_at dksJ10_hugeLength_0 5 rfl rfl)
theorem dJ10_hugeLength_8 : decode cJ10_hugeLength 8 = .ok (.new 204, 3) := dk_187 0 204 (dk_at dksJ10_hugeLength_0 8 rfl rfl)
theorem dJ10_hugeLength_11 : decode cJ10_hugeLength 11 = .ok (.dup, 1) := dk_89 (dk_at dksJ10_hugeLength_0 11 rfl rfl)
theorem dJ10_hugeLength_12 : decode cJ10_hugeLength 12 = .ok (.new 89, 3) := dk_187 0 89 (dk_at dksJ10_hugeLength_0 12 rfl rfl)
theorem dJ10_hugeLength_15 : decode cJ10_hugeLength 15 = .ok (.dup, 1) := dk_89 (dk_at dksJ10_hugeLength_0 15 rfl rfl)
theorem dJ10_hugeLength_16 : decode cJ10_hugeLength 16 = .ok (.invokespecial 91, 3) := dk_183 0 91 (dk_at dksJ10_hugeLength_0 16 rfl rfl)
theorem dJ10_hugeLength_19 : decode cJ10_hugeLength 19 = .ok (.ldc 206, 2) := dk_18 206 (dk_at dksJ10_hugeLength_0 19 rfl rfl)
theorem dJ10_hugeLength_21 : decode cJ10_hugeLength 21 = .ok (.invokevirtual 94, 3) := dk_182 0 94 (dk_at dksJ10_hugeLength_0 21 rfl rfl)
theorem dJ10_hugeLength_24 : decode cJ10_hugeLength 24 = .ok (.iload_n 0, 1) := dk_26 (dk_at dksJ10_hugeLength_1 0 rfl rfl)
theorem dJ10_hugeLength_25 : decode cJ10_hugeLength 25 = .ok (.invokevirtual 98, 3) := dk_182 0 98 (dk_at dksJ10_hugeLength_1 1 rfl rfl)
theorem dJ10_hugeLength_28 : decode cJ10_hugeLength 28 = .ok (.ldc 208, 2) := dk_18 208 (dk_at dksJ10_hugeLength_1 4 rfl rfl)
theorem dJ10_hugeLength_30 : decode cJ10_hugeLength 30 = .ok (.invokevirtual 94, 3) := dk_182 0 94 (dk_at dksJ10_hugeLength_1 6 rfl rfl)
theorem dJ10_hugeLength_33 : decode cJ10_hugeLength 33 = .ok (.iload_n 1, 1) := dk_27 (dk_at dksJ10_hugeLength_1 9 rfl rfl)
theorem dJ10_hugeLength_34 : decode cJ10_hugeLength 34 = .ok (.invokevirtual 98, 3) := dk_182 0 98 (dk_at dksJ10_hugeLength_1 10 rfl rfl)
theorem dJ10_hugeLength_37 : decode cJ10_hugeLength 37 = .ok (.ldc 210, 2) := dk_18 210 (dk_at dksJ10_hugeLength_1 13 rfl rfl)
theorem dJ10_hugeLength_39 : decode cJ10_hugeLength 39 = .ok (.invokevirtual 94, 3) := dk_182 0 94 (dk_at dksJ10_hugeLength_1 15 rfl rfl)
theorem dJ10_hugeLength_42 : decode cJ10_hugeLength 42 = .ok (.invokevirtual 101, 3) := dk_182 0 101 (dk_at dksJ10_hugeLength_1 18 rfl rfl)
theorem dJ10_hugeLength_45 : decode cJ10_hugeLength 45 = .ok (.invokespecial 212, 3) := dk_183 0 212 (dk_at dksJ10_hugeLength_1 21 rfl rfl)
theorem dJ10_hugeLength_48 : decode cJ10_hugeLength 48 = .ok (.athrow, 1) := dk_191 (dk_at dksJ10_hugeLength_2 0 rfl rfl)
theorem dJ10_hugeLength_49 : decode cJ10_hugeLength 49 = .ok (.iload_n 2, 1) := dk_28 (dk_at dksJ10_hugeLength_2 1 rfl rfl)
theorem dJ10_hugeLength_50 : decode cJ10_hugeLength 50 = .ok (.ldc 200, 2) := dk_18 200 (dk_at dksJ10_hugeLength_2 2 rfl rfl)
theorem dJ10_hugeLength_52 : decode cJ10_hugeLength 52 = .ok (.if_icmp .gt 6, 3) := dk_163 0 6 (dk_at dksJ10_hugeLength_2 4 rfl rfl)
theorem dJ10_hugeLength_55 : decode cJ10_hugeLength 55 = .ok (.ldc 200, 2) := dk_18 200 (dk_at dksJ10_hugeLength_2 7 rfl rfl)
theorem dJ10_hugeLength_57 : decode cJ10_hugeLength 57 = .ok (.ireturn, 1) := dk_172 (dk_at dksJ10_hugeLength_2 9 rfl rfl)
theorem dJ10_hugeLength_58 : decode cJ10_hugeLength 58 = .ok (.iload_n 2, 1) := dk_28 (dk_at dksJ10_hugeLength_2 10 rfl rfl)
theorem dJ10_hugeLength_59 : decode cJ10_hugeLength 59 = .ok (.ireturn, 1) := dk_172 (dk_at dksJ10_hugeLength_2 11 rfl rfl)
abbrev cJ10_vectorizedHashCode : ByteArray := prog_116_method_4_code
def yJ10_vectorizedHashCode : MethodName := ⟨RJ10, "vectorizedHashCode", "(Ljava/lang/Object;IIII)I"⟩
def dkwJ10_vectorizedHashCode_6 : List UInt8 := [183, 0, 91, 18, 92, 182, 0, 94, 21, 4, 182, 0, 98, 182, 0, 101, 183, 0, 105, 191, 172]
abbrev dktJ10_vectorizedHashCode_6 : List UInt8 := dkwJ10_vectorizedHashCode_6 ++ []
def dkwJ10_vectorizedHashCode_5 : List UInt8 := [167, 0, 44, 29, 42, 192, 0, 82, 27, 28, 184, 0, 84, 167, 0, 31, 187, 0, 87, 89, 187, 0, 89, 89]
abbrev dktJ10_vectorizedHashCode_5 : List UInt8 := dkwJ10_vectorizedHashCode_5 ++ dktJ10_vectorizedHashCode_6
def dkwJ10_vectorizedHashCode_4 : List UInt8 := [29, 42, 192, 0, 60, 27, 28, 184, 0, 75, 167, 0, 57, 29, 42, 192, 0, 77, 27, 28, 184, 0, 79]
abbrev dktJ10_vectorizedHashCode_4 : List UInt8 := dkwJ10_vectorizedHashCode_4 ++ dktJ10_vectorizedHashCode_5
def dkwJ10_vectorizedHashCode_3 : List UInt8 := [192, 0, 60, 27, 28, 184, 0, 66, 167, 0, 83, 29, 42, 192, 0, 69, 27, 28, 184, 0, 71, 167, 0, 70]
abbrev dktJ10_vectorizedHashCode_3 : List UInt8 := dkwJ10_vectorizedHashCode_3 ++ dktJ10_vectorizedHashCode_4
def dkwJ10_vectorizedHashCode_2 : List UInt8 := [29, 42, 192, 0, 60, 27, 28, 184, 0, 62, 167, 0, 103, 42, 193, 0, 60, 153, 0, 16, 29, 42]
abbrev dktJ10_vectorizedHashCode_2 : List UInt8 := dkwJ10_vectorizedHashCode_2 ++ dktJ10_vectorizedHashCode_3
def dkwJ10_vectorizedHashCode_1 : List UInt8 := [170, 0, 0, 0, 0, 127, 0, 0, 0, 4, 0, 0, 0, 10, 0, 0, 0, 42, 0, 0, 0, 55, 0, 0, 0, 127, 0, 0, 0, 127, 0, 0, 0, 88, 0, 0, 0, 101, 0, 0, 0, 114]
abbrev dktJ10_vectorizedHashCode_1 : List UInt8 := dkwJ10_vectorizedHashCode_1 ++ dktJ10_vectorizedHashCode_2
def dkwJ10_vectorizedHashCode_0 : List UInt8 := [21, 4]
abbrev dktJ10_vectorizedHashCode_0 : List UInt8 := dkwJ10_vectorizedHashCode_0 ++ dktJ10_vectorizedHashCode_1
theorem dksJ10_vectorizedHashCode_0 : cJ10_vectorizedHashCode.data.toList.drop 0 = dktJ10_vectorizedHashCode_0 := by decide +kernel
theorem dksJ10_vectorizedHashCode_1 : cJ10_vectorizedHashCode.data.toList.drop 2 = dktJ10_vectorizedHashCode_1 := dk_seg dksJ10_vectorizedHashCode_0 2 rfl rfl
theorem dksJ10_vectorizedHashCode_2 : cJ10_vectorizedHashCode.data.toList.drop 44 = dktJ10_vectorizedHashCode_2 := dk_seg dksJ10_vectorizedHashCode_1 42 rfl rfl
theorem dksJ10_vectorizedHashCode_3 : cJ10_vectorizedHashCode.data.toList.drop 66 = dktJ10_vectorizedHashCode_3 := dk_seg dksJ10_vectorizedHashCode_2 22 rfl rfl
theorem dksJ10_vectorizedHashCode_4 : cJ10_vectorizedHashCode.data.toList.drop 90 = dktJ10_vectorizedHashCode_4 := dk_seg dksJ10_vectorizedHashCode_3 24 rfl rfl
theorem dksJ10_vectorizedHashCode_5 : cJ10_vectorizedHashCode.data.toList.drop 113 = dktJ10_vectorizedHashCode_5 := dk_seg dksJ10_vectorizedHashCode_4 23 rfl rfl
theorem dksJ10_vectorizedHashCode_6 : cJ10_vectorizedHashCode.data.toList.drop 137 = dktJ10_vectorizedHashCode_6 := dk_seg dksJ10_vectorizedHashCode_5 24 rfl rfl
theorem dJ10_vectorizedHashCode_0 : decode cJ10_vectorizedHashCode 0 = .ok (.iload 4, 2) := dk_21 4 (dk_at dksJ10_vectorizedHashCode_0 0 rfl rfl)
theorem dJ10_vectorizedHashCode_2 : decode cJ10_vectorizedHashCode 2 = .ok (.tableswitch 127 4 10 #[42, 55, 127, 127, 88, 101, 114], 42) := by decide +kernel
theorem dJ10_vectorizedHashCode_44 : decode cJ10_vectorizedHashCode 44 = .ok (.iload_n 3, 1) := dk_29 (dk_at dksJ10_vectorizedHashCode_2 0 rfl rfl)
theorem dJ10_vectorizedHashCode_45 : decode cJ10_vectorizedHashCode 45 = .ok (.aload_n 0, 1) := dk_42 (dk_at dksJ10_vectorizedHashCode_2 1 rfl rfl)
theorem dJ10_vectorizedHashCode_46 : decode cJ10_vectorizedHashCode 46 = .ok (.checkcast 60, 3) := dk_192 0 60 (dk_at dksJ10_vectorizedHashCode_2 2 rfl rfl)
theorem dJ10_vectorizedHashCode_49 : decode cJ10_vectorizedHashCode 49 = .ok (.iload_n 1, 1) := dk_27 (dk_at dksJ10_vectorizedHashCode_2 5 rfl rfl)
theorem dJ10_vectorizedHashCode_50 : decode cJ10_vectorizedHashCode 50 = .ok (.iload_n 2, 1) := dk_28 (dk_at dksJ10_vectorizedHashCode_2 6 rfl rfl)
theorem dJ10_vectorizedHashCode_51 : decode cJ10_vectorizedHashCode 51 = .ok (.invokestatic 62, 3) := dk_184 0 62 (dk_at dksJ10_vectorizedHashCode_2 7 rfl rfl)
theorem dJ10_vectorizedHashCode_54 : decode cJ10_vectorizedHashCode 54 = .ok (.goto 103, 3) := dk_167 0 103 (dk_at dksJ10_vectorizedHashCode_2 10 rfl rfl)
theorem dJ10_vectorizedHashCode_57 : decode cJ10_vectorizedHashCode 57 = .ok (.aload_n 0, 1) := dk_42 (dk_at dksJ10_vectorizedHashCode_2 13 rfl rfl)
theorem dJ10_vectorizedHashCode_58 : decode cJ10_vectorizedHashCode 58 = .ok (.instanceof 60, 3) := dk_193 0 60 (dk_at dksJ10_vectorizedHashCode_2 14 rfl rfl)
theorem dJ10_vectorizedHashCode_61 : decode cJ10_vectorizedHashCode 61 = .ok (.ifCond .eq 16, 3) := dk_153 0 16 (dk_at dksJ10_vectorizedHashCode_2 17 rfl rfl)
theorem dJ10_vectorizedHashCode_64 : decode cJ10_vectorizedHashCode 64 = .ok (.iload_n 3, 1) := dk_29 (dk_at dksJ10_vectorizedHashCode_2 20 rfl rfl)
theorem dJ10_vectorizedHashCode_65 : decode cJ10_vectorizedHashCode 65 = .ok (.aload_n 0, 1) := dk_42 (dk_at dksJ10_vectorizedHashCode_2 21 rfl rfl)
theorem dJ10_vectorizedHashCode_66 : decode cJ10_vectorizedHashCode 66 = .ok (.checkcast 60, 3) := dk_192 0 60 (dk_at dksJ10_vectorizedHashCode_3 0 rfl rfl)
theorem dJ10_vectorizedHashCode_69 : decode cJ10_vectorizedHashCode 69 = .ok (.iload_n 1, 1) := dk_27 (dk_at dksJ10_vectorizedHashCode_3 3 rfl rfl)
theorem dJ10_vectorizedHashCode_70 : decode cJ10_vectorizedHashCode 70 = .ok (.iload_n 2, 1) := dk_28 (dk_at dksJ10_vectorizedHashCode_3 4 rfl rfl)
theorem dJ10_vectorizedHashCode_71 : decode cJ10_vectorizedHashCode 71 = .ok (.invokestatic 66, 3) := dk_184 0 66 (dk_at dksJ10_vectorizedHashCode_3 5 rfl rfl)
theorem dJ10_vectorizedHashCode_74 : decode cJ10_vectorizedHashCode 74 = .ok (.goto 83, 3) := dk_167 0 83 (dk_at dksJ10_vectorizedHashCode_3 8 rfl rfl)
theorem dJ10_vectorizedHashCode_77 : decode cJ10_vectorizedHashCode 77 = .ok (.iload_n 3, 1) := dk_29 (dk_at dksJ10_vectorizedHashCode_3 11 rfl rfl)
theorem dJ10_vectorizedHashCode_78 : decode cJ10_vectorizedHashCode 78 = .ok (.aload_n 0, 1) := dk_42 (dk_at dksJ10_vectorizedHashCode_3 12 rfl rfl)
theorem dJ10_vectorizedHashCode_79 : decode cJ10_vectorizedHashCode 79 = .ok (.checkcast 69, 3) := dk_192 0 69 (dk_at dksJ10_vectorizedHashCode_3 13 rfl rfl)
theorem dJ10_vectorizedHashCode_82 : decode cJ10_vectorizedHashCode 82 = .ok (.iload_n 1, 1) := dk_27 (dk_at dksJ10_vectorizedHashCode_3 16 rfl rfl)
theorem dJ10_vectorizedHashCode_83 : decode cJ10_vectorizedHashCode 83 = .ok (.iload_n 2, 1) := dk_28 (dk_at dksJ10_vectorizedHashCode_3 17 rfl rfl)
theorem dJ10_vectorizedHashCode_84 : decode cJ10_vectorizedHashCode 84 = .ok (.invokestatic 71, 3) := dk_184 0 71 (dk_at dksJ10_vectorizedHashCode_3 18 rfl rfl)
theorem dJ10_vectorizedHashCode_87 : decode cJ10_vectorizedHashCode 87 = .ok (.goto 70, 3) := dk_167 0 70 (dk_at dksJ10_vectorizedHashCode_3 21 rfl rfl)
theorem dJ10_vectorizedHashCode_90 : decode cJ10_vectorizedHashCode 90 = .ok (.iload_n 3, 1) := dk_29 (dk_at dksJ10_vectorizedHashCode_4 0 rfl rfl)
theorem dJ10_vectorizedHashCode_91 : decode cJ10_vectorizedHashCode 91 = .ok (.aload_n 0, 1) := dk_42 (dk_at dksJ10_vectorizedHashCode_4 1 rfl rfl)
theorem dJ10_vectorizedHashCode_92 : decode cJ10_vectorizedHashCode 92 = .ok (.checkcast 60, 3) := dk_192 0 60 (dk_at dksJ10_vectorizedHashCode_4 2 rfl rfl)
theorem dJ10_vectorizedHashCode_95 : decode cJ10_vectorizedHashCode 95 = .ok (.iload_n 1, 1) := dk_27 (dk_at dksJ10_vectorizedHashCode_4 5 rfl rfl)
theorem dJ10_vectorizedHashCode_96 : decode cJ10_vectorizedHashCode 96 = .ok (.iload_n 2, 1) := dk_28 (dk_at dksJ10_vectorizedHashCode_4 6 rfl rfl)
theorem dJ10_vectorizedHashCode_97 : decode cJ10_vectorizedHashCode 97 = .ok (.invokestatic 75, 3) := dk_184 0 75 (dk_at dksJ10_vectorizedHashCode_4 7 rfl rfl)
theorem dJ10_vectorizedHashCode_100 : decode cJ10_vectorizedHashCode 100 = .ok (.goto 57, 3) := dk_167 0 57 (dk_at dksJ10_vectorizedHashCode_4 10 rfl rfl)
theorem dJ10_vectorizedHashCode_103 : decode cJ10_vectorizedHashCode 103 = .ok (.iload_n 3, 1) := dk_29 (dk_at dksJ10_vectorizedHashCode_4 13 rfl rfl)
theorem dJ10_vectorizedHashCode_104 : decode cJ10_vectorizedHashCode 104 = .ok (.aload_n 0, 1) := dk_42 (dk_at dksJ10_vectorizedHashCode_4 14 rfl rfl)
theorem dJ10_vectorizedHashCode_105 : decode cJ10_vectorizedHashCode 105 = .ok (.checkcast 77, 3) := dk_192 0 77 (dk_at dksJ10_vectorizedHashCode_4 15 rfl rfl)
theorem dJ10_vectorizedHashCode_108 : decode cJ10_vectorizedHashCode 108 = .ok (.iload_n 1, 1) := dk_27 (dk_at dksJ10_vectorizedHashCode_4 18 rfl rfl)
theorem dJ10_vectorizedHashCode_109 : decode cJ10_vectorizedHashCode 109 = .ok (.iload_n 2, 1) := dk_28 (dk_at dksJ10_vectorizedHashCode_4 19 rfl rfl)
theorem dJ10_vectorizedHashCode_110 : decode cJ10_vectorizedHashCode 110 = .ok (.invokestatic 79, 3) := dk_184 0 79 (dk_at dksJ10_vectorizedHashCode_4 20 rfl rfl)
theorem dJ10_vectorizedHashCode_113 : decode cJ10_vectorizedHashCode 113 = .ok (.goto 44, 3) := dk_167 0 44 (dk_at dksJ10_vectorizedHashCode_5 0 rfl rfl)
theorem dJ10_vectorizedHashCode_116 : decode cJ10_vectorizedHashCode 116 = .ok (.iload_n 3, 1) := dk_29 (dk_at dksJ10_vectorizedHashCode_5 3 rfl rfl)
theorem dJ10_vectorizedHashCode_117 : decode cJ10_vectorizedHashCode 117 = .ok (.aload_n 0, 1) := dk_42 (dk_at dksJ10_vectorizedHashCode_5 4 rfl rfl)
theorem dJ10_vectorizedHashCode_118 : decode cJ10_vectorizedHashCode 118 = .ok (.checkcast 82, 3) := dk_192 0 82 (dk_at dksJ10_vectorizedHashCode_5 5 rfl rfl)
theorem dJ10_vectorizedHashCode_121 : decode cJ10_vectorizedHashCode 121 = .ok (.iload_n 1, 1) := dk_27 (dk_at dksJ10_vectorizedHashCode_5 8 rfl rfl)
theorem dJ10_vectorizedHashCode_122 : decode cJ10_vectorizedHashCode 122 = .ok (.iload_n 2, 1) := dk_28 (dk_at dksJ10_vectorizedHashCode_5 9 rfl rfl)
theorem dJ10_vectorizedHashCode_123 : decode cJ10_vectorizedHashCode 123 = .ok (.invokestatic 84, 3) := dk_184 0 84 (dk_at dksJ10_vectorizedHashCode_5 10 rfl rfl)
theorem dJ10_vectorizedHashCode_126 : decode cJ10_vectorizedHashCode 126 = .ok (.goto 31, 3) := dk_167 0 31 (dk_at dksJ10_vectorizedHashCode_5 13 rfl rfl)
theorem dJ10_vectorizedHashCode_129 : decode cJ10_vectorizedHashCode 129 = .ok (.new 87, 3) := dk_187 0 87 (dk_at dksJ10_vectorizedHashCode_5 16 rfl rfl)
theorem dJ10_vectorizedHashCode_132 : decode cJ10_vectorizedHashCode 132 = .ok (.dup, 1) := dk_89 (dk_at dksJ10_vectorizedHashCode_5 19 rfl rfl)
theorem dJ10_vectorizedHashCode_133 : decode cJ10_vectorizedHashCode 133 = .ok (.new 89, 3) := dk_187 0 89 (dk_at dksJ10_vectorizedHashCode_5 20 rfl rfl)
theorem dJ10_vectorizedHashCode_136 : decode cJ10_vectorizedHashCode 136 = .ok (.dup, 1) := dk_89 (dk_at dksJ10_vectorizedHashCode_5 23 rfl rfl)
theorem dJ10_vectorizedHashCode_137 : decode cJ10_vectorizedHashCode 137 = .ok (.invokespecial 91, 3) := dk_183 0 91 (dk_at dksJ10_vectorizedHashCode_6 0 rfl rfl)
theorem dJ10_vectorizedHashCode_140 : decode cJ10_vectorizedHashCode 140 = .ok (.ldc 92, 2) := dk_18 92 (dk_at dksJ10_vectorizedHashCode_6 3 rfl rfl)
theorem dJ10_vectorizedHashCode_142 : decode cJ10_vectorizedHashCode 142 = .ok (.invokevirtual 94, 3) := dk_182 0 94 (dk_at dksJ10_vectorizedHashCode_6 5 rfl rfl)
theorem dJ10_vectorizedHashCode_145 : decode cJ10_vectorizedHashCode 145 = .ok (.iload 4, 2) := dk_21 4 (dk_at dksJ10_vectorizedHashCode_6 8 rfl rfl)
theorem dJ10_vectorizedHashCode_147 : decode cJ10_vectorizedHashCode 147 = .ok (.invokevirtual 98, 3) := dk_182 0 98 (dk_at dksJ10_vectorizedHashCode_6 10 rfl rfl)
theorem dJ10_vectorizedHashCode_150 : decode cJ10_vectorizedHashCode 150 = .ok (.invokevirtual 101, 3) := dk_182 0 101 (dk_at dksJ10_vectorizedHashCode_6 13 rfl rfl)
theorem dJ10_vectorizedHashCode_153 : decode cJ10_vectorizedHashCode 153 = .ok (.invokespecial 105, 3) := dk_183 0 105 (dk_at dksJ10_vectorizedHashCode_6 16 rfl rfl)
theorem dJ10_vectorizedHashCode_156 : decode cJ10_vectorizedHashCode 156 = .ok (.athrow, 1) := dk_191 (dk_at dksJ10_vectorizedHashCode_6 19 rfl rfl)
theorem dJ10_vectorizedHashCode_157 : decode cJ10_vectorizedHashCode 157 = .ok (.ireturn, 1) := dk_172 (dk_at dksJ10_vectorizedHashCode_6 20 rfl rfl)
abbrev cJ10_signedHashCode : ByteArray := prog_116_method_5_code
def yJ10_signedHashCode : MethodName := ⟨RJ10, "signedHashCode", "(I[BII)I"⟩
def dkwJ10_signedHashCode_1 : List UInt8 := [17, 0, 255, 126, 96, 59, 132, 5, 1, 167, 255, 232, 26, 172]
abbrev dktJ10_signedHashCode_1 : List UInt8 := dkwJ10_signedHashCode_1 ++ []
def dkwJ10_signedHashCode_0 : List UInt8 := [28, 29, 96, 54, 4, 28, 54, 5, 21, 5, 21, 4, 162, 0, 23, 16, 31, 26, 104, 43, 21, 5, 51]
abbrev dktJ10_signedHashCode_0 : List UInt8 := dkwJ10_signedHashCode_0 ++ dktJ10_signedHashCode_1
theorem dksJ10_signedHashCode_0 : cJ10_signedHashCode.data.toList.drop 0 = dktJ10_signedHashCode_0 := by decide +kernel
theorem dksJ10_signedHashCode_1 : cJ10_signedHashCode.data.toList.drop 23 = dktJ10_signedHashCode_1 := dk_seg dksJ10_signedHashCode_0 23 rfl rfl
theorem dJ10_signedHashCode_0 : decode cJ10_signedHashCode 0 = .ok (.iload_n 2, 1) := dk_28 (dk_at dksJ10_signedHashCode_0 0 rfl rfl)
theorem dJ10_signedHashCode_1 : decode cJ10_signedHashCode 1 = .ok (.iload_n 3, 1) := dk_29 (dk_at dksJ10_signedHashCode_0 1 rfl rfl)
theorem dJ10_signedHashCode_2 : decode cJ10_signedHashCode 2 = .ok (.iadd, 1) := dk_96 (dk_at dksJ10_signedHashCode_0 2 rfl rfl)
theorem dJ10_signedHashCode_3 : decode cJ10_signedHashCode 3 = .ok (.istore 4, 2) := dk_54 4 (dk_at dksJ10_signedHashCode_0 3 rfl rfl)
theorem dJ10_signedHashCode_5 : decode cJ10_signedHashCode 5 = .ok (.iload_n 2, 1) := dk_28 (dk_at dksJ10_signedHashCode_0 5 rfl rfl)
theorem dJ10_signedHashCode_6 : decode cJ10_signedHashCode 6 = .ok (.istore 5, 2) := dk_54 5 (dk_at dksJ10_signedHashCode_0 6 rfl rfl)
theorem dJ10_signedHashCode_8 : decode cJ10_signedHashCode 8 = .ok (.iload 5, 2) := dk_21 5 (dk_at dksJ10_signedHashCode_0 8 rfl rfl)
theorem dJ10_signedHashCode_10 : decode cJ10_signedHashCode 10 = .ok (.iload 4, 2) := dk_21 4 (dk_at dksJ10_signedHashCode_0 10 rfl rfl)
theorem dJ10_signedHashCode_12 : decode cJ10_signedHashCode 12 = .ok (.if_icmp .ge 23, 3) := dk_162 0 23 (dk_at dksJ10_signedHashCode_0 12 rfl rfl)
theorem dJ10_signedHashCode_15 : decode cJ10_signedHashCode 15 = .ok (.bipush 31, 2) := dk_16 31 (dk_at dksJ10_signedHashCode_0 15 rfl rfl)
theorem dJ10_signedHashCode_17 : decode cJ10_signedHashCode 17 = .ok (.iload_n 0, 1) := dk_26 (dk_at dksJ10_signedHashCode_0 17 rfl rfl)
theorem dJ10_signedHashCode_18 : decode cJ10_signedHashCode 18 = .ok (.imul, 1) := dk_104 (dk_at dksJ10_signedHashCode_0 18 rfl rfl)
theorem dJ10_signedHashCode_19 : decode cJ10_signedHashCode 19 = .ok (.aload_n 1, 1) := dk_43 (dk_at dksJ10_signedHashCode_0 19 rfl rfl)
theorem dJ10_signedHashCode_20 : decode cJ10_signedHashCode 20 = .ok (.iload 5, 2) := dk_21 5 (dk_at dksJ10_signedHashCode_0 20 rfl rfl)
theorem dJ10_signedHashCode_22 : decode cJ10_signedHashCode 22 = .ok (.baload, 1) := dk_51 (dk_at dksJ10_signedHashCode_0 22 rfl rfl)
theorem dJ10_signedHashCode_23 : decode cJ10_signedHashCode 23 = .ok (.sipush 255, 3) := dk_17 0 255 (dk_at dksJ10_signedHashCode_1 0 rfl rfl)
theorem dJ10_signedHashCode_26 : decode cJ10_signedHashCode 26 = .ok (.iand, 1) := dk_126 (dk_at dksJ10_signedHashCode_1 3 rfl rfl)
theorem dJ10_signedHashCode_27 : decode cJ10_signedHashCode 27 = .ok (.iadd, 1) := dk_96 (dk_at dksJ10_signedHashCode_1 4 rfl rfl)
theorem dJ10_signedHashCode_28 : decode cJ10_signedHashCode 28 = .ok (.istore_n 0, 1) := dk_59 (dk_at dksJ10_signedHashCode_1 5 rfl rfl)
theorem dJ10_signedHashCode_29 : decode cJ10_signedHashCode 29 = .ok (.iinc 5 1, 3) := dk_132 5 1 (dk_at dksJ10_signedHashCode_1 6 rfl rfl)
theorem dJ10_signedHashCode_32 : decode cJ10_signedHashCode 32 = .ok (.goto (-24), 3) := dk_167 255 232 (dk_at dksJ10_signedHashCode_1 9 rfl rfl)
theorem dJ10_signedHashCode_35 : decode cJ10_signedHashCode 35 = .ok (.iload_n 0, 1) := dk_26 (dk_at dksJ10_signedHashCode_1 12 rfl rfl)
theorem dJ10_signedHashCode_36 : decode cJ10_signedHashCode 36 = .ok (.ireturn, 1) := dk_172 (dk_at dksJ10_signedHashCode_1 13 rfl rfl)
abbrev cJ10_utf16hashCode : ByteArray := prog_116_method_10_code
def yJ10_utf16hashCode : MethodName := ⟨RJ10, "utf16hashCode", "(I[BII)I"⟩
def dkwJ10_utf16hashCode_1 : List UInt8 := [21, 5, 185, 0, 110, 3, 0, 96, 59, 132, 5, 1, 167, 255, 229, 26, 172]
abbrev dktJ10_utf16hashCode_1 : List UInt8 := dkwJ10_utf16hashCode_1 ++ []
def dkwJ10_utf16hashCode_0 : List UInt8 := [28, 29, 96, 54, 4, 28, 54, 5, 21, 5, 21, 4, 162, 0, 26, 16, 31, 26, 104, 178, 0, 106, 43]
abbrev dktJ10_utf16hashCode_0 : List UInt8 := dkwJ10_utf16hashCode_0 ++ dktJ10_utf16hashCode_1
theorem dksJ10_utf16hashCode_0 : cJ10_utf16hashCode.data.toList.drop 0 = dktJ10_utf16hashCode_0 := by decide +kernel
theorem dksJ10_utf16hashCode_1 : cJ10_utf16hashCode.data.toList.drop 23 = dktJ10_utf16hashCode_1 := dk_seg dksJ10_utf16hashCode_0 23 rfl rfl
theorem dJ10_utf16hashCode_0 : decode cJ10_utf16hashCode 0 = .ok (.iload_n 2, 1) := dk_28 (dk_at dksJ10_utf16hashCode_0 0 rfl rfl)
theorem dJ10_utf16hashCode_1 : decode cJ10_utf16hashCode 1 = .ok (.iload_n 3, 1) := dk_29 (dk_at dksJ10_utf16hashCode_0 1 rfl rfl)
theorem dJ10_utf16hashCode_2 : decode cJ10_utf16hashCode 2 = .ok (.iadd, 1) := dk_96 (dk_at dksJ10_utf16hashCode_0 2 rfl rfl)
theorem dJ10_utf16hashCode_3 : decode cJ10_utf16hashCode 3 = .ok (.istore 4, 2) := dk_54 4 (dk_at dksJ10_utf16hashCode_0 3 rfl rfl)
theorem dJ10_utf16hashCode_5 : decode cJ10_utf16hashCode 5 = .ok (.iload_n 2, 1) := dk_28 (dk_at dksJ10_utf16hashCode_0 5 rfl rfl)
theorem dJ10_utf16hashCode_6 : decode cJ10_utf16hashCode 6 = .ok (.istore 5, 2) := dk_54 5 (dk_at dksJ10_utf16hashCode_0 6 rfl rfl)
theorem dJ10_utf16hashCode_8 : decode cJ10_utf16hashCode 8 = .ok (.iload 5, 2) := dk_21 5 (dk_at dksJ10_utf16hashCode_0 8 rfl rfl)
theorem dJ10_utf16hashCode_10 : decode cJ10_utf16hashCode 10 = .ok (.iload 4, 2) := dk_21 4 (dk_at dksJ10_utf16hashCode_0 10 rfl rfl)
theorem dJ10_utf16hashCode_12 : decode cJ10_utf16hashCode 12 = .ok (.if_icmp .ge 26, 3) := dk_162 0 26 (dk_at dksJ10_utf16hashCode_0 12 rfl rfl)
theorem dJ10_utf16hashCode_15 : decode cJ10_utf16hashCode 15 = .ok (.bipush 31, 2) := dk_16 31 (dk_at dksJ10_utf16hashCode_0 15 rfl rfl)
theorem dJ10_utf16hashCode_17 : decode cJ10_utf16hashCode 17 = .ok (.iload_n 0, 1) := dk_26 (dk_at dksJ10_utf16hashCode_0 17 rfl rfl)
theorem dJ10_utf16hashCode_18 : decode cJ10_utf16hashCode 18 = .ok (.imul, 1) := dk_104 (dk_at dksJ10_utf16hashCode_0 18 rfl rfl)
theorem dJ10_utf16hashCode_19 : decode cJ10_utf16hashCode 19 = .ok (.getstatic 106, 3) := dk_178 0 106 (dk_at dksJ10_utf16hashCode_0 19 rfl rfl)
theorem dJ10_utf16hashCode_22 : decode cJ10_utf16hashCode 22 = .ok (.aload_n 1, 1) := dk_43 (dk_at dksJ10_utf16hashCode_0 22 rfl rfl)
theorem dJ10_utf16hashCode_23 : decode cJ10_utf16hashCode 23 = .ok (.iload 5, 2) := dk_21 5 (dk_at dksJ10_utf16hashCode_1 0 rfl rfl)
theorem dJ10_utf16hashCode_25 : decode cJ10_utf16hashCode 25 = .ok (.invokeinterface 110 3, 5) := by decide +kernel
theorem dJ10_utf16hashCode_30 : decode cJ10_utf16hashCode 30 = .ok (.iadd, 1) := dk_96 (dk_at dksJ10_utf16hashCode_1 7 rfl rfl)
theorem dJ10_utf16hashCode_31 : decode cJ10_utf16hashCode 31 = .ok (.istore_n 0, 1) := dk_59 (dk_at dksJ10_utf16hashCode_1 8 rfl rfl)
theorem dJ10_utf16hashCode_32 : decode cJ10_utf16hashCode 32 = .ok (.iinc 5 1, 3) := dk_132 5 1 (dk_at dksJ10_utf16hashCode_1 9 rfl rfl)
theorem dJ10_utf16hashCode_35 : decode cJ10_utf16hashCode 35 = .ok (.goto (-27), 3) := dk_167 255 229 (dk_at dksJ10_utf16hashCode_1 12 rfl rfl)
theorem dJ10_utf16hashCode_38 : decode cJ10_utf16hashCode 38 = .ok (.iload_n 0, 1) := dk_26 (dk_at dksJ10_utf16hashCode_1 15 rfl rfl)
theorem dJ10_utf16hashCode_39 : decode cJ10_utf16hashCode 39 = .ok (.ireturn, 1) := dk_172 (dk_at dksJ10_utf16hashCode_1 16 rfl rfl)
abbrev cJ10_hashCode : ByteArray := prog_116_method_7_code
def yJ10_hashCode : MethodName := ⟨RJ10, "hashCode", "(I[CII)I"⟩
def dkwJ10_hashCode_1 : List UInt8 := [59, 132, 5, 1, 167, 255, 236, 26, 172]
abbrev dktJ10_hashCode_1 : List UInt8 := dkwJ10_hashCode_1 ++ []
def dkwJ10_hashCode_0 : List UInt8 := [28, 29, 96, 54, 4, 28, 54, 5, 21, 5, 21, 4, 162, 0, 19, 16, 31, 26, 104, 43, 21, 5, 52, 96]
abbrev dktJ10_hashCode_0 : List UInt8 := dkwJ10_hashCode_0 ++ dktJ10_hashCode_1
theorem dksJ10_hashCode_0 : cJ10_hashCode.data.toList.drop 0 = dktJ10_hashCode_0 := by decide +kernel
theorem dksJ10_hashCode_1 : cJ10_hashCode.data.toList.drop 24 = dktJ10_hashCode_1 := dk_seg dksJ10_hashCode_0 24 rfl rfl
theorem dJ10_hashCode_0 : decode cJ10_hashCode 0 = .ok (.iload_n 2, 1) := dk_28 (dk_at dksJ10_hashCode_0 0 rfl rfl)
theorem dJ10_hashCode_1 : decode cJ10_hashCode 1 = .ok (.iload_n 3, 1) := dk_29 (dk_at dksJ10_hashCode_0 1 rfl rfl)
theorem dJ10_hashCode_2 : decode cJ10_hashCode 2 = .ok (.iadd, 1) := dk_96 (dk_at dksJ10_hashCode_0 2 rfl rfl)
theorem dJ10_hashCode_3 : decode cJ10_hashCode 3 = .ok (.istore 4, 2) := dk_54 4 (dk_at dksJ10_hashCode_0 3 rfl rfl)
theorem dJ10_hashCode_5 : decode cJ10_hashCode 5 = .ok (.iload_n 2, 1) := dk_28 (dk_at dksJ10_hashCode_0 5 rfl rfl)
theorem dJ10_hashCode_6 : decode cJ10_hashCode 6 = .ok (.istore 5, 2) := dk_54 5 (dk_at dksJ10_hashCode_0 6 rfl rfl)
theorem dJ10_hashCode_8 : decode cJ10_hashCode 8 = .ok (.iload 5, 2) := dk_21 5 (dk_at dksJ10_hashCode_0 8 rfl rfl)
theorem dJ10_hashCode_10 : decode cJ10_hashCode 10 = .ok (.iload 4, 2) := dk_21 4 (dk_at dksJ10_hashCode_0 10 rfl rfl)
theorem dJ10_hashCode_12 : decode cJ10_hashCode 12 = .ok (.if_icmp .ge 19, 3) := dk_162 0 19 (dk_at dksJ10_hashCode_0 12 rfl rfl)
theorem dJ10_hashCode_15 : decode cJ10_hashCode 15 = .ok (.bipush 31, 2) := dk_16 31 (dk_at dksJ10_hashCode_0 15 rfl rfl)
theorem dJ10_hashCode_17 : decode cJ10_hashCode 17 = .ok (.iload_n 0, 1) := dk_26 (dk_at dksJ10_hashCode_0 17 rfl rfl)
theorem dJ10_hashCode_18 : decode cJ10_hashCode 18 = .ok (.imul, 1) := dk_104 (dk_at dksJ10_hashCode_0 18 rfl rfl)
theorem dJ10_hashCode_19 : decode cJ10_hashCode 19 = .ok (.aload_n 1, 1) := dk_43 (dk_at dksJ10_hashCode_0 19 rfl rfl)
theorem dJ10_hashCode_20 : decode cJ10_hashCode 20 = .ok (.iload 5, 2) := dk_21 5 (dk_at dksJ10_hashCode_0 20 rfl rfl)
theorem dJ10_hashCode_22 : decode cJ10_hashCode 22 = .ok (.caload, 1) := dk_52 (dk_at dksJ10_hashCode_0 22 rfl rfl)
theorem dJ10_hashCode_23 : decode cJ10_hashCode 23 = .ok (.iadd, 1) := dk_96 (dk_at dksJ10_hashCode_0 23 rfl rfl)
theorem dJ10_hashCode_24 : decode cJ10_hashCode 24 = .ok (.istore_n 0, 1) := dk_59 (dk_at dksJ10_hashCode_1 0 rfl rfl)
theorem dJ10_hashCode_25 : decode cJ10_hashCode 25 = .ok (.iinc 5 1, 3) := dk_132 5 1 (dk_at dksJ10_hashCode_1 1 rfl rfl)
theorem dJ10_hashCode_28 : decode cJ10_hashCode 28 = .ok (.goto (-20), 3) := dk_167 255 236 (dk_at dksJ10_hashCode_1 4 rfl rfl)
theorem dJ10_hashCode_31 : decode cJ10_hashCode 31 = .ok (.iload_n 0, 1) := dk_26 (dk_at dksJ10_hashCode_1 7 rfl rfl)
theorem dJ10_hashCode_32 : decode cJ10_hashCode 32 = .ok (.ireturn, 1) := dk_172 (dk_at dksJ10_hashCode_1 8 rfl rfl)
abbrev cJ10_hashCode_2 : ByteArray := prog_116_method_6_code
def yJ10_hashCode_2 : MethodName := ⟨RJ10, "hashCode", "(I[BII)I"⟩
def dkwJ10_hashCode_2_1 : List UInt8 := [59, 132, 5, 1, 167, 255, 236, 26, 172]
abbrev dktJ10_hashCode_2_1 : List UInt8 := dkwJ10_hashCode_2_1 ++ []
def dkwJ10_hashCode_2_0 : List UInt8 := [28, 29, 96, 54, 4, 28, 54, 5, 21, 5, 21, 4, 162, 0, 19, 16, 31, 26, 104, 43, 21, 5, 51, 96]
abbrev dktJ10_hashCode_2_0 : List UInt8 := dkwJ10_hashCode_2_0 ++ dktJ10_hashCode_2_1
theorem dksJ10_hashCode_2_0 : cJ10_hashCode_2.data.toList.drop 0 = dktJ10_hashCode_2_0 := by decide +kernel
theorem dksJ10_hashCode_2_1 : cJ10_hashCode_2.data.toList.drop 24 = dktJ10_hashCode_2_1 := dk_seg dksJ10_hashCode_2_0 24 rfl rfl
theorem dJ10_hashCode_2_0 : decode cJ10_hashCode_2 0 = .ok (.iload_n 2, 1) := dk_28 (dk_at dksJ10_hashCode_2_0 0 rfl rfl)
theorem dJ10_hashCode_2_1 : decode cJ10_hashCode_2 1 = .ok (.iload_n 3, 1) := dk_29 (dk_at dksJ10_hashCode_2_0 1 rfl rfl)
theorem dJ10_hashCode_2_2 : decode cJ10_hashCode_2 2 = .ok (.iadd, 1) := dk_96 (dk_at dksJ10_hashCode_2_0 2 rfl rfl)
theorem dJ10_hashCode_2_3 : decode cJ10_hashCode_2 3 = .ok (.istore 4, 2) := dk_54 4 (dk_at dksJ10_hashCode_2_0 3 rfl rfl)
theorem dJ10_hashCode_2_5 : decode cJ10_hashCode_2 5 = .ok (.iload_n 2, 1) := dk_28 (dk_at dksJ10_hashCode_2_0 5 rfl rfl)
theorem dJ10_hashCode_2_6 : decode cJ10_hashCode_2 6 = .ok (.istore 5, 2) := dk_54 5 (dk_at dksJ10_hashCode_2_0 6 rfl rfl)
theorem dJ10_hashCode_2_8 : decode cJ10_hashCode_2 8 = .ok (.iload 5, 2) := dk_21 5 (dk_at dksJ10_hashCode_2_0 8 rfl rfl)
theorem dJ10_hashCode_2_10 : decode cJ10_hashCode_2 10 = .ok (.iload 4, 2) := dk_21 4 (dk_at dksJ10_hashCode_2_0 10 rfl rfl)
theorem dJ10_hashCode_2_12 : decode cJ10_hashCode_2 12 = .ok (.if_icmp .ge 19, 3) := dk_162 0 19 (dk_at dksJ10_hashCode_2_0 12 rfl rfl)
theorem dJ10_hashCode_2_15 : decode cJ10_hashCode_2 15 = .ok (.bipush 31, 2) := dk_16 31 (dk_at dksJ10_hashCode_2_0 15 rfl rfl)
theorem dJ10_hashCode_2_17 : decode cJ10_hashCode_2 17 = .ok (.iload_n 0, 1) := dk_26 (dk_at dksJ10_hashCode_2_0 17 rfl rfl)
theorem dJ10_hashCode_2_18 : decode cJ10_hashCode_2 18 = .ok (.imul, 1) := dk_104 (dk_at dksJ10_hashCode_2_0 18 rfl rfl)
theorem dJ10_hashCode_2_19 : decode cJ10_hashCode_2 19 = .ok (.aload_n 1, 1) := dk_43 (dk_at dksJ10_hashCode_2_0 19 rfl rfl)
theorem dJ10_hashCode_2_20 : decode cJ10_hashCode_2 20 = .ok (.iload 5, 2) := dk_21 5 (dk_at dksJ10_hashCode_2_0 20 rfl rfl)
theorem dJ10_hashCode_2_22 : decode cJ10_hashCode_2 22 = .ok (.baload, 1) := dk_51 (dk_at dksJ10_hashCode_2_0 22 rfl rfl)
theorem dJ10_hashCode_2_23 : decode cJ10_hashCode_2 23 = .ok (.iadd, 1) := dk_96 (dk_at dksJ10_hashCode_2_0 23 rfl rfl)
theorem dJ10_hashCode_2_24 : decode cJ10_hashCode_2 24 = .ok (.istore_n 0, 1) := dk_59 (dk_at dksJ10_hashCode_2_1 0 rfl rfl)
theorem dJ10_hashCode_2_25 : decode cJ10_hashCode_2 25 = .ok (.iinc 5 1, 3) := dk_132 5 1 (dk_at dksJ10_hashCode_2_1 1 rfl rfl)
theorem dJ10_hashCode_2_28 : decode cJ10_hashCode_2 28 = .ok (.goto (-20), 3) := dk_167 255 236 (dk_at dksJ10_hashCode_2_1 4 rfl rfl)
theorem dJ10_hashCode_2_31 : decode cJ10_hashCode_2 31 = .ok (.iload_n 0, 1) := dk_26 (dk_at dksJ10_hashCode_2_1 7 rfl rfl)
theorem dJ10_hashCode_2_32 : decode cJ10_hashCode_2 32 = .ok (.ireturn, 1) := dk_172 (dk_at dksJ10_hashCode_2_1 8 rfl rfl)
abbrev cJ10_hashCode_3 : ByteArray := prog_116_method_8_code
def yJ10_hashCode_3 : MethodName := ⟨RJ10, "hashCode", "(I[SII)I"⟩
def dkwJ10_hashCode_3_1 : List UInt8 := [59, 132, 5, 1, 167, 255, 236, 26, 172]
abbrev dktJ10_hashCode_3_1 : List UInt8 := dkwJ10_hashCode_3_1 ++ []
def dkwJ10_hashCode_3_0 : List UInt8 := [28, 29, 96, 54, 4, 28, 54, 5, 21, 5, 21, 4, 162, 0, 19, 16, 31, 26, 104, 43, 21, 5, 53, 96]
abbrev dktJ10_hashCode_3_0 : List UInt8 := dkwJ10_hashCode_3_0 ++ dktJ10_hashCode_3_1
theorem dksJ10_hashCode_3_0 : cJ10_hashCode_3.data.toList.drop 0 = dktJ10_hashCode_3_0 := by decide +kernel
theorem dksJ10_hashCode_3_1 : cJ10_hashCode_3.data.toList.drop 24 = dktJ10_hashCode_3_1 := dk_seg dksJ10_hashCode_3_0 24 rfl rfl
theorem dJ10_hashCode_3_0 : decode cJ10_hashCode_3 0 = .ok (.iload_n 2, 1) := dk_28 (dk_at dksJ10_hashCode_3_0 0 rfl rfl)
theorem dJ10_hashCode_3_1 : decode cJ10_hashCode_3 1 = .ok (.iload_n 3, 1) := dk_29 (dk_at dksJ10_hashCode_3_0 1 rfl rfl)
theorem dJ10_hashCode_3_2 : decode cJ10_hashCode_3 2 = .ok (.iadd, 1) := dk_96 (dk_at dksJ10_hashCode_3_0 2 rfl rfl)
theorem dJ10_hashCode_3_3 : decode cJ10_hashCode_3 3 = .ok (.istore 4, 2) := dk_54 4 (dk_at dksJ10_hashCode_3_0 3 rfl rfl)
theorem dJ10_hashCode_3_5 : decode cJ10_hashCode_3 5 = .ok (.iload_n 2, 1) := dk_28 (dk_at dksJ10_hashCode_3_0 5 rfl rfl)
theorem dJ10_hashCode_3_6 : decode cJ10_hashCode_3 6 = .ok (.istore 5, 2) := dk_54 5 (dk_at dksJ10_hashCode_3_0 6 rfl rfl)
theorem dJ10_hashCode_3_8 : decode cJ10_hashCode_3 8 = .ok (.iload 5, 2) := dk_21 5 (dk_at dksJ10_hashCode_3_0 8 rfl rfl)
theorem dJ10_hashCode_3_10 : decode cJ10_hashCode_3 10 = .ok (.iload 4, 2) := dk_21 4 (dk_at dksJ10_hashCode_3_0 10 rfl rfl)
theorem dJ10_hashCode_3_12 : decode cJ10_hashCode_3 12 = .ok (.if_icmp .ge 19, 3) := dk_162 0 19 (dk_at dksJ10_hashCode_3_0 12 rfl rfl)
theorem dJ10_hashCode_3_15 : decode cJ10_hashCode_3 15 = .ok (.bipush 31, 2) := dk_16 31 (dk_at dksJ10_hashCode_3_0 15 rfl rfl)
theorem dJ10_hashCode_3_17 : decode cJ10_hashCode_3 17 = .ok (.iload_n 0, 1) := dk_26 (dk_at dksJ10_hashCode_3_0 17 rfl rfl)
theorem dJ10_hashCode_3_18 : decode cJ10_hashCode_3 18 = .ok (.imul, 1) := dk_104 (dk_at dksJ10_hashCode_3_0 18 rfl rfl)
theorem dJ10_hashCode_3_19 : decode cJ10_hashCode_3 19 = .ok (.aload_n 1, 1) := dk_43 (dk_at dksJ10_hashCode_3_0 19 rfl rfl)
theorem dJ10_hashCode_3_20 : decode cJ10_hashCode_3 20 = .ok (.iload 5, 2) := dk_21 5 (dk_at dksJ10_hashCode_3_0 20 rfl rfl)
theorem dJ10_hashCode_3_22 : decode cJ10_hashCode_3 22 = .ok (.saload, 1) := dk_53 (dk_at dksJ10_hashCode_3_0 22 rfl rfl)
theorem dJ10_hashCode_3_23 : decode cJ10_hashCode_3 23 = .ok (.iadd, 1) := dk_96 (dk_at dksJ10_hashCode_3_0 23 rfl rfl)
theorem dJ10_hashCode_3_24 : decode cJ10_hashCode_3 24 = .ok (.istore_n 0, 1) := dk_59 (dk_at dksJ10_hashCode_3_1 0 rfl rfl)
theorem dJ10_hashCode_3_25 : decode cJ10_hashCode_3 25 = .ok (.iinc 5 1, 3) := dk_132 5 1 (dk_at dksJ10_hashCode_3_1 1 rfl rfl)
theorem dJ10_hashCode_3_28 : decode cJ10_hashCode_3 28 = .ok (.goto (-20), 3) := dk_167 255 236 (dk_at dksJ10_hashCode_3_1 4 rfl rfl)
theorem dJ10_hashCode_3_31 : decode cJ10_hashCode_3 31 = .ok (.iload_n 0, 1) := dk_26 (dk_at dksJ10_hashCode_3_1 7 rfl rfl)
theorem dJ10_hashCode_3_32 : decode cJ10_hashCode_3 32 = .ok (.ireturn, 1) := dk_172 (dk_at dksJ10_hashCode_3_1 8 rfl rfl)
abbrev cJ10_hashCode_4 : ByteArray := prog_116_method_9_code
def yJ10_hashCode_4 : MethodName := ⟨RJ10, "hashCode", "(I[III)I"⟩
def dkwJ10_hashCode_4_1 : List UInt8 := [59, 132, 5, 1, 167, 255, 236, 26, 172]
abbrev dktJ10_hashCode_4_1 : List UInt8 := dkwJ10_hashCode_4_1 ++ []
def dkwJ10_hashCode_4_0 : List UInt8 := [28, 29, 96, 54, 4, 28, 54, 5, 21, 5, 21, 4, 162, 0, 19, 16, 31, 26, 104, 43, 21, 5, 46, 96]
abbrev dktJ10_hashCode_4_0 : List UInt8 := dkwJ10_hashCode_4_0 ++ dktJ10_hashCode_4_1
theorem dksJ10_hashCode_4_0 : cJ10_hashCode_4.data.toList.drop 0 = dktJ10_hashCode_4_0 := by decide +kernel
theorem dksJ10_hashCode_4_1 : cJ10_hashCode_4.data.toList.drop 24 = dktJ10_hashCode_4_1 := dk_seg dksJ10_hashCode_4_0 24 rfl rfl
theorem dJ10_hashCode_4_0 : decode cJ10_hashCode_4 0 = .ok (.iload_n 2, 1) := dk_28 (dk_at dksJ10_hashCode_4_0 0 rfl rfl)
theorem dJ10_hashCode_4_1 : decode cJ10_hashCode_4 1 = .ok (.iload_n 3, 1) := dk_29 (dk_at dksJ10_hashCode_4_0 1 rfl rfl)
theorem dJ10_hashCode_4_2 : decode cJ10_hashCode_4 2 = .ok (.iadd, 1) := dk_96 (dk_at dksJ10_hashCode_4_0 2 rfl rfl)
theorem dJ10_hashCode_4_3 : decode cJ10_hashCode_4 3 = .ok (.istore 4, 2) := dk_54 4 (dk_at dksJ10_hashCode_4_0 3 rfl rfl)
theorem dJ10_hashCode_4_5 : decode cJ10_hashCode_4 5 = .ok (.iload_n 2, 1) := dk_28 (dk_at dksJ10_hashCode_4_0 5 rfl rfl)
theorem dJ10_hashCode_4_6 : decode cJ10_hashCode_4 6 = .ok (.istore 5, 2) := dk_54 5 (dk_at dksJ10_hashCode_4_0 6 rfl rfl)
theorem dJ10_hashCode_4_8 : decode cJ10_hashCode_4 8 = .ok (.iload 5, 2) := dk_21 5 (dk_at dksJ10_hashCode_4_0 8 rfl rfl)
theorem dJ10_hashCode_4_10 : decode cJ10_hashCode_4 10 = .ok (.iload 4, 2) := dk_21 4 (dk_at dksJ10_hashCode_4_0 10 rfl rfl)
theorem dJ10_hashCode_4_12 : decode cJ10_hashCode_4 12 = .ok (.if_icmp .ge 19, 3) := dk_162 0 19 (dk_at dksJ10_hashCode_4_0 12 rfl rfl)
theorem dJ10_hashCode_4_15 : decode cJ10_hashCode_4 15 = .ok (.bipush 31, 2) := dk_16 31 (dk_at dksJ10_hashCode_4_0 15 rfl rfl)
theorem dJ10_hashCode_4_17 : decode cJ10_hashCode_4 17 = .ok (.iload_n 0, 1) := dk_26 (dk_at dksJ10_hashCode_4_0 17 rfl rfl)
theorem dJ10_hashCode_4_18 : decode cJ10_hashCode_4 18 = .ok (.imul, 1) := dk_104 (dk_at dksJ10_hashCode_4_0 18 rfl rfl)
theorem dJ10_hashCode_4_19 : decode cJ10_hashCode_4 19 = .ok (.aload_n 1, 1) := dk_43 (dk_at dksJ10_hashCode_4_0 19 rfl rfl)
theorem dJ10_hashCode_4_20 : decode cJ10_hashCode_4 20 = .ok (.iload 5, 2) := dk_21 5 (dk_at dksJ10_hashCode_4_0 20 rfl rfl)
theorem dJ10_hashCode_4_22 : decode cJ10_hashCode_4 22 = .ok (.iaload, 1) := dk_46 (dk_at dksJ10_hashCode_4_0 22 rfl rfl)
theorem dJ10_hashCode_4_23 : decode cJ10_hashCode_4 23 = .ok (.iadd, 1) := dk_96 (dk_at dksJ10_hashCode_4_0 23 rfl rfl)
theorem dJ10_hashCode_4_24 : decode cJ10_hashCode_4 24 = .ok (.istore_n 0, 1) := dk_59 (dk_at dksJ10_hashCode_4_1 0 rfl rfl)
theorem dJ10_hashCode_4_25 : decode cJ10_hashCode_4 25 = .ok (.iinc 5 1, 3) := dk_132 5 1 (dk_at dksJ10_hashCode_4_1 1 rfl rfl)
theorem dJ10_hashCode_4_28 : decode cJ10_hashCode_4 28 = .ok (.goto (-20), 3) := dk_167 255 236 (dk_at dksJ10_hashCode_4_1 4 rfl rfl)
theorem dJ10_hashCode_4_31 : decode cJ10_hashCode_4 31 = .ok (.iload_n 0, 1) := dk_26 (dk_at dksJ10_hashCode_4_1 7 rfl rfl)
theorem dJ10_hashCode_4_32 : decode cJ10_hashCode_4 32 = .ok (.ireturn, 1) := dk_172 (dk_at dksJ10_hashCode_4_1 8 rfl rfl)
abbrev cJ10_mismatch : ByteArray := prog_116_method_13_code
def yJ10_mismatch : MethodName := ⟨RJ10, "mismatch", "([B[BI)I"⟩
def dkwJ10_mismatch_3 : List UInt8 := [172]
abbrev dktJ10_mismatch_3 : List UInt8 := dkwJ10_mismatch_3 ++ []
def dkwJ10_mismatch_2 : List UInt8 := [62, 29, 28, 162, 0, 20, 42, 29, 51, 43, 29, 51, 159, 0, 5, 29, 172, 132, 3, 1, 167, 255, 237, 2]
abbrev dktJ10_mismatch_2 : List UInt8 := dkwJ10_mismatch_2 ++ dktJ10_mismatch_3
def dkwJ10_mismatch_1 : List UInt8 := [43, 178, 0, 126, 133, 28, 178, 0, 129, 184, 0, 122, 62, 29, 155, 0, 5, 29, 172, 28, 29, 2, 130, 100]
abbrev dktJ10_mismatch_1 : List UInt8 := dkwJ10_mismatch_1 ++ dktJ10_mismatch_2
def dkwJ10_mismatch_0 : List UInt8 := [3, 62, 28, 16, 7, 164, 0, 44, 42, 3, 51, 43, 3, 51, 159, 0, 5, 3, 172, 42, 178, 0, 126, 133]
abbrev dktJ10_mismatch_0 : List UInt8 := dkwJ10_mismatch_0 ++ dktJ10_mismatch_1
theorem dksJ10_mismatch_0 : cJ10_mismatch.data.toList.drop 0 = dktJ10_mismatch_0 := by decide +kernel
theorem dksJ10_mismatch_1 : cJ10_mismatch.data.toList.drop 24 = dktJ10_mismatch_1 := dk_seg dksJ10_mismatch_0 24 rfl rfl
theorem dksJ10_mismatch_2 : cJ10_mismatch.data.toList.drop 48 = dktJ10_mismatch_2 := dk_seg dksJ10_mismatch_1 24 rfl rfl
theorem dksJ10_mismatch_3 : cJ10_mismatch.data.toList.drop 72 = dktJ10_mismatch_3 := dk_seg dksJ10_mismatch_2 24 rfl rfl
theorem dJ10_mismatch_0 : decode cJ10_mismatch 0 = .ok (.iconst 0, 1) := dk_3 (dk_at dksJ10_mismatch_0 0 rfl rfl)
theorem dJ10_mismatch_1 : decode cJ10_mismatch 1 = .ok (.istore_n 3, 1) := dk_62 (dk_at dksJ10_mismatch_0 1 rfl rfl)
theorem dJ10_mismatch_2 : decode cJ10_mismatch 2 = .ok (.iload_n 2, 1) := dk_28 (dk_at dksJ10_mismatch_0 2 rfl rfl)
theorem dJ10_mismatch_3 : decode cJ10_mismatch 3 = .ok (.bipush 7, 2) := dk_16 7 (dk_at dksJ10_mismatch_0 3 rfl rfl)
theorem dJ10_mismatch_5 : decode cJ10_mismatch 5 = .ok (.if_icmp .le 44, 3) := dk_164 0 44 (dk_at dksJ10_mismatch_0 5 rfl rfl)
theorem dJ10_mismatch_8 : decode cJ10_mismatch 8 = .ok (.aload_n 0, 1) := dk_42 (dk_at dksJ10_mismatch_0 8 rfl rfl)
theorem dJ10_mismatch_9 : decode cJ10_mismatch 9 = .ok (.iconst 0, 1) := dk_3 (dk_at dksJ10_mismatch_0 9 rfl rfl)
theorem dJ10_mismatch_10 : decode cJ10_mismatch 10 = .ok (.baload, 1) := dk_51 (dk_at dksJ10_mismatch_0 10 rfl rfl)
theorem dJ10_mismatch_11 : decode cJ10_mismatch 11 = .ok (.aload_n 1, 1) := dk_43 (dk_at dksJ10_mismatch_0 11 rfl rfl)
theorem dJ10_mismatch_12 : decode cJ10_mismatch 12 = .ok (.iconst 0, 1) := dk_3 (dk_at dksJ10_mismatch_0 12 rfl rfl)
theorem dJ10_mismatch_13 : decode cJ10_mismatch 13 = .ok (.baload, 1) := dk_51 (dk_at dksJ10_mismatch_0 13 rfl rfl)
theorem dJ10_mismatch_14 : decode cJ10_mismatch 14 = .ok (.if_icmp .eq 5, 3) := dk_159 0 5 (dk_at dksJ10_mismatch_0 14 rfl rfl)
theorem dJ10_mismatch_17 : decode cJ10_mismatch 17 = .ok (.iconst 0, 1) := dk_3 (dk_at dksJ10_mismatch_0 17 rfl rfl)
theorem dJ10_mismatch_18 : decode cJ10_mismatch 18 = .ok (.ireturn, 1) := dk_172 (dk_at dksJ10_mismatch_0 18 rfl rfl)
theorem dJ10_mismatch_19 : decode cJ10_mismatch 19 = .ok (.aload_n 0, 1) := dk_42 (dk_at dksJ10_mismatch_0 19 rfl rfl)
theorem dJ10_mismatch_20 : decode cJ10_mismatch 20 = .ok (.getstatic 126, 3) := dk_178 0 126 (dk_at dksJ10_mismatch_0 20 rfl rfl)
theorem dJ10_mismatch_23 : decode cJ10_mismatch 23 = .ok (.i2l, 1) := dk_133 (dk_at dksJ10_mismatch_0 23 rfl rfl)
theorem dJ10_mismatch_24 : decode cJ10_mismatch 24 = .ok (.aload_n 1, 1) := dk_43 (dk_at dksJ10_mismatch_1 0 rfl rfl)
theorem dJ10_mismatch_25 : decode cJ10_mismatch 25 = .ok (.getstatic 126, 3) := dk_178 0 126 (dk_at dksJ10_mismatch_1 1 rfl rfl)
theorem dJ10_mismatch_28 : decode cJ10_mismatch 28 = .ok (.i2l, 1) := dk_133 (dk_at dksJ10_mismatch_1 4 rfl rfl)
theorem dJ10_mismatch_29 : decode cJ10_mismatch 29 = .ok (.iload_n 2, 1) := dk_28 (dk_at dksJ10_mismatch_1 5 rfl rfl)
theorem dJ10_mismatch_30 : decode cJ10_mismatch 30 = .ok (.getstatic 129, 3) := dk_178 0 129 (dk_at dksJ10_mismatch_1 6 rfl rfl)
theorem dJ10_mismatch_33 : decode cJ10_mismatch 33 = .ok (.invokestatic 122, 3) := dk_184 0 122 (dk_at dksJ10_mismatch_1 9 rfl rfl)
theorem dJ10_mismatch_36 : decode cJ10_mismatch 36 = .ok (.istore_n 3, 1) := dk_62 (dk_at dksJ10_mismatch_1 12 rfl rfl)
theorem dJ10_mismatch_37 : decode cJ10_mismatch 37 = .ok (.iload_n 3, 1) := dk_29 (dk_at dksJ10_mismatch_1 13 rfl rfl)
theorem dJ10_mismatch_38 : decode cJ10_mismatch 38 = .ok (.ifCond .lt 5, 3) := dk_155 0 5 (dk_at dksJ10_mismatch_1 14 rfl rfl)
theorem dJ10_mismatch_41 : decode cJ10_mismatch 41 = .ok (.iload_n 3, 1) := dk_29 (dk_at dksJ10_mismatch_1 17 rfl rfl)
theorem dJ10_mismatch_42 : decode cJ10_mismatch 42 = .ok (.ireturn, 1) := dk_172 (dk_at dksJ10_mismatch_1 18 rfl rfl)
theorem dJ10_mismatch_43 : decode cJ10_mismatch 43 = .ok (.iload_n 2, 1) := dk_28 (dk_at dksJ10_mismatch_1 19 rfl rfl)
theorem dJ10_mismatch_44 : decode cJ10_mismatch 44 = .ok (.iload_n 3, 1) := dk_29 (dk_at dksJ10_mismatch_1 20 rfl rfl)
theorem dJ10_mismatch_45 : decode cJ10_mismatch 45 = .ok (.iconst (-1), 1) := dk_2 (dk_at dksJ10_mismatch_1 21 rfl rfl)
theorem dJ10_mismatch_46 : decode cJ10_mismatch 46 = .ok (.ixor, 1) := dk_130 (dk_at dksJ10_mismatch_1 22 rfl rfl)
theorem dJ10_mismatch_47 : decode cJ10_mismatch 47 = .ok (.isub, 1) := dk_100 (dk_at dksJ10_mismatch_1 23 rfl rfl)
theorem dJ10_mismatch_48 : decode cJ10_mismatch 48 = .ok (.istore_n 3, 1) := dk_62 (dk_at dksJ10_mismatch_2 0 rfl rfl)
theorem dJ10_mismatch_49 : decode cJ10_mismatch 49 = .ok (.iload_n 3, 1) := dk_29 (dk_at dksJ10_mismatch_2 1 rfl rfl)
theorem dJ10_mismatch_50 : decode cJ10_mismatch 50 = .ok (.iload_n 2, 1) := dk_28 (dk_at dksJ10_mismatch_2 2 rfl rfl)
theorem dJ10_mismatch_51 : decode cJ10_mismatch 51 = .ok (.if_icmp .ge 20, 3) := dk_162 0 20 (dk_at dksJ10_mismatch_2 3 rfl rfl)
theorem dJ10_mismatch_54 : decode cJ10_mismatch 54 = .ok (.aload_n 0, 1) := dk_42 (dk_at dksJ10_mismatch_2 6 rfl rfl)
theorem dJ10_mismatch_55 : decode cJ10_mismatch 55 = .ok (.iload_n 3, 1) := dk_29 (dk_at dksJ10_mismatch_2 7 rfl rfl)
theorem dJ10_mismatch_56 : decode cJ10_mismatch 56 = .ok (.baload, 1) := dk_51 (dk_at dksJ10_mismatch_2 8 rfl rfl)
theorem dJ10_mismatch_57 : decode cJ10_mismatch 57 = .ok (.aload_n 1, 1) := dk_43 (dk_at dksJ10_mismatch_2 9 rfl rfl)
theorem dJ10_mismatch_58 : decode cJ10_mismatch 58 = .ok (.iload_n 3, 1) := dk_29 (dk_at dksJ10_mismatch_2 10 rfl rfl)
theorem dJ10_mismatch_59 : decode cJ10_mismatch 59 = .ok (.baload, 1) := dk_51 (dk_at dksJ10_mismatch_2 11 rfl rfl)
theorem dJ10_mismatch_60 : decode cJ10_mismatch 60 = .ok (.if_icmp .eq 5, 3) := dk_159 0 5 (dk_at dksJ10_mismatch_2 12 rfl rfl)
theorem dJ10_mismatch_63 : decode cJ10_mismatch 63 = .ok (.iload_n 3, 1) := dk_29 (dk_at dksJ10_mismatch_2 15 rfl rfl)
theorem dJ10_mismatch_64 : decode cJ10_mismatch 64 = .ok (.ireturn, 1) := dk_172 (dk_at dksJ10_mismatch_2 16 rfl rfl)
theorem dJ10_mismatch_65 : decode cJ10_mismatch 65 = .ok (.iinc 3 1, 3) := dk_132 3 1 (dk_at dksJ10_mismatch_2 17 rfl rfl)
theorem dJ10_mismatch_68 : decode cJ10_mismatch 68 = .ok (.goto (-19), 3) := dk_167 255 237 (dk_at dksJ10_mismatch_2 20 rfl rfl)
theorem dJ10_mismatch_71 : decode cJ10_mismatch 71 = .ok (.iconst (-1), 1) := dk_2 (dk_at dksJ10_mismatch_2 23 rfl rfl)
theorem dJ10_mismatch_72 : decode cJ10_mismatch 72 = .ok (.ireturn, 1) := dk_172 (dk_at dksJ10_mismatch_3 0 rfl rfl)
abbrev cJ10_vectorizedMismatch : ByteArray := prog_116_method_3_code
def yJ10_vectorizedMismatch : MethodName := ⟨RJ10, "vectorizedMismatch", "(Ljava/lang/Object;JLjava/lang/Object;JII)I"⟩
def dkwJ10_vectorizedMismatch_11 : List UInt8 := [54, 10, 21, 10, 2, 130, 172, 21, 10, 2, 130, 172]
abbrev dktJ10_vectorizedMismatch_11 : List UInt8 := dkwJ10_vectorizedMismatch_11 ++ []
def dkwJ10_vectorizedMismatch_10 : List UInt8 := [178, 0, 46, 21, 7, 96, 122, 54, 17, 21, 9, 21, 8, 120, 21, 17, 96, 172, 21, 10, 21, 11, 100]
abbrev dktJ10_vectorizedMismatch_10 : List UInt8 := dkwJ10_vectorizedMismatch_10 ++ dktJ10_vectorizedMismatch_11
def dkwJ10_vectorizedMismatch_9 : List UInt8 := [153, 0, 18, 21, 16, 184, 0, 58, 178, 0, 46, 21, 7, 96, 122, 167, 0, 15, 21, 16, 184, 0, 11]
abbrev dktJ10_vectorizedMismatch_9 : List UInt8 := dkwJ10_vectorizedMismatch_9 ++ dktJ10_vectorizedMismatch_10
def dkwJ10_vectorizedMismatch_8 : List UInt8 := [182, 0, 54, 54, 15, 21, 14, 21, 15, 159, 0, 54, 21, 14, 21, 15, 130, 54, 16, 178, 0, 36]
abbrev dktJ10_vectorizedMismatch_8 : List UInt8 := dkwJ10_vectorizedMismatch_8 ++ dktJ10_vectorizedMismatch_9
def dkwJ10_vectorizedMismatch_7 : List UInt8 := [55, 12, 178, 0, 26, 42, 31, 22, 12, 97, 182, 0, 54, 54, 14, 178, 0, 26, 45, 22, 4, 22, 12, 97]
abbrev dktJ10_vectorizedMismatch_7 : List UInt8 := dkwJ10_vectorizedMismatch_7 ++ dktJ10_vectorizedMismatch_8
def dkwJ10_vectorizedMismatch_6 : List UInt8 := [4, 178, 0, 51, 21, 7, 100, 120, 54, 11, 21, 10, 21, 11, 161, 0, 104, 21, 9, 133, 178, 0, 20, 121]
abbrev dktJ10_vectorizedMismatch_6 : List UInt8 := dkwJ10_vectorizedMismatch_6 ++ dktJ10_vectorizedMismatch_7
def dkwJ10_vectorizedMismatch_5 : List UInt8 := [132, 9, 1, 167, 255, 148, 21, 6, 21, 9, 21, 8, 120, 100, 54, 10, 21, 7, 178, 0, 51, 162, 0, 126]
abbrev dktJ10_vectorizedMismatch_5 : List UInt8 := dkwJ10_vectorizedMismatch_5 ++ dktJ10_vectorizedMismatch_6
def dkwJ10_vectorizedMismatch_4 : List UInt8 := [22, 16, 184, 0, 49, 178, 0, 46, 21, 7, 96, 122, 54, 18, 21, 9, 21, 8, 120, 21, 18, 96, 172]
abbrev dktJ10_vectorizedMismatch_4 : List UInt8 := dkwJ10_vectorizedMismatch_4 ++ dktJ10_vectorizedMismatch_5
def dkwJ10_vectorizedMismatch_3 : List UInt8 := [55, 16, 178, 0, 36, 153, 0, 18, 22, 16, 184, 0, 40, 178, 0, 46, 21, 7, 96, 122, 167, 0, 15]
abbrev dktJ10_vectorizedMismatch_3 : List UInt8 := dkwJ10_vectorizedMismatch_3 ++ dktJ10_vectorizedMismatch_4
def dkwJ10_vectorizedMismatch_2 : List UInt8 := [22, 4, 22, 10, 97, 182, 0, 30, 55, 14, 22, 12, 22, 14, 148, 153, 0, 54, 22, 12, 22, 14, 131]
abbrev dktJ10_vectorizedMismatch_2 : List UInt8 := dkwJ10_vectorizedMismatch_2 ++ dktJ10_vectorizedMismatch_3
def dkwJ10_vectorizedMismatch_1 : List UInt8 := [178, 0, 20, 121, 55, 10, 178, 0, 26, 42, 31, 22, 10, 97, 182, 0, 30, 55, 12, 178, 0, 26, 45]
abbrev dktJ10_vectorizedMismatch_1 : List UInt8 := dkwJ10_vectorizedMismatch_1 ++ dktJ10_vectorizedMismatch_2
def dkwJ10_vectorizedMismatch_0 : List UInt8 := [178, 0, 20, 21, 7, 100, 54, 8, 3, 54, 9, 21, 9, 21, 6, 21, 8, 122, 162, 0, 104, 21, 9, 133]
abbrev dktJ10_vectorizedMismatch_0 : List UInt8 := dkwJ10_vectorizedMismatch_0 ++ dktJ10_vectorizedMismatch_1
theorem dksJ10_vectorizedMismatch_0 : cJ10_vectorizedMismatch.data.toList.drop 0 = dktJ10_vectorizedMismatch_0 := by decide +kernel
theorem dksJ10_vectorizedMismatch_1 : cJ10_vectorizedMismatch.data.toList.drop 24 = dktJ10_vectorizedMismatch_1 := dk_seg dksJ10_vectorizedMismatch_0 24 rfl rfl
theorem dksJ10_vectorizedMismatch_2 : cJ10_vectorizedMismatch.data.toList.drop 47 = dktJ10_vectorizedMismatch_2 := dk_seg dksJ10_vectorizedMismatch_1 23 rfl rfl
theorem dksJ10_vectorizedMismatch_3 : cJ10_vectorizedMismatch.data.toList.drop 70 = dktJ10_vectorizedMismatch_3 := dk_seg dksJ10_vectorizedMismatch_2 23 rfl rfl
theorem dksJ10_vectorizedMismatch_4 : cJ10_vectorizedMismatch.data.toList.drop 93 = dktJ10_vectorizedMismatch_4 := dk_seg dksJ10_vectorizedMismatch_3 23 rfl rfl
theorem dksJ10_vectorizedMismatch_5 : cJ10_vectorizedMismatch.data.toList.drop 116 = dktJ10_vectorizedMismatch_5 := dk_seg dksJ10_vectorizedMismatch_4 23 rfl rfl
theorem dksJ10_vectorizedMismatch_6 : cJ10_vectorizedMismatch.data.toList.drop 140 = dktJ10_vectorizedMismatch_6 := dk_seg dksJ10_vectorizedMismatch_5 24 rfl rfl
theorem dksJ10_vectorizedMismatch_7 : cJ10_vectorizedMismatch.data.toList.drop 164 = dktJ10_vectorizedMismatch_7 := dk_seg dksJ10_vectorizedMismatch_6 24 rfl rfl
theorem dksJ10_vectorizedMismatch_8 : cJ10_vectorizedMismatch.data.toList.drop 188 = dktJ10_vectorizedMismatch_8 := dk_seg dksJ10_vectorizedMismatch_7 24 rfl rfl
theorem dksJ10_vectorizedMismatch_9 : cJ10_vectorizedMismatch.data.toList.drop 210 = dktJ10_vectorizedMismatch_9 := dk_seg dksJ10_vectorizedMismatch_8 22 rfl rfl
theorem dksJ10_vectorizedMismatch_10 : cJ10_vectorizedMismatch.data.toList.drop 233 = dktJ10_vectorizedMismatch_10 := dk_seg dksJ10_vectorizedMismatch_9 23 rfl rfl
theorem dksJ10_vectorizedMismatch_11 : cJ10_vectorizedMismatch.data.toList.drop 256 = dktJ10_vectorizedMismatch_11 := dk_seg dksJ10_vectorizedMismatch_10 23 rfl rfl
theorem dJ10_vectorizedMismatch_0 : decode cJ10_vectorizedMismatch 0 = .ok (.getstatic 20, 3) := dk_178 0 20 (dk_at dksJ10_vectorizedMismatch_0 0 rfl rfl)
theorem dJ10_vectorizedMismatch_3 : decode cJ10_vectorizedMismatch 3 = .ok (.iload 7, 2) := dk_21 7 (dk_at dksJ10_vectorizedMismatch_0 3 rfl rfl)
theorem dJ10_vectorizedMismatch_5 : decode cJ10_vectorizedMismatch 5 = .ok (.isub, 1) := dk_100 (dk_at dksJ10_vectorizedMismatch_0 5 rfl rfl)
theorem dJ10_vectorizedMismatch_6 : decode cJ10_vectorizedMismatch 6 = .ok (.istore 8, 2) := dk_54 8 (dk_at dksJ10_vectorizedMismatch_0 6 rfl rfl)
theorem dJ10_vectorizedMismatch_8 : decode cJ10_vectorizedMismatch 8 = .ok (.iconst 0, 1) := dk_3 (dk_at dksJ10_vectorizedMismatch_0 8 rfl rfl)
theorem dJ10_vectorizedMismatch_9 : decode cJ10_vectorizedMismatch 9 = .ok (.istore 9, 2) := dk_54 9 (dk_at dksJ10_vectorizedMismatch_0 9 rfl rfl)
theorem dJ10_vectorizedMismatch_11 : decode cJ10_vectorizedMismatch 11 = .ok (.iload 9, 2) := dk_21 9 (dk_at dksJ10_vectorizedMismatch_0 11 rfl rfl)
theorem dJ10_vectorizedMismatch_13 : decode cJ10_vectorizedMismatch 13 = .ok (.iload 6, 2) := dk_21 6 (dk_at dksJ10_vectorizedMismatch_0 13 rfl rfl)
theorem dJ10_vectorizedMismatch_15 : decode cJ10_vectorizedMismatch 15 = .ok (.iload 8, 2) := dk_21 8 (dk_at dksJ10_vectorizedMismatch_0 15 rfl rfl)
theorem dJ10_vectorizedMismatch_17 : decode cJ10_vectorizedMismatch 17 = .ok (.ishr, 1) := dk_122 (dk_at dksJ10_vectorizedMismatch_0 17 rfl rfl)
theorem dJ10_vectorizedMismatch_18 : decode cJ10_vectorizedMismatch 18 = .ok (.if_icmp .ge 104, 3) := dk_162 0 104 (dk_at dksJ10_vectorizedMismatch_0 18 rfl rfl)
theorem dJ10_vectorizedMismatch_21 : decode cJ10_vectorizedMismatch 21 = .ok (.iload 9, 2) := dk_21 9 (dk_at dksJ10_vectorizedMismatch_0 21 rfl rfl)
theorem dJ10_vectorizedMismatch_23 : decode cJ10_vectorizedMismatch 23 = .ok (.i2l, 1) := dk_133 (dk_at dksJ10_vectorizedMismatch_0 23 rfl rfl)
theorem dJ10_vectorizedMismatch_24 : decode cJ10_vectorizedMismatch 24 = .ok (.getstatic 20, 3) := dk_178 0 20 (dk_at dksJ10_vectorizedMismatch_1 0 rfl rfl)
theorem dJ10_vectorizedMismatch_27 : decode cJ10_vectorizedMismatch 27 = .ok (.lshl, 1) := dk_121 (dk_at dksJ10_vectorizedMismatch_1 3 rfl rfl)
theorem dJ10_vectorizedMismatch_28 : decode cJ10_vectorizedMismatch 28 = .ok (.lstore 10, 2) := dk_55 10 (dk_at dksJ10_vectorizedMismatch_1 4 rfl rfl)
theorem dJ10_vectorizedMismatch_30 : decode cJ10_vectorizedMismatch 30 = .ok (.getstatic 26, 3) := dk_178 0 26 (dk_at dksJ10_vectorizedMismatch_1 6 rfl rfl)
theorem dJ10_vectorizedMismatch_33 : decode cJ10_vectorizedMismatch 33 = .ok (.aload_n 0, 1) := dk_42 (dk_at dksJ10_vectorizedMismatch_1 9 rfl rfl)
theorem dJ10_vectorizedMismatch_34 : decode cJ10_vectorizedMismatch 34 = .ok (.lload_n 1, 1) := dk_31 (dk_at dksJ10_vectorizedMismatch_1 10 rfl rfl)
theorem dJ10_vectorizedMismatch_35 : decode cJ10_vectorizedMismatch 35 = .ok (.lload 10, 2) := dk_22 10 (dk_at dksJ10_vectorizedMismatch_1 11 rfl rfl)
theorem dJ10_vectorizedMismatch_37 : decode cJ10_vectorizedMismatch 37 = .ok (.ladd, 1) := dk_97 (dk_at dksJ10_vectorizedMismatch_1 13 rfl rfl)
theorem dJ10_vectorizedMismatch_38 : decode cJ10_vectorizedMismatch 38 = .ok (.invokevirtual 30, 3) := dk_182 0 30 (dk_at dksJ10_vectorizedMismatch_1 14 rfl rfl)
theorem dJ10_vectorizedMismatch_41 : decode cJ10_vectorizedMismatch 41 = .ok (.lstore 12, 2) := dk_55 12 (dk_at dksJ10_vectorizedMismatch_1 17 rfl rfl)
theorem dJ10_vectorizedMismatch_43 : decode cJ10_vectorizedMismatch 43 = .ok (.getstatic 26, 3) := dk_178 0 26 (dk_at dksJ10_vectorizedMismatch_1 19 rfl rfl)
theorem dJ10_vectorizedMismatch_46 : decode cJ10_vectorizedMismatch 46 = .ok (.aload_n 3, 1) := dk_45 (dk_at dksJ10_vectorizedMismatch_1 22 rfl rfl)
theorem dJ10_vectorizedMismatch_47 : decode cJ10_vectorizedMismatch 47 = .ok (.lload 4, 2) := dk_22 4 (dk_at dksJ10_vectorizedMismatch_2 0 rfl rfl)
theorem dJ10_vectorizedMismatch_49 : decode cJ10_vectorizedMismatch 49 = .ok (.lload 10, 2) := dk_22 10 (dk_at dksJ10_vectorizedMismatch_2 2 rfl rfl)
theorem dJ10_vectorizedMismatch_51 : decode cJ10_vectorizedMismatch 51 = .ok (.ladd, 1) := dk_97 (dk_at dksJ10_vectorizedMismatch_2 4 rfl rfl)
theorem dJ10_vectorizedMismatch_52 : decode cJ10_vectorizedMismatch 52 = .ok (.invokevirtual 30, 3) := dk_182 0 30 (dk_at dksJ10_vectorizedMismatch_2 5 rfl rfl)
theorem dJ10_vectorizedMismatch_55 : decode cJ10_vectorizedMismatch 55 = .ok (.lstore 14, 2) := dk_55 14 (dk_at dksJ10_vectorizedMismatch_2 8 rfl rfl)
theorem dJ10_vectorizedMismatch_57 : decode cJ10_vectorizedMismatch 57 = .ok (.lload 12, 2) := dk_22 12 (dk_at dksJ10_vectorizedMismatch_2 10 rfl rfl)
theorem dJ10_vectorizedMismatch_59 : decode cJ10_vectorizedMismatch 59 = .ok (.lload 14, 2) := dk_22 14 (dk_at dksJ10_vectorizedMismatch_2 12 rfl rfl)
theorem dJ10_vectorizedMismatch_61 : decode cJ10_vectorizedMismatch 61 = .ok (.lcmp, 1) := dk_148 (dk_at dksJ10_vectorizedMismatch_2 14 rfl rfl)
theorem dJ10_vectorizedMismatch_62 : decode cJ10_vectorizedMismatch 62 = .ok (.ifCond .eq 54, 3) := dk_153 0 54 (dk_at dksJ10_vectorizedMismatch_2 15 rfl rfl)
theorem dJ10_vectorizedMismatch_65 : decode cJ10_vectorizedMismatch 65 = .ok (.lload 12, 2) := dk_22 12 (dk_at dksJ10_vectorizedMismatch_2 18 rfl rfl)
theorem dJ10_vectorizedMismatch_67 : decode cJ10_vectorizedMismatch 67 = .ok (.lload 14, 2) := dk_22 14 (dk_at dksJ10_vectorizedMismatch_2 20 rfl rfl)
theorem dJ10_vectorizedMismatch_69 : decode cJ10_vectorizedMismatch 69 = .ok (.lxor, 1) := dk_131 (dk_at dksJ10_vectorizedMismatch_2 22 rfl rfl)
theorem dJ10_vectorizedMismatch_70 : decode cJ10_vectorizedMismatch 70 = .ok (.lstore 16, 2) := dk_55 16 (dk_at dksJ10_vectorizedMismatch_3 0 rfl rfl)
theorem dJ10_vectorizedMismatch_72 : decode cJ10_vectorizedMismatch 72 = .ok (.getstatic 36, 3) := dk_178 0 36 (dk_at dksJ10_vectorizedMismatch_3 2 rfl rfl)
theorem dJ10_vectorizedMismatch_75 : decode cJ10_vectorizedMismatch 75 = .ok (.ifCond .eq 18, 3) := dk_153 0 18 (dk_at dksJ10_vectorizedMismatch_3 5 rfl rfl)
theorem dJ10_vectorizedMismatch_78 : decode cJ10_vectorizedMismatch 78 = .ok (.lload 16, 2) := dk_22 16 (dk_at dksJ10_vectorizedMismatch_3 8 rfl rfl)
theorem dJ10_vectorizedMismatch_80 : decode cJ10_vectorizedMismatch 80 = .ok (.invokestatic 40, 3) := dk_184 0 40 (dk_at dksJ10_vectorizedMismatch_3 10 rfl rfl)
theorem dJ10_vectorizedMismatch_83 : decode cJ10_vectorizedMismatch 83 = .ok (.getstatic 46, 3) := dk_178 0 46 (dk_at dksJ10_vectorizedMismatch_3 13 rfl rfl)
theorem dJ10_vectorizedMismatch_86 : decode cJ10_vectorizedMismatch 86 = .ok (.iload 7, 2) := dk_21 7 (dk_at dksJ10_vectorizedMismatch_3 16 rfl rfl)
theorem dJ10_vectorizedMismatch_88 : decode cJ10_vectorizedMismatch 88 = .ok (.iadd, 1) := dk_96 (dk_at dksJ10_vectorizedMismatch_3 18 rfl rfl)
theorem dJ10_vectorizedMismatch_89 : decode cJ10_vectorizedMismatch 89 = .ok (.ishr, 1) := dk_122 (dk_at dksJ10_vectorizedMismatch_3 19 rfl rfl)
theorem dJ10_vectorizedMismatch_90 : decode cJ10_vectorizedMismatch 90 = .ok (.goto 15, 3) := dk_167 0 15 (dk_at dksJ10_vectorizedMismatch_3 20 rfl rfl)
theorem dJ10_vectorizedMismatch_93 : decode cJ10_vectorizedMismatch 93 = .ok (.lload 16, 2) := dk_22 16 (dk_at dksJ10_vectorizedMismatch_4 0 rfl rfl)
theorem dJ10_vectorizedMismatch_95 : decode cJ10_vectorizedMismatch 95 = .ok (.invokestatic 49, 3) := dk_184 0 49 (dk_at dksJ10_vectorizedMismatch_4 2 rfl rfl)
theorem dJ10_vectorizedMismatch_98 : decode cJ10_vectorizedMismatch 98 = .ok (.getstatic 46, 3) := dk_178 0 46 (dk_at dksJ10_vectorizedMismatch_4 5 rfl rfl)
theorem dJ10_vectorizedMismatch_101 : decode cJ10_vectorizedMismatch 101 = .ok (.iload 7, 2) := dk_21 7 (dk_at dksJ10_vectorizedMismatch_4 8 rfl rfl)
theorem dJ10_vectorizedMismatch_103 : decode cJ10_vectorizedMismatch 103 = .ok (.iadd, 1) := dk_96 (dk_at dksJ10_vectorizedMismatch_4 10 rfl rfl)
theorem dJ10_vectorizedMismatch_104 : decode cJ10_vectorizedMismatch 104 = .ok (.ishr, 1) := dk_122 (dk_at dksJ10_vectorizedMismatch_4 11 rfl rfl)
theorem dJ10_vectorizedMismatch_105 : decode cJ10_vectorizedMismatch 105 = .ok (.istore 18, 2) := dk_54 18 (dk_at dksJ10_vectorizedMismatch_4 12 rfl rfl)
theorem dJ10_vectorizedMismatch_107 : decode cJ10_vectorizedMismatch 107 = .ok (.iload 9, 2) := dk_21 9 (dk_at dksJ10_vectorizedMismatch_4 14 rfl rfl)
theorem dJ10_vectorizedMismatch_109 : decode cJ10_vectorizedMismatch 109 = .ok (.iload 8, 2) := dk_21 8 (dk_at dksJ10_vectorizedMismatch_4 16 rfl rfl)
theorem dJ10_vectorizedMismatch_111 : decode cJ10_vectorizedMismatch 111 = .ok (.ishl, 1) := dk_120 (dk_at dksJ10_vectorizedMismatch_4 18 rfl rfl)
theorem dJ10_vectorizedMismatch_112 : decode cJ10_vectorizedMismatch 112 = .ok (.iload 18, 2) := dk_21 18 (dk_at dksJ10_vectorizedMismatch_4 19 rfl rfl)
theorem dJ10_vectorizedMismatch_114 : decode cJ10_vectorizedMismatch 114 = .ok (.iadd, 1) := dk_96 (dk_at dksJ10_vectorizedMismatch_4 21 rfl rfl)
theorem dJ10_vectorizedMismatch_115 : decode cJ10_vectorizedMismatch 115 = .ok (.ireturn, 1) := dk_172 (dk_at dksJ10_vectorizedMismatch_4 22 rfl rfl)
theorem dJ10_vectorizedMismatch_116 : decode cJ10_vectorizedMismatch 116 = .ok (.iinc 9 1, 3) := dk_132 9 1 (dk_at dksJ10_vectorizedMismatch_5 0 rfl rfl)
theorem dJ10_vectorizedMismatch_119 : decode cJ10_vectorizedMismatch 119 = .ok (.goto (-108), 3) := dk_167 255 148 (dk_at dksJ10_vectorizedMismatch_5 3 rfl rfl)
theorem dJ10_vectorizedMismatch_122 : decode cJ10_vectorizedMismatch 122 = .ok (.iload 6, 2) := dk_21 6 (dk_at dksJ10_vectorizedMismatch_5 6 rfl rfl)
theorem dJ10_vectorizedMismatch_124 : decode cJ10_vectorizedMismatch 124 = .ok (.iload 9, 2) := dk_21 9 (dk_at dksJ10_vectorizedMismatch_5 8 rfl rfl)
theorem dJ10_vectorizedMismatch_126 : decode cJ10_vectorizedMismatch 126 = .ok (.iload 8, 2) := dk_21 8 (dk_at dksJ10_vectorizedMismatch_5 10 rfl rfl)
theorem dJ10_vectorizedMismatch_128 : decode cJ10_vectorizedMismatch 128 = .ok (.ishl, 1) := dk_120 (dk_at dksJ10_vectorizedMismatch_5 12 rfl rfl)
theorem dJ10_vectorizedMismatch_129 : decode cJ10_vectorizedMismatch 129 = .ok (.isub, 1) := dk_100 (dk_at dksJ10_vectorizedMismatch_5 13 rfl rfl)
theorem dJ10_vectorizedMismatch_130 : decode cJ10_vectorizedMismatch 130 = .ok (.istore 10, 2) := dk_54 10 (dk_at dksJ10_vectorizedMismatch_5 14 rfl rfl)
theorem dJ10_vectorizedMismatch_132 : decode cJ10_vectorizedMismatch 132 = .ok (.iload 7, 2) := dk_21 7 (dk_at dksJ10_vectorizedMismatch_5 16 rfl rfl)
theorem dJ10_vectorizedMismatch_134 : decode cJ10_vectorizedMismatch 134 = .ok (.getstatic 51, 3) := dk_178 0 51 (dk_at dksJ10_vectorizedMismatch_5 18 rfl rfl)
theorem dJ10_vectorizedMismatch_137 : decode cJ10_vectorizedMismatch 137 = .ok (.if_icmp .ge 126, 3) := dk_162 0 126 (dk_at dksJ10_vectorizedMismatch_5 21 rfl rfl)
theorem dJ10_vectorizedMismatch_140 : decode cJ10_vectorizedMismatch 140 = .ok (.iconst 1, 1) := dk_4 (dk_at dksJ10_vectorizedMismatch_6 0 rfl rfl)
theorem dJ10_vectorizedMismatch_141 : decode cJ10_vectorizedMismatch 141 = .ok (.getstatic 51, 3) := dk_178 0 51 (dk_at dksJ10_vectorizedMismatch_6 1 rfl rfl)
theorem dJ10_vectorizedMismatch_144 : decode cJ10_vectorizedMismatch 144 = .ok (.iload 7, 2) := dk_21 7 (dk_at dksJ10_vectorizedMismatch_6 4 rfl rfl)
theorem dJ10_vectorizedMismatch_146 : decode cJ10_vectorizedMismatch 146 = .ok (.isub, 1) := dk_100 (dk_at dksJ10_vectorizedMismatch_6 6 rfl rfl)
theorem dJ10_vectorizedMismatch_147 : decode cJ10_vectorizedMismatch 147 = .ok (.ishl, 1) := dk_120 (dk_at dksJ10_vectorizedMismatch_6 7 rfl rfl)
theorem dJ10_vectorizedMismatch_148 : decode cJ10_vectorizedMismatch 148 = .ok (.istore 11, 2) := dk_54 11 (dk_at dksJ10_vectorizedMismatch_6 8 rfl rfl)
theorem dJ10_vectorizedMismatch_150 : decode cJ10_vectorizedMismatch 150 = .ok (.iload 10, 2) := dk_21 10 (dk_at dksJ10_vectorizedMismatch_6 10 rfl rfl)
theorem dJ10_vectorizedMismatch_152 : decode cJ10_vectorizedMismatch 152 = .ok (.iload 11, 2) := dk_21 11 (dk_at dksJ10_vectorizedMismatch_6 12 rfl rfl)
theorem dJ10_vectorizedMismatch_154 : decode cJ10_vectorizedMismatch 154 = .ok (.if_icmp .lt 104, 3) := dk_161 0 104 (dk_at dksJ10_vectorizedMismatch_6 14 rfl rfl)
theorem dJ10_vectorizedMismatch_157 : decode cJ10_vectorizedMismatch 157 = .ok (.iload 9, 2) := dk_21 9 (dk_at dksJ10_vectorizedMismatch_6 17 rfl rfl)
theorem dJ10_vectorizedMismatch_159 : decode cJ10_vectorizedMismatch 159 = .ok (.i2l, 1) := dk_133 (dk_at dksJ10_vectorizedMismatch_6 19 rfl rfl)
theorem dJ10_vectorizedMismatch_160 : decode cJ10_vectorizedMismatch 160 = .ok (.getstatic 20, 3) := dk_178 0 20 (dk_at dksJ10_vectorizedMismatch_6 20 rfl rfl)
theorem dJ10_vectorizedMismatch_163 : decode cJ10_vectorizedMismatch 163 = .ok (.lshl, 1) := dk_121 (dk_at dksJ10_vectorizedMismatch_6 23 rfl rfl)
theorem dJ10_vectorizedMismatch_164 : decode cJ10_vectorizedMismatch 164 = .ok (.lstore 12, 2) := dk_55 12 (dk_at dksJ10_vectorizedMismatch_7 0 rfl rfl)
theorem dJ10_vectorizedMismatch_166 : decode cJ10_vectorizedMismatch 166 = .ok (.getstatic 26, 3) := dk_178 0 26 (dk_at dksJ10_vectorizedMismatch_7 2 rfl rfl)
theorem dJ10_vectorizedMismatch_169 : decode cJ10_vectorizedMismatch 169 = .ok (.aload_n 0, 1) := dk_42 (dk_at dksJ10_vectorizedMismatch_7 5 rfl rfl)
theorem dJ10_vectorizedMismatch_170 : decode cJ10_vectorizedMismatch 170 = .ok (.lload_n 1, 1) := dk_31 (dk_at dksJ10_vectorizedMismatch_7 6 rfl rfl)
theorem dJ10_vectorizedMismatch_171 : decode cJ10_vectorizedMismatch 171 = .ok (.lload 12, 2) := dk_22 12 (dk_at dksJ10_vectorizedMismatch_7 7 rfl rfl)
theorem dJ10_vectorizedMismatch_173 : decode cJ10_vectorizedMismatch 173 = .ok (.ladd, 1) := dk_97 (dk_at dksJ10_vectorizedMismatch_7 9 rfl rfl)
theorem dJ10_vectorizedMismatch_174 : decode cJ10_vectorizedMismatch 174 = .ok (.invokevirtual 54, 3) := dk_182 0 54 (dk_at dksJ10_vectorizedMismatch_7 10 rfl rfl)
theorem dJ10_vectorizedMismatch_177 : decode cJ10_vectorizedMismatch 177 = .ok (.istore 14, 2) := dk_54 14 (dk_at dksJ10_vectorizedMismatch_7 13 rfl rfl)
theorem dJ10_vectorizedMismatch_179 : decode cJ10_vectorizedMismatch 179 = .ok (.getstatic 26, 3) := dk_178 0 26 (dk_at dksJ10_vectorizedMismatch_7 15 rfl rfl)
theorem dJ10_vectorizedMismatch_182 : decode cJ10_vectorizedMismatch 182 = .ok (.aload_n 3, 1) := dk_45 (dk_at dksJ10_vectorizedMismatch_7 18 rfl rfl)
theorem dJ10_vectorizedMismatch_183 : decode cJ10_vectorizedMismatch 183 = .ok (.lload 4, 2) := dk_22 4 (dk_at dksJ10_vectorizedMismatch_7 19 rfl rfl)
theorem dJ10_vectorizedMismatch_185 : decode cJ10_vectorizedMismatch 185 = .ok (.lload 12, 2) := dk_22 12 (dk_at dksJ10_vectorizedMismatch_7 21 rfl rfl)
theorem dJ10_vectorizedMismatch_187 : decode cJ10_vectorizedMismatch 187 = .ok (.ladd, 1) := dk_97 (dk_at dksJ10_vectorizedMismatch_7 23 rfl rfl)
theorem dJ10_vectorizedMismatch_188 : decode cJ10_vectorizedMismatch 188 = .ok (.invokevirtual 54, 3) := dk_182 0 54 (dk_at dksJ10_vectorizedMismatch_8 0 rfl rfl)
theorem dJ10_vectorizedMismatch_191 : decode cJ10_vectorizedMismatch 191 = .ok (.istore 15, 2) := dk_54 15 (dk_at dksJ10_vectorizedMismatch_8 3 rfl rfl)
theorem dJ10_vectorizedMismatch_193 : decode cJ10_vectorizedMismatch 193 = .ok (.iload 14, 2) := dk_21 14 (dk_at dksJ10_vectorizedMismatch_8 5 rfl rfl)
theorem dJ10_vectorizedMismatch_195 : decode cJ10_vectorizedMismatch 195 = .ok (.iload 15, 2) := dk_21 15 (dk_at dksJ10_vectorizedMismatch_8 7 rfl rfl)
theorem dJ10_vectorizedMismatch_197 : decode cJ10_vectorizedMismatch 197 = .ok (.if_icmp .eq 54, 3) := dk_159 0 54 (dk_at dksJ10_vectorizedMismatch_8 9 rfl rfl)
theorem dJ10_vectorizedMismatch_200 : decode cJ10_vectorizedMismatch 200 = .ok (.iload 14, 2) := dk_21 14 (dk_at dksJ10_vectorizedMismatch_8 12 rfl rfl)
theorem dJ10_vectorizedMismatch_202 : decode cJ10_vectorizedMismatch 202 = .ok (.iload 15, 2) := dk_21 15 (dk_at dksJ10_vectorizedMismatch_8 14 rfl rfl)
theorem dJ10_vectorizedMismatch_204 : decode cJ10_vectorizedMismatch 204 = .ok (.ixor, 1) := dk_130 (dk_at dksJ10_vectorizedMismatch_8 16 rfl rfl)
theorem dJ10_vectorizedMismatch_205 : decode cJ10_vectorizedMismatch 205 = .ok (.istore 16, 2) := dk_54 16 (dk_at dksJ10_vectorizedMismatch_8 17 rfl rfl)
theorem dJ10_vectorizedMismatch_207 : decode cJ10_vectorizedMismatch 207 = .ok (.getstatic 36, 3) := dk_178 0 36 (dk_at dksJ10_vectorizedMismatch_8 19 rfl rfl)
theorem dJ10_vectorizedMismatch_210 : decode cJ10_vectorizedMismatch 210 = .ok (.ifCond .eq 18, 3) := dk_153 0 18 (dk_at dksJ10_vectorizedMismatch_9 0 rfl rfl)
theorem dJ10_vectorizedMismatch_213 : decode cJ10_vectorizedMismatch 213 = .ok (.iload 16, 2) := dk_21 16 (dk_at dksJ10_vectorizedMismatch_9 3 rfl rfl)
theorem dJ10_vectorizedMismatch_215 : decode cJ10_vectorizedMismatch 215 = .ok (.invokestatic 58, 3) := dk_184 0 58 (dk_at dksJ10_vectorizedMismatch_9 5 rfl rfl)
theorem dJ10_vectorizedMismatch_218 : decode cJ10_vectorizedMismatch 218 = .ok (.getstatic 46, 3) := dk_178 0 46 (dk_at dksJ10_vectorizedMismatch_9 8 rfl rfl)
theorem dJ10_vectorizedMismatch_221 : decode cJ10_vectorizedMismatch 221 = .ok (.iload 7, 2) := dk_21 7 (dk_at dksJ10_vectorizedMismatch_9 11 rfl rfl)
theorem dJ10_vectorizedMismatch_223 : decode cJ10_vectorizedMismatch 223 = .ok (.iadd, 1) := dk_96 (dk_at dksJ10_vectorizedMismatch_9 13 rfl rfl)
theorem dJ10_vectorizedMismatch_224 : decode cJ10_vectorizedMismatch 224 = .ok (.ishr, 1) := dk_122 (dk_at dksJ10_vectorizedMismatch_9 14 rfl rfl)
theorem dJ10_vectorizedMismatch_225 : decode cJ10_vectorizedMismatch 225 = .ok (.goto 15, 3) := dk_167 0 15 (dk_at dksJ10_vectorizedMismatch_9 15 rfl rfl)
theorem dJ10_vectorizedMismatch_228 : decode cJ10_vectorizedMismatch 228 = .ok (.iload 16, 2) := dk_21 16 (dk_at dksJ10_vectorizedMismatch_9 18 rfl rfl)
theorem dJ10_vectorizedMismatch_230 : decode cJ10_vectorizedMismatch 230 = .ok (.invokestatic 11, 3) := dk_184 0 11 (dk_at dksJ10_vectorizedMismatch_9 20 rfl rfl)
theorem dJ10_vectorizedMismatch_233 : decode cJ10_vectorizedMismatch 233 = .ok (.getstatic 46, 3) := dk_178 0 46 (dk_at dksJ10_vectorizedMismatch_10 0 rfl rfl)
theorem dJ10_vectorizedMismatch_236 : decode cJ10_vectorizedMismatch 236 = .ok (.iload 7, 2) := dk_21 7 (dk_at dksJ10_vectorizedMismatch_10 3 rfl rfl)
theorem dJ10_vectorizedMismatch_238 : decode cJ10_vectorizedMismatch 238 = .ok (.iadd, 1) := dk_96 (dk_at dksJ10_vectorizedMismatch_10 5 rfl rfl)
theorem dJ10_vectorizedMismatch_239 : decode cJ10_vectorizedMismatch 239 = .ok (.ishr, 1) := dk_122 (dk_at dksJ10_vectorizedMismatch_10 6 rfl rfl)
theorem dJ10_vectorizedMismatch_240 : decode cJ10_vectorizedMismatch 240 = .ok (.istore 17, 2) := dk_54 17 (dk_at dksJ10_vectorizedMismatch_10 7 rfl rfl)
theorem dJ10_vectorizedMismatch_242 : decode cJ10_vectorizedMismatch 242 = .ok (.iload 9, 2) := dk_21 9 (dk_at dksJ10_vectorizedMismatch_10 9 rfl rfl)
theorem dJ10_vectorizedMismatch_244 : decode cJ10_vectorizedMismatch 244 = .ok (.iload 8, 2) := dk_21 8 (dk_at dksJ10_vectorizedMismatch_10 11 rfl rfl)
theorem dJ10_vectorizedMismatch_246 : decode cJ10_vectorizedMismatch 246 = .ok (.ishl, 1) := dk_120 (dk_at dksJ10_vectorizedMismatch_10 13 rfl rfl)
theorem dJ10_vectorizedMismatch_247 : decode cJ10_vectorizedMismatch 247 = .ok (.iload 17, 2) := dk_21 17 (dk_at dksJ10_vectorizedMismatch_10 14 rfl rfl)
theorem dJ10_vectorizedMismatch_249 : decode cJ10_vectorizedMismatch 249 = .ok (.iadd, 1) := dk_96 (dk_at dksJ10_vectorizedMismatch_10 16 rfl rfl)
theorem dJ10_vectorizedMismatch_250 : decode cJ10_vectorizedMismatch 250 = .ok (.ireturn, 1) := dk_172 (dk_at dksJ10_vectorizedMismatch_10 17 rfl rfl)
theorem dJ10_vectorizedMismatch_251 : decode cJ10_vectorizedMismatch 251 = .ok (.iload 10, 2) := dk_21 10 (dk_at dksJ10_vectorizedMismatch_10 18 rfl rfl)
theorem dJ10_vectorizedMismatch_253 : decode cJ10_vectorizedMismatch 253 = .ok (.iload 11, 2) := dk_21 11 (dk_at dksJ10_vectorizedMismatch_10 20 rfl rfl)
theorem dJ10_vectorizedMismatch_255 : decode cJ10_vectorizedMismatch 255 = .ok (.isub, 1) := dk_100 (dk_at dksJ10_vectorizedMismatch_10 22 rfl rfl)
theorem dJ10_vectorizedMismatch_256 : decode cJ10_vectorizedMismatch 256 = .ok (.istore 10, 2) := dk_54 10 (dk_at dksJ10_vectorizedMismatch_11 0 rfl rfl)
theorem dJ10_vectorizedMismatch_258 : decode cJ10_vectorizedMismatch 258 = .ok (.iload 10, 2) := dk_21 10 (dk_at dksJ10_vectorizedMismatch_11 2 rfl rfl)
theorem dJ10_vectorizedMismatch_260 : decode cJ10_vectorizedMismatch 260 = .ok (.iconst (-1), 1) := dk_2 (dk_at dksJ10_vectorizedMismatch_11 4 rfl rfl)
theorem dJ10_vectorizedMismatch_261 : decode cJ10_vectorizedMismatch 261 = .ok (.ixor, 1) := dk_130 (dk_at dksJ10_vectorizedMismatch_11 5 rfl rfl)
theorem dJ10_vectorizedMismatch_262 : decode cJ10_vectorizedMismatch 262 = .ok (.ireturn, 1) := dk_172 (dk_at dksJ10_vectorizedMismatch_11 6 rfl rfl)
theorem dJ10_vectorizedMismatch_263 : decode cJ10_vectorizedMismatch 263 = .ok (.iload 10, 2) := dk_21 10 (dk_at dksJ10_vectorizedMismatch_11 7 rfl rfl)
theorem dJ10_vectorizedMismatch_265 : decode cJ10_vectorizedMismatch 265 = .ok (.iconst (-1), 1) := dk_2 (dk_at dksJ10_vectorizedMismatch_11 9 rfl rfl)
theorem dJ10_vectorizedMismatch_266 : decode cJ10_vectorizedMismatch 266 = .ok (.ixor, 1) := dk_130 (dk_at dksJ10_vectorizedMismatch_11 10 rfl rfl)
theorem dJ10_vectorizedMismatch_267 : decode cJ10_vectorizedMismatch 267 = .ok (.ireturn, 1) := dk_172 (dk_at dksJ10_vectorizedMismatch_11 11 rfl rfl)
abbrev cJ10_mismatch_2 : ByteArray := prog_116_method_14_code
def yJ10_mismatch_2 : MethodName := ⟨RJ10, "mismatch", "([BI[BII)I"⟩
def dkwJ10_mismatch_2_4 : List UInt8 := [132, 5, 1, 167, 255, 228, 2, 172]
abbrev dktJ10_mismatch_2_4 : List UInt8 := dkwJ10_mismatch_2_4 ++ []
def dkwJ10_mismatch_2_3 : List UInt8 := [21, 4, 162, 0, 27, 42, 27, 21, 5, 96, 51, 44, 29, 21, 5, 96, 51, 159, 0, 6, 21, 5, 172]
abbrev dktJ10_mismatch_2_3 : List UInt8 := dkwJ10_mismatch_2_3 ++ dktJ10_mismatch_2_4
def dkwJ10_mismatch_2_2 : List UInt8 := [184, 0, 122, 54, 5, 21, 5, 155, 0, 6, 21, 5, 172, 21, 4, 21, 5, 2, 130, 100, 54, 5, 21, 5]
abbrev dktJ10_mismatch_2_2 : List UInt8 := dkwJ10_mismatch_2_2 ++ dktJ10_mismatch_2_3
def dkwJ10_mismatch_2_1 : List UInt8 := [27, 96, 54, 6, 178, 0, 126, 29, 96, 54, 7, 42, 21, 6, 133, 44, 21, 7, 133, 21, 4, 178, 0, 129]
abbrev dktJ10_mismatch_2_1 : List UInt8 := dkwJ10_mismatch_2_1 ++ dktJ10_mismatch_2_2
def dkwJ10_mismatch_2_0 : List UInt8 := [3, 54, 5, 21, 4, 16, 7, 164, 0, 63, 42, 27, 51, 44, 29, 51, 159, 0, 5, 3, 172, 178, 0, 126]
abbrev dktJ10_mismatch_2_0 : List UInt8 := dkwJ10_mismatch_2_0 ++ dktJ10_mismatch_2_1
theorem dksJ10_mismatch_2_0 : cJ10_mismatch_2.data.toList.drop 0 = dktJ10_mismatch_2_0 := by decide +kernel
theorem dksJ10_mismatch_2_1 : cJ10_mismatch_2.data.toList.drop 24 = dktJ10_mismatch_2_1 := dk_seg dksJ10_mismatch_2_0 24 rfl rfl
theorem dksJ10_mismatch_2_2 : cJ10_mismatch_2.data.toList.drop 48 = dktJ10_mismatch_2_2 := dk_seg dksJ10_mismatch_2_1 24 rfl rfl
theorem dksJ10_mismatch_2_3 : cJ10_mismatch_2.data.toList.drop 72 = dktJ10_mismatch_2_3 := dk_seg dksJ10_mismatch_2_2 24 rfl rfl
theorem dksJ10_mismatch_2_4 : cJ10_mismatch_2.data.toList.drop 95 = dktJ10_mismatch_2_4 := dk_seg dksJ10_mismatch_2_3 23 rfl rfl
theorem dJ10_mismatch_2_0 : decode cJ10_mismatch_2 0 = .ok (.iconst 0, 1) := dk_3 (dk_at dksJ10_mismatch_2_0 0 rfl rfl)
theorem dJ10_mismatch_2_1 : decode cJ10_mismatch_2 1 = .ok (.istore 5, 2) := dk_54 5 (dk_at dksJ10_mismatch_2_0 1 rfl rfl)
theorem dJ10_mismatch_2_3 : decode cJ10_mismatch_2 3 = .ok (.iload 4, 2) := dk_21 4 (dk_at dksJ10_mismatch_2_0 3 rfl rfl)
theorem dJ10_mismatch_2_5 : decode cJ10_mismatch_2 5 = .ok (.bipush 7, 2) := dk_16 7 (dk_at dksJ10_mismatch_2_0 5 rfl rfl)
theorem dJ10_mismatch_2_7 : decode cJ10_mismatch_2 7 = .ok (.if_icmp .le 63, 3) := dk_164 0 63 (dk_at dksJ10_mismatch_2_0 7 rfl rfl)
theorem dJ10_mismatch_2_10 : decode cJ10_mismatch_2 10 = .ok (.aload_n 0, 1) := dk_42 (dk_at dksJ10_mismatch_2_0 10 rfl rfl)
theorem dJ10_mismatch_2_11 : decode cJ10_mismatch_2 11 = .ok (.iload_n 1, 1) := dk_27 (dk_at dksJ10_mismatch_2_0 11 rfl rfl)
theorem dJ10_mismatch_2_12 : decode cJ10_mismatch_2 12 = .ok (.baload, 1) := dk_51 (dk_at dksJ10_mismatch_2_0 12 rfl rfl)
theorem dJ10_mismatch_2_13 : decode cJ10_mismatch_2 13 = .ok (.aload_n 2, 1) := dk_44 (dk_at dksJ10_mismatch_2_0 13 rfl rfl)
theorem dJ10_mismatch_2_14 : decode cJ10_mismatch_2 14 = .ok (.iload_n 3, 1) := dk_29 (dk_at dksJ10_mismatch_2_0 14 rfl rfl)
theorem dJ10_mismatch_2_15 : decode cJ10_mismatch_2 15 = .ok (.baload, 1) := dk_51 (dk_at dksJ10_mismatch_2_0 15 rfl rfl)
theorem dJ10_mismatch_2_16 : decode cJ10_mismatch_2 16 = .ok (.if_icmp .eq 5, 3) := dk_159 0 5 (dk_at dksJ10_mismatch_2_0 16 rfl rfl)
theorem dJ10_mismatch_2_19 : decode cJ10_mismatch_2 19 = .ok (.iconst 0, 1) := dk_3 (dk_at dksJ10_mismatch_2_0 19 rfl rfl)
theorem dJ10_mismatch_2_20 : decode cJ10_mismatch_2 20 = .ok (.ireturn, 1) := dk_172 (dk_at dksJ10_mismatch_2_0 20 rfl rfl)
theorem dJ10_mismatch_2_21 : decode cJ10_mismatch_2 21 = .ok (.getstatic 126, 3) := dk_178 0 126 (dk_at dksJ10_mismatch_2_0 21 rfl rfl)
theorem dJ10_mismatch_2_24 : decode cJ10_mismatch_2 24 = .ok (.iload_n 1, 1) := dk_27 (dk_at dksJ10_mismatch_2_1 0 rfl rfl)
theorem dJ10_mismatch_2_25 : decode cJ10_mismatch_2 25 = .ok (.iadd, 1) := dk_96 (dk_at dksJ10_mismatch_2_1 1 rfl rfl)
theorem dJ10_mismatch_2_26 : decode cJ10_mismatch_2 26 = .ok (.istore 6, 2) := dk_54 6 (dk_at dksJ10_mismatch_2_1 2 rfl rfl)
theorem dJ10_mismatch_2_28 : decode cJ10_mismatch_2 28 = .ok (.getstatic 126, 3) := dk_178 0 126 (dk_at dksJ10_mismatch_2_1 4 rfl rfl)
theorem dJ10_mismatch_2_31 : decode cJ10_mismatch_2 31 = .ok (.iload_n 3, 1) := dk_29 (dk_at dksJ10_mismatch_2_1 7 rfl rfl)
theorem dJ10_mismatch_2_32 : decode cJ10_mismatch_2 32 = .ok (.iadd, 1) := dk_96 (dk_at dksJ10_mismatch_2_1 8 rfl rfl)
theorem dJ10_mismatch_2_33 : decode cJ10_mismatch_2 33 = .ok (.istore 7, 2) := dk_54 7 (dk_at dksJ10_mismatch_2_1 9 rfl rfl)
theorem dJ10_mismatch_2_35 : decode cJ10_mismatch_2 35 = .ok (.aload_n 0, 1) := dk_42 (dk_at dksJ10_mismatch_2_1 11 rfl rfl)
theorem dJ10_mismatch_2_36 : decode cJ10_mismatch_2 36 = .ok (.iload 6, 2) := dk_21 6 (dk_at dksJ10_mismatch_2_1 12 rfl rfl)
theorem dJ10_mismatch_2_38 : decode cJ10_mismatch_2 38 = .ok (.i2l, 1) := dk_133 (dk_at dksJ10_mismatch_2_1 14 rfl rfl)
theorem dJ10_mismatch_2_39 : decode cJ10_mismatch_2 39 = .ok (.aload_n 2, 1) := dk_44 (dk_at dksJ10_mismatch_2_1 15 rfl rfl)
theorem dJ10_mismatch_2_40 : decode cJ10_mismatch_2 40 = .ok (.iload 7, 2) := dk_21 7 (dk_at dksJ10_mismatch_2_1 16 rfl rfl)
theorem dJ10_mismatch_2_42 : decode cJ10_mismatch_2 42 = .ok (.i2l, 1) := dk_133 (dk_at dksJ10_mismatch_2_1 18 rfl rfl)
theorem dJ10_mismatch_2_43 : decode cJ10_mismatch_2 43 = .ok (.iload 4, 2) := dk_21 4 (dk_at dksJ10_mismatch_2_1 19 rfl rfl)
theorem dJ10_mismatch_2_45 : decode cJ10_mismatch_2 45 = .ok (.getstatic 129, 3) := dk_178 0 129 (dk_at dksJ10_mismatch_2_1 21 rfl rfl)
theorem dJ10_mismatch_2_48 : decode cJ10_mismatch_2 48 = .ok (.invokestatic 122, 3) := dk_184 0 122 (dk_at dksJ10_mismatch_2_2 0 rfl rfl)
theorem dJ10_mismatch_2_51 : decode cJ10_mismatch_2 51 = .ok (.istore 5, 2) := dk_54 5 (dk_at dksJ10_mismatch_2_2 3 rfl rfl)
theorem dJ10_mismatch_2_53 : decode cJ10_mismatch_2 53 = .ok (.iload 5, 2) := dk_21 5 (dk_at dksJ10_mismatch_2_2 5 rfl rfl)
theorem dJ10_mismatch_2_55 : decode cJ10_mismatch_2 55 = .ok (.ifCond .lt 6, 3) := dk_155 0 6 (dk_at dksJ10_mismatch_2_2 7 rfl rfl)
theorem dJ10_mismatch_2_58 : decode cJ10_mismatch_2 58 = .ok (.iload 5, 2) := dk_21 5 (dk_at dksJ10_mismatch_2_2 10 rfl rfl)
theorem dJ10_mismatch_2_60 : decode cJ10_mismatch_2 60 = .ok (.ireturn, 1) := dk_172 (dk_at dksJ10_mismatch_2_2 12 rfl rfl)
theorem dJ10_mismatch_2_61 : decode cJ10_mismatch_2 61 = .ok (.iload 4, 2) := dk_21 4 (dk_at dksJ10_mismatch_2_2 13 rfl rfl)
theorem dJ10_mismatch_2_63 : decode cJ10_mismatch_2 63 = .ok (.iload 5, 2) := dk_21 5 (dk_at dksJ10_mismatch_2_2 15 rfl rfl)
theorem dJ10_mismatch_2_65 : decode cJ10_mismatch_2 65 = .ok (.iconst (-1), 1) := dk_2 (dk_at dksJ10_mismatch_2_2 17 rfl rfl)
theorem dJ10_mismatch_2_66 : decode cJ10_mismatch_2 66 = .ok (.ixor, 1) := dk_130 (dk_at dksJ10_mismatch_2_2 18 rfl rfl)
theorem dJ10_mismatch_2_67 : decode cJ10_mismatch_2 67 = .ok (.isub, 1) := dk_100 (dk_at dksJ10_mismatch_2_2 19 rfl rfl)
theorem dJ10_mismatch_2_68 : decode cJ10_mismatch_2 68 = .ok (.istore 5, 2) := dk_54 5 (dk_at dksJ10_mismatch_2_2 20 rfl rfl)
theorem dJ10_mismatch_2_70 : decode cJ10_mismatch_2 70 = .ok (.iload 5, 2) := dk_21 5 (dk_at dksJ10_mismatch_2_2 22 rfl rfl)
theorem dJ10_mismatch_2_72 : decode cJ10_mismatch_2 72 = .ok (.iload 4, 2) := dk_21 4 (dk_at dksJ10_mismatch_2_3 0 rfl rfl)
theorem dJ10_mismatch_2_74 : decode cJ10_mismatch_2 74 = .ok (.if_icmp .ge 27, 3) := dk_162 0 27 (dk_at dksJ10_mismatch_2_3 2 rfl rfl)
theorem dJ10_mismatch_2_77 : decode cJ10_mismatch_2 77 = .ok (.aload_n 0, 1) := dk_42 (dk_at dksJ10_mismatch_2_3 5 rfl rfl)
theorem dJ10_mismatch_2_78 : decode cJ10_mismatch_2 78 = .ok (.iload_n 1, 1) := dk_27 (dk_at dksJ10_mismatch_2_3 6 rfl rfl)
theorem dJ10_mismatch_2_79 : decode cJ10_mismatch_2 79 = .ok (.iload 5, 2) := dk_21 5 (dk_at dksJ10_mismatch_2_3 7 rfl rfl)
theorem dJ10_mismatch_2_81 : decode cJ10_mismatch_2 81 = .ok (.iadd, 1) := dk_96 (dk_at dksJ10_mismatch_2_3 9 rfl rfl)
theorem dJ10_mismatch_2_82 : decode cJ10_mismatch_2 82 = .ok (.baload, 1) := dk_51 (dk_at dksJ10_mismatch_2_3 10 rfl rfl)
theorem dJ10_mismatch_2_83 : decode cJ10_mismatch_2 83 = .ok (.aload_n 2, 1) := dk_44 (dk_at dksJ10_mismatch_2_3 11 rfl rfl)
theorem dJ10_mismatch_2_84 : decode cJ10_mismatch_2 84 = .ok (.iload_n 3, 1) := dk_29 (dk_at dksJ10_mismatch_2_3 12 rfl rfl)
theorem dJ10_mismatch_2_85 : decode cJ10_mismatch_2 85 = .ok (.iload 5, 2) := dk_21 5 (dk_at dksJ10_mismatch_2_3 13 rfl rfl)
theorem dJ10_mismatch_2_87 : decode cJ10_mismatch_2 87 = .ok (.iadd, 1) := dk_96 (dk_at dksJ10_mismatch_2_3 15 rfl rfl)
theorem dJ10_mismatch_2_88 : decode cJ10_mismatch_2 88 = .ok (.baload, 1) := dk_51 (dk_at dksJ10_mismatch_2_3 16 rfl rfl)
theorem dJ10_mismatch_2_89 : decode cJ10_mismatch_2 89 = .ok (.if_icmp .eq 6, 3) := dk_159 0 6 (dk_at dksJ10_mismatch_2_3 17 rfl rfl)
theorem dJ10_mismatch_2_92 : decode cJ10_mismatch_2 92 = .ok (.iload 5, 2) := dk_21 5 (dk_at dksJ10_mismatch_2_3 20 rfl rfl)
theorem dJ10_mismatch_2_94 : decode cJ10_mismatch_2 94 = .ok (.ireturn, 1) := dk_172 (dk_at dksJ10_mismatch_2_3 22 rfl rfl)
theorem dJ10_mismatch_2_95 : decode cJ10_mismatch_2 95 = .ok (.iinc 5 1, 3) := dk_132 5 1 (dk_at dksJ10_mismatch_2_4 0 rfl rfl)
theorem dJ10_mismatch_2_98 : decode cJ10_mismatch_2 98 = .ok (.goto (-28), 3) := dk_167 255 228 (dk_at dksJ10_mismatch_2_4 3 rfl rfl)
theorem dJ10_mismatch_2_101 : decode cJ10_mismatch_2 101 = .ok (.iconst (-1), 1) := dk_2 (dk_at dksJ10_mismatch_2_4 6 rfl rfl)
theorem dJ10_mismatch_2_102 : decode cJ10_mismatch_2 102 = .ok (.ireturn, 1) := dk_172 (dk_at dksJ10_mismatch_2_4 7 rfl rfl)

abbrev cJ11_copyOf : ByteArray := prog_100_method_121_code
def yJ11_copyOf : MethodName := ⟨RJ11, "copyOf", "([BI)[B"⟩
def dkwJ11_copyOf_1 : List UInt8 := [27, 184, 1, 48, 184, 0, 150, 44, 176]
abbrev dktJ11_copyOf_1 : List UInt8 := dkwJ11_copyOf_1 ++ []
def dkwJ11_copyOf_0 : List UInt8 := [27, 42, 190, 160, 0, 11, 42, 182, 1, 54, 192, 1, 55, 176, 27, 188, 8, 77, 42, 3, 44, 3, 42, 190]
abbrev dktJ11_copyOf_0 : List UInt8 := dkwJ11_copyOf_0 ++ dktJ11_copyOf_1
theorem dksJ11_copyOf_0 : cJ11_copyOf.data.toList.drop 0 = dktJ11_copyOf_0 := by decide +kernel
theorem dksJ11_copyOf_1 : cJ11_copyOf.data.toList.drop 24 = dktJ11_copyOf_1 := dk_seg dksJ11_copyOf_0 24 rfl rfl
theorem dJ11_copyOf_0 : decode cJ11_copyOf 0 = .ok (.iload_n 1, 1) := dk_27 (dk_at dksJ11_copyOf_0 0 rfl rfl)
theorem dJ11_copyOf_1 : decode cJ11_copyOf 1 = .ok (.aload_n 0, 1) := dk_42 (dk_at dksJ11_copyOf_0 1 rfl rfl)
theorem dJ11_copyOf_2 : decode cJ11_copyOf 2 = .ok (.arraylength, 1) := dk_190 (dk_at dksJ11_copyOf_0 2 rfl rfl)
theorem dJ11_copyOf_3 : decode cJ11_copyOf 3 = .ok (.if_icmp .ne 11, 3) := dk_160 0 11 (dk_at dksJ11_copyOf_0 3 rfl rfl)
theorem dJ11_copyOf_6 : decode cJ11_copyOf 6 = .ok (.aload_n 0, 1) := dk_42 (dk_at dksJ11_copyOf_0 6 rfl rfl)
theorem dJ11_copyOf_7 : decode cJ11_copyOf 7 = .ok (.invokevirtual 310, 3) := dk_182 1 54 (dk_at dksJ11_copyOf_0 7 rfl rfl)
theorem dJ11_copyOf_10 : decode cJ11_copyOf 10 = .ok (.checkcast 311, 3) := dk_192 1 55 (dk_at dksJ11_copyOf_0 10 rfl rfl)
theorem dJ11_copyOf_13 : decode cJ11_copyOf 13 = .ok (.areturn, 1) := dk_176 (dk_at dksJ11_copyOf_0 13 rfl rfl)
theorem dJ11_copyOf_14 : decode cJ11_copyOf 14 = .ok (.iload_n 1, 1) := dk_27 (dk_at dksJ11_copyOf_0 14 rfl rfl)
theorem dJ11_copyOf_15 : decode cJ11_copyOf 15 = .ok (.newarray .byte, 2) := dk_188_8 (dk_at dksJ11_copyOf_0 15 rfl rfl)
theorem dJ11_copyOf_17 : decode cJ11_copyOf 17 = .ok (.astore_n 2, 1) := dk_77 (dk_at dksJ11_copyOf_0 17 rfl rfl)
theorem dJ11_copyOf_18 : decode cJ11_copyOf 18 = .ok (.aload_n 0, 1) := dk_42 (dk_at dksJ11_copyOf_0 18 rfl rfl)
theorem dJ11_copyOf_19 : decode cJ11_copyOf 19 = .ok (.iconst 0, 1) := dk_3 (dk_at dksJ11_copyOf_0 19 rfl rfl)
theorem dJ11_copyOf_20 : decode cJ11_copyOf 20 = .ok (.aload_n 2, 1) := dk_44 (dk_at dksJ11_copyOf_0 20 rfl rfl)
theorem dJ11_copyOf_21 : decode cJ11_copyOf 21 = .ok (.iconst 0, 1) := dk_3 (dk_at dksJ11_copyOf_0 21 rfl rfl)
theorem dJ11_copyOf_22 : decode cJ11_copyOf 22 = .ok (.aload_n 0, 1) := dk_42 (dk_at dksJ11_copyOf_0 22 rfl rfl)
theorem dJ11_copyOf_23 : decode cJ11_copyOf 23 = .ok (.arraylength, 1) := dk_190 (dk_at dksJ11_copyOf_0 23 rfl rfl)
theorem dJ11_copyOf_24 : decode cJ11_copyOf 24 = .ok (.iload_n 1, 1) := dk_27 (dk_at dksJ11_copyOf_1 0 rfl rfl)
theorem dJ11_copyOf_25 : decode cJ11_copyOf 25 = .ok (.invokestatic 304, 3) := dk_184 1 48 (dk_at dksJ11_copyOf_1 1 rfl rfl)
theorem dJ11_copyOf_28 : decode cJ11_copyOf 28 = .ok (.invokestatic 150, 3) := dk_184 0 150 (dk_at dksJ11_copyOf_1 4 rfl rfl)
theorem dJ11_copyOf_31 : decode cJ11_copyOf 31 = .ok (.aload_n 2, 1) := dk_44 (dk_at dksJ11_copyOf_1 7 rfl rfl)
theorem dJ11_copyOf_32 : decode cJ11_copyOf 32 = .ok (.areturn, 1) := dk_176 (dk_at dksJ11_copyOf_1 8 rfl rfl)
abbrev cJ11_copyOfRange : ByteArray := prog_100_method_132_code
def yJ11_copyOfRange : MethodName := ⟨RJ11, "copyOfRange", "([BII)[B"⟩
def dkwJ11_copyOfRange_1 : List UInt8 := [176]
abbrev dktJ11_copyOfRange_1 : List UInt8 := dkwJ11_copyOfRange_1 ++ []
def dkwJ11_copyOfRange_0 : List UInt8 := [27, 154, 0, 9, 28, 42, 190, 159, 0, 10, 42, 27, 28, 184, 1, 83, 176, 42, 182, 1, 54, 192, 1, 55]
abbrev dktJ11_copyOfRange_0 : List UInt8 := dkwJ11_copyOfRange_0 ++ dktJ11_copyOfRange_1
theorem dksJ11_copyOfRange_0 : cJ11_copyOfRange.data.toList.drop 0 = dktJ11_copyOfRange_0 := by decide +kernel
theorem dksJ11_copyOfRange_1 : cJ11_copyOfRange.data.toList.drop 24 = dktJ11_copyOfRange_1 := dk_seg dksJ11_copyOfRange_0 24 rfl rfl
theorem dJ11_copyOfRange_0 : decode cJ11_copyOfRange 0 = .ok (.iload_n 1, 1) := dk_27 (dk_at dksJ11_copyOfRange_0 0 rfl rfl)
theorem dJ11_copyOfRange_1 : decode cJ11_copyOfRange 1 = .ok (.ifCond .ne 9, 3) := dk_154 0 9 (dk_at dksJ11_copyOfRange_0 1 rfl rfl)
theorem dJ11_copyOfRange_4 : decode cJ11_copyOfRange 4 = .ok (.iload_n 2, 1) := dk_28 (dk_at dksJ11_copyOfRange_0 4 rfl rfl)
theorem dJ11_copyOfRange_5 : decode cJ11_copyOfRange 5 = .ok (.aload_n 0, 1) := dk_42 (dk_at dksJ11_copyOfRange_0 5 rfl rfl)
theorem dJ11_copyOfRange_6 : decode cJ11_copyOfRange 6 = .ok (.arraylength, 1) := dk_190 (dk_at dksJ11_copyOfRange_0 6 rfl rfl)
theorem dJ11_copyOfRange_7 : decode cJ11_copyOfRange 7 = .ok (.if_icmp .eq 10, 3) := dk_159 0 10 (dk_at dksJ11_copyOfRange_0 7 rfl rfl)
theorem dJ11_copyOfRange_10 : decode cJ11_copyOfRange 10 = .ok (.aload_n 0, 1) := dk_42 (dk_at dksJ11_copyOfRange_0 10 rfl rfl)
theorem dJ11_copyOfRange_11 : decode cJ11_copyOfRange 11 = .ok (.iload_n 1, 1) := dk_27 (dk_at dksJ11_copyOfRange_0 11 rfl rfl)
theorem dJ11_copyOfRange_12 : decode cJ11_copyOfRange 12 = .ok (.iload_n 2, 1) := dk_28 (dk_at dksJ11_copyOfRange_0 12 rfl rfl)
theorem dJ11_copyOfRange_13 : decode cJ11_copyOfRange 13 = .ok (.invokestatic 339, 3) := dk_184 1 83 (dk_at dksJ11_copyOfRange_0 13 rfl rfl)
theorem dJ11_copyOfRange_16 : decode cJ11_copyOfRange 16 = .ok (.areturn, 1) := dk_176 (dk_at dksJ11_copyOfRange_0 16 rfl rfl)
theorem dJ11_copyOfRange_17 : decode cJ11_copyOfRange 17 = .ok (.aload_n 0, 1) := dk_42 (dk_at dksJ11_copyOfRange_0 17 rfl rfl)
theorem dJ11_copyOfRange_18 : decode cJ11_copyOfRange 18 = .ok (.invokevirtual 310, 3) := dk_182 1 54 (dk_at dksJ11_copyOfRange_0 18 rfl rfl)
theorem dJ11_copyOfRange_21 : decode cJ11_copyOfRange 21 = .ok (.checkcast 311, 3) := dk_192 1 55 (dk_at dksJ11_copyOfRange_0 21 rfl rfl)
theorem dJ11_copyOfRange_24 : decode cJ11_copyOfRange 24 = .ok (.areturn, 1) := dk_176 (dk_at dksJ11_copyOfRange_1 0 rfl rfl)
abbrev cJ11_copyOfRangeByte : ByteArray := prog_100_method_133_code
def yJ11_copyOfRangeByte : MethodName := ⟨RJ11, "copyOfRangeByte", "([BII)[B"⟩
def dkwJ11_copyOfRangeByte_1 : List UInt8 := [184, 1, 48, 184, 0, 150, 25, 4, 176]
abbrev dktJ11_copyOfRangeByte_1 : List UInt8 := dkwJ11_copyOfRangeByte_1 ++ []
def dkwJ11_copyOfRangeByte_0 : List UInt8 := [27, 28, 184, 1, 87, 28, 27, 100, 62, 29, 188, 8, 58, 4, 42, 27, 25, 4, 3, 42, 190, 27, 100, 29]
abbrev dktJ11_copyOfRangeByte_0 : List UInt8 := dkwJ11_copyOfRangeByte_0 ++ dktJ11_copyOfRangeByte_1
theorem dksJ11_copyOfRangeByte_0 : cJ11_copyOfRangeByte.data.toList.drop 0 = dktJ11_copyOfRangeByte_0 := by decide +kernel
theorem dksJ11_copyOfRangeByte_1 : cJ11_copyOfRangeByte.data.toList.drop 24 = dktJ11_copyOfRangeByte_1 := dk_seg dksJ11_copyOfRangeByte_0 24 rfl rfl
theorem dJ11_copyOfRangeByte_0 : decode cJ11_copyOfRangeByte 0 = .ok (.iload_n 1, 1) := dk_27 (dk_at dksJ11_copyOfRangeByte_0 0 rfl rfl)
theorem dJ11_copyOfRangeByte_1 : decode cJ11_copyOfRangeByte 1 = .ok (.iload_n 2, 1) := dk_28 (dk_at dksJ11_copyOfRangeByte_0 1 rfl rfl)
theorem dJ11_copyOfRangeByte_2 : decode cJ11_copyOfRangeByte 2 = .ok (.invokestatic 343, 3) := dk_184 1 87 (dk_at dksJ11_copyOfRangeByte_0 2 rfl rfl)
theorem dJ11_copyOfRangeByte_5 : decode cJ11_copyOfRangeByte 5 = .ok (.iload_n 2, 1) := dk_28 (dk_at dksJ11_copyOfRangeByte_0 5 rfl rfl)
theorem dJ11_copyOfRangeByte_6 : decode cJ11_copyOfRangeByte 6 = .ok (.iload_n 1, 1) := dk_27 (dk_at dksJ11_copyOfRangeByte_0 6 rfl rfl)
theorem dJ11_copyOfRangeByte_7 : decode cJ11_copyOfRangeByte 7 = .ok (.isub, 1) := dk_100 (dk_at dksJ11_copyOfRangeByte_0 7 rfl rfl)
theorem dJ11_copyOfRangeByte_8 : decode cJ11_copyOfRangeByte 8 = .ok (.istore_n 3, 1) := dk_62 (dk_at dksJ11_copyOfRangeByte_0 8 rfl rfl)
theorem dJ11_copyOfRangeByte_9 : decode cJ11_copyOfRangeByte 9 = .ok (.iload_n 3, 1) := dk_29 (dk_at dksJ11_copyOfRangeByte_0 9 rfl rfl)
theorem dJ11_copyOfRangeByte_10 : decode cJ11_copyOfRangeByte 10 = .ok (.newarray .byte, 2) := dk_188_8 (dk_at dksJ11_copyOfRangeByte_0 10 rfl rfl)
theorem dJ11_copyOfRangeByte_12 : decode cJ11_copyOfRangeByte 12 = .ok (.astore 4, 2) := dk_58 4 (dk_at dksJ11_copyOfRangeByte_0 12 rfl rfl)
theorem dJ11_copyOfRangeByte_14 : decode cJ11_copyOfRangeByte 14 = .ok (.aload_n 0, 1) := dk_42 (dk_at dksJ11_copyOfRangeByte_0 14 rfl rfl)
theorem dJ11_copyOfRangeByte_15 : decode cJ11_copyOfRangeByte 15 = .ok (.iload_n 1, 1) := dk_27 (dk_at dksJ11_copyOfRangeByte_0 15 rfl rfl)
theorem dJ11_copyOfRangeByte_16 : decode cJ11_copyOfRangeByte 16 = .ok (.aload 4, 2) := dk_25 4 (dk_at dksJ11_copyOfRangeByte_0 16 rfl rfl)
theorem dJ11_copyOfRangeByte_18 : decode cJ11_copyOfRangeByte 18 = .ok (.iconst 0, 1) := dk_3 (dk_at dksJ11_copyOfRangeByte_0 18 rfl rfl)
theorem dJ11_copyOfRangeByte_19 : decode cJ11_copyOfRangeByte 19 = .ok (.aload_n 0, 1) := dk_42 (dk_at dksJ11_copyOfRangeByte_0 19 rfl rfl)
theorem dJ11_copyOfRangeByte_20 : decode cJ11_copyOfRangeByte 20 = .ok (.arraylength, 1) := dk_190 (dk_at dksJ11_copyOfRangeByte_0 20 rfl rfl)
theorem dJ11_copyOfRangeByte_21 : decode cJ11_copyOfRangeByte 21 = .ok (.iload_n 1, 1) := dk_27 (dk_at dksJ11_copyOfRangeByte_0 21 rfl rfl)
theorem dJ11_copyOfRangeByte_22 : decode cJ11_copyOfRangeByte 22 = .ok (.isub, 1) := dk_100 (dk_at dksJ11_copyOfRangeByte_0 22 rfl rfl)
theorem dJ11_copyOfRangeByte_23 : decode cJ11_copyOfRangeByte 23 = .ok (.iload_n 3, 1) := dk_29 (dk_at dksJ11_copyOfRangeByte_0 23 rfl rfl)
theorem dJ11_copyOfRangeByte_24 : decode cJ11_copyOfRangeByte 24 = .ok (.invokestatic 304, 3) := dk_184 1 48 (dk_at dksJ11_copyOfRangeByte_1 0 rfl rfl)
theorem dJ11_copyOfRangeByte_27 : decode cJ11_copyOfRangeByte 27 = .ok (.invokestatic 150, 3) := dk_184 0 150 (dk_at dksJ11_copyOfRangeByte_1 3 rfl rfl)
theorem dJ11_copyOfRangeByte_30 : decode cJ11_copyOfRangeByte 30 = .ok (.aload 4, 2) := dk_25 4 (dk_at dksJ11_copyOfRangeByte_1 6 rfl rfl)
theorem dJ11_copyOfRangeByte_32 : decode cJ11_copyOfRangeByte 32 = .ok (.areturn, 1) := dk_176 (dk_at dksJ11_copyOfRangeByte_1 8 rfl rfl)
abbrev cJ11_checkLength : ByteArray := prog_100_method_131_code
def yJ11_checkLength : MethodName := ⟨RJ11, "checkLength", "(II)V"⟩
def dkwJ11_checkLength_1 : List UInt8 := [182, 0, 50, 27, 182, 0, 54, 182, 0, 61, 183, 0, 65, 191, 177]
abbrev dktJ11_checkLength_1 : List UInt8 := dkwJ11_checkLength_1 ++ []
def dkwJ11_checkLength_0 : List UInt8 := [27, 26, 162, 0, 35, 187, 0, 43, 89, 187, 0, 45, 89, 183, 0, 47, 26, 182, 0, 54, 19, 1, 81]
abbrev dktJ11_checkLength_0 : List UInt8 := dkwJ11_checkLength_0 ++ dktJ11_checkLength_1
theorem dksJ11_checkLength_0 : cJ11_checkLength.data.toList.drop 0 = dktJ11_checkLength_0 := by decide +kernel
theorem dksJ11_checkLength_1 : cJ11_checkLength.data.toList.drop 23 = dktJ11_checkLength_1 := dk_seg dksJ11_checkLength_0 23 rfl rfl
theorem dJ11_checkLength_0 : decode cJ11_checkLength 0 = .ok (.iload_n 1, 1) := dk_27 (dk_at dksJ11_checkLength_0 0 rfl rfl)
theorem dJ11_checkLength_1 : decode cJ11_checkLength 1 = .ok (.iload_n 0, 1) := dk_26 (dk_at dksJ11_checkLength_0 1 rfl rfl)
theorem dJ11_checkLength_2 : decode cJ11_checkLength 2 = .ok (.if_icmp .ge 35, 3) := dk_162 0 35 (dk_at dksJ11_checkLength_0 2 rfl rfl)
theorem dJ11_checkLength_5 : decode cJ11_checkLength 5 = .ok (.new 43, 3) := dk_187 0 43 (dk_at dksJ11_checkLength_0 5 rfl rfl)
theorem dJ11_checkLength_8 : decode cJ11_checkLength 8 = .ok (.dup, 1) := dk_89 (dk_at dksJ11_checkLength_0 8 rfl rfl)
theorem dJ11_checkLength_9 : decode cJ11_checkLength 9 = .ok (.new 45, 3) := dk_187 0 45 (dk_at dksJ11_checkLength_0 9 rfl rfl)
theorem dJ11_checkLength_12 : decode cJ11_checkLength 12 = .ok (.dup, 1) := dk_89 (dk_at dksJ11_checkLength_0 12 rfl rfl)
theorem dJ11_checkLength_13 : decode cJ11_checkLength 13 = .ok (.invokespecial 47, 3) := dk_183 0 47 (dk_at dksJ11_checkLength_0 13 rfl rfl)
theorem dJ11_checkLength_16 : decode cJ11_checkLength 16 = .ok (.iload_n 0, 1) := dk_26 (dk_at dksJ11_checkLength_0 16 rfl rfl)
theorem dJ11_checkLength_17 : decode cJ11_checkLength 17 = .ok (.invokevirtual 54, 3) := dk_182 0 54 (dk_at dksJ11_checkLength_0 17 rfl rfl)
theorem dJ11_checkLength_20 : decode cJ11_checkLength 20 = .ok (.ldc_w 337, 3) := dk_19 1 81 (dk_at dksJ11_checkLength_0 20 rfl rfl)
theorem dJ11_checkLength_23 : decode cJ11_checkLength 23 = .ok (.invokevirtual 50, 3) := dk_182 0 50 (dk_at dksJ11_checkLength_1 0 rfl rfl)
theorem dJ11_checkLength_26 : decode cJ11_checkLength 26 = .ok (.iload_n 1, 1) := dk_27 (dk_at dksJ11_checkLength_1 3 rfl rfl)
theorem dJ11_checkLength_27 : decode cJ11_checkLength 27 = .ok (.invokevirtual 54, 3) := dk_182 0 54 (dk_at dksJ11_checkLength_1 4 rfl rfl)
theorem dJ11_checkLength_30 : decode cJ11_checkLength 30 = .ok (.invokevirtual 61, 3) := dk_182 0 61 (dk_at dksJ11_checkLength_1 7 rfl rfl)
theorem dJ11_checkLength_33 : decode cJ11_checkLength 33 = .ok (.invokespecial 65, 3) := dk_183 0 65 (dk_at dksJ11_checkLength_1 10 rfl rfl)
theorem dJ11_checkLength_36 : decode cJ11_checkLength 36 = .ok (.athrow, 1) := dk_191 (dk_at dksJ11_checkLength_1 13 rfl rfl)
theorem dJ11_checkLength_37 : decode cJ11_checkLength 37 = .ok (.return_, 1) := dk_177 (dk_at dksJ11_checkLength_1 14 rfl rfl)
abbrev cJ11_fill : ByteArray := prog_100_method_110_code
def yJ11_fill : MethodName := ⟨RJ11, "fill", "([BIIB)V"⟩
def dkwJ11_fill_1 : List UInt8 := [167, 255, 242, 177]
abbrev dktJ11_fill_1 : List UInt8 := dkwJ11_fill_1 ++ []
def dkwJ11_fill_0 : List UInt8 := [42, 190, 27, 28, 184, 0, 13, 27, 54, 4, 21, 4, 28, 162, 0, 14, 42, 21, 4, 29, 84, 132, 4, 1]
abbrev dktJ11_fill_0 : List UInt8 := dkwJ11_fill_0 ++ dktJ11_fill_1
theorem dksJ11_fill_0 : cJ11_fill.data.toList.drop 0 = dktJ11_fill_0 := by decide +kernel
theorem dksJ11_fill_1 : cJ11_fill.data.toList.drop 24 = dktJ11_fill_1 := dk_seg dksJ11_fill_0 24 rfl rfl
theorem dJ11_fill_0 : decode cJ11_fill 0 = .ok (.aload_n 0, 1) := dk_42 (dk_at dksJ11_fill_0 0 rfl rfl)
theorem dJ11_fill_1 : decode cJ11_fill 1 = .ok (.arraylength, 1) := dk_190 (dk_at dksJ11_fill_0 1 rfl rfl)
theorem dJ11_fill_2 : decode cJ11_fill 2 = .ok (.iload_n 1, 1) := dk_27 (dk_at dksJ11_fill_0 2 rfl rfl)
theorem dJ11_fill_3 : decode cJ11_fill 3 = .ok (.iload_n 2, 1) := dk_28 (dk_at dksJ11_fill_0 3 rfl rfl)
theorem dJ11_fill_4 : decode cJ11_fill 4 = .ok (.invokestatic 13, 3) := dk_184 0 13 (dk_at dksJ11_fill_0 4 rfl rfl)
theorem dJ11_fill_7 : decode cJ11_fill 7 = .ok (.iload_n 1, 1) := dk_27 (dk_at dksJ11_fill_0 7 rfl rfl)
theorem dJ11_fill_8 : decode cJ11_fill 8 = .ok (.istore 4, 2) := dk_54 4 (dk_at dksJ11_fill_0 8 rfl rfl)
theorem dJ11_fill_10 : decode cJ11_fill 10 = .ok (.iload 4, 2) := dk_21 4 (dk_at dksJ11_fill_0 10 rfl rfl)
theorem dJ11_fill_12 : decode cJ11_fill 12 = .ok (.iload_n 2, 1) := dk_28 (dk_at dksJ11_fill_0 12 rfl rfl)
theorem dJ11_fill_13 : decode cJ11_fill 13 = .ok (.if_icmp .ge 14, 3) := dk_162 0 14 (dk_at dksJ11_fill_0 13 rfl rfl)
theorem dJ11_fill_16 : decode cJ11_fill 16 = .ok (.aload_n 0, 1) := dk_42 (dk_at dksJ11_fill_0 16 rfl rfl)
theorem dJ11_fill_17 : decode cJ11_fill 17 = .ok (.iload 4, 2) := dk_21 4 (dk_at dksJ11_fill_0 17 rfl rfl)
theorem dJ11_fill_19 : decode cJ11_fill 19 = .ok (.iload_n 3, 1) := dk_29 (dk_at dksJ11_fill_0 19 rfl rfl)
theorem dJ11_fill_20 : decode cJ11_fill 20 = .ok (.bastore, 1) := dk_84 (dk_at dksJ11_fill_0 20 rfl rfl)
theorem dJ11_fill_21 : decode cJ11_fill 21 = .ok (.iinc 4 1, 3) := dk_132 4 1 (dk_at dksJ11_fill_0 21 rfl rfl)
theorem dJ11_fill_24 : decode cJ11_fill 24 = .ok (.goto (-14), 3) := dk_167 255 242 (dk_at dksJ11_fill_1 0 rfl rfl)
theorem dJ11_fill_27 : decode cJ11_fill 27 = .ok (.return_, 1) := dk_177 (dk_at dksJ11_fill_1 3 rfl rfl)
abbrev cJ11_rangeCheck : ByteArray := prog_100_method_30_code
def yJ11_rangeCheck : MethodName := ⟨RJ11, "rangeCheck", "(III)V"⟩
def dkwJ11_rangeCheck_3 : List UInt8 := [183, 0, 70, 191, 177]
abbrev dktJ11_rangeCheck_3 : List UInt8 := dkwJ11_rangeCheck_3 ++ []
def dkwJ11_rangeCheck_2 : List UInt8 := [27, 156, 0, 12, 187, 0, 68, 89, 27, 183, 0, 70, 191, 28, 26, 164, 0, 12, 187, 0, 68, 89, 28]
abbrev dktJ11_rangeCheck_2 : List UInt8 := dkwJ11_rangeCheck_2 ++ dktJ11_rangeCheck_3
def dkwJ11_rangeCheck_1 : List UInt8 := [182, 0, 54, 18, 57, 182, 0, 50, 28, 182, 0, 54, 18, 59, 182, 0, 50, 182, 0, 61, 183, 0, 65, 191]
abbrev dktJ11_rangeCheck_1 : List UInt8 := dkwJ11_rangeCheck_1 ++ dktJ11_rangeCheck_2
def dkwJ11_rangeCheck_0 : List UInt8 := [27, 28, 164, 0, 44, 187, 0, 43, 89, 187, 0, 45, 89, 183, 0, 47, 18, 48, 182, 0, 50, 27]
abbrev dktJ11_rangeCheck_0 : List UInt8 := dkwJ11_rangeCheck_0 ++ dktJ11_rangeCheck_1
theorem dksJ11_rangeCheck_0 : cJ11_rangeCheck.data.toList.drop 0 = dktJ11_rangeCheck_0 := by decide +kernel
theorem dksJ11_rangeCheck_1 : cJ11_rangeCheck.data.toList.drop 22 = dktJ11_rangeCheck_1 := dk_seg dksJ11_rangeCheck_0 22 rfl rfl
theorem dksJ11_rangeCheck_2 : cJ11_rangeCheck.data.toList.drop 46 = dktJ11_rangeCheck_2 := dk_seg dksJ11_rangeCheck_1 24 rfl rfl
theorem dksJ11_rangeCheck_3 : cJ11_rangeCheck.data.toList.drop 69 = dktJ11_rangeCheck_3 := dk_seg dksJ11_rangeCheck_2 23 rfl rfl
theorem dJ11_rangeCheck_0 : decode cJ11_rangeCheck 0 = .ok (.iload_n 1, 1) := dk_27 (dk_at dksJ11_rangeCheck_0 0 rfl rfl)
theorem dJ11_rangeCheck_1 : decode cJ11_rangeCheck 1 = .ok (.iload_n 2, 1) := dk_28 (dk_at dksJ11_rangeCheck_0 1 rfl rfl)
theorem dJ11_rangeCheck_2 : decode cJ11_rangeCheck 2 = .ok (.if_icmp .le 44, 3) := dk_164 0 44 (dk_at dksJ11_rangeCheck_0 2 rfl rfl)
theorem dJ11_rangeCheck_5 : decode cJ11_rangeCheck 5 = .ok (.new 43, 3) := dk_187 0 43 (dk_at dksJ11_rangeCheck_0 5 rfl rfl)
theorem dJ11_rangeCheck_8 : decode cJ11_rangeCheck 8 = .ok (.dup, 1) := dk_89 (dk_at dksJ11_rangeCheck_0 8 rfl rfl)
theorem dJ11_rangeCheck_9 : decode cJ11_rangeCheck 9 = .ok (.new 45, 3) := dk_187 0 45 (dk_at dksJ11_rangeCheck_0 9 rfl rfl)
theorem dJ11_rangeCheck_12 : decode cJ11_rangeCheck 12 = .ok (.dup, 1) := dk_89 (dk_at dksJ11_rangeCheck_0 12 rfl rfl)
theorem dJ11_rangeCheck_13 : decode cJ11_rangeCheck 13 = .ok (.invokespecial 47, 3) := dk_183 0 47 (dk_at dksJ11_rangeCheck_0 13 rfl rfl)
theorem dJ11_rangeCheck_16 : decode cJ11_rangeCheck 16 = .ok (.ldc 48, 2) := dk_18 48 (dk_at dksJ11_rangeCheck_0 16 rfl rfl)
theorem dJ11_rangeCheck_18 : decode cJ11_rangeCheck 18 = .ok (.invokevirtual 50, 3) := dk_182 0 50 (dk_at dksJ11_rangeCheck_0 18 rfl rfl)
theorem dJ11_rangeCheck_21 : decode cJ11_rangeCheck 21 = .ok (.iload_n 1, 1) := dk_27 (dk_at dksJ11_rangeCheck_0 21 rfl rfl)
theorem dJ11_rangeCheck_22 : decode cJ11_rangeCheck 22 = .ok (.invokevirtual 54, 3) := dk_182 0 54 (dk_at dksJ11_rangeCheck_1 0 rfl rfl)
theorem dJ11_rangeCheck_25 : decode cJ11_rangeCheck 25 = .ok (.ldc 57, 2) := dk_18 57 (dk_at dksJ11_rangeCheck_1 3 rfl rfl)
theorem dJ11_rangeCheck_27 : decode cJ11_rangeCheck 27 = .ok (.invokevirtual 50, 3) := dk_182 0 50 (dk_at dksJ11_rangeCheck_1 5 rfl rfl)
theorem dJ11_rangeCheck_30 : decode cJ11_rangeCheck 30 = .ok (.iload_n 2, 1) := dk_28 (dk_at dksJ11_rangeCheck_1 8 rfl rfl)
theorem dJ11_rangeCheck_31 : decode cJ11_rangeCheck 31 = .ok (.invokevirtual 54, 3) := dk_182 0 54 (dk_at dksJ11_rangeCheck_1 9 rfl rfl)
theorem dJ11_rangeCheck_34 : decode cJ11_rangeCheck 34 = .ok (.ldc 59, 2) := dk_18 59 (dk_at dksJ11_rangeCheck_1 12 rfl rfl)
theorem dJ11_rangeCheck_36 : decode cJ11_rangeCheck 36 = .ok (.invokevirtual 50, 3) := dk_182 0 50 (dk_at dksJ11_rangeCheck_1 14 rfl rfl)
theorem dJ11_rangeCheck_39 : decode cJ11_rangeCheck 39 = .ok (.invokevirtual 61, 3) := dk_182 0 61 (dk_at dksJ11_rangeCheck_1 17 rfl rfl)
theorem dJ11_rangeCheck_42 : decode cJ11_rangeCheck 42 = .ok (.invokespecial 65, 3) := dk_183 0 65 (dk_at dksJ11_rangeCheck_1 20 rfl rfl)
theorem dJ11_rangeCheck_45 : decode cJ11_rangeCheck 45 = .ok (.athrow, 1) := dk_191 (dk_at dksJ11_rangeCheck_1 23 rfl rfl)
theorem dJ11_rangeCheck_46 : decode cJ11_rangeCheck 46 = .ok (.iload_n 1, 1) := dk_27 (dk_at dksJ11_rangeCheck_2 0 rfl rfl)
theorem dJ11_rangeCheck_47 : decode cJ11_rangeCheck 47 = .ok (.ifCond .ge 12, 3) := dk_156 0 12 (dk_at dksJ11_rangeCheck_2 1 rfl rfl)
theorem dJ11_rangeCheck_50 : decode cJ11_rangeCheck 50 = .ok (.new 68, 3) := dk_187 0 68 (dk_at dksJ11_rangeCheck_2 4 rfl rfl)
theorem dJ11_rangeCheck_53 : decode cJ11_rangeCheck 53 = .ok (.dup, 1) := dk_89 (dk_at dksJ11_rangeCheck_2 7 rfl rfl)
theorem dJ11_rangeCheck_54 : decode cJ11_rangeCheck 54 = .ok (.iload_n 1, 1) := dk_27 (dk_at dksJ11_rangeCheck_2 8 rfl rfl)
theorem dJ11_rangeCheck_55 : decode cJ11_rangeCheck 55 = .ok (.invokespecial 70, 3) := dk_183 0 70 (dk_at dksJ11_rangeCheck_2 9 rfl rfl)
theorem dJ11_rangeCheck_58 : decode cJ11_rangeCheck 58 = .ok (.athrow, 1) := dk_191 (dk_at dksJ11_rangeCheck_2 12 rfl rfl)
theorem dJ11_rangeCheck_59 : decode cJ11_rangeCheck 59 = .ok (.iload_n 2, 1) := dk_28 (dk_at dksJ11_rangeCheck_2 13 rfl rfl)
theorem dJ11_rangeCheck_60 : decode cJ11_rangeCheck 60 = .ok (.iload_n 0, 1) := dk_26 (dk_at dksJ11_rangeCheck_2 14 rfl rfl)
theorem dJ11_rangeCheck_61 : decode cJ11_rangeCheck 61 = .ok (.if_icmp .le 12, 3) := dk_164 0 12 (dk_at dksJ11_rangeCheck_2 15 rfl rfl)
theorem dJ11_rangeCheck_64 : decode cJ11_rangeCheck 64 = .ok (.new 68, 3) := dk_187 0 68 (dk_at dksJ11_rangeCheck_2 18 rfl rfl)
theorem dJ11_rangeCheck_67 : decode cJ11_rangeCheck 67 = .ok (.dup, 1) := dk_89 (dk_at dksJ11_rangeCheck_2 21 rfl rfl)
theorem dJ11_rangeCheck_68 : decode cJ11_rangeCheck 68 = .ok (.iload_n 2, 1) := dk_28 (dk_at dksJ11_rangeCheck_2 22 rfl rfl)
theorem dJ11_rangeCheck_69 : decode cJ11_rangeCheck 69 = .ok (.invokespecial 70, 3) := dk_183 0 70 (dk_at dksJ11_rangeCheck_3 0 rfl rfl)
theorem dJ11_rangeCheck_72 : decode cJ11_rangeCheck 72 = .ok (.athrow, 1) := dk_191 (dk_at dksJ11_rangeCheck_3 3 rfl rfl)
theorem dJ11_rangeCheck_73 : decode cJ11_rangeCheck 73 = .ok (.return_, 1) := dk_177 (dk_at dksJ11_rangeCheck_3 4 rfl rfl)
abbrev cJ11_copyOf_2 : ByteArray := prog_100_method_119_code
def yJ11_copyOf_2 : MethodName := ⟨RJ11, "copyOf", "([Ljava/lang/Object;I)[Ljava/lang/Object;"⟩
def dkwJ11_copyOf_2_0 : List UInt8 := [42, 27, 42, 182, 0, 86, 184, 1, 44, 176]
abbrev dktJ11_copyOf_2_0 : List UInt8 := dkwJ11_copyOf_2_0 ++ []
theorem dksJ11_copyOf_2_0 : cJ11_copyOf_2.data.toList.drop 0 = dktJ11_copyOf_2_0 := by decide +kernel
theorem dJ11_copyOf_2_0 : decode cJ11_copyOf_2 0 = .ok (.aload_n 0, 1) := dk_42 (dk_at dksJ11_copyOf_2_0 0 rfl rfl)
theorem dJ11_copyOf_2_1 : decode cJ11_copyOf_2 1 = .ok (.iload_n 1, 1) := dk_27 (dk_at dksJ11_copyOf_2_0 1 rfl rfl)
theorem dJ11_copyOf_2_2 : decode cJ11_copyOf_2 2 = .ok (.aload_n 0, 1) := dk_42 (dk_at dksJ11_copyOf_2_0 2 rfl rfl)
theorem dJ11_copyOf_2_3 : decode cJ11_copyOf_2 3 = .ok (.invokevirtual 86, 3) := dk_182 0 86 (dk_at dksJ11_copyOf_2_0 3 rfl rfl)
theorem dJ11_copyOf_2_6 : decode cJ11_copyOf_2 6 = .ok (.invokestatic 300, 3) := dk_184 1 44 (dk_at dksJ11_copyOf_2_0 6 rfl rfl)
theorem dJ11_copyOf_2_9 : decode cJ11_copyOf_2 9 = .ok (.areturn, 1) := dk_176 (dk_at dksJ11_copyOf_2_0 9 rfl rfl)
abbrev cJ11_copyOf_3 : ByteArray := prog_100_method_120_code
def yJ11_copyOf_3 : MethodName := ⟨RJ11, "copyOf", "([Ljava/lang/Object;ILjava/lang/Class;)[Ljava/lang/Object;"⟩
def dkwJ11_copyOf_3_1 : List UInt8 := [78, 42, 3, 45, 3, 42, 190, 27, 184, 1, 48, 184, 0, 150, 45, 176]
abbrev dktJ11_copyOf_3_1 : List UInt8 := dkwJ11_copyOf_3_1 ++ []
def dkwJ11_copyOf_3_0 : List UInt8 := [44, 18, 110, 166, 0, 10, 27, 189, 0, 2, 167, 0, 14, 44, 182, 0, 90, 27, 184, 0, 95, 192, 0, 110]
abbrev dktJ11_copyOf_3_0 : List UInt8 := dkwJ11_copyOf_3_0 ++ dktJ11_copyOf_3_1
theorem dksJ11_copyOf_3_0 : cJ11_copyOf_3.data.toList.drop 0 = dktJ11_copyOf_3_0 := by decide +kernel
theorem dksJ11_copyOf_3_1 : cJ11_copyOf_3.data.toList.drop 24 = dktJ11_copyOf_3_1 := dk_seg dksJ11_copyOf_3_0 24 rfl rfl
theorem dJ11_copyOf_3_0 : decode cJ11_copyOf_3 0 = .ok (.aload_n 2, 1) := dk_44 (dk_at dksJ11_copyOf_3_0 0 rfl rfl)
theorem dJ11_copyOf_3_1 : decode cJ11_copyOf_3 1 = .ok (.ldc 110, 2) := dk_18 110 (dk_at dksJ11_copyOf_3_0 1 rfl rfl)
theorem dJ11_copyOf_3_3 : decode cJ11_copyOf_3 3 = .ok (.if_acmp .ne 10, 3) := dk_166 0 10 (dk_at dksJ11_copyOf_3_0 3 rfl rfl)
theorem dJ11_copyOf_3_6 : decode cJ11_copyOf_3 6 = .ok (.iload_n 1, 1) := dk_27 (dk_at dksJ11_copyOf_3_0 6 rfl rfl)
theorem dJ11_copyOf_3_7 : decode cJ11_copyOf_3 7 = .ok (.anewarray 2, 3) := dk_189 0 2 (dk_at dksJ11_copyOf_3_0 7 rfl rfl)
theorem dJ11_copyOf_3_10 : decode cJ11_copyOf_3 10 = .ok (.goto 14, 3) := dk_167 0 14 (dk_at dksJ11_copyOf_3_0 10 rfl rfl)
theorem dJ11_copyOf_3_13 : decode cJ11_copyOf_3 13 = .ok (.aload_n 2, 1) := dk_44 (dk_at dksJ11_copyOf_3_0 13 rfl rfl)
theorem dJ11_copyOf_3_14 : decode cJ11_copyOf_3 14 = .ok (.invokevirtual 90, 3) := dk_182 0 90 (dk_at dksJ11_copyOf_3_0 14 rfl rfl)
theorem dJ11_copyOf_3_17 : decode cJ11_copyOf_3 17 = .ok (.iload_n 1, 1) := dk_27 (dk_at dksJ11_copyOf_3_0 17 rfl rfl)
theorem dJ11_copyOf_3_18 : decode cJ11_copyOf_3 18 = .ok (.invokestatic 95, 3) := dk_184 0 95 (dk_at dksJ11_copyOf_3_0 18 rfl rfl)
theorem dJ11_copyOf_3_21 : decode cJ11_copyOf_3 21 = .ok (.checkcast 110, 3) := dk_192 0 110 (dk_at dksJ11_copyOf_3_0 21 rfl rfl)
theorem dJ11_copyOf_3_24 : decode cJ11_copyOf_3 24 = .ok (.astore_n 3, 1) := dk_78 (dk_at dksJ11_copyOf_3_1 0 rfl rfl)
theorem dJ11_copyOf_3_25 : decode cJ11_copyOf_3 25 = .ok (.aload_n 0, 1) := dk_42 (dk_at dksJ11_copyOf_3_1 1 rfl rfl)
theorem dJ11_copyOf_3_26 : decode cJ11_copyOf_3 26 = .ok (.iconst 0, 1) := dk_3 (dk_at dksJ11_copyOf_3_1 2 rfl rfl)
theorem dJ11_copyOf_3_27 : decode cJ11_copyOf_3 27 = .ok (.aload_n 3, 1) := dk_45 (dk_at dksJ11_copyOf_3_1 3 rfl rfl)
theorem dJ11_copyOf_3_28 : decode cJ11_copyOf_3 28 = .ok (.iconst 0, 1) := dk_3 (dk_at dksJ11_copyOf_3_1 4 rfl rfl)
theorem dJ11_copyOf_3_29 : decode cJ11_copyOf_3 29 = .ok (.aload_n 0, 1) := dk_42 (dk_at dksJ11_copyOf_3_1 5 rfl rfl)
theorem dJ11_copyOf_3_30 : decode cJ11_copyOf_3 30 = .ok (.arraylength, 1) := dk_190 (dk_at dksJ11_copyOf_3_1 6 rfl rfl)
theorem dJ11_copyOf_3_31 : decode cJ11_copyOf_3 31 = .ok (.iload_n 1, 1) := dk_27 (dk_at dksJ11_copyOf_3_1 7 rfl rfl)
theorem dJ11_copyOf_3_32 : decode cJ11_copyOf_3 32 = .ok (.invokestatic 304, 3) := dk_184 1 48 (dk_at dksJ11_copyOf_3_1 8 rfl rfl)
theorem dJ11_copyOf_3_35 : decode cJ11_copyOf_3 35 = .ok (.invokestatic 150, 3) := dk_184 0 150 (dk_at dksJ11_copyOf_3_1 11 rfl rfl)
theorem dJ11_copyOf_3_38 : decode cJ11_copyOf_3 38 = .ok (.aload_n 3, 1) := dk_45 (dk_at dksJ11_copyOf_3_1 14 rfl rfl)
theorem dJ11_copyOf_3_39 : decode cJ11_copyOf_3 39 = .ok (.areturn, 1) := dk_176 (dk_at dksJ11_copyOf_3_1 15 rfl rfl)
abbrev cJ11_copyOf_4 : ByteArray := prog_100_method_124_code
def yJ11_copyOf_4 : MethodName := ⟨RJ11, "copyOf", "([JI)[J"⟩
def dkwJ11_copyOf_4_1 : List UInt8 := [27, 184, 1, 48, 184, 0, 150, 44, 176]
abbrev dktJ11_copyOf_4_1 : List UInt8 := dkwJ11_copyOf_4_1 ++ []
def dkwJ11_copyOf_4_0 : List UInt8 := [27, 42, 190, 160, 0, 11, 42, 182, 1, 63, 192, 1, 64, 176, 27, 188, 11, 77, 42, 3, 44, 3, 42, 190]
abbrev dktJ11_copyOf_4_0 : List UInt8 := dkwJ11_copyOf_4_0 ++ dktJ11_copyOf_4_1
theorem dksJ11_copyOf_4_0 : cJ11_copyOf_4.data.toList.drop 0 = dktJ11_copyOf_4_0 := by decide +kernel
theorem dksJ11_copyOf_4_1 : cJ11_copyOf_4.data.toList.drop 24 = dktJ11_copyOf_4_1 := dk_seg dksJ11_copyOf_4_0 24 rfl rfl
theorem dJ11_copyOf_4_0 : decode cJ11_copyOf_4 0 = .ok (.iload_n 1, 1) := dk_27 (dk_at dksJ11_copyOf_4_0 0 rfl rfl)
theorem dJ11_copyOf_4_1 : decode cJ11_copyOf_4 1 = .ok (.aload_n 0, 1) := dk_42 (dk_at dksJ11_copyOf_4_0 1 rfl rfl)
theorem dJ11_copyOf_4_2 : decode cJ11_copyOf_4 2 = .ok (.arraylength, 1) := dk_190 (dk_at dksJ11_copyOf_4_0 2 rfl rfl)
theorem dJ11_copyOf_4_3 : decode cJ11_copyOf_4 3 = .ok (.if_icmp .ne 11, 3) := dk_160 0 11 (dk_at dksJ11_copyOf_4_0 3 rfl rfl)
theorem dJ11_copyOf_4_6 : decode cJ11_copyOf_4 6 = .ok (.aload_n 0, 1) := dk_42 (dk_at dksJ11_copyOf_4_0 6 rfl rfl)
theorem dJ11_copyOf_4_7 : decode cJ11_copyOf_4 7 = .ok (.invokevirtual 319, 3) := dk_182 1 63 (dk_at dksJ11_copyOf_4_0 7 rfl rfl)
theorem dJ11_copyOf_4_10 : decode cJ11_copyOf_4 10 = .ok (.checkcast 320, 3) := dk_192 1 64 (dk_at dksJ11_copyOf_4_0 10 rfl rfl)
theorem dJ11_copyOf_4_13 : decode cJ11_copyOf_4 13 = .ok (.areturn, 1) := dk_176 (dk_at dksJ11_copyOf_4_0 13 rfl rfl)
theorem dJ11_copyOf_4_14 : decode cJ11_copyOf_4 14 = .ok (.iload_n 1, 1) := dk_27 (dk_at dksJ11_copyOf_4_0 14 rfl rfl)
theorem dJ11_copyOf_4_15 : decode cJ11_copyOf_4 15 = .ok (.newarray .long, 2) := dk_188_11 (dk_at dksJ11_copyOf_4_0 15 rfl rfl)
theorem dJ11_copyOf_4_17 : decode cJ11_copyOf_4 17 = .ok (.astore_n 2, 1) := dk_77 (dk_at dksJ11_copyOf_4_0 17 rfl rfl)
theorem dJ11_copyOf_4_18 : decode cJ11_copyOf_4 18 = .ok (.aload_n 0, 1) := dk_42 (dk_at dksJ11_copyOf_4_0 18 rfl rfl)
theorem dJ11_copyOf_4_19 : decode cJ11_copyOf_4 19 = .ok (.iconst 0, 1) := dk_3 (dk_at dksJ11_copyOf_4_0 19 rfl rfl)
theorem dJ11_copyOf_4_20 : decode cJ11_copyOf_4 20 = .ok (.aload_n 2, 1) := dk_44 (dk_at dksJ11_copyOf_4_0 20 rfl rfl)
theorem dJ11_copyOf_4_21 : decode cJ11_copyOf_4 21 = .ok (.iconst 0, 1) := dk_3 (dk_at dksJ11_copyOf_4_0 21 rfl rfl)
theorem dJ11_copyOf_4_22 : decode cJ11_copyOf_4 22 = .ok (.aload_n 0, 1) := dk_42 (dk_at dksJ11_copyOf_4_0 22 rfl rfl)
theorem dJ11_copyOf_4_23 : decode cJ11_copyOf_4 23 = .ok (.arraylength, 1) := dk_190 (dk_at dksJ11_copyOf_4_0 23 rfl rfl)
theorem dJ11_copyOf_4_24 : decode cJ11_copyOf_4 24 = .ok (.iload_n 1, 1) := dk_27 (dk_at dksJ11_copyOf_4_1 0 rfl rfl)
theorem dJ11_copyOf_4_25 : decode cJ11_copyOf_4 25 = .ok (.invokestatic 304, 3) := dk_184 1 48 (dk_at dksJ11_copyOf_4_1 1 rfl rfl)
theorem dJ11_copyOf_4_28 : decode cJ11_copyOf_4 28 = .ok (.invokestatic 150, 3) := dk_184 0 150 (dk_at dksJ11_copyOf_4_1 4 rfl rfl)
theorem dJ11_copyOf_4_31 : decode cJ11_copyOf_4 31 = .ok (.aload_n 2, 1) := dk_44 (dk_at dksJ11_copyOf_4_1 7 rfl rfl)
theorem dJ11_copyOf_4_32 : decode cJ11_copyOf_4 32 = .ok (.areturn, 1) := dk_176 (dk_at dksJ11_copyOf_4_1 8 rfl rfl)
abbrev cJ11_copyOf_5 : ByteArray := prog_100_method_123_code
def yJ11_copyOf_5 : MethodName := ⟨RJ11, "copyOf", "([II)[I"⟩
def dkwJ11_copyOf_5_1 : List UInt8 := [27, 184, 1, 48, 184, 0, 150, 44, 176]
abbrev dktJ11_copyOf_5_1 : List UInt8 := dkwJ11_copyOf_5_1 ++ []
def dkwJ11_copyOf_5_0 : List UInt8 := [27, 42, 190, 160, 0, 11, 42, 182, 1, 60, 192, 1, 61, 176, 27, 188, 10, 77, 42, 3, 44, 3, 42, 190]
abbrev dktJ11_copyOf_5_0 : List UInt8 := dkwJ11_copyOf_5_0 ++ dktJ11_copyOf_5_1
theorem dksJ11_copyOf_5_0 : cJ11_copyOf_5.data.toList.drop 0 = dktJ11_copyOf_5_0 := by decide +kernel
theorem dksJ11_copyOf_5_1 : cJ11_copyOf_5.data.toList.drop 24 = dktJ11_copyOf_5_1 := dk_seg dksJ11_copyOf_5_0 24 rfl rfl
theorem dJ11_copyOf_5_0 : decode cJ11_copyOf_5 0 = .ok (.iload_n 1, 1) := dk_27 (dk_at dksJ11_copyOf_5_0 0 rfl rfl)
theorem dJ11_copyOf_5_1 : decode cJ11_copyOf_5 1 = .ok (.aload_n 0, 1) := dk_42 (dk_at dksJ11_copyOf_5_0 1 rfl rfl)
theorem dJ11_copyOf_5_2 : decode cJ11_copyOf_5 2 = .ok (.arraylength, 1) := dk_190 (dk_at dksJ11_copyOf_5_0 2 rfl rfl)
theorem dJ11_copyOf_5_3 : decode cJ11_copyOf_5 3 = .ok (.if_icmp .ne 11, 3) := dk_160 0 11 (dk_at dksJ11_copyOf_5_0 3 rfl rfl)
theorem dJ11_copyOf_5_6 : decode cJ11_copyOf_5 6 = .ok (.aload_n 0, 1) := dk_42 (dk_at dksJ11_copyOf_5_0 6 rfl rfl)
theorem dJ11_copyOf_5_7 : decode cJ11_copyOf_5 7 = .ok (.invokevirtual 316, 3) := dk_182 1 60 (dk_at dksJ11_copyOf_5_0 7 rfl rfl)
theorem dJ11_copyOf_5_10 : decode cJ11_copyOf_5 10 = .ok (.checkcast 317, 3) := dk_192 1 61 (dk_at dksJ11_copyOf_5_0 10 rfl rfl)
theorem dJ11_copyOf_5_13 : decode cJ11_copyOf_5 13 = .ok (.areturn, 1) := dk_176 (dk_at dksJ11_copyOf_5_0 13 rfl rfl)
theorem dJ11_copyOf_5_14 : decode cJ11_copyOf_5 14 = .ok (.iload_n 1, 1) := dk_27 (dk_at dksJ11_copyOf_5_0 14 rfl rfl)
theorem dJ11_copyOf_5_15 : decode cJ11_copyOf_5 15 = .ok (.newarray .int, 2) := dk_188_10 (dk_at dksJ11_copyOf_5_0 15 rfl rfl)
theorem dJ11_copyOf_5_17 : decode cJ11_copyOf_5 17 = .ok (.astore_n 2, 1) := dk_77 (dk_at dksJ11_copyOf_5_0 17 rfl rfl)
theorem dJ11_copyOf_5_18 : decode cJ11_copyOf_5 18 = .ok (.aload_n 0, 1) := dk_42 (dk_at dksJ11_copyOf_5_0 18 rfl rfl)
theorem dJ11_copyOf_5_19 : decode cJ11_copyOf_5 19 = .ok (.iconst 0, 1) := dk_3 (dk_at dksJ11_copyOf_5_0 19 rfl rfl)
theorem dJ11_copyOf_5_20 : decode cJ11_copyOf_5 20 = .ok (.aload_n 2, 1) := dk_44 (dk_at dksJ11_copyOf_5_0 20 rfl rfl)
theorem dJ11_copyOf_5_21 : decode cJ11_copyOf_5 21 = .ok (.iconst 0, 1) := dk_3 (dk_at dksJ11_copyOf_5_0 21 rfl rfl)
theorem dJ11_copyOf_5_22 : decode cJ11_copyOf_5 22 = .ok (.aload_n 0, 1) := dk_42 (dk_at dksJ11_copyOf_5_0 22 rfl rfl)
theorem dJ11_copyOf_5_23 : decode cJ11_copyOf_5 23 = .ok (.arraylength, 1) := dk_190 (dk_at dksJ11_copyOf_5_0 23 rfl rfl)
theorem dJ11_copyOf_5_24 : decode cJ11_copyOf_5 24 = .ok (.iload_n 1, 1) := dk_27 (dk_at dksJ11_copyOf_5_1 0 rfl rfl)
theorem dJ11_copyOf_5_25 : decode cJ11_copyOf_5 25 = .ok (.invokestatic 304, 3) := dk_184 1 48 (dk_at dksJ11_copyOf_5_1 1 rfl rfl)
theorem dJ11_copyOf_5_28 : decode cJ11_copyOf_5 28 = .ok (.invokestatic 150, 3) := dk_184 0 150 (dk_at dksJ11_copyOf_5_1 4 rfl rfl)
theorem dJ11_copyOf_5_31 : decode cJ11_copyOf_5 31 = .ok (.aload_n 2, 1) := dk_44 (dk_at dksJ11_copyOf_5_1 7 rfl rfl)
theorem dJ11_copyOf_5_32 : decode cJ11_copyOf_5 32 = .ok (.areturn, 1) := dk_176 (dk_at dksJ11_copyOf_5_1 8 rfl rfl)
abbrev cJ11_fill_2 : ByteArray := prog_100_method_103_code
def yJ11_fill_2 : MethodName := ⟨RJ11, "fill", "([II)V"⟩
def dkwJ11_fill_2_0 : List UInt8 := [3, 61, 42, 190, 62, 28, 29, 162, 0, 13, 42, 28, 27, 79, 132, 2, 1, 167, 255, 244, 177]
abbrev dktJ11_fill_2_0 : List UInt8 := dkwJ11_fill_2_0 ++ []
theorem dksJ11_fill_2_0 : cJ11_fill_2.data.toList.drop 0 = dktJ11_fill_2_0 := by decide +kernel
theorem dJ11_fill_2_0 : decode cJ11_fill_2 0 = .ok (.iconst 0, 1) := dk_3 (dk_at dksJ11_fill_2_0 0 rfl rfl)
theorem dJ11_fill_2_1 : decode cJ11_fill_2 1 = .ok (.istore_n 2, 1) := dk_61 (dk_at dksJ11_fill_2_0 1 rfl rfl)
theorem dJ11_fill_2_2 : decode cJ11_fill_2 2 = .ok (.aload_n 0, 1) := dk_42 (dk_at dksJ11_fill_2_0 2 rfl rfl)
theorem dJ11_fill_2_3 : decode cJ11_fill_2 3 = .ok (.arraylength, 1) := dk_190 (dk_at dksJ11_fill_2_0 3 rfl rfl)
theorem dJ11_fill_2_4 : decode cJ11_fill_2 4 = .ok (.istore_n 3, 1) := dk_62 (dk_at dksJ11_fill_2_0 4 rfl rfl)
theorem dJ11_fill_2_5 : decode cJ11_fill_2 5 = .ok (.iload_n 2, 1) := dk_28 (dk_at dksJ11_fill_2_0 5 rfl rfl)
theorem dJ11_fill_2_6 : decode cJ11_fill_2 6 = .ok (.iload_n 3, 1) := dk_29 (dk_at dksJ11_fill_2_0 6 rfl rfl)
theorem dJ11_fill_2_7 : decode cJ11_fill_2 7 = .ok (.if_icmp .ge 13, 3) := dk_162 0 13 (dk_at dksJ11_fill_2_0 7 rfl rfl)
theorem dJ11_fill_2_10 : decode cJ11_fill_2 10 = .ok (.aload_n 0, 1) := dk_42 (dk_at dksJ11_fill_2_0 10 rfl rfl)
theorem dJ11_fill_2_11 : decode cJ11_fill_2 11 = .ok (.iload_n 2, 1) := dk_28 (dk_at dksJ11_fill_2_0 11 rfl rfl)
theorem dJ11_fill_2_12 : decode cJ11_fill_2 12 = .ok (.iload_n 1, 1) := dk_27 (dk_at dksJ11_fill_2_0 12 rfl rfl)
theorem dJ11_fill_2_13 : decode cJ11_fill_2 13 = .ok (.iastore, 1) := dk_79 (dk_at dksJ11_fill_2_0 13 rfl rfl)
theorem dJ11_fill_2_14 : decode cJ11_fill_2 14 = .ok (.iinc 2 1, 3) := dk_132 2 1 (dk_at dksJ11_fill_2_0 14 rfl rfl)
theorem dJ11_fill_2_17 : decode cJ11_fill_2 17 = .ok (.goto (-12), 3) := dk_167 255 244 (dk_at dksJ11_fill_2_0 17 rfl rfl)
theorem dJ11_fill_2_20 : decode cJ11_fill_2 20 = .ok (.return_, 1) := dk_177 (dk_at dksJ11_fill_2_0 20 rfl rfl)
abbrev cJ11_copyOf_6 : ByteArray := prog_100_method_125_code
def yJ11_copyOf_6 : MethodName := ⟨RJ11, "copyOf", "([CI)[C"⟩
def dkwJ11_copyOf_6_1 : List UInt8 := [27, 184, 1, 48, 184, 0, 150, 44, 176]
abbrev dktJ11_copyOf_6_1 : List UInt8 := dkwJ11_copyOf_6_1 ++ []
def dkwJ11_copyOf_6_0 : List UInt8 := [27, 42, 190, 160, 0, 11, 42, 182, 1, 66, 192, 1, 67, 176, 27, 188, 5, 77, 42, 3, 44, 3, 42, 190]
abbrev dktJ11_copyOf_6_0 : List UInt8 := dkwJ11_copyOf_6_0 ++ dktJ11_copyOf_6_1
theorem dksJ11_copyOf_6_0 : cJ11_copyOf_6.data.toList.drop 0 = dktJ11_copyOf_6_0 := by decide +kernel
theorem dksJ11_copyOf_6_1 : cJ11_copyOf_6.data.toList.drop 24 = dktJ11_copyOf_6_1 := dk_seg dksJ11_copyOf_6_0 24 rfl rfl
theorem dJ11_copyOf_6_0 : decode cJ11_copyOf_6 0 = .ok (.iload_n 1, 1) := dk_27 (dk_at dksJ11_copyOf_6_0 0 rfl rfl)
theorem dJ11_copyOf_6_1 : decode cJ11_copyOf_6 1 = .ok (.aload_n 0, 1) := dk_42 (dk_at dksJ11_copyOf_6_0 1 rfl rfl)
theorem dJ11_copyOf_6_2 : decode cJ11_copyOf_6 2 = .ok (.arraylength, 1) := dk_190 (dk_at dksJ11_copyOf_6_0 2 rfl rfl)
theorem dJ11_copyOf_6_3 : decode cJ11_copyOf_6 3 = .ok (.if_icmp .ne 11, 3) := dk_160 0 11 (dk_at dksJ11_copyOf_6_0 3 rfl rfl)
theorem dJ11_copyOf_6_6 : decode cJ11_copyOf_6 6 = .ok (.aload_n 0, 1) := dk_42 (dk_at dksJ11_copyOf_6_0 6 rfl rfl)
theorem dJ11_copyOf_6_7 : decode cJ11_copyOf_6 7 = .ok (.invokevirtual 322, 3) := dk_182 1 66 (dk_at dksJ11_copyOf_6_0 7 rfl rfl)
theorem dJ11_copyOf_6_10 : decode cJ11_copyOf_6 10 = .ok (.checkcast 323, 3) := dk_192 1 67 (dk_at dksJ11_copyOf_6_0 10 rfl rfl)
theorem dJ11_copyOf_6_13 : decode cJ11_copyOf_6 13 = .ok (.areturn, 1) := dk_176 (dk_at dksJ11_copyOf_6_0 13 rfl rfl)
theorem dJ11_copyOf_6_14 : decode cJ11_copyOf_6 14 = .ok (.iload_n 1, 1) := dk_27 (dk_at dksJ11_copyOf_6_0 14 rfl rfl)
theorem dJ11_copyOf_6_15 : decode cJ11_copyOf_6 15 = .ok (.newarray .char, 2) := dk_188_5 (dk_at dksJ11_copyOf_6_0 15 rfl rfl)
theorem dJ11_copyOf_6_17 : decode cJ11_copyOf_6 17 = .ok (.astore_n 2, 1) := dk_77 (dk_at dksJ11_copyOf_6_0 17 rfl rfl)
theorem dJ11_copyOf_6_18 : decode cJ11_copyOf_6 18 = .ok (.aload_n 0, 1) := dk_42 (dk_at dksJ11_copyOf_6_0 18 rfl rfl)
theorem dJ11_copyOf_6_19 : decode cJ11_copyOf_6 19 = .ok (.iconst 0, 1) := dk_3 (dk_at dksJ11_copyOf_6_0 19 rfl rfl)
theorem dJ11_copyOf_6_20 : decode cJ11_copyOf_6 20 = .ok (.aload_n 2, 1) := dk_44 (dk_at dksJ11_copyOf_6_0 20 rfl rfl)
theorem dJ11_copyOf_6_21 : decode cJ11_copyOf_6 21 = .ok (.iconst 0, 1) := dk_3 (dk_at dksJ11_copyOf_6_0 21 rfl rfl)
theorem dJ11_copyOf_6_22 : decode cJ11_copyOf_6 22 = .ok (.aload_n 0, 1) := dk_42 (dk_at dksJ11_copyOf_6_0 22 rfl rfl)
theorem dJ11_copyOf_6_23 : decode cJ11_copyOf_6 23 = .ok (.arraylength, 1) := dk_190 (dk_at dksJ11_copyOf_6_0 23 rfl rfl)
theorem dJ11_copyOf_6_24 : decode cJ11_copyOf_6 24 = .ok (.iload_n 1, 1) := dk_27 (dk_at dksJ11_copyOf_6_1 0 rfl rfl)
theorem dJ11_copyOf_6_25 : decode cJ11_copyOf_6 25 = .ok (.invokestatic 304, 3) := dk_184 1 48 (dk_at dksJ11_copyOf_6_1 1 rfl rfl)
theorem dJ11_copyOf_6_28 : decode cJ11_copyOf_6 28 = .ok (.invokestatic 150, 3) := dk_184 0 150 (dk_at dksJ11_copyOf_6_1 4 rfl rfl)
theorem dJ11_copyOf_6_31 : decode cJ11_copyOf_6 31 = .ok (.aload_n 2, 1) := dk_44 (dk_at dksJ11_copyOf_6_1 7 rfl rfl)
theorem dJ11_copyOf_6_32 : decode cJ11_copyOf_6 32 = .ok (.areturn, 1) := dk_176 (dk_at dksJ11_copyOf_6_1 8 rfl rfl)
abbrev cJ11_binarySearch : ByteArray := prog_100_method_55_code
def yJ11_binarySearch : MethodName := ⟨RJ11, "binarySearch", "([JIIJ)I"⟩
def dkwJ11_binarySearch_0 : List UInt8 := [42, 190, 27, 28, 184, 0, 13, 42, 27, 28, 33, 184, 0, 205, 172]
abbrev dktJ11_binarySearch_0 : List UInt8 := dkwJ11_binarySearch_0 ++ []
theorem dksJ11_binarySearch_0 : cJ11_binarySearch.data.toList.drop 0 = dktJ11_binarySearch_0 := by decide +kernel
theorem dJ11_binarySearch_0 : decode cJ11_binarySearch 0 = .ok (.aload_n 0, 1) := dk_42 (dk_at dksJ11_binarySearch_0 0 rfl rfl)
theorem dJ11_binarySearch_1 : decode cJ11_binarySearch 1 = .ok (.arraylength, 1) := dk_190 (dk_at dksJ11_binarySearch_0 1 rfl rfl)
theorem dJ11_binarySearch_2 : decode cJ11_binarySearch 2 = .ok (.iload_n 1, 1) := dk_27 (dk_at dksJ11_binarySearch_0 2 rfl rfl)
theorem dJ11_binarySearch_3 : decode cJ11_binarySearch 3 = .ok (.iload_n 2, 1) := dk_28 (dk_at dksJ11_binarySearch_0 3 rfl rfl)
theorem dJ11_binarySearch_4 : decode cJ11_binarySearch 4 = .ok (.invokestatic 13, 3) := dk_184 0 13 (dk_at dksJ11_binarySearch_0 4 rfl rfl)
theorem dJ11_binarySearch_7 : decode cJ11_binarySearch 7 = .ok (.aload_n 0, 1) := dk_42 (dk_at dksJ11_binarySearch_0 7 rfl rfl)
theorem dJ11_binarySearch_8 : decode cJ11_binarySearch 8 = .ok (.iload_n 1, 1) := dk_27 (dk_at dksJ11_binarySearch_0 8 rfl rfl)
theorem dJ11_binarySearch_9 : decode cJ11_binarySearch 9 = .ok (.iload_n 2, 1) := dk_28 (dk_at dksJ11_binarySearch_0 9 rfl rfl)
theorem dJ11_binarySearch_10 : decode cJ11_binarySearch 10 = .ok (.lload_n 3, 1) := dk_33 (dk_at dksJ11_binarySearch_0 10 rfl rfl)
theorem dJ11_binarySearch_11 : decode cJ11_binarySearch 11 = .ok (.invokestatic 205, 3) := dk_184 0 205 (dk_at dksJ11_binarySearch_0 11 rfl rfl)
theorem dJ11_binarySearch_14 : decode cJ11_binarySearch 14 = .ok (.ireturn, 1) := dk_172 (dk_at dksJ11_binarySearch_0 14 rfl rfl)
abbrev cJ11_binarySearch0 : ByteArray := prog_100_method_56_code
def yJ11_binarySearch0 : MethodName := ⟨RJ11, "binarySearch0", "([JIIJ)I"⟩
def dkwJ11_binarySearch0_3 : List UInt8 := [116, 172]
abbrev dktJ11_binarySearch0_3 : List UInt8 := dkwJ11_binarySearch0_3 ++ []
def dkwJ11_binarySearch0_2 : List UInt8 := [33, 148, 158, 0, 12, 21, 7, 4, 100, 54, 6, 167, 0, 6, 21, 7, 172, 167, 255, 199, 21, 5, 4, 96]
abbrev dktJ11_binarySearch0_2 : List UInt8 := dkwJ11_binarySearch0_2 ++ dktJ11_binarySearch0_3
def dkwJ11_binarySearch0_1 : List UInt8 := [42, 21, 7, 47, 55, 8, 22, 8, 33, 148, 156, 0, 12, 21, 7, 4, 96, 54, 5, 167, 0, 22, 22, 8]
abbrev dktJ11_binarySearch0_1 : List UInt8 := dkwJ11_binarySearch0_1 ++ dktJ11_binarySearch0_2
def dkwJ11_binarySearch0_0 : List UInt8 := [27, 54, 5, 28, 4, 100, 54, 6, 21, 5, 21, 6, 163, 0, 56, 21, 5, 21, 6, 96, 4, 124, 54, 7]
abbrev dktJ11_binarySearch0_0 : List UInt8 := dkwJ11_binarySearch0_0 ++ dktJ11_binarySearch0_1
theorem dksJ11_binarySearch0_0 : cJ11_binarySearch0.data.toList.drop 0 = dktJ11_binarySearch0_0 := by decide +kernel
theorem dksJ11_binarySearch0_1 : cJ11_binarySearch0.data.toList.drop 24 = dktJ11_binarySearch0_1 := dk_seg dksJ11_binarySearch0_0 24 rfl rfl
theorem dksJ11_binarySearch0_2 : cJ11_binarySearch0.data.toList.drop 48 = dktJ11_binarySearch0_2 := dk_seg dksJ11_binarySearch0_1 24 rfl rfl
theorem dksJ11_binarySearch0_3 : cJ11_binarySearch0.data.toList.drop 72 = dktJ11_binarySearch0_3 := dk_seg dksJ11_binarySearch0_2 24 rfl rfl
theorem dJ11_binarySearch0_0 : decode cJ11_binarySearch0 0 = .ok (.iload_n 1, 1) := dk_27 (dk_at dksJ11_binarySearch0_0 0 rfl rfl)
theorem dJ11_binarySearch0_1 : decode cJ11_binarySearch0 1 = .ok (.istore 5, 2) := dk_54 5 (dk_at dksJ11_binarySearch0_0 1 rfl rfl)
theorem dJ11_binarySearch0_3 : decode cJ11_binarySearch0 3 = .ok (.iload_n 2, 1) := dk_28 (dk_at dksJ11_binarySearch0_0 3 rfl rfl)
theorem dJ11_binarySearch0_4 : decode cJ11_binarySearch0 4 = .ok (.iconst 1, 1) := dk_4 (dk_at dksJ11_binarySearch0_0 4 rfl rfl)
theorem dJ11_binarySearch0_5 : decode cJ11_binarySearch0 5 = .ok (.isub, 1) := dk_100 (dk_at dksJ11_binarySearch0_0 5 rfl rfl)
theorem dJ11_binarySearch0_6 : decode cJ11_binarySearch0 6 = .ok (.istore 6, 2) := dk_54 6 (dk_at dksJ11_binarySearch0_0 6 rfl rfl)
theorem dJ11_binarySearch0_8 : decode cJ11_binarySearch0 8 = .ok (.iload 5, 2) := dk_21 5 (dk_at dksJ11_binarySearch0_0 8 rfl rfl)
theorem dJ11_binarySearch0_10 : decode cJ11_binarySearch0 10 = .ok (.iload 6, 2) := dk_21 6 (dk_at dksJ11_binarySearch0_0 10 rfl rfl)
theorem dJ11_binarySearch0_12 : decode cJ11_binarySearch0 12 = .ok (.if_icmp .gt 56, 3) := dk_163 0 56 (dk_at dksJ11_binarySearch0_0 12 rfl rfl)
theorem dJ11_binarySearch0_15 : decode cJ11_binarySearch0 15 = .ok (.iload 5, 2) := dk_21 5 (dk_at dksJ11_binarySearch0_0 15 rfl rfl)
theorem dJ11_binarySearch0_17 : decode cJ11_binarySearch0 17 = .ok (.iload 6, 2) := dk_21 6 (dk_at dksJ11_binarySearch0_0 17 rfl rfl)
theorem dJ11_binarySearch0_19 : decode cJ11_binarySearch0 19 = .ok (.iadd, 1) := dk_96 (dk_at dksJ11_binarySearch0_0 19 rfl rfl)
theorem dJ11_binarySearch0_20 : decode cJ11_binarySearch0 20 = .ok (.iconst 1, 1) := dk_4 (dk_at dksJ11_binarySearch0_0 20 rfl rfl)
theorem dJ11_binarySearch0_21 : decode cJ11_binarySearch0 21 = .ok (.iushr, 1) := dk_124 (dk_at dksJ11_binarySearch0_0 21 rfl rfl)
theorem dJ11_binarySearch0_22 : decode cJ11_binarySearch0 22 = .ok (.istore 7, 2) := dk_54 7 (dk_at dksJ11_binarySearch0_0 22 rfl rfl)
theorem dJ11_binarySearch0_24 : decode cJ11_binarySearch0 24 = .ok (.aload_n 0, 1) := dk_42 (dk_at dksJ11_binarySearch0_1 0 rfl rfl)
theorem dJ11_binarySearch0_25 : decode cJ11_binarySearch0 25 = .ok (.iload 7, 2) := dk_21 7 (dk_at dksJ11_binarySearch0_1 1 rfl rfl)
theorem dJ11_binarySearch0_27 : decode cJ11_binarySearch0 27 = .ok (.laload, 1) := dk_47 (dk_at dksJ11_binarySearch0_1 3 rfl rfl)
theorem dJ11_binarySearch0_28 : decode cJ11_binarySearch0 28 = .ok (.lstore 8, 2) := dk_55 8 (dk_at dksJ11_binarySearch0_1 4 rfl rfl)
theorem dJ11_binarySearch0_30 : decode cJ11_binarySearch0 30 = .ok (.lload 8, 2) := dk_22 8 (dk_at dksJ11_binarySearch0_1 6 rfl rfl)
theorem dJ11_binarySearch0_32 : decode cJ11_binarySearch0 32 = .ok (.lload_n 3, 1) := dk_33 (dk_at dksJ11_binarySearch0_1 8 rfl rfl)
theorem dJ11_binarySearch0_33 : decode cJ11_binarySearch0 33 = .ok (.lcmp, 1) := dk_148 (dk_at dksJ11_binarySearch0_1 9 rfl rfl)
theorem dJ11_binarySearch0_34 : decode cJ11_binarySearch0 34 = .ok (.ifCond .ge 12, 3) := dk_156 0 12 (dk_at dksJ11_binarySearch0_1 10 rfl rfl)
theorem dJ11_binarySearch0_37 : decode cJ11_binarySearch0 37 = .ok (.iload 7, 2) := dk_21 7 (dk_at dksJ11_binarySearch0_1 13 rfl rfl)
theorem dJ11_binarySearch0_39 : decode cJ11_binarySearch0 39 = .ok (.iconst 1, 1) := dk_4 (dk_at dksJ11_binarySearch0_1 15 rfl rfl)
theorem dJ11_binarySearch0_40 : decode cJ11_binarySearch0 40 = .ok (.iadd, 1) := dk_96 (dk_at dksJ11_binarySearch0_1 16 rfl rfl)
theorem dJ11_binarySearch0_41 : decode cJ11_binarySearch0 41 = .ok (.istore 5, 2) := dk_54 5 (dk_at dksJ11_binarySearch0_1 17 rfl rfl)
theorem dJ11_binarySearch0_43 : decode cJ11_binarySearch0 43 = .ok (.goto 22, 3) := dk_167 0 22 (dk_at dksJ11_binarySearch0_1 19 rfl rfl)
theorem dJ11_binarySearch0_46 : decode cJ11_binarySearch0 46 = .ok (.lload 8, 2) := dk_22 8 (dk_at dksJ11_binarySearch0_1 22 rfl rfl)
theorem dJ11_binarySearch0_48 : decode cJ11_binarySearch0 48 = .ok (.lload_n 3, 1) := dk_33 (dk_at dksJ11_binarySearch0_2 0 rfl rfl)
theorem dJ11_binarySearch0_49 : decode cJ11_binarySearch0 49 = .ok (.lcmp, 1) := dk_148 (dk_at dksJ11_binarySearch0_2 1 rfl rfl)
theorem dJ11_binarySearch0_50 : decode cJ11_binarySearch0 50 = .ok (.ifCond .le 12, 3) := dk_158 0 12 (dk_at dksJ11_binarySearch0_2 2 rfl rfl)
theorem dJ11_binarySearch0_53 : decode cJ11_binarySearch0 53 = .ok (.iload 7, 2) := dk_21 7 (dk_at dksJ11_binarySearch0_2 5 rfl rfl)
theorem dJ11_binarySearch0_55 : decode cJ11_binarySearch0 55 = .ok (.iconst 1, 1) := dk_4 (dk_at dksJ11_binarySearch0_2 7 rfl rfl)
theorem dJ11_binarySearch0_56 : decode cJ11_binarySearch0 56 = .ok (.isub, 1) := dk_100 (dk_at dksJ11_binarySearch0_2 8 rfl rfl)
theorem dJ11_binarySearch0_57 : decode cJ11_binarySearch0 57 = .ok (.istore 6, 2) := dk_54 6 (dk_at dksJ11_binarySearch0_2 9 rfl rfl)
theorem dJ11_binarySearch0_59 : decode cJ11_binarySearch0 59 = .ok (.goto 6, 3) := dk_167 0 6 (dk_at dksJ11_binarySearch0_2 11 rfl rfl)
theorem dJ11_binarySearch0_62 : decode cJ11_binarySearch0 62 = .ok (.iload 7, 2) := dk_21 7 (dk_at dksJ11_binarySearch0_2 14 rfl rfl)
theorem dJ11_binarySearch0_64 : decode cJ11_binarySearch0 64 = .ok (.ireturn, 1) := dk_172 (dk_at dksJ11_binarySearch0_2 16 rfl rfl)
theorem dJ11_binarySearch0_65 : decode cJ11_binarySearch0 65 = .ok (.goto (-57), 3) := dk_167 255 199 (dk_at dksJ11_binarySearch0_2 17 rfl rfl)
theorem dJ11_binarySearch0_68 : decode cJ11_binarySearch0 68 = .ok (.iload 5, 2) := dk_21 5 (dk_at dksJ11_binarySearch0_2 20 rfl rfl)
theorem dJ11_binarySearch0_70 : decode cJ11_binarySearch0 70 = .ok (.iconst 1, 1) := dk_4 (dk_at dksJ11_binarySearch0_2 22 rfl rfl)
theorem dJ11_binarySearch0_71 : decode cJ11_binarySearch0 71 = .ok (.iadd, 1) := dk_96 (dk_at dksJ11_binarySearch0_2 23 rfl rfl)
theorem dJ11_binarySearch0_72 : decode cJ11_binarySearch0 72 = .ok (.ineg, 1) := dk_116 (dk_at dksJ11_binarySearch0_3 0 rfl rfl)
theorem dJ11_binarySearch0_73 : decode cJ11_binarySearch0 73 = .ok (.ireturn, 1) := dk_172 (dk_at dksJ11_binarySearch0_3 1 rfl rfl)

abbrev cJ12_canEncode : ByteArray := prog_88_method_3_code
def yJ12_canEncode : MethodName := ⟨RJ12, "canEncode", "(C)Z"⟩
def dkwJ12_canEncode_0 : List UInt8 := [26, 17, 0, 255, 163, 0, 7, 4, 167, 0, 4, 3, 172]
abbrev dktJ12_canEncode_0 : List UInt8 := dkwJ12_canEncode_0 ++ []
theorem dksJ12_canEncode_0 : cJ12_canEncode.data.toList.drop 0 = dktJ12_canEncode_0 := by decide +kernel
theorem dJ12_canEncode_0 : decode cJ12_canEncode 0 = .ok (.iload_n 0, 1) := dk_26 (dk_at dksJ12_canEncode_0 0 rfl rfl)
theorem dJ12_canEncode_1 : decode cJ12_canEncode 1 = .ok (.sipush 255, 3) := dk_17 0 255 (dk_at dksJ12_canEncode_0 1 rfl rfl)
theorem dJ12_canEncode_4 : decode cJ12_canEncode 4 = .ok (.if_icmp .gt 7, 3) := dk_163 0 7 (dk_at dksJ12_canEncode_0 4 rfl rfl)
theorem dJ12_canEncode_7 : decode cJ12_canEncode 7 = .ok (.iconst 1, 1) := dk_4 (dk_at dksJ12_canEncode_0 7 rfl rfl)
theorem dJ12_canEncode_8 : decode cJ12_canEncode 8 = .ok (.goto 4, 3) := dk_167 0 4 (dk_at dksJ12_canEncode_0 8 rfl rfl)
theorem dJ12_canEncode_11 : decode cJ12_canEncode 11 = .ok (.iconst 0, 1) := dk_3 (dk_at dksJ12_canEncode_0 11 rfl rfl)
theorem dJ12_canEncode_12 : decode cJ12_canEncode 12 = .ok (.ireturn, 1) := dk_172 (dk_at dksJ12_canEncode_0 12 rfl rfl)
abbrev cJ12_inflate : ByteArray := prog_88_method_50_code
def yJ12_inflate : MethodName := ⟨RJ12, "inflate", "([BI[BII)V"⟩
def dkwJ12_inflate_0 : List UInt8 := [42, 27, 44, 29, 21, 4, 184, 0, 240, 177]
abbrev dktJ12_inflate_0 : List UInt8 := dkwJ12_inflate_0 ++ []
theorem dksJ12_inflate_0 : cJ12_inflate.data.toList.drop 0 = dktJ12_inflate_0 := by decide +kernel
theorem dJ12_inflate_0 : decode cJ12_inflate 0 = .ok (.aload_n 0, 1) := dk_42 (dk_at dksJ12_inflate_0 0 rfl rfl)
theorem dJ12_inflate_1 : decode cJ12_inflate 1 = .ok (.iload_n 1, 1) := dk_27 (dk_at dksJ12_inflate_0 1 rfl rfl)
theorem dJ12_inflate_2 : decode cJ12_inflate 2 = .ok (.aload_n 2, 1) := dk_44 (dk_at dksJ12_inflate_0 2 rfl rfl)
theorem dJ12_inflate_3 : decode cJ12_inflate 3 = .ok (.iload_n 3, 1) := dk_29 (dk_at dksJ12_inflate_0 3 rfl rfl)
theorem dJ12_inflate_4 : decode cJ12_inflate 4 = .ok (.iload 4, 2) := dk_21 4 (dk_at dksJ12_inflate_0 4 rfl rfl)
theorem dJ12_inflate_6 : decode cJ12_inflate 6 = .ok (.invokestatic 240, 3) := dk_184 0 240 (dk_at dksJ12_inflate_0 6 rfl rfl)
theorem dJ12_inflate_9 : decode cJ12_inflate 9 = .ok (.return_, 1) := dk_177 (dk_at dksJ12_inflate_0 9 rfl rfl)
abbrev cJ12_fillNull : ByteArray := prog_88_method_48_code
def yJ12_fillNull : MethodName := ⟨RJ12, "fillNull", "([BII)V"⟩
def dkwJ12_fillNull_0 : List UInt8 := [42, 27, 28, 3, 184, 0, 236, 177]
abbrev dktJ12_fillNull_0 : List UInt8 := dkwJ12_fillNull_0 ++ []
theorem dksJ12_fillNull_0 : cJ12_fillNull.data.toList.drop 0 = dktJ12_fillNull_0 := by decide +kernel
theorem dJ12_fillNull_0 : decode cJ12_fillNull 0 = .ok (.aload_n 0, 1) := dk_42 (dk_at dksJ12_fillNull_0 0 rfl rfl)
theorem dJ12_fillNull_1 : decode cJ12_fillNull 1 = .ok (.iload_n 1, 1) := dk_27 (dk_at dksJ12_fillNull_0 1 rfl rfl)
theorem dJ12_fillNull_2 : decode cJ12_fillNull 2 = .ok (.iload_n 2, 1) := dk_28 (dk_at dksJ12_fillNull_0 2 rfl rfl)
theorem dJ12_fillNull_3 : decode cJ12_fillNull 3 = .ok (.iconst 0, 1) := dk_3 (dk_at dksJ12_fillNull_0 3 rfl rfl)
theorem dJ12_fillNull_4 : decode cJ12_fillNull 4 = .ok (.invokestatic 236, 3) := dk_184 0 236 (dk_at dksJ12_fillNull_0 4 rfl rfl)
theorem dJ12_fillNull_7 : decode cJ12_fillNull 7 = .ok (.return_, 1) := dk_177 (dk_at dksJ12_fillNull_0 7 rfl rfl)
abbrev cJ12_charAt : ByteArray := prog_88_method_2_code
def yJ12_charAt : MethodName := ⟨RJ12, "charAt", "([BI)C"⟩
def dkwJ12_charAt_0 : List UInt8 := [27, 42, 190, 184, 0, 9, 42, 27, 51, 17, 0, 255, 126, 146, 172]
abbrev dktJ12_charAt_0 : List UInt8 := dkwJ12_charAt_0 ++ []
theorem dksJ12_charAt_0 : cJ12_charAt.data.toList.drop 0 = dktJ12_charAt_0 := by decide +kernel
theorem dJ12_charAt_0 : decode cJ12_charAt 0 = .ok (.iload_n 1, 1) := dk_27 (dk_at dksJ12_charAt_0 0 rfl rfl)
theorem dJ12_charAt_1 : decode cJ12_charAt 1 = .ok (.aload_n 0, 1) := dk_42 (dk_at dksJ12_charAt_0 1 rfl rfl)
theorem dJ12_charAt_2 : decode cJ12_charAt 2 = .ok (.arraylength, 1) := dk_190 (dk_at dksJ12_charAt_0 2 rfl rfl)
theorem dJ12_charAt_3 : decode cJ12_charAt 3 = .ok (.invokestatic 9, 3) := dk_184 0 9 (dk_at dksJ12_charAt_0 3 rfl rfl)
theorem dJ12_charAt_6 : decode cJ12_charAt 6 = .ok (.aload_n 0, 1) := dk_42 (dk_at dksJ12_charAt_0 6 rfl rfl)
theorem dJ12_charAt_7 : decode cJ12_charAt 7 = .ok (.iload_n 1, 1) := dk_27 (dk_at dksJ12_charAt_0 7 rfl rfl)
theorem dJ12_charAt_8 : decode cJ12_charAt 8 = .ok (.baload, 1) := dk_51 (dk_at dksJ12_charAt_0 8 rfl rfl)
theorem dJ12_charAt_9 : decode cJ12_charAt 9 = .ok (.sipush 255, 3) := dk_17 0 255 (dk_at dksJ12_charAt_0 9 rfl rfl)
theorem dJ12_charAt_12 : decode cJ12_charAt 12 = .ok (.iand, 1) := dk_126 (dk_at dksJ12_charAt_0 12 rfl rfl)
theorem dJ12_charAt_13 : decode cJ12_charAt 13 = .ok (.i2c, 1) := dk_146 (dk_at dksJ12_charAt_0 13 rfl rfl)
theorem dJ12_charAt_14 : decode cJ12_charAt 14 = .ok (.ireturn, 1) := dk_172 (dk_at dksJ12_charAt_0 14 rfl rfl)
abbrev cJ12_equals : ByteArray := prog_88_method_13_code
def yJ12_equals : MethodName := ⟨RJ12, "equals", "([B[B)Z"⟩
def dkwJ12_equals_1 : List UInt8 := [3, 172, 132, 2, 1, 167, 255, 236, 4, 172, 3, 172]
abbrev dktJ12_equals_1 : List UInt8 := dkwJ12_equals_1 ++ []
def dkwJ12_equals_0 : List UInt8 := [42, 190, 43, 190, 160, 0, 30, 3, 61, 28, 42, 190, 162, 0, 20, 42, 28, 51, 43, 28, 51, 159, 0, 5]
abbrev dktJ12_equals_0 : List UInt8 := dkwJ12_equals_0 ++ dktJ12_equals_1
theorem dksJ12_equals_0 : cJ12_equals.data.toList.drop 0 = dktJ12_equals_0 := by decide +kernel
theorem dksJ12_equals_1 : cJ12_equals.data.toList.drop 24 = dktJ12_equals_1 := dk_seg dksJ12_equals_0 24 rfl rfl
theorem dJ12_equals_0 : decode cJ12_equals 0 = .ok (.aload_n 0, 1) := dk_42 (dk_at dksJ12_equals_0 0 rfl rfl)
theorem dJ12_equals_1 : decode cJ12_equals 1 = .ok (.arraylength, 1) := dk_190 (dk_at dksJ12_equals_0 1 rfl rfl)
theorem dJ12_equals_2 : decode cJ12_equals 2 = .ok (.aload_n 1, 1) := dk_43 (dk_at dksJ12_equals_0 2 rfl rfl)
theorem dJ12_equals_3 : decode cJ12_equals 3 = .ok (.arraylength, 1) := dk_190 (dk_at dksJ12_equals_0 3 rfl rfl)
theorem dJ12_equals_4 : decode cJ12_equals 4 = .ok (.if_icmp .ne 30, 3) := dk_160 0 30 (dk_at dksJ12_equals_0 4 rfl rfl)
theorem dJ12_equals_7 : decode cJ12_equals 7 = .ok (.iconst 0, 1) := dk_3 (dk_at dksJ12_equals_0 7 rfl rfl)
theorem dJ12_equals_8 : decode cJ12_equals 8 = .ok (.istore_n 2, 1) := dk_61 (dk_at dksJ12_equals_0 8 rfl rfl)
theorem dJ12_equals_9 : decode cJ12_equals 9 = .ok (.iload_n 2, 1) := dk_28 (dk_at dksJ12_equals_0 9 rfl rfl)
theorem dJ12_equals_10 : decode cJ12_equals 10 = .ok (.aload_n 0, 1) := dk_42 (dk_at dksJ12_equals_0 10 rfl rfl)
theorem dJ12_equals_11 : decode cJ12_equals 11 = .ok (.arraylength, 1) := dk_190 (dk_at dksJ12_equals_0 11 rfl rfl)
theorem dJ12_equals_12 : decode cJ12_equals 12 = .ok (.if_icmp .ge 20, 3) := dk_162 0 20 (dk_at dksJ12_equals_0 12 rfl rfl)
theorem dJ12_equals_15 : decode cJ12_equals 15 = .ok (.aload_n 0, 1) := dk_42 (dk_at dksJ12_equals_0 15 rfl rfl)
theorem dJ12_equals_16 : decode cJ12_equals 16 = .ok (.iload_n 2, 1) := dk_28 (dk_at dksJ12_equals_0 16 rfl rfl)
theorem dJ12_equals_17 : decode cJ12_equals 17 = .ok (.baload, 1) := dk_51 (dk_at dksJ12_equals_0 17 rfl rfl)
theorem dJ12_equals_18 : decode cJ12_equals 18 = .ok (.aload_n 1, 1) := dk_43 (dk_at dksJ12_equals_0 18 rfl rfl)
theorem dJ12_equals_19 : decode cJ12_equals 19 = .ok (.iload_n 2, 1) := dk_28 (dk_at dksJ12_equals_0 19 rfl rfl)
theorem dJ12_equals_20 : decode cJ12_equals 20 = .ok (.baload, 1) := dk_51 (dk_at dksJ12_equals_0 20 rfl rfl)
theorem dJ12_equals_21 : decode cJ12_equals 21 = .ok (.if_icmp .eq 5, 3) := dk_159 0 5 (dk_at dksJ12_equals_0 21 rfl rfl)
theorem dJ12_equals_24 : decode cJ12_equals 24 = .ok (.iconst 0, 1) := dk_3 (dk_at dksJ12_equals_1 0 rfl rfl)
theorem dJ12_equals_25 : decode cJ12_equals 25 = .ok (.ireturn, 1) := dk_172 (dk_at dksJ12_equals_1 1 rfl rfl)
theorem dJ12_equals_26 : decode cJ12_equals 26 = .ok (.iinc 2 1, 3) := dk_132 2 1 (dk_at dksJ12_equals_1 2 rfl rfl)
theorem dJ12_equals_29 : decode cJ12_equals 29 = .ok (.goto (-20), 3) := dk_167 255 236 (dk_at dksJ12_equals_1 5 rfl rfl)
theorem dJ12_equals_32 : decode cJ12_equals 32 = .ok (.iconst 1, 1) := dk_4 (dk_at dksJ12_equals_1 8 rfl rfl)
theorem dJ12_equals_33 : decode cJ12_equals 33 = .ok (.ireturn, 1) := dk_172 (dk_at dksJ12_equals_1 9 rfl rfl)
theorem dJ12_equals_34 : decode cJ12_equals 34 = .ok (.iconst 0, 1) := dk_3 (dk_at dksJ12_equals_1 10 rfl rfl)
theorem dJ12_equals_35 : decode cJ12_equals 35 = .ok (.ireturn, 1) := dk_172 (dk_at dksJ12_equals_1 11 rfl rfl)
abbrev cJ12_hashCode : ByteArray := prog_88_method_21_code
def yJ12_hashCode : MethodName := ⟨RJ12, "hashCode", "([B)I"⟩
def dkwJ12_hashCode_2 : List UInt8 := [3, 167, 0, 22, 42, 3, 51, 17, 0, 255, 126, 167, 0, 12, 42, 3, 42, 190, 3, 7, 184, 0, 84, 172]
abbrev dktJ12_hashCode_2 : List UInt8 := dkwJ12_hashCode_2 ++ []
def dkwJ12_hashCode_1 : List UInt8 := [171, 0, 0, 0, 0, 40, 0, 0, 0, 2, 0, 0, 0, 0, 0, 0, 0, 26, 0, 0, 0, 1, 0, 0, 0, 30]
abbrev dktJ12_hashCode_1 : List UInt8 := dkwJ12_hashCode_1 ++ dktJ12_hashCode_2
def dkwJ12_hashCode_0 : List UInt8 := [42, 190]
abbrev dktJ12_hashCode_0 : List UInt8 := dkwJ12_hashCode_0 ++ dktJ12_hashCode_1
theorem dksJ12_hashCode_0 : cJ12_hashCode.data.toList.drop 0 = dktJ12_hashCode_0 := by decide +kernel
theorem dksJ12_hashCode_1 : cJ12_hashCode.data.toList.drop 2 = dktJ12_hashCode_1 := dk_seg dksJ12_hashCode_0 2 rfl rfl
theorem dksJ12_hashCode_2 : cJ12_hashCode.data.toList.drop 28 = dktJ12_hashCode_2 := dk_seg dksJ12_hashCode_1 26 rfl rfl
theorem dJ12_hashCode_0 : decode cJ12_hashCode 0 = .ok (.aload_n 0, 1) := dk_42 (dk_at dksJ12_hashCode_0 0 rfl rfl)
theorem dJ12_hashCode_1 : decode cJ12_hashCode 1 = .ok (.arraylength, 1) := dk_190 (dk_at dksJ12_hashCode_0 1 rfl rfl)
theorem dJ12_hashCode_2 : decode cJ12_hashCode 2 = .ok (.lookupswitch 40 #[(0, 26), (1, 30)], 26) := by decide +kernel
theorem dJ12_hashCode_28 : decode cJ12_hashCode 28 = .ok (.iconst 0, 1) := dk_3 (dk_at dksJ12_hashCode_2 0 rfl rfl)
theorem dJ12_hashCode_29 : decode cJ12_hashCode 29 = .ok (.goto 22, 3) := dk_167 0 22 (dk_at dksJ12_hashCode_2 1 rfl rfl)
theorem dJ12_hashCode_32 : decode cJ12_hashCode 32 = .ok (.aload_n 0, 1) := dk_42 (dk_at dksJ12_hashCode_2 4 rfl rfl)
theorem dJ12_hashCode_33 : decode cJ12_hashCode 33 = .ok (.iconst 0, 1) := dk_3 (dk_at dksJ12_hashCode_2 5 rfl rfl)
theorem dJ12_hashCode_34 : decode cJ12_hashCode 34 = .ok (.baload, 1) := dk_51 (dk_at dksJ12_hashCode_2 6 rfl rfl)
theorem dJ12_hashCode_35 : decode cJ12_hashCode 35 = .ok (.sipush 255, 3) := dk_17 0 255 (dk_at dksJ12_hashCode_2 7 rfl rfl)
theorem dJ12_hashCode_38 : decode cJ12_hashCode 38 = .ok (.iand, 1) := dk_126 (dk_at dksJ12_hashCode_2 10 rfl rfl)
theorem dJ12_hashCode_39 : decode cJ12_hashCode 39 = .ok (.goto 12, 3) := dk_167 0 12 (dk_at dksJ12_hashCode_2 11 rfl rfl)
theorem dJ12_hashCode_42 : decode cJ12_hashCode 42 = .ok (.aload_n 0, 1) := dk_42 (dk_at dksJ12_hashCode_2 14 rfl rfl)
theorem dJ12_hashCode_43 : decode cJ12_hashCode 43 = .ok (.iconst 0, 1) := dk_3 (dk_at dksJ12_hashCode_2 15 rfl rfl)
theorem dJ12_hashCode_44 : decode cJ12_hashCode 44 = .ok (.aload_n 0, 1) := dk_42 (dk_at dksJ12_hashCode_2 16 rfl rfl)
theorem dJ12_hashCode_45 : decode cJ12_hashCode 45 = .ok (.arraylength, 1) := dk_190 (dk_at dksJ12_hashCode_2 17 rfl rfl)
theorem dJ12_hashCode_46 : decode cJ12_hashCode 46 = .ok (.iconst 0, 1) := dk_3 (dk_at dksJ12_hashCode_2 18 rfl rfl)
theorem dJ12_hashCode_47 : decode cJ12_hashCode 47 = .ok (.iconst 4, 1) := dk_7 (dk_at dksJ12_hashCode_2 19 rfl rfl)
theorem dJ12_hashCode_48 : decode cJ12_hashCode 48 = .ok (.invokestatic 84, 3) := dk_184 0 84 (dk_at dksJ12_hashCode_2 20 rfl rfl)
theorem dJ12_hashCode_51 : decode cJ12_hashCode 51 = .ok (.ireturn, 1) := dk_172 (dk_at dksJ12_hashCode_2 23 rfl rfl)
abbrev cJ12_compareTo : ByteArray := prog_88_method_14_code
def yJ12_compareTo : MethodName := ⟨RJ12, "compareTo", "([B[B)I"⟩
def dkwJ12_compareTo_0 : List UInt8 := [42, 190, 61, 43, 190, 62, 42, 43, 28, 29, 184, 0, 34, 172]
abbrev dktJ12_compareTo_0 : List UInt8 := dkwJ12_compareTo_0 ++ []
theorem dksJ12_compareTo_0 : cJ12_compareTo.data.toList.drop 0 = dktJ12_compareTo_0 := by decide +kernel
theorem dJ12_compareTo_0 : decode cJ12_compareTo 0 = .ok (.aload_n 0, 1) := dk_42 (dk_at dksJ12_compareTo_0 0 rfl rfl)
theorem dJ12_compareTo_1 : decode cJ12_compareTo 1 = .ok (.arraylength, 1) := dk_190 (dk_at dksJ12_compareTo_0 1 rfl rfl)
theorem dJ12_compareTo_2 : decode cJ12_compareTo 2 = .ok (.istore_n 2, 1) := dk_61 (dk_at dksJ12_compareTo_0 2 rfl rfl)
theorem dJ12_compareTo_3 : decode cJ12_compareTo 3 = .ok (.aload_n 1, 1) := dk_43 (dk_at dksJ12_compareTo_0 3 rfl rfl)
theorem dJ12_compareTo_4 : decode cJ12_compareTo 4 = .ok (.arraylength, 1) := dk_190 (dk_at dksJ12_compareTo_0 4 rfl rfl)
theorem dJ12_compareTo_5 : decode cJ12_compareTo 5 = .ok (.istore_n 3, 1) := dk_62 (dk_at dksJ12_compareTo_0 5 rfl rfl)
theorem dJ12_compareTo_6 : decode cJ12_compareTo 6 = .ok (.aload_n 0, 1) := dk_42 (dk_at dksJ12_compareTo_0 6 rfl rfl)
theorem dJ12_compareTo_7 : decode cJ12_compareTo 7 = .ok (.aload_n 1, 1) := dk_43 (dk_at dksJ12_compareTo_0 7 rfl rfl)
theorem dJ12_compareTo_8 : decode cJ12_compareTo 8 = .ok (.iload_n 2, 1) := dk_28 (dk_at dksJ12_compareTo_0 8 rfl rfl)
theorem dJ12_compareTo_9 : decode cJ12_compareTo 9 = .ok (.iload_n 3, 1) := dk_29 (dk_at dksJ12_compareTo_0 9 rfl rfl)
theorem dJ12_compareTo_10 : decode cJ12_compareTo 10 = .ok (.invokestatic 34, 3) := dk_184 0 34 (dk_at dksJ12_compareTo_0 10 rfl rfl)
theorem dJ12_compareTo_13 : decode cJ12_compareTo 13 = .ok (.ireturn, 1) := dk_172 (dk_at dksJ12_compareTo_0 13 rfl rfl)
abbrev cJ12_compareTo_2 : ByteArray := prog_88_method_15_code
def yJ12_compareTo_2 : MethodName := ⟨RJ12, "compareTo", "([B[BII)I"⟩
def dkwJ12_compareTo_2_1 : List UInt8 := [167, 0, 16, 42, 21, 5, 184, 0, 50, 43, 21, 5, 184, 0, 50, 100, 172]
abbrev dktJ12_compareTo_2_1 : List UInt8 := dkwJ12_compareTo_2_1 ++ []
def dkwJ12_compareTo_2_0 : List UInt8 := [28, 29, 184, 0, 38, 54, 4, 42, 43, 21, 4, 184, 0, 44, 54, 5, 21, 5, 156, 0, 9, 28, 29, 100]
abbrev dktJ12_compareTo_2_0 : List UInt8 := dkwJ12_compareTo_2_0 ++ dktJ12_compareTo_2_1
theorem dksJ12_compareTo_2_0 : cJ12_compareTo_2.data.toList.drop 0 = dktJ12_compareTo_2_0 := by decide +kernel
theorem dksJ12_compareTo_2_1 : cJ12_compareTo_2.data.toList.drop 24 = dktJ12_compareTo_2_1 := dk_seg dksJ12_compareTo_2_0 24 rfl rfl
theorem dJ12_compareTo_2_0 : decode cJ12_compareTo_2 0 = .ok (.iload_n 2, 1) := dk_28 (dk_at dksJ12_compareTo_2_0 0 rfl rfl)
theorem dJ12_compareTo_2_1 : decode cJ12_compareTo_2 1 = .ok (.iload_n 3, 1) := dk_29 (dk_at dksJ12_compareTo_2_0 1 rfl rfl)
theorem dJ12_compareTo_2_2 : decode cJ12_compareTo_2 2 = .ok (.invokestatic 38, 3) := dk_184 0 38 (dk_at dksJ12_compareTo_2_0 2 rfl rfl)
theorem dJ12_compareTo_2_5 : decode cJ12_compareTo_2 5 = .ok (.istore 4, 2) := dk_54 4 (dk_at dksJ12_compareTo_2_0 5 rfl rfl)
theorem dJ12_compareTo_2_7 : decode cJ12_compareTo_2 7 = .ok (.aload_n 0, 1) := dk_42 (dk_at dksJ12_compareTo_2_0 7 rfl rfl)
theorem dJ12_compareTo_2_8 : decode cJ12_compareTo_2 8 = .ok (.aload_n 1, 1) := dk_43 (dk_at dksJ12_compareTo_2_0 8 rfl rfl)
theorem dJ12_compareTo_2_9 : decode cJ12_compareTo_2 9 = .ok (.iload 4, 2) := dk_21 4 (dk_at dksJ12_compareTo_2_0 9 rfl rfl)
theorem dJ12_compareTo_2_11 : decode cJ12_compareTo_2 11 = .ok (.invokestatic 44, 3) := dk_184 0 44 (dk_at dksJ12_compareTo_2_0 11 rfl rfl)
theorem dJ12_compareTo_2_14 : decode cJ12_compareTo_2 14 = .ok (.istore 5, 2) := dk_54 5 (dk_at dksJ12_compareTo_2_0 14 rfl rfl)
theorem dJ12_compareTo_2_16 : decode cJ12_compareTo_2 16 = .ok (.iload 5, 2) := dk_21 5 (dk_at dksJ12_compareTo_2_0 16 rfl rfl)
theorem dJ12_compareTo_2_18 : decode cJ12_compareTo_2 18 = .ok (.ifCond .ge 9, 3) := dk_156 0 9 (dk_at dksJ12_compareTo_2_0 18 rfl rfl)
theorem dJ12_compareTo_2_21 : decode cJ12_compareTo_2 21 = .ok (.iload_n 2, 1) := dk_28 (dk_at dksJ12_compareTo_2_0 21 rfl rfl)
theorem dJ12_compareTo_2_22 : decode cJ12_compareTo_2 22 = .ok (.iload_n 3, 1) := dk_29 (dk_at dksJ12_compareTo_2_0 22 rfl rfl)
theorem dJ12_compareTo_2_23 : decode cJ12_compareTo_2 23 = .ok (.isub, 1) := dk_100 (dk_at dksJ12_compareTo_2_0 23 rfl rfl)
theorem dJ12_compareTo_2_24 : decode cJ12_compareTo_2 24 = .ok (.goto 16, 3) := dk_167 0 16 (dk_at dksJ12_compareTo_2_1 0 rfl rfl)
theorem dJ12_compareTo_2_27 : decode cJ12_compareTo_2 27 = .ok (.aload_n 0, 1) := dk_42 (dk_at dksJ12_compareTo_2_1 3 rfl rfl)
theorem dJ12_compareTo_2_28 : decode cJ12_compareTo_2 28 = .ok (.iload 5, 2) := dk_21 5 (dk_at dksJ12_compareTo_2_1 4 rfl rfl)
theorem dJ12_compareTo_2_30 : decode cJ12_compareTo_2 30 = .ok (.invokestatic 50, 3) := dk_184 0 50 (dk_at dksJ12_compareTo_2_1 6 rfl rfl)
theorem dJ12_compareTo_2_33 : decode cJ12_compareTo_2 33 = .ok (.aload_n 1, 1) := dk_43 (dk_at dksJ12_compareTo_2_1 9 rfl rfl)
theorem dJ12_compareTo_2_34 : decode cJ12_compareTo_2 34 = .ok (.iload 5, 2) := dk_21 5 (dk_at dksJ12_compareTo_2_1 10 rfl rfl)
theorem dJ12_compareTo_2_36 : decode cJ12_compareTo_2 36 = .ok (.invokestatic 50, 3) := dk_184 0 50 (dk_at dksJ12_compareTo_2_1 12 rfl rfl)
theorem dJ12_compareTo_2_39 : decode cJ12_compareTo_2 39 = .ok (.isub, 1) := dk_100 (dk_at dksJ12_compareTo_2_1 15 rfl rfl)
theorem dJ12_compareTo_2_40 : decode cJ12_compareTo_2 40 = .ok (.ireturn, 1) := dk_172 (dk_at dksJ12_compareTo_2_1 16 rfl rfl)
abbrev cJ12_getChar : ByteArray := prog_88_method_44_code
def yJ12_getChar : MethodName := ⟨RJ12, "getCha\x72", "([BI)C"⟩
def dkwJ12_getChar_0 : List UInt8 := [42, 27, 51, 17, 0, 255, 126, 146, 172]
abbrev dktJ12_getChar_0 : List UInt8 := dkwJ12_getChar_0 ++ []
theorem dksJ12_getChar_0 : cJ12_getChar.data.toList.drop 0 = dktJ12_getChar_0 := by decide +kernel
theorem dJ12_getChar_0 : decode cJ12_getChar 0 = .ok (.aload_n 0, 1) := dk_42 (dk_at dksJ12_getChar_0 0 rfl rfl)
theorem dJ12_getChar_1 : decode cJ12_getChar 1 = .ok (.iload_n 1, 1) := dk_27 (dk_at dksJ12_getChar_0 1 rfl rfl)
theorem dJ12_getChar_2 : decode cJ12_getChar 2 = .ok (.baload, 1) := dk_51 (dk_at dksJ12_getChar_0 2 rfl rfl)
theorem dJ12_getChar_3 : decode cJ12_getChar 3 = .ok (.sipush 255, 3) := dk_17 0 255 (dk_at dksJ12_getChar_0 3 rfl rfl)
theorem dJ12_getChar_6 : decode cJ12_getChar 6 = .ok (.iand, 1) := dk_126 (dk_at dksJ12_getChar_0 6 rfl rfl)
theorem dJ12_getChar_7 : decode cJ12_getChar 7 = .ok (.i2c, 1) := dk_146 (dk_at dksJ12_getChar_0 7 rfl rfl)
theorem dJ12_getChar_8 : decode cJ12_getChar 8 = .ok (.ireturn, 1) := dk_172 (dk_at dksJ12_getChar_0 8 rfl rfl)
abbrev cJ12_compareToUTF16 : ByteArray := prog_88_method_16_code
def yJ12_compareToUTF16 : MethodName := ⟨RJ12, "compareToUTF16", "([B[B)I"⟩
def dkwJ12_compareToUTF16_0 : List UInt8 := [42, 184, 0, 54, 61, 43, 184, 0, 58, 62, 42, 43, 28, 29, 184, 0, 59, 172]
abbrev dktJ12_compareToUTF16_0 : List UInt8 := dkwJ12_compareToUTF16_0 ++ []
theorem dksJ12_compareToUTF16_0 : cJ12_compareToUTF16.data.toList.drop 0 = dktJ12_compareToUTF16_0 := by decide +kernel
theorem dJ12_compareToUTF16_0 : decode cJ12_compareToUTF16 0 = .ok (.aload_n 0, 1) := dk_42 (dk_at dksJ12_compareToUTF16_0 0 rfl rfl)
theorem dJ12_compareToUTF16_1 : decode cJ12_compareToUTF16 1 = .ok (.invokestatic 54, 3) := dk_184 0 54 (dk_at dksJ12_compareToUTF16_0 1 rfl rfl)
theorem dJ12_compareToUTF16_4 : decode cJ12_compareToUTF16 4 = .ok (.istore_n 2, 1) := dk_61 (dk_at dksJ12_compareToUTF16_0 4 rfl rfl)
theorem dJ12_compareToUTF16_5 : decode cJ12_compareToUTF16 5 = .ok (.aload_n 1, 1) := dk_43 (dk_at dksJ12_compareToUTF16_0 5 rfl rfl)
theorem dJ12_compareToUTF16_6 : decode cJ12_compareToUTF16 6 = .ok (.invokestatic 58, 3) := dk_184 0 58 (dk_at dksJ12_compareToUTF16_0 6 rfl rfl)
theorem dJ12_compareToUTF16_9 : decode cJ12_compareToUTF16 9 = .ok (.istore_n 3, 1) := dk_62 (dk_at dksJ12_compareToUTF16_0 9 rfl rfl)
theorem dJ12_compareToUTF16_10 : decode cJ12_compareToUTF16 10 = .ok (.aload_n 0, 1) := dk_42 (dk_at dksJ12_compareToUTF16_0 10 rfl rfl)
theorem dJ12_compareToUTF16_11 : decode cJ12_compareToUTF16 11 = .ok (.aload_n 1, 1) := dk_43 (dk_at dksJ12_compareToUTF16_0 11 rfl rfl)
theorem dJ12_compareToUTF16_12 : decode cJ12_compareToUTF16 12 = .ok (.iload_n 2, 1) := dk_28 (dk_at dksJ12_compareToUTF16_0 12 rfl rfl)
theorem dJ12_compareToUTF16_13 : decode cJ12_compareToUTF16 13 = .ok (.iload_n 3, 1) := dk_29 (dk_at dksJ12_compareToUTF16_0 13 rfl rfl)
theorem dJ12_compareToUTF16_14 : decode cJ12_compareToUTF16 14 = .ok (.invokestatic 59, 3) := dk_184 0 59 (dk_at dksJ12_compareToUTF16_0 14 rfl rfl)
theorem dJ12_compareToUTF16_17 : decode cJ12_compareToUTF16 17 = .ok (.ireturn, 1) := dk_172 (dk_at dksJ12_compareToUTF16_0 17 rfl rfl)
abbrev cJ12_length : ByteArray := prog_88_method_5_code
def yJ12_length : MethodName := ⟨RJ12, "length", "([B)I"⟩
theorem dJ12_length_0 : decode cJ12_length 0 = .ok (.aload_n 0, 1) := by decide +kernel
theorem dJ12_length_1 : decode cJ12_length 1 = .ok (.arraylength, 1) := by decide +kernel
theorem dJ12_length_2 : decode cJ12_length 2 = .ok (.ireturn, 1) := by decide +kernel
abbrev cJ12_compareToUTF16Values : ByteArray := prog_88_method_18_code
def yJ12_compareToUTF16Values : MethodName := ⟨RJ12, "compareToUTF16Values", "([B[BII)I"⟩
def dkwJ12_compareToUTF16Values_2 : List UInt8 := [132, 5, 1, 167, 255, 217, 28, 29, 100, 172]
abbrev dktJ12_compareToUTF16Values_2 : List UInt8 := dkwJ12_compareToUTF16Values_2 ++ []
def dkwJ12_compareToUTF16Values_1 : List UInt8 := [54, 6, 43, 21, 5, 184, 0, 65, 54, 7, 21, 6, 21, 7, 159, 0, 9, 21, 6, 21, 7, 100, 172]
abbrev dktJ12_compareToUTF16Values_1 : List UInt8 := dkwJ12_compareToUTF16Values_1 ++ dktJ12_compareToUTF16Values_2
def dkwJ12_compareToUTF16Values_0 : List UInt8 := [28, 29, 184, 0, 38, 54, 4, 3, 54, 5, 21, 5, 21, 4, 162, 0, 38, 42, 21, 5, 184, 0, 50]
abbrev dktJ12_compareToUTF16Values_0 : List UInt8 := dkwJ12_compareToUTF16Values_0 ++ dktJ12_compareToUTF16Values_1
theorem dksJ12_compareToUTF16Values_0 : cJ12_compareToUTF16Values.data.toList.drop 0 = dktJ12_compareToUTF16Values_0 := by decide +kernel
theorem dksJ12_compareToUTF16Values_1 : cJ12_compareToUTF16Values.data.toList.drop 23 = dktJ12_compareToUTF16Values_1 := dk_seg dksJ12_compareToUTF16Values_0 23 rfl rfl
theorem dksJ12_compareToUTF16Values_2 : cJ12_compareToUTF16Values.data.toList.drop 46 = dktJ12_compareToUTF16Values_2 := dk_seg dksJ12_compareToUTF16Values_1 23 rfl rfl
theorem dJ12_compareToUTF16Values_0 : decode cJ12_compareToUTF16Values 0 = .ok (.iload_n 2, 1) := dk_28 (dk_at dksJ12_compareToUTF16Values_0 0 rfl rfl)
theorem dJ12_compareToUTF16Values_1 : decode cJ12_compareToUTF16Values 1 = .ok (.iload_n 3, 1) := dk_29 (dk_at dksJ12_compareToUTF16Values_0 1 rfl rfl)
theorem dJ12_compareToUTF16Values_2 : decode cJ12_compareToUTF16Values 2 = .ok (.invokestatic 38, 3) := dk_184 0 38 (dk_at dksJ12_compareToUTF16Values_0 2 rfl rfl)
theorem dJ12_compareToUTF16Values_5 : decode cJ12_compareToUTF16Values 5 = .ok (.istore 4, 2) := dk_54 4 (dk_at dksJ12_compareToUTF16Values_0 5 rfl rfl)
theorem dJ12_compareToUTF16Values_7 : decode cJ12_compareToUTF16Values 7 = .ok (.iconst 0, 1) := dk_3 (dk_at dksJ12_compareToUTF16Values_0 7 rfl rfl)
theorem dJ12_compareToUTF16Values_8 : decode cJ12_compareToUTF16Values 8 = .ok (.istore 5, 2) := dk_54 5 (dk_at dksJ12_compareToUTF16Values_0 8 rfl rfl)
theorem dJ12_compareToUTF16Values_10 : decode cJ12_compareToUTF16Values 10 = .ok (.iload 5, 2) := dk_21 5 (dk_at dksJ12_compareToUTF16Values_0 10 rfl rfl)
theorem dJ12_compareToUTF16Values_12 : decode cJ12_compareToUTF16Values 12 = .ok (.iload 4, 2) := dk_21 4 (dk_at dksJ12_compareToUTF16Values_0 12 rfl rfl)
theorem dJ12_compareToUTF16Values_14 : decode cJ12_compareToUTF16Values 14 = .ok (.if_icmp .ge 38, 3) := dk_162 0 38 (dk_at dksJ12_compareToUTF16Values_0 14 rfl rfl)
theorem dJ12_compareToUTF16Values_17 : decode cJ12_compareToUTF16Values 17 = .ok (.aload_n 0, 1) := dk_42 (dk_at dksJ12_compareToUTF16Values_0 17 rfl rfl)
theorem dJ12_compareToUTF16Values_18 : decode cJ12_compareToUTF16Values 18 = .ok (.iload 5, 2) := dk_21 5 (dk_at dksJ12_compareToUTF16Values_0 18 rfl rfl)
theorem dJ12_compareToUTF16Values_20 : decode cJ12_compareToUTF16Values 20 = .ok (.invokestatic 50, 3) := dk_184 0 50 (dk_at dksJ12_compareToUTF16Values_0 20 rfl rfl)
theorem dJ12_compareToUTF16Values_23 : decode cJ12_compareToUTF16Values 23 = .ok (.istore 6, 2) := dk_54 6 (dk_at dksJ12_compareToUTF16Values_1 0 rfl rfl)
theorem dJ12_compareToUTF16Values_25 : decode cJ12_compareToUTF16Values 25 = .ok (.aload_n 1, 1) := dk_43 (dk_at dksJ12_compareToUTF16Values_1 2 rfl rfl)
theorem dJ12_compareToUTF16Values_26 : decode cJ12_compareToUTF16Values 26 = .ok (.iload 5, 2) := dk_21 5 (dk_at dksJ12_compareToUTF16Values_1 3 rfl rfl)
theorem dJ12_compareToUTF16Values_28 : decode cJ12_compareToUTF16Values 28 = .ok (.invokestatic 65, 3) := dk_184 0 65 (dk_at dksJ12_compareToUTF16Values_1 5 rfl rfl)
theorem dJ12_compareToUTF16Values_31 : decode cJ12_compareToUTF16Values 31 = .ok (.istore 7, 2) := dk_54 7 (dk_at dksJ12_compareToUTF16Values_1 8 rfl rfl)
theorem dJ12_compareToUTF16Values_33 : decode cJ12_compareToUTF16Values 33 = .ok (.iload 6, 2) := dk_21 6 (dk_at dksJ12_compareToUTF16Values_1 10 rfl rfl)
theorem dJ12_compareToUTF16Values_35 : decode cJ12_compareToUTF16Values 35 = .ok (.iload 7, 2) := dk_21 7 (dk_at dksJ12_compareToUTF16Values_1 12 rfl rfl)
theorem dJ12_compareToUTF16Values_37 : decode cJ12_compareToUTF16Values 37 = .ok (.if_icmp .eq 9, 3) := dk_159 0 9 (dk_at dksJ12_compareToUTF16Values_1 14 rfl rfl)
theorem dJ12_compareToUTF16Values_40 : decode cJ12_compareToUTF16Values 40 = .ok (.iload 6, 2) := dk_21 6 (dk_at dksJ12_compareToUTF16Values_1 17 rfl rfl)
theorem dJ12_compareToUTF16Values_42 : decode cJ12_compareToUTF16Values 42 = .ok (.iload 7, 2) := dk_21 7 (dk_at dksJ12_compareToUTF16Values_1 19 rfl rfl)
theorem dJ12_compareToUTF16Values_44 : decode cJ12_compareToUTF16Values 44 = .ok (.isub, 1) := dk_100 (dk_at dksJ12_compareToUTF16Values_1 21 rfl rfl)
theorem dJ12_compareToUTF16Values_45 : decode cJ12_compareToUTF16Values 45 = .ok (.ireturn, 1) := dk_172 (dk_at dksJ12_compareToUTF16Values_1 22 rfl rfl)
theorem dJ12_compareToUTF16Values_46 : decode cJ12_compareToUTF16Values 46 = .ok (.iinc 5 1, 3) := dk_132 5 1 (dk_at dksJ12_compareToUTF16Values_2 0 rfl rfl)
theorem dJ12_compareToUTF16Values_49 : decode cJ12_compareToUTF16Values 49 = .ok (.goto (-39), 3) := dk_167 255 217 (dk_at dksJ12_compareToUTF16Values_2 3 rfl rfl)
theorem dJ12_compareToUTF16Values_52 : decode cJ12_compareToUTF16Values 52 = .ok (.iload_n 2, 1) := dk_28 (dk_at dksJ12_compareToUTF16Values_2 6 rfl rfl)
theorem dJ12_compareToUTF16Values_53 : decode cJ12_compareToUTF16Values 53 = .ok (.iload_n 3, 1) := dk_29 (dk_at dksJ12_compareToUTF16Values_2 7 rfl rfl)
theorem dJ12_compareToUTF16Values_54 : decode cJ12_compareToUTF16Values 54 = .ok (.isub, 1) := dk_100 (dk_at dksJ12_compareToUTF16Values_2 8 rfl rfl)
theorem dJ12_compareToUTF16Values_55 : decode cJ12_compareToUTF16Values 55 = .ok (.ireturn, 1) := dk_172 (dk_at dksJ12_compareToUTF16Values_2 9 rfl rfl)
abbrev cJ12_compareToUTF16_2 : ByteArray := prog_88_method_17_code
def yJ12_compareToUTF16_2 : MethodName := ⟨RJ12, "compareToUTF16", "([B[BII)I"⟩
def dkwJ12_compareToUTF16_2_0 : List UInt8 := [28, 42, 184, 0, 54, 184, 0, 62, 29, 43, 184, 0, 58, 184, 0, 62, 42, 43, 28, 29, 184, 0, 59, 172]
abbrev dktJ12_compareToUTF16_2_0 : List UInt8 := dkwJ12_compareToUTF16_2_0 ++ []
theorem dksJ12_compareToUTF16_2_0 : cJ12_compareToUTF16_2.data.toList.drop 0 = dktJ12_compareToUTF16_2_0 := by decide +kernel
theorem dJ12_compareToUTF16_2_0 : decode cJ12_compareToUTF16_2 0 = .ok (.iload_n 2, 1) := dk_28 (dk_at dksJ12_compareToUTF16_2_0 0 rfl rfl)
theorem dJ12_compareToUTF16_2_1 : decode cJ12_compareToUTF16_2 1 = .ok (.aload_n 0, 1) := dk_42 (dk_at dksJ12_compareToUTF16_2_0 1 rfl rfl)
theorem dJ12_compareToUTF16_2_2 : decode cJ12_compareToUTF16_2 2 = .ok (.invokestatic 54, 3) := dk_184 0 54 (dk_at dksJ12_compareToUTF16_2_0 2 rfl rfl)
theorem dJ12_compareToUTF16_2_5 : decode cJ12_compareToUTF16_2 5 = .ok (.invokestatic 62, 3) := dk_184 0 62 (dk_at dksJ12_compareToUTF16_2_0 5 rfl rfl)
theorem dJ12_compareToUTF16_2_8 : decode cJ12_compareToUTF16_2 8 = .ok (.iload_n 3, 1) := dk_29 (dk_at dksJ12_compareToUTF16_2_0 8 rfl rfl)
theorem dJ12_compareToUTF16_2_9 : decode cJ12_compareToUTF16_2 9 = .ok (.aload_n 1, 1) := dk_43 (dk_at dksJ12_compareToUTF16_2_0 9 rfl rfl)
theorem dJ12_compareToUTF16_2_10 : decode cJ12_compareToUTF16_2 10 = .ok (.invokestatic 58, 3) := dk_184 0 58 (dk_at dksJ12_compareToUTF16_2_0 10 rfl rfl)
theorem dJ12_compareToUTF16_2_13 : decode cJ12_compareToUTF16_2 13 = .ok (.invokestatic 62, 3) := dk_184 0 62 (dk_at dksJ12_compareToUTF16_2_0 13 rfl rfl)
theorem dJ12_compareToUTF16_2_16 : decode cJ12_compareToUTF16_2 16 = .ok (.aload_n 0, 1) := dk_42 (dk_at dksJ12_compareToUTF16_2_0 16 rfl rfl)
theorem dJ12_compareToUTF16_2_17 : decode cJ12_compareToUTF16_2 17 = .ok (.aload_n 1, 1) := dk_43 (dk_at dksJ12_compareToUTF16_2_0 17 rfl rfl)
theorem dJ12_compareToUTF16_2_18 : decode cJ12_compareToUTF16_2 18 = .ok (.iload_n 2, 1) := dk_28 (dk_at dksJ12_compareToUTF16_2_0 18 rfl rfl)
theorem dJ12_compareToUTF16_2_19 : decode cJ12_compareToUTF16_2 19 = .ok (.iload_n 3, 1) := dk_29 (dk_at dksJ12_compareToUTF16_2_0 19 rfl rfl)
theorem dJ12_compareToUTF16_2_20 : decode cJ12_compareToUTF16_2 20 = .ok (.invokestatic 59, 3) := dk_184 0 59 (dk_at dksJ12_compareToUTF16_2_0 20 rfl rfl)
theorem dJ12_compareToUTF16_2_23 : decode cJ12_compareToUTF16_2 23 = .ok (.ireturn, 1) := dk_172 (dk_at dksJ12_compareToUTF16_2_0 23 rfl rfl)
abbrev cJ12_lastIndexOf : ByteArray := prog_88_method_27_code
def yJ12_lastIndexOf : MethodName := ⟨RJ12, "lastIndexOf", "([BII)I"⟩
def dkwJ12_lastIndexOf_1 : List UInt8 := [51, 27, 145, 160, 0, 5, 29, 172, 132, 3, 255, 167, 255, 239, 2, 172]
abbrev dktJ12_lastIndexOf_1 : List UInt8 := dkwJ12_lastIndexOf_1 ++ []
def dkwJ12_lastIndexOf_0 : List UInt8 := [27, 184, 0, 88, 154, 0, 5, 2, 172, 28, 42, 190, 4, 100, 184, 0, 38, 62, 29, 155, 0, 19, 42, 29]
abbrev dktJ12_lastIndexOf_0 : List UInt8 := dkwJ12_lastIndexOf_0 ++ dktJ12_lastIndexOf_1
theorem dksJ12_lastIndexOf_0 : cJ12_lastIndexOf.data.toList.drop 0 = dktJ12_lastIndexOf_0 := by decide +kernel
theorem dksJ12_lastIndexOf_1 : cJ12_lastIndexOf.data.toList.drop 24 = dktJ12_lastIndexOf_1 := dk_seg dksJ12_lastIndexOf_0 24 rfl rfl
theorem dJ12_lastIndexOf_0 : decode cJ12_lastIndexOf 0 = .ok (.iload_n 1, 1) := dk_27 (dk_at dksJ12_lastIndexOf_0 0 rfl rfl)
theorem dJ12_lastIndexOf_1 : decode cJ12_lastIndexOf 1 = .ok (.invokestatic 88, 3) := dk_184 0 88 (dk_at dksJ12_lastIndexOf_0 1 rfl rfl)
theorem dJ12_lastIndexOf_4 : decode cJ12_lastIndexOf 4 = .ok (.ifCond .ne 5, 3) := dk_154 0 5 (dk_at dksJ12_lastIndexOf_0 4 rfl rfl)
theorem dJ12_lastIndexOf_7 : decode cJ12_lastIndexOf 7 = .ok (.iconst (-1), 1) := dk_2 (dk_at dksJ12_lastIndexOf_0 7 rfl rfl)
theorem dJ12_lastIndexOf_8 : decode cJ12_lastIndexOf 8 = .ok (.ireturn, 1) := dk_172 (dk_at dksJ12_lastIndexOf_0 8 rfl rfl)
theorem dJ12_lastIndexOf_9 : decode cJ12_lastIndexOf 9 = .ok (.iload_n 2, 1) := dk_28 (dk_at dksJ12_lastIndexOf_0 9 rfl rfl)
theorem dJ12_lastIndexOf_10 : decode cJ12_lastIndexOf 10 = .ok (.aload_n 0, 1) := dk_42 (dk_at dksJ12_lastIndexOf_0 10 rfl rfl)
theorem dJ12_lastIndexOf_11 : decode cJ12_lastIndexOf 11 = .ok (.arraylength, 1) := dk_190 (dk_at dksJ12_lastIndexOf_0 11 rfl rfl)
theorem dJ12_lastIndexOf_12 : decode cJ12_lastIndexOf 12 = .ok (.iconst 1, 1) := dk_4 (dk_at dksJ12_lastIndexOf_0 12 rfl rfl)
theorem dJ12_lastIndexOf_13 : decode cJ12_lastIndexOf 13 = .ok (.isub, 1) := dk_100 (dk_at dksJ12_lastIndexOf_0 13 rfl rfl)
theorem dJ12_lastIndexOf_14 : decode cJ12_lastIndexOf 14 = .ok (.invokestatic 38, 3) := dk_184 0 38 (dk_at dksJ12_lastIndexOf_0 14 rfl rfl)
theorem dJ12_lastIndexOf_17 : decode cJ12_lastIndexOf 17 = .ok (.istore_n 3, 1) := dk_62 (dk_at dksJ12_lastIndexOf_0 17 rfl rfl)
theorem dJ12_lastIndexOf_18 : decode cJ12_lastIndexOf 18 = .ok (.iload_n 3, 1) := dk_29 (dk_at dksJ12_lastIndexOf_0 18 rfl rfl)
theorem dJ12_lastIndexOf_19 : decode cJ12_lastIndexOf 19 = .ok (.ifCond .lt 19, 3) := dk_155 0 19 (dk_at dksJ12_lastIndexOf_0 19 rfl rfl)
theorem dJ12_lastIndexOf_22 : decode cJ12_lastIndexOf 22 = .ok (.aload_n 0, 1) := dk_42 (dk_at dksJ12_lastIndexOf_0 22 rfl rfl)
theorem dJ12_lastIndexOf_23 : decode cJ12_lastIndexOf 23 = .ok (.iload_n 3, 1) := dk_29 (dk_at dksJ12_lastIndexOf_0 23 rfl rfl)
theorem dJ12_lastIndexOf_24 : decode cJ12_lastIndexOf 24 = .ok (.baload, 1) := dk_51 (dk_at dksJ12_lastIndexOf_1 0 rfl rfl)
theorem dJ12_lastIndexOf_25 : decode cJ12_lastIndexOf 25 = .ok (.iload_n 1, 1) := dk_27 (dk_at dksJ12_lastIndexOf_1 1 rfl rfl)
theorem dJ12_lastIndexOf_26 : decode cJ12_lastIndexOf 26 = .ok (.i2b, 1) := dk_145 (dk_at dksJ12_lastIndexOf_1 2 rfl rfl)
theorem dJ12_lastIndexOf_27 : decode cJ12_lastIndexOf 27 = .ok (.if_icmp .ne 5, 3) := dk_160 0 5 (dk_at dksJ12_lastIndexOf_1 3 rfl rfl)
theorem dJ12_lastIndexOf_30 : decode cJ12_lastIndexOf 30 = .ok (.iload_n 3, 1) := dk_29 (dk_at dksJ12_lastIndexOf_1 6 rfl rfl)
theorem dJ12_lastIndexOf_31 : decode cJ12_lastIndexOf 31 = .ok (.ireturn, 1) := dk_172 (dk_at dksJ12_lastIndexOf_1 7 rfl rfl)
theorem dJ12_lastIndexOf_32 : decode cJ12_lastIndexOf 32 = .ok (.iinc 3 (-1), 3) := dk_132 3 255 (dk_at dksJ12_lastIndexOf_1 8 rfl rfl)
theorem dJ12_lastIndexOf_35 : decode cJ12_lastIndexOf 35 = .ok (.goto (-17), 3) := dk_167 255 239 (dk_at dksJ12_lastIndexOf_1 11 rfl rfl)
theorem dJ12_lastIndexOf_38 : decode cJ12_lastIndexOf 38 = .ok (.iconst (-1), 1) := dk_2 (dk_at dksJ12_lastIndexOf_1 14 rfl rfl)
theorem dJ12_lastIndexOf_39 : decode cJ12_lastIndexOf 39 = .ok (.ireturn, 1) := dk_172 (dk_at dksJ12_lastIndexOf_1 15 rfl rfl)
abbrev cJ12_canEncode_2 : ByteArray := prog_88_method_4_code
def yJ12_canEncode_2 : MethodName := ⟨RJ12, "canEncode", "(I)Z"⟩
def dkwJ12_canEncode_2_0 : List UInt8 := [26, 155, 0, 14, 26, 17, 0, 255, 163, 0, 7, 4, 167, 0, 4, 3, 172]
abbrev dktJ12_canEncode_2_0 : List UInt8 := dkwJ12_canEncode_2_0 ++ []
theorem dksJ12_canEncode_2_0 : cJ12_canEncode_2.data.toList.drop 0 = dktJ12_canEncode_2_0 := by decide +kernel
theorem dJ12_canEncode_2_0 : decode cJ12_canEncode_2 0 = .ok (.iload_n 0, 1) := dk_26 (dk_at dksJ12_canEncode_2_0 0 rfl rfl)
theorem dJ12_canEncode_2_1 : decode cJ12_canEncode_2 1 = .ok (.ifCond .lt 14, 3) := dk_155 0 14 (dk_at dksJ12_canEncode_2_0 1 rfl rfl)
theorem dJ12_canEncode_2_4 : decode cJ12_canEncode_2 4 = .ok (.iload_n 0, 1) := dk_26 (dk_at dksJ12_canEncode_2_0 4 rfl rfl)
theorem dJ12_canEncode_2_5 : decode cJ12_canEncode_2 5 = .ok (.sipush 255, 3) := dk_17 0 255 (dk_at dksJ12_canEncode_2_0 5 rfl rfl)
theorem dJ12_canEncode_2_8 : decode cJ12_canEncode_2 8 = .ok (.if_icmp .gt 7, 3) := dk_163 0 7 (dk_at dksJ12_canEncode_2_0 8 rfl rfl)
theorem dJ12_canEncode_2_11 : decode cJ12_canEncode_2 11 = .ok (.iconst 1, 1) := dk_4 (dk_at dksJ12_canEncode_2_0 11 rfl rfl)
theorem dJ12_canEncode_2_12 : decode cJ12_canEncode_2 12 = .ok (.goto 4, 3) := dk_167 0 4 (dk_at dksJ12_canEncode_2_0 12 rfl rfl)
theorem dJ12_canEncode_2_15 : decode cJ12_canEncode_2 15 = .ok (.iconst 0, 1) := dk_3 (dk_at dksJ12_canEncode_2_0 15 rfl rfl)
theorem dJ12_canEncode_2_16 : decode cJ12_canEncode_2 16 = .ok (.ireturn, 1) := dk_172 (dk_at dksJ12_canEncode_2_0 16 rfl rfl)
abbrev cJ12_newString : ByteArray := prog_88_method_47_code
def yJ12_newString : MethodName := ⟨RJ12, "newString", "([BII)Ljava/lang/String;"⟩
def dkwJ12_newString_0 : List UInt8 := [28, 154, 0, 6, 18, 151, 176, 187, 0, 1, 89, 42, 27, 27, 28, 96, 184, 0, 232, 3, 183, 0, 112, 176]
abbrev dktJ12_newString_0 : List UInt8 := dkwJ12_newString_0 ++ []
theorem dksJ12_newString_0 : cJ12_newString.data.toList.drop 0 = dktJ12_newString_0 := by decide +kernel
theorem dJ12_newString_0 : decode cJ12_newString 0 = .ok (.iload_n 2, 1) := dk_28 (dk_at dksJ12_newString_0 0 rfl rfl)
theorem dJ12_newString_1 : decode cJ12_newString 1 = .ok (.ifCond .ne 6, 3) := dk_154 0 6 (dk_at dksJ12_newString_0 1 rfl rfl)
theorem dJ12_newString_4 : decode cJ12_newString 4 = .ok (.ldc 151, 2) := dk_18 151 (dk_at dksJ12_newString_0 4 rfl rfl)
theorem dJ12_newString_6 : decode cJ12_newString 6 = .ok (.areturn, 1) := dk_176 (dk_at dksJ12_newString_0 6 rfl rfl)
theorem dJ12_newString_7 : decode cJ12_newString 7 = .ok (.new 1, 3) := dk_187 0 1 (dk_at dksJ12_newString_0 7 rfl rfl)
theorem dJ12_newString_10 : decode cJ12_newString 10 = .ok (.dup, 1) := dk_89 (dk_at dksJ12_newString_0 10 rfl rfl)
theorem dJ12_newString_11 : decode cJ12_newString 11 = .ok (.aload_n 0, 1) := dk_42 (dk_at dksJ12_newString_0 11 rfl rfl)
theorem dJ12_newString_12 : decode cJ12_newString 12 = .ok (.iload_n 1, 1) := dk_27 (dk_at dksJ12_newString_0 12 rfl rfl)
theorem dJ12_newString_13 : decode cJ12_newString 13 = .ok (.iload_n 1, 1) := dk_27 (dk_at dksJ12_newString_0 13 rfl rfl)
theorem dJ12_newString_14 : decode cJ12_newString 14 = .ok (.iload_n 2, 1) := dk_28 (dk_at dksJ12_newString_0 14 rfl rfl)
theorem dJ12_newString_15 : decode cJ12_newString 15 = .ok (.iadd, 1) := dk_96 (dk_at dksJ12_newString_0 15 rfl rfl)
theorem dJ12_newString_16 : decode cJ12_newString 16 = .ok (.invokestatic 232, 3) := dk_184 0 232 (dk_at dksJ12_newString_0 16 rfl rfl)
theorem dJ12_newString_19 : decode cJ12_newString 19 = .ok (.iconst 0, 1) := dk_3 (dk_at dksJ12_newString_0 19 rfl rfl)
theorem dJ12_newString_20 : decode cJ12_newString 20 = .ok (.invokespecial 112, 3) := dk_183 0 112 (dk_at dksJ12_newString_0 20 rfl rfl)
theorem dJ12_newString_23 : decode cJ12_newString 23 = .ok (.areturn, 1) := dk_176 (dk_at dksJ12_newString_0 23 rfl rfl)
abbrev cJ12_indexOf : ByteArray := prog_88_method_24_code
def yJ12_indexOf : MethodName := ⟨RJ12, "indexOf", "([B[B)I"⟩
def dkwJ12_indexOf_1 : List UInt8 := [172]
abbrev dktJ12_indexOf_1 : List UInt8 := dkwJ12_indexOf_1 ++ []
def dkwJ12_indexOf_0 : List UInt8 := [43, 190, 154, 0, 5, 3, 172, 42, 190, 154, 0, 5, 2, 172, 42, 42, 190, 43, 43, 190, 3, 184, 0, 99]
abbrev dktJ12_indexOf_0 : List UInt8 := dkwJ12_indexOf_0 ++ dktJ12_indexOf_1
theorem dksJ12_indexOf_0 : cJ12_indexOf.data.toList.drop 0 = dktJ12_indexOf_0 := by decide +kernel
theorem dksJ12_indexOf_1 : cJ12_indexOf.data.toList.drop 24 = dktJ12_indexOf_1 := dk_seg dksJ12_indexOf_0 24 rfl rfl
theorem dJ12_indexOf_0 : decode cJ12_indexOf 0 = .ok (.aload_n 1, 1) := dk_43 (dk_at dksJ12_indexOf_0 0 rfl rfl)
theorem dJ12_indexOf_1 : decode cJ12_indexOf 1 = .ok (.arraylength, 1) := dk_190 (dk_at dksJ12_indexOf_0 1 rfl rfl)
theorem dJ12_indexOf_2 : decode cJ12_indexOf 2 = .ok (.ifCond .ne 5, 3) := dk_154 0 5 (dk_at dksJ12_indexOf_0 2 rfl rfl)
theorem dJ12_indexOf_5 : decode cJ12_indexOf 5 = .ok (.iconst 0, 1) := dk_3 (dk_at dksJ12_indexOf_0 5 rfl rfl)
theorem dJ12_indexOf_6 : decode cJ12_indexOf 6 = .ok (.ireturn, 1) := dk_172 (dk_at dksJ12_indexOf_0 6 rfl rfl)
theorem dJ12_indexOf_7 : decode cJ12_indexOf 7 = .ok (.aload_n 0, 1) := dk_42 (dk_at dksJ12_indexOf_0 7 rfl rfl)
theorem dJ12_indexOf_8 : decode cJ12_indexOf 8 = .ok (.arraylength, 1) := dk_190 (dk_at dksJ12_indexOf_0 8 rfl rfl)
theorem dJ12_indexOf_9 : decode cJ12_indexOf 9 = .ok (.ifCond .ne 5, 3) := dk_154 0 5 (dk_at dksJ12_indexOf_0 9 rfl rfl)
theorem dJ12_indexOf_12 : decode cJ12_indexOf 12 = .ok (.iconst (-1), 1) := dk_2 (dk_at dksJ12_indexOf_0 12 rfl rfl)
theorem dJ12_indexOf_13 : decode cJ12_indexOf 13 = .ok (.ireturn, 1) := dk_172 (dk_at dksJ12_indexOf_0 13 rfl rfl)
theorem dJ12_indexOf_14 : decode cJ12_indexOf 14 = .ok (.aload_n 0, 1) := dk_42 (dk_at dksJ12_indexOf_0 14 rfl rfl)
theorem dJ12_indexOf_15 : decode cJ12_indexOf 15 = .ok (.aload_n 0, 1) := dk_42 (dk_at dksJ12_indexOf_0 15 rfl rfl)
theorem dJ12_indexOf_16 : decode cJ12_indexOf 16 = .ok (.arraylength, 1) := dk_190 (dk_at dksJ12_indexOf_0 16 rfl rfl)
theorem dJ12_indexOf_17 : decode cJ12_indexOf 17 = .ok (.aload_n 1, 1) := dk_43 (dk_at dksJ12_indexOf_0 17 rfl rfl)
theorem dJ12_indexOf_18 : decode cJ12_indexOf 18 = .ok (.aload_n 1, 1) := dk_43 (dk_at dksJ12_indexOf_0 18 rfl rfl)
theorem dJ12_indexOf_19 : decode cJ12_indexOf 19 = .ok (.arraylength, 1) := dk_190 (dk_at dksJ12_indexOf_0 19 rfl rfl)
theorem dJ12_indexOf_20 : decode cJ12_indexOf 20 = .ok (.iconst 0, 1) := dk_3 (dk_at dksJ12_indexOf_0 20 rfl rfl)
theorem dJ12_indexOf_21 : decode cJ12_indexOf 21 = .ok (.invokestatic 99, 3) := dk_184 0 99 (dk_at dksJ12_indexOf_0 21 rfl rfl)
theorem dJ12_indexOf_24 : decode cJ12_indexOf 24 = .ok (.ireturn, 1) := dk_172 (dk_at dksJ12_indexOf_1 0 rfl rfl)
abbrev cJ12_indexOf_2 : ByteArray := prog_88_method_25_code
def yJ12_indexOf_2 : MethodName := ⟨RJ12, "indexOf", "([BI[BII)I"⟩
def dkwJ12_indexOf_2_5 : List UInt8 := [167, 255, 154, 2, 172]
abbrev dktJ12_indexOf_2_5 : List UInt8 := dkwJ12_indexOf_2_5 ++ []
def dkwJ12_indexOf_2_4 : List UInt8 := [132, 8, 1, 132, 10, 1, 167, 255, 232, 21, 8, 21, 9, 160, 0, 6, 21, 7, 172, 132, 7, 1]
abbrev dktJ12_indexOf_2_4 : List UInt8 := dkwJ12_indexOf_2_4 ++ dktJ12_indexOf_2_5
def dkwJ12_indexOf_2_3 : List UInt8 := [100, 54, 9, 4, 54, 10, 21, 8, 21, 9, 162, 0, 23, 42, 21, 8, 51, 44, 21, 10, 51, 160, 0, 12]
abbrev dktJ12_indexOf_2_3 : List UInt8 := dkwJ12_indexOf_2_3 ++ dktJ12_indexOf_2_4
def dkwJ12_indexOf_2_2 : List UInt8 := [159, 0, 6, 167, 255, 237, 21, 7, 21, 6, 163, 0, 57, 21, 7, 4, 96, 54, 8, 21, 8, 29, 96, 4]
abbrev dktJ12_indexOf_2_2 : List UInt8 := dkwJ12_indexOf_2_2 ++ dktJ12_indexOf_2_3
def dkwJ12_indexOf_2_1 : List UInt8 := [51, 21, 5, 159, 0, 25, 132, 7, 1, 21, 7, 21, 6, 163, 0, 15, 42, 21, 7, 51, 21, 5]
abbrev dktJ12_indexOf_2_1 : List UInt8 := dkwJ12_indexOf_2_1 ++ dktJ12_indexOf_2_2
def dkwJ12_indexOf_2_0 : List UInt8 := [44, 3, 51, 54, 5, 27, 29, 100, 54, 6, 21, 4, 54, 7, 21, 7, 21, 6, 163, 0, 101, 42, 21, 7]
abbrev dktJ12_indexOf_2_0 : List UInt8 := dkwJ12_indexOf_2_0 ++ dktJ12_indexOf_2_1
theorem dksJ12_indexOf_2_0 : cJ12_indexOf_2.data.toList.drop 0 = dktJ12_indexOf_2_0 := by decide +kernel
theorem dksJ12_indexOf_2_1 : cJ12_indexOf_2.data.toList.drop 24 = dktJ12_indexOf_2_1 := dk_seg dksJ12_indexOf_2_0 24 rfl rfl
theorem dksJ12_indexOf_2_2 : cJ12_indexOf_2.data.toList.drop 46 = dktJ12_indexOf_2_2 := dk_seg dksJ12_indexOf_2_1 22 rfl rfl
theorem dksJ12_indexOf_2_3 : cJ12_indexOf_2.data.toList.drop 70 = dktJ12_indexOf_2_3 := dk_seg dksJ12_indexOf_2_2 24 rfl rfl
theorem dksJ12_indexOf_2_4 : cJ12_indexOf_2.data.toList.drop 94 = dktJ12_indexOf_2_4 := dk_seg dksJ12_indexOf_2_3 24 rfl rfl
theorem dksJ12_indexOf_2_5 : cJ12_indexOf_2.data.toList.drop 116 = dktJ12_indexOf_2_5 := dk_seg dksJ12_indexOf_2_4 22 rfl rfl
theorem dJ12_indexOf_2_0 : decode cJ12_indexOf_2 0 = .ok (.aload_n 2, 1) := dk_44 (dk_at dksJ12_indexOf_2_0 0 rfl rfl)
theorem dJ12_indexOf_2_1 : decode cJ12_indexOf_2 1 = .ok (.iconst 0, 1) := dk_3 (dk_at dksJ12_indexOf_2_0 1 rfl rfl)
theorem dJ12_indexOf_2_2 : decode cJ12_indexOf_2 2 = .ok (.baload, 1) := dk_51 (dk_at dksJ12_indexOf_2_0 2 rfl rfl)
theorem dJ12_indexOf_2_3 : decode cJ12_indexOf_2 3 = .ok (.istore 5, 2) := dk_54 5 (dk_at dksJ12_indexOf_2_0 3 rfl rfl)
theorem dJ12_indexOf_2_5 : decode cJ12_indexOf_2 5 = .ok (.iload_n 1, 1) := dk_27 (dk_at dksJ12_indexOf_2_0 5 rfl rfl)
theorem dJ12_indexOf_2_6 : decode cJ12_indexOf_2 6 = .ok (.iload_n 3, 1) := dk_29 (dk_at dksJ12_indexOf_2_0 6 rfl rfl)
theorem dJ12_indexOf_2_7 : decode cJ12_indexOf_2 7 = .ok (.isub, 1) := dk_100 (dk_at dksJ12_indexOf_2_0 7 rfl rfl)
theorem dJ12_indexOf_2_8 : decode cJ12_indexOf_2 8 = .ok (.istore 6, 2) := dk_54 6 (dk_at dksJ12_indexOf_2_0 8 rfl rfl)
theorem dJ12_indexOf_2_10 : decode cJ12_indexOf_2 10 = .ok (.iload 4, 2) := dk_21 4 (dk_at dksJ12_indexOf_2_0 10 rfl rfl)
theorem dJ12_indexOf_2_12 : decode cJ12_indexOf_2 12 = .ok (.istore 7, 2) := dk_54 7 (dk_at dksJ12_indexOf_2_0 12 rfl rfl)
theorem dJ12_indexOf_2_14 : decode cJ12_indexOf_2 14 = .ok (.iload 7, 2) := dk_21 7 (dk_at dksJ12_indexOf_2_0 14 rfl rfl)
theorem dJ12_indexOf_2_16 : decode cJ12_indexOf_2 16 = .ok (.iload 6, 2) := dk_21 6 (dk_at dksJ12_indexOf_2_0 16 rfl rfl)
theorem dJ12_indexOf_2_18 : decode cJ12_indexOf_2 18 = .ok (.if_icmp .gt 101, 3) := dk_163 0 101 (dk_at dksJ12_indexOf_2_0 18 rfl rfl)
theorem dJ12_indexOf_2_21 : decode cJ12_indexOf_2 21 = .ok (.aload_n 0, 1) := dk_42 (dk_at dksJ12_indexOf_2_0 21 rfl rfl)
theorem dJ12_indexOf_2_22 : decode cJ12_indexOf_2 22 = .ok (.iload 7, 2) := dk_21 7 (dk_at dksJ12_indexOf_2_0 22 rfl rfl)
theorem dJ12_indexOf_2_24 : decode cJ12_indexOf_2 24 = .ok (.baload, 1) := dk_51 (dk_at dksJ12_indexOf_2_1 0 rfl rfl)
theorem dJ12_indexOf_2_25 : decode cJ12_indexOf_2 25 = .ok (.iload 5, 2) := dk_21 5 (dk_at dksJ12_indexOf_2_1 1 rfl rfl)
theorem dJ12_indexOf_2_27 : decode cJ12_indexOf_2 27 = .ok (.if_icmp .eq 25, 3) := dk_159 0 25 (dk_at dksJ12_indexOf_2_1 3 rfl rfl)
theorem dJ12_indexOf_2_30 : decode cJ12_indexOf_2 30 = .ok (.iinc 7 1, 3) := dk_132 7 1 (dk_at dksJ12_indexOf_2_1 6 rfl rfl)
theorem dJ12_indexOf_2_33 : decode cJ12_indexOf_2 33 = .ok (.iload 7, 2) := dk_21 7 (dk_at dksJ12_indexOf_2_1 9 rfl rfl)
theorem dJ12_indexOf_2_35 : decode cJ12_indexOf_2 35 = .ok (.iload 6, 2) := dk_21 6 (dk_at dksJ12_indexOf_2_1 11 rfl rfl)
theorem dJ12_indexOf_2_37 : decode cJ12_indexOf_2 37 = .ok (.if_icmp .gt 15, 3) := dk_163 0 15 (dk_at dksJ12_indexOf_2_1 13 rfl rfl)
theorem dJ12_indexOf_2_40 : decode cJ12_indexOf_2 40 = .ok (.aload_n 0, 1) := dk_42 (dk_at dksJ12_indexOf_2_1 16 rfl rfl)
theorem dJ12_indexOf_2_41 : decode cJ12_indexOf_2 41 = .ok (.iload 7, 2) := dk_21 7 (dk_at dksJ12_indexOf_2_1 17 rfl rfl)
theorem dJ12_indexOf_2_43 : decode cJ12_indexOf_2 43 = .ok (.baload, 1) := dk_51 (dk_at dksJ12_indexOf_2_1 19 rfl rfl)
theorem dJ12_indexOf_2_44 : decode cJ12_indexOf_2 44 = .ok (.iload 5, 2) := dk_21 5 (dk_at dksJ12_indexOf_2_1 20 rfl rfl)
theorem dJ12_indexOf_2_46 : decode cJ12_indexOf_2 46 = .ok (.if_icmp .eq 6, 3) := dk_159 0 6 (dk_at dksJ12_indexOf_2_2 0 rfl rfl)
theorem dJ12_indexOf_2_49 : decode cJ12_indexOf_2 49 = .ok (.goto (-19), 3) := dk_167 255 237 (dk_at dksJ12_indexOf_2_2 3 rfl rfl)
theorem dJ12_indexOf_2_52 : decode cJ12_indexOf_2 52 = .ok (.iload 7, 2) := dk_21 7 (dk_at dksJ12_indexOf_2_2 6 rfl rfl)
theorem dJ12_indexOf_2_54 : decode cJ12_indexOf_2 54 = .ok (.iload 6, 2) := dk_21 6 (dk_at dksJ12_indexOf_2_2 8 rfl rfl)
theorem dJ12_indexOf_2_56 : decode cJ12_indexOf_2 56 = .ok (.if_icmp .gt 57, 3) := dk_163 0 57 (dk_at dksJ12_indexOf_2_2 10 rfl rfl)
theorem dJ12_indexOf_2_59 : decode cJ12_indexOf_2 59 = .ok (.iload 7, 2) := dk_21 7 (dk_at dksJ12_indexOf_2_2 13 rfl rfl)
theorem dJ12_indexOf_2_61 : decode cJ12_indexOf_2 61 = .ok (.iconst 1, 1) := dk_4 (dk_at dksJ12_indexOf_2_2 15 rfl rfl)
theorem dJ12_indexOf_2_62 : decode cJ12_indexOf_2 62 = .ok (.iadd, 1) := dk_96 (dk_at dksJ12_indexOf_2_2 16 rfl rfl)
theorem dJ12_indexOf_2_63 : decode cJ12_indexOf_2 63 = .ok (.istore 8, 2) := dk_54 8 (dk_at dksJ12_indexOf_2_2 17 rfl rfl)
theorem dJ12_indexOf_2_65 : decode cJ12_indexOf_2 65 = .ok (.iload 8, 2) := dk_21 8 (dk_at dksJ12_indexOf_2_2 19 rfl rfl)
theorem dJ12_indexOf_2_67 : decode cJ12_indexOf_2 67 = .ok (.iload_n 3, 1) := dk_29 (dk_at dksJ12_indexOf_2_2 21 rfl rfl)
theorem dJ12_indexOf_2_68 : decode cJ12_indexOf_2 68 = .ok (.iadd, 1) := dk_96 (dk_at dksJ12_indexOf_2_2 22 rfl rfl)
theorem dJ12_indexOf_2_69 : decode cJ12_indexOf_2 69 = .ok (.iconst 1, 1) := dk_4 (dk_at dksJ12_indexOf_2_2 23 rfl rfl)
theorem dJ12_indexOf_2_70 : decode cJ12_indexOf_2 70 = .ok (.isub, 1) := dk_100 (dk_at dksJ12_indexOf_2_3 0 rfl rfl)
theorem dJ12_indexOf_2_71 : decode cJ12_indexOf_2 71 = .ok (.istore 9, 2) := dk_54 9 (dk_at dksJ12_indexOf_2_3 1 rfl rfl)
theorem dJ12_indexOf_2_73 : decode cJ12_indexOf_2 73 = .ok (.iconst 1, 1) := dk_4 (dk_at dksJ12_indexOf_2_3 3 rfl rfl)
theorem dJ12_indexOf_2_74 : decode cJ12_indexOf_2 74 = .ok (.istore 10, 2) := dk_54 10 (dk_at dksJ12_indexOf_2_3 4 rfl rfl)
theorem dJ12_indexOf_2_76 : decode cJ12_indexOf_2 76 = .ok (.iload 8, 2) := dk_21 8 (dk_at dksJ12_indexOf_2_3 6 rfl rfl)
theorem dJ12_indexOf_2_78 : decode cJ12_indexOf_2 78 = .ok (.iload 9, 2) := dk_21 9 (dk_at dksJ12_indexOf_2_3 8 rfl rfl)
theorem dJ12_indexOf_2_80 : decode cJ12_indexOf_2 80 = .ok (.if_icmp .ge 23, 3) := dk_162 0 23 (dk_at dksJ12_indexOf_2_3 10 rfl rfl)
theorem dJ12_indexOf_2_83 : decode cJ12_indexOf_2 83 = .ok (.aload_n 0, 1) := dk_42 (dk_at dksJ12_indexOf_2_3 13 rfl rfl)
theorem dJ12_indexOf_2_84 : decode cJ12_indexOf_2 84 = .ok (.iload 8, 2) := dk_21 8 (dk_at dksJ12_indexOf_2_3 14 rfl rfl)
theorem dJ12_indexOf_2_86 : decode cJ12_indexOf_2 86 = .ok (.baload, 1) := dk_51 (dk_at dksJ12_indexOf_2_3 16 rfl rfl)
theorem dJ12_indexOf_2_87 : decode cJ12_indexOf_2 87 = .ok (.aload_n 2, 1) := dk_44 (dk_at dksJ12_indexOf_2_3 17 rfl rfl)
theorem dJ12_indexOf_2_88 : decode cJ12_indexOf_2 88 = .ok (.iload 10, 2) := dk_21 10 (dk_at dksJ12_indexOf_2_3 18 rfl rfl)
theorem dJ12_indexOf_2_90 : decode cJ12_indexOf_2 90 = .ok (.baload, 1) := dk_51 (dk_at dksJ12_indexOf_2_3 20 rfl rfl)
theorem dJ12_indexOf_2_91 : decode cJ12_indexOf_2 91 = .ok (.if_icmp .ne 12, 3) := dk_160 0 12 (dk_at dksJ12_indexOf_2_3 21 rfl rfl)
theorem dJ12_indexOf_2_94 : decode cJ12_indexOf_2 94 = .ok (.iinc 8 1, 3) := dk_132 8 1 (dk_at dksJ12_indexOf_2_4 0 rfl rfl)
theorem dJ12_indexOf_2_97 : decode cJ12_indexOf_2 97 = .ok (.iinc 10 1, 3) := dk_132 10 1 (dk_at dksJ12_indexOf_2_4 3 rfl rfl)
theorem dJ12_indexOf_2_100 : decode cJ12_indexOf_2 100 = .ok (.goto (-24), 3) := dk_167 255 232 (dk_at dksJ12_indexOf_2_4 6 rfl rfl)
theorem dJ12_indexOf_2_103 : decode cJ12_indexOf_2 103 = .ok (.iload 8, 2) := dk_21 8 (dk_at dksJ12_indexOf_2_4 9 rfl rfl)
theorem dJ12_indexOf_2_105 : decode cJ12_indexOf_2 105 = .ok (.iload 9, 2) := dk_21 9 (dk_at dksJ12_indexOf_2_4 11 rfl rfl)
theorem dJ12_indexOf_2_107 : decode cJ12_indexOf_2 107 = .ok (.if_icmp .ne 6, 3) := dk_160 0 6 (dk_at dksJ12_indexOf_2_4 13 rfl rfl)
theorem dJ12_indexOf_2_110 : decode cJ12_indexOf_2 110 = .ok (.iload 7, 2) := dk_21 7 (dk_at dksJ12_indexOf_2_4 16 rfl rfl)
theorem dJ12_indexOf_2_112 : decode cJ12_indexOf_2 112 = .ok (.ireturn, 1) := dk_172 (dk_at dksJ12_indexOf_2_4 18 rfl rfl)
theorem dJ12_indexOf_2_113 : decode cJ12_indexOf_2 113 = .ok (.iinc 7 1, 3) := dk_132 7 1 (dk_at dksJ12_indexOf_2_4 19 rfl rfl)
theorem dJ12_indexOf_2_116 : decode cJ12_indexOf_2 116 = .ok (.goto (-102), 3) := dk_167 255 154 (dk_at dksJ12_indexOf_2_5 0 rfl rfl)
theorem dJ12_indexOf_2_119 : decode cJ12_indexOf_2 119 = .ok (.iconst (-1), 1) := dk_2 (dk_at dksJ12_indexOf_2_5 3 rfl rfl)
theorem dJ12_indexOf_2_120 : decode cJ12_indexOf_2 120 = .ok (.ireturn, 1) := dk_172 (dk_at dksJ12_indexOf_2_5 4 rfl rfl)
abbrev cJ12_indexOf_3 : ByteArray := prog_88_method_22_code
def yJ12_indexOf_3 : MethodName := ⟨RJ12, "indexOf", "([BIII)I"⟩
def dkwJ12_indexOf_3_1 : List UInt8 := [161, 0, 5, 2, 172, 42, 27, 28, 29, 184, 0, 95, 172]
abbrev dktJ12_indexOf_3_1 : List UInt8 := dkwJ12_indexOf_3_1 ++ []
def dkwJ12_indexOf_3_0 : List UInt8 := [27, 184, 0, 88, 154, 0, 5, 2, 172, 28, 3, 184, 0, 92, 61, 29, 42, 190, 184, 0, 38, 62, 28, 29]
abbrev dktJ12_indexOf_3_0 : List UInt8 := dkwJ12_indexOf_3_0 ++ dktJ12_indexOf_3_1
theorem dksJ12_indexOf_3_0 : cJ12_indexOf_3.data.toList.drop 0 = dktJ12_indexOf_3_0 := by decide +kernel
theorem dksJ12_indexOf_3_1 : cJ12_indexOf_3.data.toList.drop 24 = dktJ12_indexOf_3_1 := dk_seg dksJ12_indexOf_3_0 24 rfl rfl
theorem dJ12_indexOf_3_0 : decode cJ12_indexOf_3 0 = .ok (.iload_n 1, 1) := dk_27 (dk_at dksJ12_indexOf_3_0 0 rfl rfl)
theorem dJ12_indexOf_3_1 : decode cJ12_indexOf_3 1 = .ok (.invokestatic 88, 3) := dk_184 0 88 (dk_at dksJ12_indexOf_3_0 1 rfl rfl)
theorem dJ12_indexOf_3_4 : decode cJ12_indexOf_3 4 = .ok (.ifCond .ne 5, 3) := dk_154 0 5 (dk_at dksJ12_indexOf_3_0 4 rfl rfl)
theorem dJ12_indexOf_3_7 : decode cJ12_indexOf_3 7 = .ok (.iconst (-1), 1) := dk_2 (dk_at dksJ12_indexOf_3_0 7 rfl rfl)
theorem dJ12_indexOf_3_8 : decode cJ12_indexOf_3 8 = .ok (.ireturn, 1) := dk_172 (dk_at dksJ12_indexOf_3_0 8 rfl rfl)
theorem dJ12_indexOf_3_9 : decode cJ12_indexOf_3 9 = .ok (.iload_n 2, 1) := dk_28 (dk_at dksJ12_indexOf_3_0 9 rfl rfl)
theorem dJ12_indexOf_3_10 : decode cJ12_indexOf_3 10 = .ok (.iconst 0, 1) := dk_3 (dk_at dksJ12_indexOf_3_0 10 rfl rfl)
theorem dJ12_indexOf_3_11 : decode cJ12_indexOf_3 11 = .ok (.invokestatic 92, 3) := dk_184 0 92 (dk_at dksJ12_indexOf_3_0 11 rfl rfl)
theorem dJ12_indexOf_3_14 : decode cJ12_indexOf_3 14 = .ok (.istore_n 2, 1) := dk_61 (dk_at dksJ12_indexOf_3_0 14 rfl rfl)
theorem dJ12_indexOf_3_15 : decode cJ12_indexOf_3 15 = .ok (.iload_n 3, 1) := dk_29 (dk_at dksJ12_indexOf_3_0 15 rfl rfl)
theorem dJ12_indexOf_3_16 : decode cJ12_indexOf_3 16 = .ok (.aload_n 0, 1) := dk_42 (dk_at dksJ12_indexOf_3_0 16 rfl rfl)
theorem dJ12_indexOf_3_17 : decode cJ12_indexOf_3 17 = .ok (.arraylength, 1) := dk_190 (dk_at dksJ12_indexOf_3_0 17 rfl rfl)
theorem dJ12_indexOf_3_18 : decode cJ12_indexOf_3 18 = .ok (.invokestatic 38, 3) := dk_184 0 38 (dk_at dksJ12_indexOf_3_0 18 rfl rfl)
theorem dJ12_indexOf_3_21 : decode cJ12_indexOf_3 21 = .ok (.istore_n 3, 1) := dk_62 (dk_at dksJ12_indexOf_3_0 21 rfl rfl)
theorem dJ12_indexOf_3_22 : decode cJ12_indexOf_3 22 = .ok (.iload_n 2, 1) := dk_28 (dk_at dksJ12_indexOf_3_0 22 rfl rfl)
theorem dJ12_indexOf_3_23 : decode cJ12_indexOf_3 23 = .ok (.iload_n 3, 1) := dk_29 (dk_at dksJ12_indexOf_3_0 23 rfl rfl)
theorem dJ12_indexOf_3_24 : decode cJ12_indexOf_3 24 = .ok (.if_icmp .lt 5, 3) := dk_161 0 5 (dk_at dksJ12_indexOf_3_1 0 rfl rfl)
theorem dJ12_indexOf_3_27 : decode cJ12_indexOf_3 27 = .ok (.iconst (-1), 1) := dk_2 (dk_at dksJ12_indexOf_3_1 3 rfl rfl)
theorem dJ12_indexOf_3_28 : decode cJ12_indexOf_3 28 = .ok (.ireturn, 1) := dk_172 (dk_at dksJ12_indexOf_3_1 4 rfl rfl)
theorem dJ12_indexOf_3_29 : decode cJ12_indexOf_3 29 = .ok (.aload_n 0, 1) := dk_42 (dk_at dksJ12_indexOf_3_1 5 rfl rfl)
theorem dJ12_indexOf_3_30 : decode cJ12_indexOf_3 30 = .ok (.iload_n 1, 1) := dk_27 (dk_at dksJ12_indexOf_3_1 6 rfl rfl)
theorem dJ12_indexOf_3_31 : decode cJ12_indexOf_3 31 = .ok (.iload_n 2, 1) := dk_28 (dk_at dksJ12_indexOf_3_1 7 rfl rfl)
theorem dJ12_indexOf_3_32 : decode cJ12_indexOf_3 32 = .ok (.iload_n 3, 1) := dk_29 (dk_at dksJ12_indexOf_3_1 8 rfl rfl)
theorem dJ12_indexOf_3_33 : decode cJ12_indexOf_3 33 = .ok (.invokestatic 95, 3) := dk_184 0 95 (dk_at dksJ12_indexOf_3_1 9 rfl rfl)
theorem dJ12_indexOf_3_36 : decode cJ12_indexOf_3 36 = .ok (.ireturn, 1) := dk_172 (dk_at dksJ12_indexOf_3_1 12 rfl rfl)
abbrev cJ12_indexOfChar : ByteArray := prog_88_method_23_code
def yJ12_indexOfChar : MethodName := ⟨RJ12, "indexOfCha\x72", "([BIII)I"⟩
def dkwJ12_indexOfChar_1 : List UInt8 := [172, 132, 5, 1, 167, 255, 235, 2, 172]
abbrev dktJ12_indexOfChar_1 : List UInt8 := dkwJ12_indexOfChar_1 ++ []
def dkwJ12_indexOfChar_0 : List UInt8 := [27, 145, 54, 4, 28, 54, 5, 21, 5, 29, 162, 0, 21, 42, 21, 5, 51, 21, 4, 160, 0, 6, 21, 5]
abbrev dktJ12_indexOfChar_0 : List UInt8 := dkwJ12_indexOfChar_0 ++ dktJ12_indexOfChar_1
theorem dksJ12_indexOfChar_0 : cJ12_indexOfChar.data.toList.drop 0 = dktJ12_indexOfChar_0 := by decide +kernel
theorem dksJ12_indexOfChar_1 : cJ12_indexOfChar.data.toList.drop 24 = dktJ12_indexOfChar_1 := dk_seg dksJ12_indexOfChar_0 24 rfl rfl
theorem dJ12_indexOfChar_0 : decode cJ12_indexOfChar 0 = .ok (.iload_n 1, 1) := dk_27 (dk_at dksJ12_indexOfChar_0 0 rfl rfl)
theorem dJ12_indexOfChar_1 : decode cJ12_indexOfChar 1 = .ok (.i2b, 1) := dk_145 (dk_at dksJ12_indexOfChar_0 1 rfl rfl)
theorem dJ12_indexOfChar_2 : decode cJ12_indexOfChar 2 = .ok (.istore 4, 2) := dk_54 4 (dk_at dksJ12_indexOfChar_0 2 rfl rfl)
theorem dJ12_indexOfChar_4 : decode cJ12_indexOfChar 4 = .ok (.iload_n 2, 1) := dk_28 (dk_at dksJ12_indexOfChar_0 4 rfl rfl)
theorem dJ12_indexOfChar_5 : decode cJ12_indexOfChar 5 = .ok (.istore 5, 2) := dk_54 5 (dk_at dksJ12_indexOfChar_0 5 rfl rfl)
theorem dJ12_indexOfChar_7 : decode cJ12_indexOfChar 7 = .ok (.iload 5, 2) := dk_21 5 (dk_at dksJ12_indexOfChar_0 7 rfl rfl)
theorem dJ12_indexOfChar_9 : decode cJ12_indexOfChar 9 = .ok (.iload_n 3, 1) := dk_29 (dk_at dksJ12_indexOfChar_0 9 rfl rfl)
theorem dJ12_indexOfChar_10 : decode cJ12_indexOfChar 10 = .ok (.if_icmp .ge 21, 3) := dk_162 0 21 (dk_at dksJ12_indexOfChar_0 10 rfl rfl)
theorem dJ12_indexOfChar_13 : decode cJ12_indexOfChar 13 = .ok (.aload_n 0, 1) := dk_42 (dk_at dksJ12_indexOfChar_0 13 rfl rfl)
theorem dJ12_indexOfChar_14 : decode cJ12_indexOfChar 14 = .ok (.iload 5, 2) := dk_21 5 (dk_at dksJ12_indexOfChar_0 14 rfl rfl)
theorem dJ12_indexOfChar_16 : decode cJ12_indexOfChar 16 = .ok (.baload, 1) := dk_51 (dk_at dksJ12_indexOfChar_0 16 rfl rfl)
theorem dJ12_indexOfChar_17 : decode cJ12_indexOfChar 17 = .ok (.iload 4, 2) := dk_21 4 (dk_at dksJ12_indexOfChar_0 17 rfl rfl)
theorem dJ12_indexOfChar_19 : decode cJ12_indexOfChar 19 = .ok (.if_icmp .ne 6, 3) := dk_160 0 6 (dk_at dksJ12_indexOfChar_0 19 rfl rfl)
theorem dJ12_indexOfChar_22 : decode cJ12_indexOfChar 22 = .ok (.iload 5, 2) := dk_21 5 (dk_at dksJ12_indexOfChar_0 22 rfl rfl)
theorem dJ12_indexOfChar_24 : decode cJ12_indexOfChar 24 = .ok (.ireturn, 1) := dk_172 (dk_at dksJ12_indexOfChar_1 0 rfl rfl)
theorem dJ12_indexOfChar_25 : decode cJ12_indexOfChar 25 = .ok (.iinc 5 1, 3) := dk_132 5 1 (dk_at dksJ12_indexOfChar_1 1 rfl rfl)
theorem dJ12_indexOfChar_28 : decode cJ12_indexOfChar 28 = .ok (.goto (-21), 3) := dk_167 255 235 (dk_at dksJ12_indexOfChar_1 4 rfl rfl)
theorem dJ12_indexOfChar_31 : decode cJ12_indexOfChar 31 = .ok (.iconst (-1), 1) := dk_2 (dk_at dksJ12_indexOfChar_1 7 rfl rfl)
theorem dJ12_indexOfChar_32 : decode cJ12_indexOfChar 32 = .ok (.ireturn, 1) := dk_172 (dk_at dksJ12_indexOfChar_1 8 rfl rfl)

abbrev cJ13_checkFromIndexSize : ByteArray := prog_117_method_13_code
def yJ13_checkFromIndexSize : MethodName := ⟨RJ13, "checkFromIndexSize", "(IIILjava/util/function/BiFunction;)I"⟩
def dkwJ13_checkFromIndexSize_1 : List UInt8 := [172]
abbrev dktJ13_checkFromIndexSize_1 : List UInt8 := dkwJ13_checkFromIndexSize_1 ++ []
def dkwJ13_checkFromIndexSize_0 : List UInt8 := [28, 26, 128, 27, 128, 155, 0, 10, 27, 28, 26, 100, 164, 0, 11, 45, 26, 27, 28, 184, 0, 103, 191, 26]
abbrev dktJ13_checkFromIndexSize_0 : List UInt8 := dkwJ13_checkFromIndexSize_0 ++ dktJ13_checkFromIndexSize_1
theorem dksJ13_checkFromIndexSize_0 : cJ13_checkFromIndexSize.data.toList.drop 0 = dktJ13_checkFromIndexSize_0 := by decide +kernel
theorem dksJ13_checkFromIndexSize_1 : cJ13_checkFromIndexSize.data.toList.drop 24 = dktJ13_checkFromIndexSize_1 := dk_seg dksJ13_checkFromIndexSize_0 24 rfl rfl
theorem dJ13_checkFromIndexSize_0 : decode cJ13_checkFromIndexSize 0 = .ok (.iload_n 2, 1) := dk_28 (dk_at dksJ13_checkFromIndexSize_0 0 rfl rfl)
theorem dJ13_checkFromIndexSize_1 : decode cJ13_checkFromIndexSize 1 = .ok (.iload_n 0, 1) := dk_26 (dk_at dksJ13_checkFromIndexSize_0 1 rfl rfl)
theorem dJ13_checkFromIndexSize_2 : decode cJ13_checkFromIndexSize 2 = .ok (.ior, 1) := dk_128 (dk_at dksJ13_checkFromIndexSize_0 2 rfl rfl)
theorem dJ13_checkFromIndexSize_3 : decode cJ13_checkFromIndexSize 3 = .ok (.iload_n 1, 1) := dk_27 (dk_at dksJ13_checkFromIndexSize_0 3 rfl rfl)
theorem dJ13_checkFromIndexSize_4 : decode cJ13_checkFromIndexSize 4 = .ok (.ior, 1) := dk_128 (dk_at dksJ13_checkFromIndexSize_0 4 rfl rfl)
theorem dJ13_checkFromIndexSize_5 : decode cJ13_checkFromIndexSize 5 = .ok (.ifCond .lt 10, 3) := dk_155 0 10 (dk_at dksJ13_checkFromIndexSize_0 5 rfl rfl)
theorem dJ13_checkFromIndexSize_8 : decode cJ13_checkFromIndexSize 8 = .ok (.iload_n 1, 1) := dk_27 (dk_at dksJ13_checkFromIndexSize_0 8 rfl rfl)
theorem dJ13_checkFromIndexSize_9 : decode cJ13_checkFromIndexSize 9 = .ok (.iload_n 2, 1) := dk_28 (dk_at dksJ13_checkFromIndexSize_0 9 rfl rfl)
theorem dJ13_checkFromIndexSize_10 : decode cJ13_checkFromIndexSize 10 = .ok (.iload_n 0, 1) := dk_26 (dk_at dksJ13_checkFromIndexSize_0 10 rfl rfl)
theorem dJ13_checkFromIndexSize_11 : decode cJ13_checkFromIndexSize 11 = .ok (.isub, 1) := dk_100 (dk_at dksJ13_checkFromIndexSize_0 11 rfl rfl)
theorem dJ13_checkFromIndexSize_12 : decode cJ13_checkFromIndexSize 12 = .ok (.if_icmp .le 11, 3) := dk_164 0 11 (dk_at dksJ13_checkFromIndexSize_0 12 rfl rfl)
theorem dJ13_checkFromIndexSize_15 : decode cJ13_checkFromIndexSize 15 = .ok (.aload_n 3, 1) := dk_45 (dk_at dksJ13_checkFromIndexSize_0 15 rfl rfl)
theorem dJ13_checkFromIndexSize_16 : decode cJ13_checkFromIndexSize 16 = .ok (.iload_n 0, 1) := dk_26 (dk_at dksJ13_checkFromIndexSize_0 16 rfl rfl)
theorem dJ13_checkFromIndexSize_17 : decode cJ13_checkFromIndexSize 17 = .ok (.iload_n 1, 1) := dk_27 (dk_at dksJ13_checkFromIndexSize_0 17 rfl rfl)
theorem dJ13_checkFromIndexSize_18 : decode cJ13_checkFromIndexSize 18 = .ok (.iload_n 2, 1) := dk_28 (dk_at dksJ13_checkFromIndexSize_0 18 rfl rfl)
theorem dJ13_checkFromIndexSize_19 : decode cJ13_checkFromIndexSize 19 = .ok (.invokestatic 103, 3) := dk_184 0 103 (dk_at dksJ13_checkFromIndexSize_0 19 rfl rfl)
theorem dJ13_checkFromIndexSize_22 : decode cJ13_checkFromIndexSize 22 = .ok (.athrow, 1) := dk_191 (dk_at dksJ13_checkFromIndexSize_0 22 rfl rfl)
theorem dJ13_checkFromIndexSize_23 : decode cJ13_checkFromIndexSize 23 = .ok (.iload_n 0, 1) := dk_26 (dk_at dksJ13_checkFromIndexSize_0 23 rfl rfl)
theorem dJ13_checkFromIndexSize_24 : decode cJ13_checkFromIndexSize 24 = .ok (.ireturn, 1) := dk_172 (dk_at dksJ13_checkFromIndexSize_1 0 rfl rfl)
abbrev cJ13_checkIndex : ByteArray := prog_117_method_11_code
def yJ13_checkIndex : MethodName := ⟨RJ13, "checkIndex", "(IILjava/util/function/BiFunction;)I"⟩
def dkwJ13_checkIndex_0 : List UInt8 := [26, 155, 0, 8, 26, 27, 161, 0, 10, 44, 26, 27, 184, 0, 95, 191, 26, 172]
abbrev dktJ13_checkIndex_0 : List UInt8 := dkwJ13_checkIndex_0 ++ []
theorem dksJ13_checkIndex_0 : cJ13_checkIndex.data.toList.drop 0 = dktJ13_checkIndex_0 := by decide +kernel
theorem dJ13_checkIndex_0 : decode cJ13_checkIndex 0 = .ok (.iload_n 0, 1) := dk_26 (dk_at dksJ13_checkIndex_0 0 rfl rfl)
theorem dJ13_checkIndex_1 : decode cJ13_checkIndex 1 = .ok (.ifCond .lt 8, 3) := dk_155 0 8 (dk_at dksJ13_checkIndex_0 1 rfl rfl)
theorem dJ13_checkIndex_4 : decode cJ13_checkIndex 4 = .ok (.iload_n 0, 1) := dk_26 (dk_at dksJ13_checkIndex_0 4 rfl rfl)
theorem dJ13_checkIndex_5 : decode cJ13_checkIndex 5 = .ok (.iload_n 1, 1) := dk_27 (dk_at dksJ13_checkIndex_0 5 rfl rfl)
theorem dJ13_checkIndex_6 : decode cJ13_checkIndex 6 = .ok (.if_icmp .lt 10, 3) := dk_161 0 10 (dk_at dksJ13_checkIndex_0 6 rfl rfl)
theorem dJ13_checkIndex_9 : decode cJ13_checkIndex 9 = .ok (.aload_n 2, 1) := dk_44 (dk_at dksJ13_checkIndex_0 9 rfl rfl)
theorem dJ13_checkIndex_10 : decode cJ13_checkIndex 10 = .ok (.iload_n 0, 1) := dk_26 (dk_at dksJ13_checkIndex_0 10 rfl rfl)
theorem dJ13_checkIndex_11 : decode cJ13_checkIndex 11 = .ok (.iload_n 1, 1) := dk_27 (dk_at dksJ13_checkIndex_0 11 rfl rfl)
theorem dJ13_checkIndex_12 : decode cJ13_checkIndex 12 = .ok (.invokestatic 95, 3) := dk_184 0 95 (dk_at dksJ13_checkIndex_0 12 rfl rfl)
theorem dJ13_checkIndex_15 : decode cJ13_checkIndex 15 = .ok (.athrow, 1) := dk_191 (dk_at dksJ13_checkIndex_0 15 rfl rfl)
theorem dJ13_checkIndex_16 : decode cJ13_checkIndex 16 = .ok (.iload_n 0, 1) := dk_26 (dk_at dksJ13_checkIndex_0 16 rfl rfl)
theorem dJ13_checkIndex_17 : decode cJ13_checkIndex 17 = .ok (.ireturn, 1) := dk_172 (dk_at dksJ13_checkIndex_0 17 rfl rfl)
abbrev cJ13_checkFromToIndex : ByteArray := prog_117_method_12_code
def yJ13_checkFromToIndex : MethodName := ⟨RJ13, "checkFromToIndex", "(IIILjava/util/function/BiFunction;)I"⟩
def dkwJ13_checkFromToIndex_0 : List UInt8 := [26, 155, 0, 13, 26, 27, 163, 0, 8, 27, 28, 164, 0, 11, 45, 26, 27, 28, 184, 0, 99, 191, 26, 172]
abbrev dktJ13_checkFromToIndex_0 : List UInt8 := dkwJ13_checkFromToIndex_0 ++ []
theorem dksJ13_checkFromToIndex_0 : cJ13_checkFromToIndex.data.toList.drop 0 = dktJ13_checkFromToIndex_0 := by decide +kernel
theorem dJ13_checkFromToIndex_0 : decode cJ13_checkFromToIndex 0 = .ok (.iload_n 0, 1) := dk_26 (dk_at dksJ13_checkFromToIndex_0 0 rfl rfl)
theorem dJ13_checkFromToIndex_1 : decode cJ13_checkFromToIndex 1 = .ok (.ifCond .lt 13, 3) := dk_155 0 13 (dk_at dksJ13_checkFromToIndex_0 1 rfl rfl)
theorem dJ13_checkFromToIndex_4 : decode cJ13_checkFromToIndex 4 = .ok (.iload_n 0, 1) := dk_26 (dk_at dksJ13_checkFromToIndex_0 4 rfl rfl)
theorem dJ13_checkFromToIndex_5 : decode cJ13_checkFromToIndex 5 = .ok (.iload_n 1, 1) := dk_27 (dk_at dksJ13_checkFromToIndex_0 5 rfl rfl)
theorem dJ13_checkFromToIndex_6 : decode cJ13_checkFromToIndex 6 = .ok (.if_icmp .gt 8, 3) := dk_163 0 8 (dk_at dksJ13_checkFromToIndex_0 6 rfl rfl)
theorem dJ13_checkFromToIndex_9 : decode cJ13_checkFromToIndex 9 = .ok (.iload_n 1, 1) := dk_27 (dk_at dksJ13_checkFromToIndex_0 9 rfl rfl)
theorem dJ13_checkFromToIndex_10 : decode cJ13_checkFromToIndex 10 = .ok (.iload_n 2, 1) := dk_28 (dk_at dksJ13_checkFromToIndex_0 10 rfl rfl)
theorem dJ13_checkFromToIndex_11 : decode cJ13_checkFromToIndex 11 = .ok (.if_icmp .le 11, 3) := dk_164 0 11 (dk_at dksJ13_checkFromToIndex_0 11 rfl rfl)
theorem dJ13_checkFromToIndex_14 : decode cJ13_checkFromToIndex 14 = .ok (.aload_n 3, 1) := dk_45 (dk_at dksJ13_checkFromToIndex_0 14 rfl rfl)
theorem dJ13_checkFromToIndex_15 : decode cJ13_checkFromToIndex 15 = .ok (.iload_n 0, 1) := dk_26 (dk_at dksJ13_checkFromToIndex_0 15 rfl rfl)
theorem dJ13_checkFromToIndex_16 : decode cJ13_checkFromToIndex 16 = .ok (.iload_n 1, 1) := dk_27 (dk_at dksJ13_checkFromToIndex_0 16 rfl rfl)
theorem dJ13_checkFromToIndex_17 : decode cJ13_checkFromToIndex 17 = .ok (.iload_n 2, 1) := dk_28 (dk_at dksJ13_checkFromToIndex_0 17 rfl rfl)
theorem dJ13_checkFromToIndex_18 : decode cJ13_checkFromToIndex 18 = .ok (.invokestatic 99, 3) := dk_184 0 99 (dk_at dksJ13_checkFromToIndex_0 18 rfl rfl)
theorem dJ13_checkFromToIndex_21 : decode cJ13_checkFromToIndex 21 = .ok (.athrow, 1) := dk_191 (dk_at dksJ13_checkFromToIndex_0 21 rfl rfl)
theorem dJ13_checkFromToIndex_22 : decode cJ13_checkFromToIndex 22 = .ok (.iload_n 0, 1) := dk_26 (dk_at dksJ13_checkFromToIndex_0 22 rfl rfl)
theorem dJ13_checkFromToIndex_23 : decode cJ13_checkFromToIndex 23 = .ok (.ireturn, 1) := dk_172 (dk_at dksJ13_checkFromToIndex_0 23 rfl rfl)

abbrev cJ14_init : ByteArray := prog_92_method_1_code
def yJ14_init : MethodName := ⟨RJ14, "<init>", "()V"⟩
def dkwJ14_init_1 : List UInt8 := [182, 0, 27, 87, 177]
abbrev dktJ14_init_1 : List UInt8 := dkwJ14_init_1 ++ []
def dkwJ14_init_0 : List UInt8 := [42, 183, 0, 1, 42, 42, 181, 0, 7, 42, 178, 0, 13, 181, 0, 17, 42, 178, 0, 20, 181, 0, 24, 42]
abbrev dktJ14_init_0 : List UInt8 := dkwJ14_init_0 ++ dktJ14_init_1
theorem dksJ14_init_0 : cJ14_init.data.toList.drop 0 = dktJ14_init_0 := by decide +kernel
theorem dksJ14_init_1 : cJ14_init.data.toList.drop 24 = dktJ14_init_1 := dk_seg dksJ14_init_0 24 rfl rfl
theorem dJ14_init_0 : decode cJ14_init 0 = .ok (.aload_n 0, 1) := dk_42 (dk_at dksJ14_init_0 0 rfl rfl)
theorem dJ14_init_1 : decode cJ14_init 1 = .ok (.invokespecial 1, 3) := dk_183 0 1 (dk_at dksJ14_init_0 1 rfl rfl)
theorem dJ14_init_4 : decode cJ14_init 4 = .ok (.aload_n 0, 1) := dk_42 (dk_at dksJ14_init_0 4 rfl rfl)
theorem dJ14_init_5 : decode cJ14_init 5 = .ok (.aload_n 0, 1) := dk_42 (dk_at dksJ14_init_0 5 rfl rfl)
theorem dJ14_init_6 : decode cJ14_init 6 = .ok (.putfield 7, 3) := dk_181 0 7 (dk_at dksJ14_init_0 6 rfl rfl)
theorem dJ14_init_9 : decode cJ14_init 9 = .ok (.aload_n 0, 1) := dk_42 (dk_at dksJ14_init_0 9 rfl rfl)
theorem dJ14_init_10 : decode cJ14_init 10 = .ok (.getstatic 13, 3) := dk_178 0 13 (dk_at dksJ14_init_0 10 rfl rfl)
theorem dJ14_init_13 : decode cJ14_init 13 = .ok (.putfield 17, 3) := dk_181 0 17 (dk_at dksJ14_init_0 13 rfl rfl)
theorem dJ14_init_16 : decode cJ14_init 16 = .ok (.aload_n 0, 1) := dk_42 (dk_at dksJ14_init_0 16 rfl rfl)
theorem dJ14_init_17 : decode cJ14_init 17 = .ok (.getstatic 20, 3) := dk_178 0 20 (dk_at dksJ14_init_0 17 rfl rfl)
theorem dJ14_init_20 : decode cJ14_init 20 = .ok (.putfield 24, 3) := dk_181 0 24 (dk_at dksJ14_init_0 20 rfl rfl)
theorem dJ14_init_23 : decode cJ14_init 23 = .ok (.aload_n 0, 1) := dk_42 (dk_at dksJ14_init_0 23 rfl rfl)
theorem dJ14_init_24 : decode cJ14_init 24 = .ok (.invokevirtual 27, 3) := dk_182 0 27 (dk_at dksJ14_init_1 0 rfl rfl)
theorem dJ14_init_27 : decode cJ14_init 27 = .ok (.pop, 1) := dk_87 (dk_at dksJ14_init_1 3 rfl rfl)
theorem dJ14_init_28 : decode cJ14_init 28 = .ok (.return_, 1) := dk_177 (dk_at dksJ14_init_1 4 rfl rfl)
abbrev cJ14_init_2 : ByteArray := prog_92_method_2_code
def yJ14_init_2 : MethodName := ⟨RJ14, "<init>", "(Ljava/lang/String;)V"⟩
def dkwJ14_init_2_1 : List UInt8 := [182, 0, 27, 87, 42, 43, 181, 0, 31, 177]
abbrev dktJ14_init_2_1 : List UInt8 := dkwJ14_init_2_1 ++ []
def dkwJ14_init_2_0 : List UInt8 := [42, 183, 0, 1, 42, 42, 181, 0, 7, 42, 178, 0, 13, 181, 0, 17, 42, 178, 0, 20, 181, 0, 24, 42]
abbrev dktJ14_init_2_0 : List UInt8 := dkwJ14_init_2_0 ++ dktJ14_init_2_1
theorem dksJ14_init_2_0 : cJ14_init_2.data.toList.drop 0 = dktJ14_init_2_0 := by decide +kernel
theorem dksJ14_init_2_1 : cJ14_init_2.data.toList.drop 24 = dktJ14_init_2_1 := dk_seg dksJ14_init_2_0 24 rfl rfl
theorem dJ14_init_2_0 : decode cJ14_init_2 0 = .ok (.aload_n 0, 1) := dk_42 (dk_at dksJ14_init_2_0 0 rfl rfl)
theorem dJ14_init_2_1 : decode cJ14_init_2 1 = .ok (.invokespecial 1, 3) := dk_183 0 1 (dk_at dksJ14_init_2_0 1 rfl rfl)
theorem dJ14_init_2_4 : decode cJ14_init_2 4 = .ok (.aload_n 0, 1) := dk_42 (dk_at dksJ14_init_2_0 4 rfl rfl)
theorem dJ14_init_2_5 : decode cJ14_init_2 5 = .ok (.aload_n 0, 1) := dk_42 (dk_at dksJ14_init_2_0 5 rfl rfl)
theorem dJ14_init_2_6 : decode cJ14_init_2 6 = .ok (.putfield 7, 3) := dk_181 0 7 (dk_at dksJ14_init_2_0 6 rfl rfl)
theorem dJ14_init_2_9 : decode cJ14_init_2 9 = .ok (.aload_n 0, 1) := dk_42 (dk_at dksJ14_init_2_0 9 rfl rfl)
theorem dJ14_init_2_10 : decode cJ14_init_2 10 = .ok (.getstatic 13, 3) := dk_178 0 13 (dk_at dksJ14_init_2_0 10 rfl rfl)
theorem dJ14_init_2_13 : decode cJ14_init_2 13 = .ok (.putfield 17, 3) := dk_181 0 17 (dk_at dksJ14_init_2_0 13 rfl rfl)
theorem dJ14_init_2_16 : decode cJ14_init_2 16 = .ok (.aload_n 0, 1) := dk_42 (dk_at dksJ14_init_2_0 16 rfl rfl)
theorem dJ14_init_2_17 : decode cJ14_init_2 17 = .ok (.getstatic 20, 3) := dk_178 0 20 (dk_at dksJ14_init_2_0 17 rfl rfl)
theorem dJ14_init_2_20 : decode cJ14_init_2 20 = .ok (.putfield 24, 3) := dk_181 0 24 (dk_at dksJ14_init_2_0 20 rfl rfl)
theorem dJ14_init_2_23 : decode cJ14_init_2 23 = .ok (.aload_n 0, 1) := dk_42 (dk_at dksJ14_init_2_0 23 rfl rfl)
theorem dJ14_init_2_24 : decode cJ14_init_2 24 = .ok (.invokevirtual 27, 3) := dk_182 0 27 (dk_at dksJ14_init_2_1 0 rfl rfl)
theorem dJ14_init_2_27 : decode cJ14_init_2 27 = .ok (.pop, 1) := dk_87 (dk_at dksJ14_init_2_1 3 rfl rfl)
theorem dJ14_init_2_28 : decode cJ14_init_2 28 = .ok (.aload_n 0, 1) := dk_42 (dk_at dksJ14_init_2_1 4 rfl rfl)
theorem dJ14_init_2_29 : decode cJ14_init_2 29 = .ok (.aload_n 1, 1) := dk_43 (dk_at dksJ14_init_2_1 5 rfl rfl)
theorem dJ14_init_2_30 : decode cJ14_init_2 30 = .ok (.putfield 31, 3) := dk_181 0 31 (dk_at dksJ14_init_2_1 6 rfl rfl)
theorem dJ14_init_2_33 : decode cJ14_init_2 33 = .ok (.return_, 1) := dk_177 (dk_at dksJ14_init_2_1 9 rfl rfl)

abbrev cJ15_init : ByteArray := prog_74_method_2_code
def yJ15_init : MethodName := ⟨RJ15, "<init>", "(Ljava/lang/String;)V"⟩
def dkwJ15_init_0 : List UInt8 := [42, 43, 183, 0, 7, 177]
abbrev dktJ15_init_0 : List UInt8 := dkwJ15_init_0 ++ []
theorem dksJ15_init_0 : cJ15_init.data.toList.drop 0 = dktJ15_init_0 := by decide +kernel
theorem dJ15_init_0 : decode cJ15_init 0 = .ok (.aload_n 0, 1) := dk_42 (dk_at dksJ15_init_0 0 rfl rfl)
theorem dJ15_init_1 : decode cJ15_init 1 = .ok (.aload_n 1, 1) := dk_43 (dk_at dksJ15_init_0 1 rfl rfl)
theorem dJ15_init_2 : decode cJ15_init 2 = .ok (.invokespecial 7, 3) := dk_183 0 7 (dk_at dksJ15_init_0 2 rfl rfl)
theorem dJ15_init_5 : decode cJ15_init 5 = .ok (.return_, 1) := dk_177 (dk_at dksJ15_init_0 5 rfl rfl)
abbrev cJ15_init_2 : ByteArray := prog_74_method_1_code
def yJ15_init_2 : MethodName := ⟨RJ15, "<init>", "()V"⟩
theorem dJ15_init_2_0 : decode cJ15_init_2 0 = .ok (.aload_n 0, 1) := by decide +kernel
theorem dJ15_init_2_1 : decode cJ15_init_2 1 = .ok (.invokespecial 1, 3) := by decide +kernel
theorem dJ15_init_2_4 : decode cJ15_init_2 4 = .ok (.return_, 1) := by decide +kernel

abbrev cJ16_init : ByteArray := prog_84_method_2_code
def yJ16_init : MethodName := ⟨RJ16, "<init>", "(Ljava/lang/String;)V"⟩
def dkwJ16_init_0 : List UInt8 := [42, 43, 183, 0, 7, 177]
abbrev dktJ16_init_0 : List UInt8 := dkwJ16_init_0 ++ []
theorem dksJ16_init_0 : cJ16_init.data.toList.drop 0 = dktJ16_init_0 := by decide +kernel
theorem dJ16_init_0 : decode cJ16_init 0 = .ok (.aload_n 0, 1) := dk_42 (dk_at dksJ16_init_0 0 rfl rfl)
theorem dJ16_init_1 : decode cJ16_init 1 = .ok (.aload_n 1, 1) := dk_43 (dk_at dksJ16_init_0 1 rfl rfl)
theorem dJ16_init_2 : decode cJ16_init 2 = .ok (.invokespecial 7, 3) := dk_183 0 7 (dk_at dksJ16_init_0 2 rfl rfl)
theorem dJ16_init_5 : decode cJ16_init 5 = .ok (.return_, 1) := dk_177 (dk_at dksJ16_init_0 5 rfl rfl)
abbrev cJ16_init_2 : ByteArray := prog_84_method_1_code
def yJ16_init_2 : MethodName := ⟨RJ16, "<init>", "()V"⟩
theorem dJ16_init_2_0 : decode cJ16_init_2 0 = .ok (.aload_n 0, 1) := by decide +kernel
theorem dJ16_init_2_1 : decode cJ16_init_2 1 = .ok (.invokespecial 1, 3) := by decide +kernel
theorem dJ16_init_2_4 : decode cJ16_init_2 4 = .ok (.return_, 1) := by decide +kernel

abbrev cJ17_init : ByteArray := prog_75_method_2_code
def yJ17_init : MethodName := ⟨RJ17, "<init>", "(Ljava/lang/String;)V"⟩
def dkwJ17_init_0 : List UInt8 := [42, 43, 183, 0, 7, 177]
abbrev dktJ17_init_0 : List UInt8 := dkwJ17_init_0 ++ []
theorem dksJ17_init_0 : cJ17_init.data.toList.drop 0 = dktJ17_init_0 := by decide +kernel
theorem dJ17_init_0 : decode cJ17_init 0 = .ok (.aload_n 0, 1) := dk_42 (dk_at dksJ17_init_0 0 rfl rfl)
theorem dJ17_init_1 : decode cJ17_init 1 = .ok (.aload_n 1, 1) := dk_43 (dk_at dksJ17_init_0 1 rfl rfl)
theorem dJ17_init_2 : decode cJ17_init 2 = .ok (.invokespecial 7, 3) := dk_183 0 7 (dk_at dksJ17_init_0 2 rfl rfl)
theorem dJ17_init_5 : decode cJ17_init 5 = .ok (.return_, 1) := dk_177 (dk_at dksJ17_init_0 5 rfl rfl)
abbrev cJ17_init_2 : ByteArray := prog_75_method_1_code
def yJ17_init_2 : MethodName := ⟨RJ17, "<init>", "()V"⟩
theorem dJ17_init_2_0 : decode cJ17_init_2 0 = .ok (.aload_n 0, 1) := by decide +kernel
theorem dJ17_init_2_1 : decode cJ17_init_2 1 = .ok (.invokespecial 1, 3) := by decide +kernel
theorem dJ17_init_2_4 : decode cJ17_init_2 4 = .ok (.return_, 1) := by decide +kernel

abbrev cJ18_init : ByteArray := prog_83_method_1_code
def yJ18_init : MethodName := ⟨RJ18, "<init>", "()V"⟩
theorem dJ18_init_0 : decode cJ18_init 0 = .ok (.aload_n 0, 1) := by decide +kernel
theorem dJ18_init_1 : decode cJ18_init 1 = .ok (.invokespecial 1, 3) := by decide +kernel
theorem dJ18_init_4 : decode cJ18_init 4 = .ok (.return_, 1) := by decide +kernel

abbrev cJ19_stringSize : ByteArray := prog_78_method_13_code
def yJ19_stringSize : MethodName := ⟨RJ19, "stringSize", "(I)I"⟩
def dkwJ19_stringSize_1 : List UInt8 := [164, 0, 7, 29, 27, 96, 172, 16, 10, 28, 104, 61, 132, 3, 1, 167, 255, 233, 16, 10, 27, 96, 172]
abbrev dktJ19_stringSize_1 : List UInt8 := dkwJ19_stringSize_1 ++ []
def dkwJ19_stringSize_0 : List UInt8 := [4, 60, 26, 155, 0, 8, 3, 60, 26, 116, 59, 16, 246, 61, 4, 62, 29, 16, 10, 162, 0, 23, 26, 28]
abbrev dktJ19_stringSize_0 : List UInt8 := dkwJ19_stringSize_0 ++ dktJ19_stringSize_1
theorem dksJ19_stringSize_0 : cJ19_stringSize.data.toList.drop 0 = dktJ19_stringSize_0 := by decide +kernel
theorem dksJ19_stringSize_1 : cJ19_stringSize.data.toList.drop 24 = dktJ19_stringSize_1 := dk_seg dksJ19_stringSize_0 24 rfl rfl
theorem dJ19_stringSize_0 : decode cJ19_stringSize 0 = .ok (.iconst 1, 1) := dk_4 (dk_at dksJ19_stringSize_0 0 rfl rfl)
theorem dJ19_stringSize_1 : decode cJ19_stringSize 1 = .ok (.istore_n 1, 1) := dk_60 (dk_at dksJ19_stringSize_0 1 rfl rfl)
theorem dJ19_stringSize_2 : decode cJ19_stringSize 2 = .ok (.iload_n 0, 1) := dk_26 (dk_at dksJ19_stringSize_0 2 rfl rfl)
theorem dJ19_stringSize_3 : decode cJ19_stringSize 3 = .ok (.ifCond .lt 8, 3) := dk_155 0 8 (dk_at dksJ19_stringSize_0 3 rfl rfl)
theorem dJ19_stringSize_6 : decode cJ19_stringSize 6 = .ok (.iconst 0, 1) := dk_3 (dk_at dksJ19_stringSize_0 6 rfl rfl)
theorem dJ19_stringSize_7 : decode cJ19_stringSize 7 = .ok (.istore_n 1, 1) := dk_60 (dk_at dksJ19_stringSize_0 7 rfl rfl)
theorem dJ19_stringSize_8 : decode cJ19_stringSize 8 = .ok (.iload_n 0, 1) := dk_26 (dk_at dksJ19_stringSize_0 8 rfl rfl)
theorem dJ19_stringSize_9 : decode cJ19_stringSize 9 = .ok (.ineg, 1) := dk_116 (dk_at dksJ19_stringSize_0 9 rfl rfl)
theorem dJ19_stringSize_10 : decode cJ19_stringSize 10 = .ok (.istore_n 0, 1) := dk_59 (dk_at dksJ19_stringSize_0 10 rfl rfl)
theorem dJ19_stringSize_11 : decode cJ19_stringSize 11 = .ok (.bipush (-10), 2) := dk_16 246 (dk_at dksJ19_stringSize_0 11 rfl rfl)
theorem dJ19_stringSize_13 : decode cJ19_stringSize 13 = .ok (.istore_n 2, 1) := dk_61 (dk_at dksJ19_stringSize_0 13 rfl rfl)
theorem dJ19_stringSize_14 : decode cJ19_stringSize 14 = .ok (.iconst 1, 1) := dk_4 (dk_at dksJ19_stringSize_0 14 rfl rfl)
theorem dJ19_stringSize_15 : decode cJ19_stringSize 15 = .ok (.istore_n 3, 1) := dk_62 (dk_at dksJ19_stringSize_0 15 rfl rfl)
theorem dJ19_stringSize_16 : decode cJ19_stringSize 16 = .ok (.iload_n 3, 1) := dk_29 (dk_at dksJ19_stringSize_0 16 rfl rfl)
theorem dJ19_stringSize_17 : decode cJ19_stringSize 17 = .ok (.bipush 10, 2) := dk_16 10 (dk_at dksJ19_stringSize_0 17 rfl rfl)
theorem dJ19_stringSize_19 : decode cJ19_stringSize 19 = .ok (.if_icmp .ge 23, 3) := dk_162 0 23 (dk_at dksJ19_stringSize_0 19 rfl rfl)
theorem dJ19_stringSize_22 : decode cJ19_stringSize 22 = .ok (.iload_n 0, 1) := dk_26 (dk_at dksJ19_stringSize_0 22 rfl rfl)
theorem dJ19_stringSize_23 : decode cJ19_stringSize 23 = .ok (.iload_n 2, 1) := dk_28 (dk_at dksJ19_stringSize_0 23 rfl rfl)
theorem dJ19_stringSize_24 : decode cJ19_stringSize 24 = .ok (.if_icmp .le 7, 3) := dk_164 0 7 (dk_at dksJ19_stringSize_1 0 rfl rfl)
theorem dJ19_stringSize_27 : decode cJ19_stringSize 27 = .ok (.iload_n 3, 1) := dk_29 (dk_at dksJ19_stringSize_1 3 rfl rfl)
theorem dJ19_stringSize_28 : decode cJ19_stringSize 28 = .ok (.iload_n 1, 1) := dk_27 (dk_at dksJ19_stringSize_1 4 rfl rfl)
theorem dJ19_stringSize_29 : decode cJ19_stringSize 29 = .ok (.iadd, 1) := dk_96 (dk_at dksJ19_stringSize_1 5 rfl rfl)
theorem dJ19_stringSize_30 : decode cJ19_stringSize 30 = .ok (.ireturn, 1) := dk_172 (dk_at dksJ19_stringSize_1 6 rfl rfl)
theorem dJ19_stringSize_31 : decode cJ19_stringSize 31 = .ok (.bipush 10, 2) := dk_16 10 (dk_at dksJ19_stringSize_1 7 rfl rfl)
theorem dJ19_stringSize_33 : decode cJ19_stringSize 33 = .ok (.iload_n 2, 1) := dk_28 (dk_at dksJ19_stringSize_1 9 rfl rfl)
theorem dJ19_stringSize_34 : decode cJ19_stringSize 34 = .ok (.imul, 1) := dk_104 (dk_at dksJ19_stringSize_1 10 rfl rfl)
theorem dJ19_stringSize_35 : decode cJ19_stringSize 35 = .ok (.istore_n 2, 1) := dk_61 (dk_at dksJ19_stringSize_1 11 rfl rfl)
theorem dJ19_stringSize_36 : decode cJ19_stringSize 36 = .ok (.iinc 3 1, 3) := dk_132 3 1 (dk_at dksJ19_stringSize_1 12 rfl rfl)
theorem dJ19_stringSize_39 : decode cJ19_stringSize 39 = .ok (.goto (-23), 3) := dk_167 255 233 (dk_at dksJ19_stringSize_1 15 rfl rfl)
theorem dJ19_stringSize_42 : decode cJ19_stringSize 42 = .ok (.bipush 10, 2) := dk_16 10 (dk_at dksJ19_stringSize_1 18 rfl rfl)
theorem dJ19_stringSize_44 : decode cJ19_stringSize 44 = .ok (.iload_n 1, 1) := dk_27 (dk_at dksJ19_stringSize_1 20 rfl rfl)
theorem dJ19_stringSize_45 : decode cJ19_stringSize 45 = .ok (.iadd, 1) := dk_96 (dk_at dksJ19_stringSize_1 21 rfl rfl)
theorem dJ19_stringSize_46 : decode cJ19_stringSize 46 = .ok (.ireturn, 1) := dk_172 (dk_at dksJ19_stringSize_1 22 rfl rfl)
abbrev cJ19_getChars : ByteArray := prog_78_method_12_code
def yJ19_getChars : MethodName := ⟨RJ19, "getChars", "(II[B)I"⟩
def dkwJ19_getChars_5 : List UInt8 := [16, 45, 84, 21, 5, 172]
abbrev dktJ19_getChars_5 : List UInt8 := dkwJ19_getChars_5 ++ []
def dkwJ19_getChars_4 : List UInt8 := [132, 5, 255, 21, 5, 178, 0, 87, 26, 116, 51, 84, 21, 6, 153, 0, 12, 44, 132, 5, 255, 21, 5]
abbrev dktJ19_getChars_4 : List UInt8 := dkwJ19_getChars_4 ++ dktJ19_getChars_5
def dkwJ19_getChars_3 : List UInt8 := [167, 255, 209, 44, 132, 5, 255, 21, 5, 178, 0, 83, 26, 116, 51, 84, 26, 16, 247, 162, 0, 16, 44]
abbrev dktJ19_getChars_3 : List UInt8 := dkwJ19_getChars_3 ++ dktJ19_getChars_4
def dkwJ19_getChars_2 : List UInt8 := [21, 5, 178, 0, 83, 21, 4, 51, 84, 44, 132, 5, 255, 21, 5, 178, 0, 87, 21, 4, 51, 84]
abbrev dktJ19_getChars_2 : List UInt8 := dkwJ19_getChars_2 ++ dktJ19_getChars_3
def dkwJ19_getChars_1 : List UInt8 := [16, 156, 163, 0, 47, 26, 16, 100, 108, 62, 29, 16, 100, 104, 26, 100, 54, 4, 29, 59, 44, 132, 5, 255]
abbrev dktJ19_getChars_1 : List UInt8 := dkwJ19_getChars_1 ++ dktJ19_getChars_2
def dkwJ19_getChars_0 : List UInt8 := [27, 54, 5, 26, 156, 0, 7, 4, 167, 0, 4, 3, 54, 6, 21, 6, 154, 0, 6, 26, 116, 59, 26]
abbrev dktJ19_getChars_0 : List UInt8 := dkwJ19_getChars_0 ++ dktJ19_getChars_1
theorem dksJ19_getChars_0 : cJ19_getChars.data.toList.drop 0 = dktJ19_getChars_0 := by decide +kernel
theorem dksJ19_getChars_1 : cJ19_getChars.data.toList.drop 23 = dktJ19_getChars_1 := dk_seg dksJ19_getChars_0 23 rfl rfl
theorem dksJ19_getChars_2 : cJ19_getChars.data.toList.drop 47 = dktJ19_getChars_2 := dk_seg dksJ19_getChars_1 24 rfl rfl
theorem dksJ19_getChars_3 : cJ19_getChars.data.toList.drop 69 = dktJ19_getChars_3 := dk_seg dksJ19_getChars_2 22 rfl rfl
theorem dksJ19_getChars_4 : cJ19_getChars.data.toList.drop 92 = dktJ19_getChars_4 := dk_seg dksJ19_getChars_3 23 rfl rfl
theorem dksJ19_getChars_5 : cJ19_getChars.data.toList.drop 115 = dktJ19_getChars_5 := dk_seg dksJ19_getChars_4 23 rfl rfl
theorem dJ19_getChars_0 : decode cJ19_getChars 0 = .ok (.iload_n 1, 1) := dk_27 (dk_at dksJ19_getChars_0 0 rfl rfl)
theorem dJ19_getChars_1 : decode cJ19_getChars 1 = .ok (.istore 5, 2) := dk_54 5 (dk_at dksJ19_getChars_0 1 rfl rfl)
theorem dJ19_getChars_3 : decode cJ19_getChars 3 = .ok (.iload_n 0, 1) := dk_26 (dk_at dksJ19_getChars_0 3 rfl rfl)
theorem dJ19_getChars_4 : decode cJ19_getChars 4 = .ok (.ifCond .ge 7, 3) := dk_156 0 7 (dk_at dksJ19_getChars_0 4 rfl rfl)
theorem dJ19_getChars_7 : decode cJ19_getChars 7 = .ok (.iconst 1, 1) := dk_4 (dk_at dksJ19_getChars_0 7 rfl rfl)
theorem dJ19_getChars_8 : decode cJ19_getChars 8 = .ok (.goto 4, 3) := dk_167 0 4 (dk_at dksJ19_getChars_0 8 rfl rfl)
theorem dJ19_getChars_11 : decode cJ19_getChars 11 = .ok (.iconst 0, 1) := dk_3 (dk_at dksJ19_getChars_0 11 rfl rfl)
theorem dJ19_getChars_12 : decode cJ19_getChars 12 = .ok (.istore 6, 2) := dk_54 6 (dk_at dksJ19_getChars_0 12 rfl rfl)
theorem dJ19_getChars_14 : decode cJ19_getChars 14 = .ok (.iload 6, 2) := dk_21 6 (dk_at dksJ19_getChars_0 14 rfl rfl)
theorem dJ19_getChars_16 : decode cJ19_getChars 16 = .ok (.ifCond .ne 6, 3) := dk_154 0 6 (dk_at dksJ19_getChars_0 16 rfl rfl)
theorem dJ19_getChars_19 : decode cJ19_getChars 19 = .ok (.iload_n 0, 1) := dk_26 (dk_at dksJ19_getChars_0 19 rfl rfl)
theorem dJ19_getChars_20 : decode cJ19_getChars 20 = .ok (.ineg, 1) := dk_116 (dk_at dksJ19_getChars_0 20 rfl rfl)
theorem dJ19_getChars_21 : decode cJ19_getChars 21 = .ok (.istore_n 0, 1) := dk_59 (dk_at dksJ19_getChars_0 21 rfl rfl)
theorem dJ19_getChars_22 : decode cJ19_getChars 22 = .ok (.iload_n 0, 1) := dk_26 (dk_at dksJ19_getChars_0 22 rfl rfl)
theorem dJ19_getChars_23 : decode cJ19_getChars 23 = .ok (.bipush (-100), 2) := dk_16 156 (dk_at dksJ19_getChars_1 0 rfl rfl)
theorem dJ19_getChars_25 : decode cJ19_getChars 25 = .ok (.if_icmp .gt 47, 3) := dk_163 0 47 (dk_at dksJ19_getChars_1 2 rfl rfl)
theorem dJ19_getChars_28 : decode cJ19_getChars 28 = .ok (.iload_n 0, 1) := dk_26 (dk_at dksJ19_getChars_1 5 rfl rfl)
theorem dJ19_getChars_29 : decode cJ19_getChars 29 = .ok (.bipush 100, 2) := dk_16 100 (dk_at dksJ19_getChars_1 6 rfl rfl)
theorem dJ19_getChars_31 : decode cJ19_getChars 31 = .ok (.idiv, 1) := dk_108 (dk_at dksJ19_getChars_1 8 rfl rfl)
theorem dJ19_getChars_32 : decode cJ19_getChars 32 = .ok (.istore_n 3, 1) := dk_62 (dk_at dksJ19_getChars_1 9 rfl rfl)
theorem dJ19_getChars_33 : decode cJ19_getChars 33 = .ok (.iload_n 3, 1) := dk_29 (dk_at dksJ19_getChars_1 10 rfl rfl)
theorem dJ19_getChars_34 : decode cJ19_getChars 34 = .ok (.bipush 100, 2) := dk_16 100 (dk_at dksJ19_getChars_1 11 rfl rfl)
theorem dJ19_getChars_36 : decode cJ19_getChars 36 = .ok (.imul, 1) := dk_104 (dk_at dksJ19_getChars_1 13 rfl rfl)
theorem dJ19_getChars_37 : decode cJ19_getChars 37 = .ok (.iload_n 0, 1) := dk_26 (dk_at dksJ19_getChars_1 14 rfl rfl)
theorem dJ19_getChars_38 : decode cJ19_getChars 38 = .ok (.isub, 1) := dk_100 (dk_at dksJ19_getChars_1 15 rfl rfl)
theorem dJ19_getChars_39 : decode cJ19_getChars 39 = .ok (.istore 4, 2) := dk_54 4 (dk_at dksJ19_getChars_1 16 rfl rfl)
theorem dJ19_getChars_41 : decode cJ19_getChars 41 = .ok (.iload_n 3, 1) := dk_29 (dk_at dksJ19_getChars_1 18 rfl rfl)
theorem dJ19_getChars_42 : decode cJ19_getChars 42 = .ok (.istore_n 0, 1) := dk_59 (dk_at dksJ19_getChars_1 19 rfl rfl)
theorem dJ19_getChars_43 : decode cJ19_getChars 43 = .ok (.aload_n 2, 1) := dk_44 (dk_at dksJ19_getChars_1 20 rfl rfl)
theorem dJ19_getChars_44 : decode cJ19_getChars 44 = .ok (.iinc 5 (-1), 3) := dk_132 5 255 (dk_at dksJ19_getChars_1 21 rfl rfl)
theorem dJ19_getChars_47 : decode cJ19_getChars 47 = .ok (.iload 5, 2) := dk_21 5 (dk_at dksJ19_getChars_2 0 rfl rfl)
theorem dJ19_getChars_49 : decode cJ19_getChars 49 = .ok (.getstatic 83, 3) := dk_178 0 83 (dk_at dksJ19_getChars_2 2 rfl rfl)
theorem dJ19_getChars_52 : decode cJ19_getChars 52 = .ok (.iload 4, 2) := dk_21 4 (dk_at dksJ19_getChars_2 5 rfl rfl)
theorem dJ19_getChars_54 : decode cJ19_getChars 54 = .ok (.baload, 1) := dk_51 (dk_at dksJ19_getChars_2 7 rfl rfl)
theorem dJ19_getChars_55 : decode cJ19_getChars 55 = .ok (.bastore, 1) := dk_84 (dk_at dksJ19_getChars_2 8 rfl rfl)
theorem dJ19_getChars_56 : decode cJ19_getChars 56 = .ok (.aload_n 2, 1) := dk_44 (dk_at dksJ19_getChars_2 9 rfl rfl)
theorem dJ19_getChars_57 : decode cJ19_getChars 57 = .ok (.iinc 5 (-1), 3) := dk_132 5 255 (dk_at dksJ19_getChars_2 10 rfl rfl)
theorem dJ19_getChars_60 : decode cJ19_getChars 60 = .ok (.iload 5, 2) := dk_21 5 (dk_at dksJ19_getChars_2 13 rfl rfl)
theorem dJ19_getChars_62 : decode cJ19_getChars 62 = .ok (.getstatic 87, 3) := dk_178 0 87 (dk_at dksJ19_getChars_2 15 rfl rfl)
theorem dJ19_getChars_65 : decode cJ19_getChars 65 = .ok (.iload 4, 2) := dk_21 4 (dk_at dksJ19_getChars_2 18 rfl rfl)
theorem dJ19_getChars_67 : decode cJ19_getChars 67 = .ok (.baload, 1) := dk_51 (dk_at dksJ19_getChars_2 20 rfl rfl)
theorem dJ19_getChars_68 : decode cJ19_getChars 68 = .ok (.bastore, 1) := dk_84 (dk_at dksJ19_getChars_2 21 rfl rfl)
theorem dJ19_getChars_69 : decode cJ19_getChars 69 = .ok (.goto (-47), 3) := dk_167 255 209 (dk_at dksJ19_getChars_3 0 rfl rfl)
theorem dJ19_getChars_72 : decode cJ19_getChars 72 = .ok (.aload_n 2, 1) := dk_44 (dk_at dksJ19_getChars_3 3 rfl rfl)
theorem dJ19_getChars_73 : decode cJ19_getChars 73 = .ok (.iinc 5 (-1), 3) := dk_132 5 255 (dk_at dksJ19_getChars_3 4 rfl rfl)
theorem dJ19_getChars_76 : decode cJ19_getChars 76 = .ok (.iload 5, 2) := dk_21 5 (dk_at dksJ19_getChars_3 7 rfl rfl)
theorem dJ19_getChars_78 : decode cJ19_getChars 78 = .ok (.getstatic 83, 3) := dk_178 0 83 (dk_at dksJ19_getChars_3 9 rfl rfl)
theorem dJ19_getChars_81 : decode cJ19_getChars 81 = .ok (.iload_n 0, 1) := dk_26 (dk_at dksJ19_getChars_3 12 rfl rfl)
theorem dJ19_getChars_82 : decode cJ19_getChars 82 = .ok (.ineg, 1) := dk_116 (dk_at dksJ19_getChars_3 13 rfl rfl)
theorem dJ19_getChars_83 : decode cJ19_getChars 83 = .ok (.baload, 1) := dk_51 (dk_at dksJ19_getChars_3 14 rfl rfl)
theorem dJ19_getChars_84 : decode cJ19_getChars 84 = .ok (.bastore, 1) := dk_84 (dk_at dksJ19_getChars_3 15 rfl rfl)
theorem dJ19_getChars_85 : decode cJ19_getChars 85 = .ok (.iload_n 0, 1) := dk_26 (dk_at dksJ19_getChars_3 16 rfl rfl)
theorem dJ19_getChars_86 : decode cJ19_getChars 86 = .ok (.bipush (-9), 2) := dk_16 247 (dk_at dksJ19_getChars_3 17 rfl rfl)
theorem dJ19_getChars_88 : decode cJ19_getChars 88 = .ok (.if_icmp .ge 16, 3) := dk_162 0 16 (dk_at dksJ19_getChars_3 19 rfl rfl)
theorem dJ19_getChars_91 : decode cJ19_getChars 91 = .ok (.aload_n 2, 1) := dk_44 (dk_at dksJ19_getChars_3 22 rfl rfl)
theorem dJ19_getChars_92 : decode cJ19_getChars 92 = .ok (.iinc 5 (-1), 3) := dk_132 5 255 (dk_at dksJ19_getChars_4 0 rfl rfl)
theorem dJ19_getChars_95 : decode cJ19_getChars 95 = .ok (.iload 5, 2) := dk_21 5 (dk_at dksJ19_getChars_4 3 rfl rfl)
theorem dJ19_getChars_97 : decode cJ19_getChars 97 = .ok (.getstatic 87, 3) := dk_178 0 87 (dk_at dksJ19_getChars_4 5 rfl rfl)
theorem dJ19_getChars_100 : decode cJ19_getChars 100 = .ok (.iload_n 0, 1) := dk_26 (dk_at dksJ19_getChars_4 8 rfl rfl)
theorem dJ19_getChars_101 : decode cJ19_getChars 101 = .ok (.ineg, 1) := dk_116 (dk_at dksJ19_getChars_4 9 rfl rfl)
theorem dJ19_getChars_102 : decode cJ19_getChars 102 = .ok (.baload, 1) := dk_51 (dk_at dksJ19_getChars_4 10 rfl rfl)
theorem dJ19_getChars_103 : decode cJ19_getChars 103 = .ok (.bastore, 1) := dk_84 (dk_at dksJ19_getChars_4 11 rfl rfl)
theorem dJ19_getChars_104 : decode cJ19_getChars 104 = .ok (.iload 6, 2) := dk_21 6 (dk_at dksJ19_getChars_4 12 rfl rfl)
theorem dJ19_getChars_106 : decode cJ19_getChars 106 = .ok (.ifCond .eq 12, 3) := dk_153 0 12 (dk_at dksJ19_getChars_4 14 rfl rfl)
theorem dJ19_getChars_109 : decode cJ19_getChars 109 = .ok (.aload_n 2, 1) := dk_44 (dk_at dksJ19_getChars_4 17 rfl rfl)
theorem dJ19_getChars_110 : decode cJ19_getChars 110 = .ok (.iinc 5 (-1), 3) := dk_132 5 255 (dk_at dksJ19_getChars_4 18 rfl rfl)
theorem dJ19_getChars_113 : decode cJ19_getChars 113 = .ok (.iload 5, 2) := dk_21 5 (dk_at dksJ19_getChars_4 21 rfl rfl)
theorem dJ19_getChars_115 : decode cJ19_getChars 115 = .ok (.bipush 45, 2) := dk_16 45 (dk_at dksJ19_getChars_5 0 rfl rfl)
theorem dJ19_getChars_117 : decode cJ19_getChars 117 = .ok (.bastore, 1) := dk_84 (dk_at dksJ19_getChars_5 2 rfl rfl)
theorem dJ19_getChars_118 : decode cJ19_getChars 118 = .ok (.iload 5, 2) := dk_21 5 (dk_at dksJ19_getChars_5 3 rfl rfl)
theorem dJ19_getChars_120 : decode cJ19_getChars 120 = .ok (.ireturn, 1) := dk_172 (dk_at dksJ19_getChars_5 5 rfl rfl)
abbrev cJ19_intValue : ByteArray := prog_78_method_27_code
def yJ19_intValue : MethodName := ⟨RJ19, "intValue", "()I"⟩
theorem dJ19_intValue_0 : decode cJ19_intValue 0 = .ok (.aload_n 0, 1) := by decide +kernel
theorem dJ19_intValue_1 : decode cJ19_intValue 1 = .ok (.getfield 205, 3) := by decide +kernel
theorem dJ19_intValue_4 : decode cJ19_intValue 4 = .ok (.ireturn, 1) := by decide +kernel
abbrev cJ19_hashCode : ByteArray := prog_78_method_32_code
def yJ19_hashCode : MethodName := ⟨RJ19, "hashCode", "()I"⟩
def dkwJ19_hashCode_0 : List UInt8 := [42, 180, 0, 205, 184, 0, 208, 172]
abbrev dktJ19_hashCode_0 : List UInt8 := dkwJ19_hashCode_0 ++ []
theorem dksJ19_hashCode_0 : cJ19_hashCode.data.toList.drop 0 = dktJ19_hashCode_0 := by decide +kernel
theorem dJ19_hashCode_0 : decode cJ19_hashCode 0 = .ok (.aload_n 0, 1) := dk_42 (dk_at dksJ19_hashCode_0 0 rfl rfl)
theorem dJ19_hashCode_1 : decode cJ19_hashCode 1 = .ok (.getfield 205, 3) := dk_180 0 205 (dk_at dksJ19_hashCode_0 1 rfl rfl)
theorem dJ19_hashCode_4 : decode cJ19_hashCode 4 = .ok (.invokestatic 208, 3) := dk_184 0 208 (dk_at dksJ19_hashCode_0 4 rfl rfl)
theorem dJ19_hashCode_7 : decode cJ19_hashCode 7 = .ok (.ireturn, 1) := dk_172 (dk_at dksJ19_hashCode_0 7 rfl rfl)
abbrev cJ19_hashCode_2 : ByteArray := prog_78_method_33_code
def yJ19_hashCode_2 : MethodName := ⟨RJ19, "hashCode", "(I)I"⟩
theorem dJ19_hashCode_2_0 : decode cJ19_hashCode_2 0 = .ok (.iload_n 0, 1) := by decide +kernel
theorem dJ19_hashCode_2_1 : decode cJ19_hashCode_2 1 = .ok (.ireturn, 1) := by decide +kernel
abbrev cJ19_equals : ByteArray := prog_78_method_34_code
def yJ19_equals : MethodName := ⟨RJ19, "equals", "(Ljava/lang/Object;)Z"⟩
def dkwJ19_equals_1 : List UInt8 := [167, 0, 4, 3, 172, 3, 172]
abbrev dktJ19_equals_1 : List UInt8 := dkwJ19_equals_1 ++ []
def dkwJ19_equals_0 : List UInt8 := [43, 193, 0, 1, 153, 0, 23, 42, 180, 0, 205, 43, 192, 0, 1, 182, 0, 211, 160, 0, 7, 4]
abbrev dktJ19_equals_0 : List UInt8 := dkwJ19_equals_0 ++ dktJ19_equals_1
theorem dksJ19_equals_0 : cJ19_equals.data.toList.drop 0 = dktJ19_equals_0 := by decide +kernel
theorem dksJ19_equals_1 : cJ19_equals.data.toList.drop 22 = dktJ19_equals_1 := dk_seg dksJ19_equals_0 22 rfl rfl
theorem dJ19_equals_0 : decode cJ19_equals 0 = .ok (.aload_n 1, 1) := dk_43 (dk_at dksJ19_equals_0 0 rfl rfl)
theorem dJ19_equals_1 : decode cJ19_equals 1 = .ok (.instanceof 1, 3) := dk_193 0 1 (dk_at dksJ19_equals_0 1 rfl rfl)
theorem dJ19_equals_4 : decode cJ19_equals 4 = .ok (.ifCond .eq 23, 3) := dk_153 0 23 (dk_at dksJ19_equals_0 4 rfl rfl)
theorem dJ19_equals_7 : decode cJ19_equals 7 = .ok (.aload_n 0, 1) := dk_42 (dk_at dksJ19_equals_0 7 rfl rfl)
theorem dJ19_equals_8 : decode cJ19_equals 8 = .ok (.getfield 205, 3) := dk_180 0 205 (dk_at dksJ19_equals_0 8 rfl rfl)
theorem dJ19_equals_11 : decode cJ19_equals 11 = .ok (.aload_n 1, 1) := dk_43 (dk_at dksJ19_equals_0 11 rfl rfl)
theorem dJ19_equals_12 : decode cJ19_equals 12 = .ok (.checkcast 1, 3) := dk_192 0 1 (dk_at dksJ19_equals_0 12 rfl rfl)
theorem dJ19_equals_15 : decode cJ19_equals 15 = .ok (.invokevirtual 211, 3) := dk_182 0 211 (dk_at dksJ19_equals_0 15 rfl rfl)
theorem dJ19_equals_18 : decode cJ19_equals 18 = .ok (.if_icmp .ne 7, 3) := dk_160 0 7 (dk_at dksJ19_equals_0 18 rfl rfl)
theorem dJ19_equals_21 : decode cJ19_equals 21 = .ok (.iconst 1, 1) := dk_4 (dk_at dksJ19_equals_0 21 rfl rfl)
theorem dJ19_equals_22 : decode cJ19_equals 22 = .ok (.goto 4, 3) := dk_167 0 4 (dk_at dksJ19_equals_1 0 rfl rfl)
theorem dJ19_equals_25 : decode cJ19_equals 25 = .ok (.iconst 0, 1) := dk_3 (dk_at dksJ19_equals_1 3 rfl rfl)
theorem dJ19_equals_26 : decode cJ19_equals 26 = .ok (.ireturn, 1) := dk_172 (dk_at dksJ19_equals_1 4 rfl rfl)
theorem dJ19_equals_27 : decode cJ19_equals 27 = .ok (.iconst 0, 1) := dk_3 (dk_at dksJ19_equals_1 5 rfl rfl)
theorem dJ19_equals_28 : decode cJ19_equals 28 = .ok (.ireturn, 1) := dk_172 (dk_at dksJ19_equals_1 6 rfl rfl)
abbrev cJ19_compareTo : ByteArray := prog_78_method_63_code
def yJ19_compareTo : MethodName := ⟨RJ19, "compareTo", "(Ljava/lang/Object;)I"⟩
def dkwJ19_compareTo_0 : List UInt8 := [42, 43, 192, 0, 1, 182, 1, 28, 172]
abbrev dktJ19_compareTo_0 : List UInt8 := dkwJ19_compareTo_0 ++ []
theorem dksJ19_compareTo_0 : cJ19_compareTo.data.toList.drop 0 = dktJ19_compareTo_0 := by decide +kernel
theorem dJ19_compareTo_0 : decode cJ19_compareTo 0 = .ok (.aload_n 0, 1) := dk_42 (dk_at dksJ19_compareTo_0 0 rfl rfl)
theorem dJ19_compareTo_1 : decode cJ19_compareTo 1 = .ok (.aload_n 1, 1) := dk_43 (dk_at dksJ19_compareTo_0 1 rfl rfl)
theorem dJ19_compareTo_2 : decode cJ19_compareTo 2 = .ok (.checkcast 1, 3) := dk_192 0 1 (dk_at dksJ19_compareTo_0 2 rfl rfl)
theorem dJ19_compareTo_5 : decode cJ19_compareTo 5 = .ok (.invokevirtual 284, 3) := dk_182 1 28 (dk_at dksJ19_compareTo_0 5 rfl rfl)
theorem dJ19_compareTo_8 : decode cJ19_compareTo 8 = .ok (.ireturn, 1) := dk_172 (dk_at dksJ19_compareTo_0 8 rfl rfl)
abbrev cJ19_compareTo_2 : ByteArray := prog_78_method_39_code
def yJ19_compareTo_2 : MethodName := ⟨RJ19, "compareTo", "(Ljava/lang/Integer;)I"⟩
def dkwJ19_compareTo_2_0 : List UInt8 := [42, 180, 0, 205, 43, 180, 0, 205, 184, 1, 3, 172]
abbrev dktJ19_compareTo_2_0 : List UInt8 := dkwJ19_compareTo_2_0 ++ []
theorem dksJ19_compareTo_2_0 : cJ19_compareTo_2.data.toList.drop 0 = dktJ19_compareTo_2_0 := by decide +kernel
theorem dJ19_compareTo_2_0 : decode cJ19_compareTo_2 0 = .ok (.aload_n 0, 1) := dk_42 (dk_at dksJ19_compareTo_2_0 0 rfl rfl)
theorem dJ19_compareTo_2_1 : decode cJ19_compareTo_2 1 = .ok (.getfield 205, 3) := dk_180 0 205 (dk_at dksJ19_compareTo_2_0 1 rfl rfl)
theorem dJ19_compareTo_2_4 : decode cJ19_compareTo_2 4 = .ok (.aload_n 1, 1) := dk_43 (dk_at dksJ19_compareTo_2_0 4 rfl rfl)
theorem dJ19_compareTo_2_5 : decode cJ19_compareTo_2 5 = .ok (.getfield 205, 3) := dk_180 0 205 (dk_at dksJ19_compareTo_2_0 5 rfl rfl)
theorem dJ19_compareTo_2_8 : decode cJ19_compareTo_2 8 = .ok (.invokestatic 259, 3) := dk_184 1 3 (dk_at dksJ19_compareTo_2_0 8 rfl rfl)
theorem dJ19_compareTo_2_11 : decode cJ19_compareTo_2 11 = .ok (.ireturn, 1) := dk_172 (dk_at dksJ19_compareTo_2_0 11 rfl rfl)
abbrev cJ19_compare : ByteArray := prog_78_method_40_code
def yJ19_compare : MethodName := ⟨RJ19, "compare", "(II)I"⟩
def dkwJ19_compare_0 : List UInt8 := [26, 27, 162, 0, 7, 2, 167, 0, 13, 26, 27, 160, 0, 7, 3, 167, 0, 4, 4, 172]
abbrev dktJ19_compare_0 : List UInt8 := dkwJ19_compare_0 ++ []
theorem dksJ19_compare_0 : cJ19_compare.data.toList.drop 0 = dktJ19_compare_0 := by decide +kernel
theorem dJ19_compare_0 : decode cJ19_compare 0 = .ok (.iload_n 0, 1) := dk_26 (dk_at dksJ19_compare_0 0 rfl rfl)
theorem dJ19_compare_1 : decode cJ19_compare 1 = .ok (.iload_n 1, 1) := dk_27 (dk_at dksJ19_compare_0 1 rfl rfl)
theorem dJ19_compare_2 : decode cJ19_compare 2 = .ok (.if_icmp .ge 7, 3) := dk_162 0 7 (dk_at dksJ19_compare_0 2 rfl rfl)
theorem dJ19_compare_5 : decode cJ19_compare 5 = .ok (.iconst (-1), 1) := dk_2 (dk_at dksJ19_compare_0 5 rfl rfl)
theorem dJ19_compare_6 : decode cJ19_compare 6 = .ok (.goto 13, 3) := dk_167 0 13 (dk_at dksJ19_compare_0 6 rfl rfl)
theorem dJ19_compare_9 : decode cJ19_compare 9 = .ok (.iload_n 0, 1) := dk_26 (dk_at dksJ19_compare_0 9 rfl rfl)
theorem dJ19_compare_10 : decode cJ19_compare 10 = .ok (.iload_n 1, 1) := dk_27 (dk_at dksJ19_compare_0 10 rfl rfl)
theorem dJ19_compare_11 : decode cJ19_compare 11 = .ok (.if_icmp .ne 7, 3) := dk_160 0 7 (dk_at dksJ19_compare_0 11 rfl rfl)
theorem dJ19_compare_14 : decode cJ19_compare 14 = .ok (.iconst 0, 1) := dk_3 (dk_at dksJ19_compare_0 14 rfl rfl)
theorem dJ19_compare_15 : decode cJ19_compare 15 = .ok (.goto 4, 3) := dk_167 0 4 (dk_at dksJ19_compare_0 15 rfl rfl)
theorem dJ19_compare_18 : decode cJ19_compare 18 = .ok (.iconst 1, 1) := dk_4 (dk_at dksJ19_compare_0 18 rfl rfl)
theorem dJ19_compare_19 : decode cJ19_compare 19 = .ok (.ireturn, 1) := dk_172 (dk_at dksJ19_compare_0 19 rfl rfl)
abbrev cJ19_numberOfLeadingZeros : ByteArray := prog_78_method_47_code
def yJ19_numberOfLeadingZeros : MethodName := ⟨RJ19, "numberOfLeadingZeros", "(I)I"⟩
def dkwJ19_numberOfLeadingZeros_3 : List UInt8 := [5, 124, 59, 27, 26, 4, 124, 100, 172]
abbrev dktJ19_numberOfLeadingZeros_3 : List UInt8 := dkwJ19_numberOfLeadingZeros_3 ++ []
def dkwJ19_numberOfLeadingZeros_2 : List UInt8 := [124, 59, 26, 16, 16, 161, 0, 10, 132, 1, 252, 26, 7, 124, 59, 26, 7, 161, 0, 10, 132, 1, 254, 26]
abbrev dktJ19_numberOfLeadingZeros_2 : List UInt8 := dkwJ19_numberOfLeadingZeros_2 ++ dktJ19_numberOfLeadingZeros_3
def dkwJ19_numberOfLeadingZeros_1 : List UInt8 := [161, 0, 11, 132, 1, 240, 26, 16, 16, 124, 59, 26, 17, 1, 0, 161, 0, 11, 132, 1, 248, 26, 16, 8]
abbrev dktJ19_numberOfLeadingZeros_1 : List UInt8 := dkwJ19_numberOfLeadingZeros_1 ++ dktJ19_numberOfLeadingZeros_2
def dkwJ19_numberOfLeadingZeros_0 : List UInt8 := [26, 157, 0, 14, 26, 154, 0, 8, 16, 32, 167, 0, 4, 3, 172, 16, 31, 60, 26, 19, 1, 8]
abbrev dktJ19_numberOfLeadingZeros_0 : List UInt8 := dkwJ19_numberOfLeadingZeros_0 ++ dktJ19_numberOfLeadingZeros_1
theorem dksJ19_numberOfLeadingZeros_0 : cJ19_numberOfLeadingZeros.data.toList.drop 0 = dktJ19_numberOfLeadingZeros_0 := by decide +kernel
theorem dksJ19_numberOfLeadingZeros_1 : cJ19_numberOfLeadingZeros.data.toList.drop 22 = dktJ19_numberOfLeadingZeros_1 := dk_seg dksJ19_numberOfLeadingZeros_0 22 rfl rfl
theorem dksJ19_numberOfLeadingZeros_2 : cJ19_numberOfLeadingZeros.data.toList.drop 46 = dktJ19_numberOfLeadingZeros_2 := dk_seg dksJ19_numberOfLeadingZeros_1 24 rfl rfl
theorem dksJ19_numberOfLeadingZeros_3 : cJ19_numberOfLeadingZeros.data.toList.drop 70 = dktJ19_numberOfLeadingZeros_3 := dk_seg dksJ19_numberOfLeadingZeros_2 24 rfl rfl
theorem dJ19_numberOfLeadingZeros_0 : decode cJ19_numberOfLeadingZeros 0 = .ok (.iload_n 0, 1) := dk_26 (dk_at dksJ19_numberOfLeadingZeros_0 0 rfl rfl)
theorem dJ19_numberOfLeadingZeros_1 : decode cJ19_numberOfLeadingZeros 1 = .ok (.ifCond .gt 14, 3) := dk_157 0 14 (dk_at dksJ19_numberOfLeadingZeros_0 1 rfl rfl)
theorem dJ19_numberOfLeadingZeros_4 : decode cJ19_numberOfLeadingZeros 4 = .ok (.iload_n 0, 1) := dk_26 (dk_at dksJ19_numberOfLeadingZeros_0 4 rfl rfl)
theorem dJ19_numberOfLeadingZeros_5 : decode cJ19_numberOfLeadingZeros 5 = .ok (.ifCond .ne 8, 3) := dk_154 0 8 (dk_at dksJ19_numberOfLeadingZeros_0 5 rfl rfl)
theorem dJ19_numberOfLeadingZeros_8 : decode cJ19_numberOfLeadingZeros 8 = .ok (.bipush 32, 2) := dk_16 32 (dk_at dksJ19_numberOfLeadingZeros_0 8 rfl rfl)
theorem dJ19_numberOfLeadingZeros_10 : decode cJ19_numberOfLeadingZeros 10 = .ok (.goto 4, 3) := dk_167 0 4 (dk_at dksJ19_numberOfLeadingZeros_0 10 rfl rfl)
theorem dJ19_numberOfLeadingZeros_13 : decode cJ19_numberOfLeadingZeros 13 = .ok (.iconst 0, 1) := dk_3 (dk_at dksJ19_numberOfLeadingZeros_0 13 rfl rfl)
theorem dJ19_numberOfLeadingZeros_14 : decode cJ19_numberOfLeadingZeros 14 = .ok (.ireturn, 1) := dk_172 (dk_at dksJ19_numberOfLeadingZeros_0 14 rfl rfl)
theorem dJ19_numberOfLeadingZeros_15 : decode cJ19_numberOfLeadingZeros 15 = .ok (.bipush 31, 2) := dk_16 31 (dk_at dksJ19_numberOfLeadingZeros_0 15 rfl rfl)
theorem dJ19_numberOfLeadingZeros_17 : decode cJ19_numberOfLeadingZeros 17 = .ok (.istore_n 1, 1) := dk_60 (dk_at dksJ19_numberOfLeadingZeros_0 17 rfl rfl)
theorem dJ19_numberOfLeadingZeros_18 : decode cJ19_numberOfLeadingZeros 18 = .ok (.iload_n 0, 1) := dk_26 (dk_at dksJ19_numberOfLeadingZeros_0 18 rfl rfl)
theorem dJ19_numberOfLeadingZeros_19 : decode cJ19_numberOfLeadingZeros 19 = .ok (.ldc_w 264, 3) := dk_19 1 8 (dk_at dksJ19_numberOfLeadingZeros_0 19 rfl rfl)
theorem dJ19_numberOfLeadingZeros_22 : decode cJ19_numberOfLeadingZeros 22 = .ok (.if_icmp .lt 11, 3) := dk_161 0 11 (dk_at dksJ19_numberOfLeadingZeros_1 0 rfl rfl)
theorem dJ19_numberOfLeadingZeros_25 : decode cJ19_numberOfLeadingZeros 25 = .ok (.iinc 1 (-16), 3) := dk_132 1 240 (dk_at dksJ19_numberOfLeadingZeros_1 3 rfl rfl)
theorem dJ19_numberOfLeadingZeros_28 : decode cJ19_numberOfLeadingZeros 28 = .ok (.iload_n 0, 1) := dk_26 (dk_at dksJ19_numberOfLeadingZeros_1 6 rfl rfl)
theorem dJ19_numberOfLeadingZeros_29 : decode cJ19_numberOfLeadingZeros 29 = .ok (.bipush 16, 2) := dk_16 16 (dk_at dksJ19_numberOfLeadingZeros_1 7 rfl rfl)
theorem dJ19_numberOfLeadingZeros_31 : decode cJ19_numberOfLeadingZeros 31 = .ok (.iushr, 1) := dk_124 (dk_at dksJ19_numberOfLeadingZeros_1 9 rfl rfl)
theorem dJ19_numberOfLeadingZeros_32 : decode cJ19_numberOfLeadingZeros 32 = .ok (.istore_n 0, 1) := dk_59 (dk_at dksJ19_numberOfLeadingZeros_1 10 rfl rfl)
theorem dJ19_numberOfLeadingZeros_33 : decode cJ19_numberOfLeadingZeros 33 = .ok (.iload_n 0, 1) := dk_26 (dk_at dksJ19_numberOfLeadingZeros_1 11 rfl rfl)
theorem dJ19_numberOfLeadingZeros_34 : decode cJ19_numberOfLeadingZeros 34 = .ok (.sipush 256, 3) := dk_17 1 0 (dk_at dksJ19_numberOfLeadingZeros_1 12 rfl rfl)
theorem dJ19_numberOfLeadingZeros_37 : decode cJ19_numberOfLeadingZeros 37 = .ok (.if_icmp .lt 11, 3) := dk_161 0 11 (dk_at dksJ19_numberOfLeadingZeros_1 15 rfl rfl)
theorem dJ19_numberOfLeadingZeros_40 : decode cJ19_numberOfLeadingZeros 40 = .ok (.iinc 1 (-8), 3) := dk_132 1 248 (dk_at dksJ19_numberOfLeadingZeros_1 18 rfl rfl)
theorem dJ19_numberOfLeadingZeros_43 : decode cJ19_numberOfLeadingZeros 43 = .ok (.iload_n 0, 1) := dk_26 (dk_at dksJ19_numberOfLeadingZeros_1 21 rfl rfl)
theorem dJ19_numberOfLeadingZeros_44 : decode cJ19_numberOfLeadingZeros 44 = .ok (.bipush 8, 2) := dk_16 8 (dk_at dksJ19_numberOfLeadingZeros_1 22 rfl rfl)
theorem dJ19_numberOfLeadingZeros_46 : decode cJ19_numberOfLeadingZeros 46 = .ok (.iushr, 1) := dk_124 (dk_at dksJ19_numberOfLeadingZeros_2 0 rfl rfl)
theorem dJ19_numberOfLeadingZeros_47 : decode cJ19_numberOfLeadingZeros 47 = .ok (.istore_n 0, 1) := dk_59 (dk_at dksJ19_numberOfLeadingZeros_2 1 rfl rfl)
theorem dJ19_numberOfLeadingZeros_48 : decode cJ19_numberOfLeadingZeros 48 = .ok (.iload_n 0, 1) := dk_26 (dk_at dksJ19_numberOfLeadingZeros_2 2 rfl rfl)
theorem dJ19_numberOfLeadingZeros_49 : decode cJ19_numberOfLeadingZeros 49 = .ok (.bipush 16, 2) := dk_16 16 (dk_at dksJ19_numberOfLeadingZeros_2 3 rfl rfl)
theorem dJ19_numberOfLeadingZeros_51 : decode cJ19_numberOfLeadingZeros 51 = .ok (.if_icmp .lt 10, 3) := dk_161 0 10 (dk_at dksJ19_numberOfLeadingZeros_2 5 rfl rfl)
theorem dJ19_numberOfLeadingZeros_54 : decode cJ19_numberOfLeadingZeros 54 = .ok (.iinc 1 (-4), 3) := dk_132 1 252 (dk_at dksJ19_numberOfLeadingZeros_2 8 rfl rfl)
theorem dJ19_numberOfLeadingZeros_57 : decode cJ19_numberOfLeadingZeros 57 = .ok (.iload_n 0, 1) := dk_26 (dk_at dksJ19_numberOfLeadingZeros_2 11 rfl rfl)
theorem dJ19_numberOfLeadingZeros_58 : decode cJ19_numberOfLeadingZeros 58 = .ok (.iconst 4, 1) := dk_7 (dk_at dksJ19_numberOfLeadingZeros_2 12 rfl rfl)
theorem dJ19_numberOfLeadingZeros_59 : decode cJ19_numberOfLeadingZeros 59 = .ok (.iushr, 1) := dk_124 (dk_at dksJ19_numberOfLeadingZeros_2 13 rfl rfl)
theorem dJ19_numberOfLeadingZeros_60 : decode cJ19_numberOfLeadingZeros 60 = .ok (.istore_n 0, 1) := dk_59 (dk_at dksJ19_numberOfLeadingZeros_2 14 rfl rfl)
theorem dJ19_numberOfLeadingZeros_61 : decode cJ19_numberOfLeadingZeros 61 = .ok (.iload_n 0, 1) := dk_26 (dk_at dksJ19_numberOfLeadingZeros_2 15 rfl rfl)
theorem dJ19_numberOfLeadingZeros_62 : decode cJ19_numberOfLeadingZeros 62 = .ok (.iconst 4, 1) := dk_7 (dk_at dksJ19_numberOfLeadingZeros_2 16 rfl rfl)
theorem dJ19_numberOfLeadingZeros_63 : decode cJ19_numberOfLeadingZeros 63 = .ok (.if_icmp .lt 10, 3) := dk_161 0 10 (dk_at dksJ19_numberOfLeadingZeros_2 17 rfl rfl)
theorem dJ19_numberOfLeadingZeros_66 : decode cJ19_numberOfLeadingZeros 66 = .ok (.iinc 1 (-2), 3) := dk_132 1 254 (dk_at dksJ19_numberOfLeadingZeros_2 20 rfl rfl)
theorem dJ19_numberOfLeadingZeros_69 : decode cJ19_numberOfLeadingZeros 69 = .ok (.iload_n 0, 1) := dk_26 (dk_at dksJ19_numberOfLeadingZeros_2 23 rfl rfl)
theorem dJ19_numberOfLeadingZeros_70 : decode cJ19_numberOfLeadingZeros 70 = .ok (.iconst 2, 1) := dk_5 (dk_at dksJ19_numberOfLeadingZeros_3 0 rfl rfl)
theorem dJ19_numberOfLeadingZeros_71 : decode cJ19_numberOfLeadingZeros 71 = .ok (.iushr, 1) := dk_124 (dk_at dksJ19_numberOfLeadingZeros_3 1 rfl rfl)
theorem dJ19_numberOfLeadingZeros_72 : decode cJ19_numberOfLeadingZeros 72 = .ok (.istore_n 0, 1) := dk_59 (dk_at dksJ19_numberOfLeadingZeros_3 2 rfl rfl)
theorem dJ19_numberOfLeadingZeros_73 : decode cJ19_numberOfLeadingZeros 73 = .ok (.iload_n 1, 1) := dk_27 (dk_at dksJ19_numberOfLeadingZeros_3 3 rfl rfl)
theorem dJ19_numberOfLeadingZeros_74 : decode cJ19_numberOfLeadingZeros 74 = .ok (.iload_n 0, 1) := dk_26 (dk_at dksJ19_numberOfLeadingZeros_3 4 rfl rfl)
theorem dJ19_numberOfLeadingZeros_75 : decode cJ19_numberOfLeadingZeros 75 = .ok (.iconst 1, 1) := dk_4 (dk_at dksJ19_numberOfLeadingZeros_3 5 rfl rfl)
theorem dJ19_numberOfLeadingZeros_76 : decode cJ19_numberOfLeadingZeros 76 = .ok (.iushr, 1) := dk_124 (dk_at dksJ19_numberOfLeadingZeros_3 6 rfl rfl)
theorem dJ19_numberOfLeadingZeros_77 : decode cJ19_numberOfLeadingZeros 77 = .ok (.isub, 1) := dk_100 (dk_at dksJ19_numberOfLeadingZeros_3 7 rfl rfl)
theorem dJ19_numberOfLeadingZeros_78 : decode cJ19_numberOfLeadingZeros 78 = .ok (.ireturn, 1) := dk_172 (dk_at dksJ19_numberOfLeadingZeros_3 8 rfl rfl)
abbrev cJ19_numberOfTrailingZeros : ByteArray := prog_78_method_48_code
def yJ19_numberOfTrailingZeros : MethodName := ⟨RJ19, "numberOfTrailingZeros", "(I)I"⟩
def dkwJ19_numberOfTrailingZeros_3 : List UInt8 := [5, 124, 59, 27, 26, 4, 124, 96, 172]
abbrev dktJ19_numberOfTrailingZeros_3 : List UInt8 := dkwJ19_numberOfTrailingZeros_3 ++ []
def dkwJ19_numberOfTrailingZeros_2 : List UInt8 := [124, 59, 26, 16, 16, 164, 0, 10, 132, 1, 4, 26, 7, 124, 59, 26, 7, 164, 0, 10, 132, 1, 2, 26]
abbrev dktJ19_numberOfTrailingZeros_2 : List UInt8 := dkwJ19_numberOfTrailingZeros_2 ++ dktJ19_numberOfTrailingZeros_3
def dkwJ19_numberOfTrailingZeros_1 : List UInt8 := [164, 0, 11, 132, 1, 16, 26, 16, 16, 124, 59, 26, 17, 1, 0, 164, 0, 11, 132, 1, 8, 26, 16, 8]
abbrev dktJ19_numberOfTrailingZeros_1 : List UInt8 := dkwJ19_numberOfTrailingZeros_1 ++ dktJ19_numberOfTrailingZeros_2
def dkwJ19_numberOfTrailingZeros_0 : List UInt8 := [26, 2, 130, 26, 4, 100, 126, 59, 26, 157, 0, 8, 26, 16, 32, 126, 172, 4, 60, 26, 19, 1, 8]
abbrev dktJ19_numberOfTrailingZeros_0 : List UInt8 := dkwJ19_numberOfTrailingZeros_0 ++ dktJ19_numberOfTrailingZeros_1
theorem dksJ19_numberOfTrailingZeros_0 : cJ19_numberOfTrailingZeros.data.toList.drop 0 = dktJ19_numberOfTrailingZeros_0 := by decide +kernel
theorem dksJ19_numberOfTrailingZeros_1 : cJ19_numberOfTrailingZeros.data.toList.drop 23 = dktJ19_numberOfTrailingZeros_1 := dk_seg dksJ19_numberOfTrailingZeros_0 23 rfl rfl
theorem dksJ19_numberOfTrailingZeros_2 : cJ19_numberOfTrailingZeros.data.toList.drop 47 = dktJ19_numberOfTrailingZeros_2 := dk_seg dksJ19_numberOfTrailingZeros_1 24 rfl rfl
theorem dksJ19_numberOfTrailingZeros_3 : cJ19_numberOfTrailingZeros.data.toList.drop 71 = dktJ19_numberOfTrailingZeros_3 := dk_seg dksJ19_numberOfTrailingZeros_2 24 rfl rfl
theorem dJ19_numberOfTrailingZeros_0 : decode cJ19_numberOfTrailingZeros 0 = .ok (.iload_n 0, 1) := dk_26 (dk_at dksJ19_numberOfTrailingZeros_0 0 rfl rfl)
theorem dJ19_numberOfTrailingZeros_1 : decode cJ19_numberOfTrailingZeros 1 = .ok (.iconst (-1), 1) := dk_2 (dk_at dksJ19_numberOfTrailingZeros_0 1 rfl rfl)
theorem dJ19_numberOfTrailingZeros_2 : decode cJ19_numberOfTrailingZeros 2 = .ok (.ixor, 1) := dk_130 (dk_at dksJ19_numberOfTrailingZeros_0 2 rfl rfl)
theorem dJ19_numberOfTrailingZeros_3 : decode cJ19_numberOfTrailingZeros 3 = .ok (.iload_n 0, 1) := dk_26 (dk_at dksJ19_numberOfTrailingZeros_0 3 rfl rfl)
theorem dJ19_numberOfTrailingZeros_4 : decode cJ19_numberOfTrailingZeros 4 = .ok (.iconst 1, 1) := dk_4 (dk_at dksJ19_numberOfTrailingZeros_0 4 rfl rfl)
theorem dJ19_numberOfTrailingZeros_5 : decode cJ19_numberOfTrailingZeros 5 = .ok (.isub, 1) := dk_100 (dk_at dksJ19_numberOfTrailingZeros_0 5 rfl rfl)
theorem dJ19_numberOfTrailingZeros_6 : decode cJ19_numberOfTrailingZeros 6 = .ok (.iand, 1) := dk_126 (dk_at dksJ19_numberOfTrailingZeros_0 6 rfl rfl)
theorem dJ19_numberOfTrailingZeros_7 : decode cJ19_numberOfTrailingZeros 7 = .ok (.istore_n 0, 1) := dk_59 (dk_at dksJ19_numberOfTrailingZeros_0 7 rfl rfl)
theorem dJ19_numberOfTrailingZeros_8 : decode cJ19_numberOfTrailingZeros 8 = .ok (.iload_n 0, 1) := dk_26 (dk_at dksJ19_numberOfTrailingZeros_0 8 rfl rfl)
theorem dJ19_numberOfTrailingZeros_9 : decode cJ19_numberOfTrailingZeros 9 = .ok (.ifCond .gt 8, 3) := dk_157 0 8 (dk_at dksJ19_numberOfTrailingZeros_0 9 rfl rfl)
theorem dJ19_numberOfTrailingZeros_12 : decode cJ19_numberOfTrailingZeros 12 = .ok (.iload_n 0, 1) := dk_26 (dk_at dksJ19_numberOfTrailingZeros_0 12 rfl rfl)
theorem dJ19_numberOfTrailingZeros_13 : decode cJ19_numberOfTrailingZeros 13 = .ok (.bipush 32, 2) := dk_16 32 (dk_at dksJ19_numberOfTrailingZeros_0 13 rfl rfl)
theorem dJ19_numberOfTrailingZeros_15 : decode cJ19_numberOfTrailingZeros 15 = .ok (.iand, 1) := dk_126 (dk_at dksJ19_numberOfTrailingZeros_0 15 rfl rfl)
theorem dJ19_numberOfTrailingZeros_16 : decode cJ19_numberOfTrailingZeros 16 = .ok (.ireturn, 1) := dk_172 (dk_at dksJ19_numberOfTrailingZeros_0 16 rfl rfl)
theorem dJ19_numberOfTrailingZeros_17 : decode cJ19_numberOfTrailingZeros 17 = .ok (.iconst 1, 1) := dk_4 (dk_at dksJ19_numberOfTrailingZeros_0 17 rfl rfl)
theorem dJ19_numberOfTrailingZeros_18 : decode cJ19_numberOfTrailingZeros 18 = .ok (.istore_n 1, 1) := dk_60 (dk_at dksJ19_numberOfTrailingZeros_0 18 rfl rfl)
theorem dJ19_numberOfTrailingZeros_19 : decode cJ19_numberOfTrailingZeros 19 = .ok (.iload_n 0, 1) := dk_26 (dk_at dksJ19_numberOfTrailingZeros_0 19 rfl rfl)
theorem dJ19_numberOfTrailingZeros_20 : decode cJ19_numberOfTrailingZeros 20 = .ok (.ldc_w 264, 3) := dk_19 1 8 (dk_at dksJ19_numberOfTrailingZeros_0 20 rfl rfl)
theorem dJ19_numberOfTrailingZeros_23 : decode cJ19_numberOfTrailingZeros 23 = .ok (.if_icmp .le 11, 3) := dk_164 0 11 (dk_at dksJ19_numberOfTrailingZeros_1 0 rfl rfl)
theorem dJ19_numberOfTrailingZeros_26 : decode cJ19_numberOfTrailingZeros 26 = .ok (.iinc 1 16, 3) := dk_132 1 16 (dk_at dksJ19_numberOfTrailingZeros_1 3 rfl rfl)
theorem dJ19_numberOfTrailingZeros_29 : decode cJ19_numberOfTrailingZeros 29 = .ok (.iload_n 0, 1) := dk_26 (dk_at dksJ19_numberOfTrailingZeros_1 6 rfl rfl)
theorem dJ19_numberOfTrailingZeros_30 : decode cJ19_numberOfTrailingZeros 30 = .ok (.bipush 16, 2) := dk_16 16 (dk_at dksJ19_numberOfTrailingZeros_1 7 rfl rfl)
theorem dJ19_numberOfTrailingZeros_32 : decode cJ19_numberOfTrailingZeros 32 = .ok (.iushr, 1) := dk_124 (dk_at dksJ19_numberOfTrailingZeros_1 9 rfl rfl)
theorem dJ19_numberOfTrailingZeros_33 : decode cJ19_numberOfTrailingZeros 33 = .ok (.istore_n 0, 1) := dk_59 (dk_at dksJ19_numberOfTrailingZeros_1 10 rfl rfl)
theorem dJ19_numberOfTrailingZeros_34 : decode cJ19_numberOfTrailingZeros 34 = .ok (.iload_n 0, 1) := dk_26 (dk_at dksJ19_numberOfTrailingZeros_1 11 rfl rfl)
theorem dJ19_numberOfTrailingZeros_35 : decode cJ19_numberOfTrailingZeros 35 = .ok (.sipush 256, 3) := dk_17 1 0 (dk_at dksJ19_numberOfTrailingZeros_1 12 rfl rfl)
theorem dJ19_numberOfTrailingZeros_38 : decode cJ19_numberOfTrailingZeros 38 = .ok (.if_icmp .le 11, 3) := dk_164 0 11 (dk_at dksJ19_numberOfTrailingZeros_1 15 rfl rfl)
theorem dJ19_numberOfTrailingZeros_41 : decode cJ19_numberOfTrailingZeros 41 = .ok (.iinc 1 8, 3) := dk_132 1 8 (dk_at dksJ19_numberOfTrailingZeros_1 18 rfl rfl)
theorem dJ19_numberOfTrailingZeros_44 : decode cJ19_numberOfTrailingZeros 44 = .ok (.iload_n 0, 1) := dk_26 (dk_at dksJ19_numberOfTrailingZeros_1 21 rfl rfl)
theorem dJ19_numberOfTrailingZeros_45 : decode cJ19_numberOfTrailingZeros 45 = .ok (.bipush 8, 2) := dk_16 8 (dk_at dksJ19_numberOfTrailingZeros_1 22 rfl rfl)
theorem dJ19_numberOfTrailingZeros_47 : decode cJ19_numberOfTrailingZeros 47 = .ok (.iushr, 1) := dk_124 (dk_at dksJ19_numberOfTrailingZeros_2 0 rfl rfl)
theorem dJ19_numberOfTrailingZeros_48 : decode cJ19_numberOfTrailingZeros 48 = .ok (.istore_n 0, 1) := dk_59 (dk_at dksJ19_numberOfTrailingZeros_2 1 rfl rfl)
theorem dJ19_numberOfTrailingZeros_49 : decode cJ19_numberOfTrailingZeros 49 = .ok (.iload_n 0, 1) := dk_26 (dk_at dksJ19_numberOfTrailingZeros_2 2 rfl rfl)
theorem dJ19_numberOfTrailingZeros_50 : decode cJ19_numberOfTrailingZeros 50 = .ok (.bipush 16, 2) := dk_16 16 (dk_at dksJ19_numberOfTrailingZeros_2 3 rfl rfl)
theorem dJ19_numberOfTrailingZeros_52 : decode cJ19_numberOfTrailingZeros 52 = .ok (.if_icmp .le 10, 3) := dk_164 0 10 (dk_at dksJ19_numberOfTrailingZeros_2 5 rfl rfl)
theorem dJ19_numberOfTrailingZeros_55 : decode cJ19_numberOfTrailingZeros 55 = .ok (.iinc 1 4, 3) := dk_132 1 4 (dk_at dksJ19_numberOfTrailingZeros_2 8 rfl rfl)
theorem dJ19_numberOfTrailingZeros_58 : decode cJ19_numberOfTrailingZeros 58 = .ok (.iload_n 0, 1) := dk_26 (dk_at dksJ19_numberOfTrailingZeros_2 11 rfl rfl)
theorem dJ19_numberOfTrailingZeros_59 : decode cJ19_numberOfTrailingZeros 59 = .ok (.iconst 4, 1) := dk_7 (dk_at dksJ19_numberOfTrailingZeros_2 12 rfl rfl)
theorem dJ19_numberOfTrailingZeros_60 : decode cJ19_numberOfTrailingZeros 60 = .ok (.iushr, 1) := dk_124 (dk_at dksJ19_numberOfTrailingZeros_2 13 rfl rfl)
theorem dJ19_numberOfTrailingZeros_61 : decode cJ19_numberOfTrailingZeros 61 = .ok (.istore_n 0, 1) := dk_59 (dk_at dksJ19_numberOfTrailingZeros_2 14 rfl rfl)
theorem dJ19_numberOfTrailingZeros_62 : decode cJ19_numberOfTrailingZeros 62 = .ok (.iload_n 0, 1) := dk_26 (dk_at dksJ19_numberOfTrailingZeros_2 15 rfl rfl)
theorem dJ19_numberOfTrailingZeros_63 : decode cJ19_numberOfTrailingZeros 63 = .ok (.iconst 4, 1) := dk_7 (dk_at dksJ19_numberOfTrailingZeros_2 16 rfl rfl)
theorem dJ19_numberOfTrailingZeros_64 : decode cJ19_numberOfTrailingZeros 64 = .ok (.if_icmp .le 10, 3) := dk_164 0 10 (dk_at dksJ19_numberOfTrailingZeros_2 17 rfl rfl)
theorem dJ19_numberOfTrailingZeros_67 : decode cJ19_numberOfTrailingZeros 67 = .ok (.iinc 1 2, 3) := dk_132 1 2 (dk_at dksJ19_numberOfTrailingZeros_2 20 rfl rfl)
theorem dJ19_numberOfTrailingZeros_70 : decode cJ19_numberOfTrailingZeros 70 = .ok (.iload_n 0, 1) := dk_26 (dk_at dksJ19_numberOfTrailingZeros_2 23 rfl rfl)
theorem dJ19_numberOfTrailingZeros_71 : decode cJ19_numberOfTrailingZeros 71 = .ok (.iconst 2, 1) := dk_5 (dk_at dksJ19_numberOfTrailingZeros_3 0 rfl rfl)
theorem dJ19_numberOfTrailingZeros_72 : decode cJ19_numberOfTrailingZeros 72 = .ok (.iushr, 1) := dk_124 (dk_at dksJ19_numberOfTrailingZeros_3 1 rfl rfl)
theorem dJ19_numberOfTrailingZeros_73 : decode cJ19_numberOfTrailingZeros 73 = .ok (.istore_n 0, 1) := dk_59 (dk_at dksJ19_numberOfTrailingZeros_3 2 rfl rfl)
theorem dJ19_numberOfTrailingZeros_74 : decode cJ19_numberOfTrailingZeros 74 = .ok (.iload_n 1, 1) := dk_27 (dk_at dksJ19_numberOfTrailingZeros_3 3 rfl rfl)
theorem dJ19_numberOfTrailingZeros_75 : decode cJ19_numberOfTrailingZeros 75 = .ok (.iload_n 0, 1) := dk_26 (dk_at dksJ19_numberOfTrailingZeros_3 4 rfl rfl)
theorem dJ19_numberOfTrailingZeros_76 : decode cJ19_numberOfTrailingZeros 76 = .ok (.iconst 1, 1) := dk_4 (dk_at dksJ19_numberOfTrailingZeros_3 5 rfl rfl)
theorem dJ19_numberOfTrailingZeros_77 : decode cJ19_numberOfTrailingZeros 77 = .ok (.iushr, 1) := dk_124 (dk_at dksJ19_numberOfTrailingZeros_3 6 rfl rfl)
theorem dJ19_numberOfTrailingZeros_78 : decode cJ19_numberOfTrailingZeros 78 = .ok (.iadd, 1) := dk_96 (dk_at dksJ19_numberOfTrailingZeros_3 7 rfl rfl)
theorem dJ19_numberOfTrailingZeros_79 : decode cJ19_numberOfTrailingZeros 79 = .ok (.ireturn, 1) := dk_172 (dk_at dksJ19_numberOfTrailingZeros_3 8 rfl rfl)
abbrev cJ19_valueOf : ByteArray := prog_78_method_22_code
def yJ19_valueOf : MethodName := ⟨RJ19, "valueOf", "(I)Ljava/lang/Integer;"⟩
def dkwJ19_valueOf_1 : List UInt8 := [187, 0, 1, 89, 26, 183, 0, 199, 176]
abbrev dktJ19_valueOf_1 : List UInt8 := dkwJ19_valueOf_1 ++ []
def dkwJ19_valueOf_0 : List UInt8 := [26, 16, 128, 161, 0, 20, 26, 178, 0, 191, 163, 0, 13, 178, 0, 195, 26, 17, 0, 128, 96, 50, 176]
abbrev dktJ19_valueOf_0 : List UInt8 := dkwJ19_valueOf_0 ++ dktJ19_valueOf_1
theorem dksJ19_valueOf_0 : cJ19_valueOf.data.toList.drop 0 = dktJ19_valueOf_0 := by decide +kernel
theorem dksJ19_valueOf_1 : cJ19_valueOf.data.toList.drop 23 = dktJ19_valueOf_1 := dk_seg dksJ19_valueOf_0 23 rfl rfl
theorem dJ19_valueOf_0 : decode cJ19_valueOf 0 = .ok (.iload_n 0, 1) := dk_26 (dk_at dksJ19_valueOf_0 0 rfl rfl)
theorem dJ19_valueOf_1 : decode cJ19_valueOf 1 = .ok (.bipush (-128), 2) := dk_16 128 (dk_at dksJ19_valueOf_0 1 rfl rfl)
theorem dJ19_valueOf_3 : decode cJ19_valueOf 3 = .ok (.if_icmp .lt 20, 3) := dk_161 0 20 (dk_at dksJ19_valueOf_0 3 rfl rfl)
theorem dJ19_valueOf_6 : decode cJ19_valueOf 6 = .ok (.iload_n 0, 1) := dk_26 (dk_at dksJ19_valueOf_0 6 rfl rfl)
theorem dJ19_valueOf_7 : decode cJ19_valueOf 7 = .ok (.getstatic 191, 3) := dk_178 0 191 (dk_at dksJ19_valueOf_0 7 rfl rfl)
theorem dJ19_valueOf_10 : decode cJ19_valueOf 10 = .ok (.if_icmp .gt 13, 3) := dk_163 0 13 (dk_at dksJ19_valueOf_0 10 rfl rfl)
theorem dJ19_valueOf_13 : decode cJ19_valueOf 13 = .ok (.getstatic 195, 3) := dk_178 0 195 (dk_at dksJ19_valueOf_0 13 rfl rfl)
theorem dJ19_valueOf_16 : decode cJ19_valueOf 16 = .ok (.iload_n 0, 1) := dk_26 (dk_at dksJ19_valueOf_0 16 rfl rfl)
theorem dJ19_valueOf_17 : decode cJ19_valueOf 17 = .ok (.sipush 128, 3) := dk_17 0 128 (dk_at dksJ19_valueOf_0 17 rfl rfl)
theorem dJ19_valueOf_20 : decode cJ19_valueOf 20 = .ok (.iadd, 1) := dk_96 (dk_at dksJ19_valueOf_0 20 rfl rfl)
theorem dJ19_valueOf_21 : decode cJ19_valueOf 21 = .ok (.aaload, 1) := dk_50 (dk_at dksJ19_valueOf_0 21 rfl rfl)
theorem dJ19_valueOf_22 : decode cJ19_valueOf 22 = .ok (.areturn, 1) := dk_176 (dk_at dksJ19_valueOf_0 22 rfl rfl)
theorem dJ19_valueOf_23 : decode cJ19_valueOf 23 = .ok (.new 1, 3) := dk_187 0 1 (dk_at dksJ19_valueOf_1 0 rfl rfl)
theorem dJ19_valueOf_26 : decode cJ19_valueOf 26 = .ok (.dup, 1) := dk_89 (dk_at dksJ19_valueOf_1 3 rfl rfl)
theorem dJ19_valueOf_27 : decode cJ19_valueOf 27 = .ok (.iload_n 0, 1) := dk_26 (dk_at dksJ19_valueOf_1 4 rfl rfl)
theorem dJ19_valueOf_28 : decode cJ19_valueOf 28 = .ok (.invokespecial 199, 3) := dk_183 0 199 (dk_at dksJ19_valueOf_1 5 rfl rfl)
theorem dJ19_valueOf_31 : decode cJ19_valueOf 31 = .ok (.areturn, 1) := dk_176 (dk_at dksJ19_valueOf_1 8 rfl rfl)
abbrev cJ19_init : ByteArray := prog_78_method_23_code
def yJ19_init : MethodName := ⟨RJ19, "<init>", "(I)V"⟩
def dkwJ19_init_0 : List UInt8 := [42, 183, 0, 202, 42, 27, 181, 0, 205, 177]
abbrev dktJ19_init_0 : List UInt8 := dkwJ19_init_0 ++ []
theorem dksJ19_init_0 : cJ19_init.data.toList.drop 0 = dktJ19_init_0 := by decide +kernel
theorem dJ19_init_0 : decode cJ19_init 0 = .ok (.aload_n 0, 1) := dk_42 (dk_at dksJ19_init_0 0 rfl rfl)
theorem dJ19_init_1 : decode cJ19_init 1 = .ok (.invokespecial 202, 3) := dk_183 0 202 (dk_at dksJ19_init_0 1 rfl rfl)
theorem dJ19_init_4 : decode cJ19_init 4 = .ok (.aload_n 0, 1) := dk_42 (dk_at dksJ19_init_0 4 rfl rfl)
theorem dJ19_init_5 : decode cJ19_init 5 = .ok (.iload_n 1, 1) := dk_27 (dk_at dksJ19_init_0 5 rfl rfl)
theorem dJ19_init_6 : decode cJ19_init 6 = .ok (.putfield 205, 3) := dk_181 0 205 (dk_at dksJ19_init_0 6 rfl rfl)
theorem dJ19_init_9 : decode cJ19_init 9 = .ok (.return_, 1) := dk_177 (dk_at dksJ19_init_0 9 rfl rfl)

abbrev cJ2_checkBoundsOffCount : ByteArray := prog_85_method_157_code
def yJ2_checkBoundsOffCount : MethodName := ⟨RJ2, "checkBoundsOffCount", "(III)I"⟩
def dkwJ2_checkBoundsOffCount_0 : List UInt8 := [26, 27, 28, 178, 4, 29, 184, 4, 41, 172]
abbrev dktJ2_checkBoundsOffCount_0 : List UInt8 := dkwJ2_checkBoundsOffCount_0 ++ []
theorem dksJ2_checkBoundsOffCount_0 : cJ2_checkBoundsOffCount.data.toList.drop 0 = dktJ2_checkBoundsOffCount_0 := by decide +kernel
theorem dJ2_checkBoundsOffCount_0 : decode cJ2_checkBoundsOffCount 0 = .ok (.iload_n 0, 1) := dk_26 (dk_at dksJ2_checkBoundsOffCount_0 0 rfl rfl)
theorem dJ2_checkBoundsOffCount_1 : decode cJ2_checkBoundsOffCount 1 = .ok (.iload_n 1, 1) := dk_27 (dk_at dksJ2_checkBoundsOffCount_0 1 rfl rfl)
theorem dJ2_checkBoundsOffCount_2 : decode cJ2_checkBoundsOffCount 2 = .ok (.iload_n 2, 1) := dk_28 (dk_at dksJ2_checkBoundsOffCount_0 2 rfl rfl)
theorem dJ2_checkBoundsOffCount_3 : decode cJ2_checkBoundsOffCount 3 = .ok (.getstatic 1053, 3) := dk_178 4 29 (dk_at dksJ2_checkBoundsOffCount_0 3 rfl rfl)
theorem dJ2_checkBoundsOffCount_6 : decode cJ2_checkBoundsOffCount 6 = .ok (.invokestatic 1065, 3) := dk_184 4 41 (dk_at dksJ2_checkBoundsOffCount_0 6 rfl rfl)
theorem dJ2_checkBoundsOffCount_9 : decode cJ2_checkBoundsOffCount 9 = .ok (.ireturn, 1) := dk_172 (dk_at dksJ2_checkBoundsOffCount_0 9 rfl rfl)
abbrev cJ2_checkIndex : ByteArray := prog_85_method_155_code
def yJ2_checkIndex : MethodName := ⟨RJ2, "checkIndex", "(II)V"⟩
def dkwJ2_checkIndex_0 : List UInt8 := [26, 27, 178, 4, 29, 184, 4, 35, 87, 177]
abbrev dktJ2_checkIndex_0 : List UInt8 := dkwJ2_checkIndex_0 ++ []
theorem dksJ2_checkIndex_0 : cJ2_checkIndex.data.toList.drop 0 = dktJ2_checkIndex_0 := by decide +kernel
theorem dJ2_checkIndex_0 : decode cJ2_checkIndex 0 = .ok (.iload_n 0, 1) := dk_26 (dk_at dksJ2_checkIndex_0 0 rfl rfl)
theorem dJ2_checkIndex_1 : decode cJ2_checkIndex 1 = .ok (.iload_n 1, 1) := dk_27 (dk_at dksJ2_checkIndex_0 1 rfl rfl)
theorem dJ2_checkIndex_2 : decode cJ2_checkIndex 2 = .ok (.getstatic 1053, 3) := dk_178 4 29 (dk_at dksJ2_checkIndex_0 2 rfl rfl)
theorem dJ2_checkIndex_5 : decode cJ2_checkIndex 5 = .ok (.invokestatic 1059, 3) := dk_184 4 35 (dk_at dksJ2_checkIndex_0 5 rfl rfl)
theorem dJ2_checkIndex_8 : decode cJ2_checkIndex 8 = .ok (.pop, 1) := dk_87 (dk_at dksJ2_checkIndex_0 8 rfl rfl)
theorem dJ2_checkIndex_9 : decode cJ2_checkIndex 9 = .ok (.return_, 1) := dk_177 (dk_at dksJ2_checkIndex_0 9 rfl rfl)
abbrev cJ2_init : ByteArray := prog_85_method_53_code
def yJ2_init : MethodName := ⟨RJ2, "<init>", "(Ljava/lang/StringBuilder;)V"⟩
def dkwJ2_init_0 : List UInt8 := [42, 43, 1, 183, 1, 233, 177]
abbrev dktJ2_init_0 : List UInt8 := dkwJ2_init_0 ++ []
theorem dksJ2_init_0 : cJ2_init.data.toList.drop 0 = dktJ2_init_0 := by decide +kernel
theorem dJ2_init_0 : decode cJ2_init 0 = .ok (.aload_n 0, 1) := dk_42 (dk_at dksJ2_init_0 0 rfl rfl)
theorem dJ2_init_1 : decode cJ2_init 1 = .ok (.aload_n 1, 1) := dk_43 (dk_at dksJ2_init_0 1 rfl rfl)
theorem dJ2_init_2 : decode cJ2_init 2 = .ok (.aconst_null, 1) := dk_1 (dk_at dksJ2_init_0 2 rfl rfl)
theorem dJ2_init_3 : decode cJ2_init 3 = .ok (.invokespecial 489, 3) := dk_183 1 233 (dk_at dksJ2_init_0 3 rfl rfl)
theorem dJ2_init_6 : decode cJ2_init 6 = .ok (.return_, 1) := dk_177 (dk_at dksJ2_init_0 6 rfl rfl)
abbrev cJ2_init_2 : ByteArray := prog_85_method_150_code
def yJ2_init_2 : MethodName := ⟨RJ2, "<init>", "(Ljava/lang/AbstractStringBuilder;Ljava/lang/Void;)V"⟩
def dkwJ2_init_2_4 : List UInt8 := [181, 0, 9, 177]
abbrev dktJ2_init_2_4 : List UInt8 := dkwJ2_init_2_4 ++ []
def dkwJ2_init_2_3 : List UInt8 := [184, 0, 47, 181, 0, 15, 177, 42, 4, 181, 0, 15, 42, 45, 3, 21, 4, 4, 120, 184, 0, 54]
abbrev dktJ2_init_2_3 : List UInt8 := dkwJ2_init_2_3 ++ dktJ2_init_2_4
def dkwJ2_init_2_2 : List UInt8 := [180, 4, 24, 153, 0, 28, 42, 45, 3, 21, 4, 184, 4, 27, 181, 0, 9, 42, 42, 180, 0, 9, 21, 4]
abbrev dktJ2_init_2_2 : List UInt8 := dkwJ2_init_2_2 ++ dktJ2_init_2_3
def dkwJ2_init_2_1 : List UInt8 := [181, 0, 15, 42, 45, 3, 21, 4, 184, 0, 54, 181, 0, 9, 167, 0, 59, 178, 0, 38, 153, 0, 35, 43]
abbrev dktJ2_init_2_1 : List UInt8 := dkwJ2_init_2_1 ++ dktJ2_init_2_2
def dkwJ2_init_2_0 : List UInt8 := [42, 183, 0, 1, 43, 182, 2, 40, 78, 43, 182, 2, 37, 54, 4, 43, 182, 4, 23, 153, 0, 22, 42, 3]
abbrev dktJ2_init_2_0 : List UInt8 := dkwJ2_init_2_0 ++ dktJ2_init_2_1
theorem dksJ2_init_2_0 : cJ2_init_2.data.toList.drop 0 = dktJ2_init_2_0 := by decide +kernel
theorem dksJ2_init_2_1 : cJ2_init_2.data.toList.drop 24 = dktJ2_init_2_1 := dk_seg dksJ2_init_2_0 24 rfl rfl
theorem dksJ2_init_2_2 : cJ2_init_2.data.toList.drop 48 = dktJ2_init_2_2 := dk_seg dksJ2_init_2_1 24 rfl rfl
theorem dksJ2_init_2_3 : cJ2_init_2.data.toList.drop 72 = dktJ2_init_2_3 := dk_seg dksJ2_init_2_2 24 rfl rfl
theorem dksJ2_init_2_4 : cJ2_init_2.data.toList.drop 94 = dktJ2_init_2_4 := dk_seg dksJ2_init_2_3 22 rfl rfl
theorem dJ2_init_2_0 : decode cJ2_init_2 0 = .ok (.aload_n 0, 1) := dk_42 (dk_at dksJ2_init_2_0 0 rfl rfl)
theorem dJ2_init_2_1 : decode cJ2_init_2 1 = .ok (.invokespecial 1, 3) := dk_183 0 1 (dk_at dksJ2_init_2_0 1 rfl rfl)
theorem dJ2_init_2_4 : decode cJ2_init_2 4 = .ok (.aload_n 1, 1) := dk_43 (dk_at dksJ2_init_2_0 4 rfl rfl)
theorem dJ2_init_2_5 : decode cJ2_init_2 5 = .ok (.invokevirtual 552, 3) := dk_182 2 40 (dk_at dksJ2_init_2_0 5 rfl rfl)
theorem dJ2_init_2_8 : decode cJ2_init_2 8 = .ok (.astore_n 3, 1) := dk_78 (dk_at dksJ2_init_2_0 8 rfl rfl)
theorem dJ2_init_2_9 : decode cJ2_init_2 9 = .ok (.aload_n 1, 1) := dk_43 (dk_at dksJ2_init_2_0 9 rfl rfl)
theorem dJ2_init_2_10 : decode cJ2_init_2 10 = .ok (.invokevirtual 549, 3) := dk_182 2 37 (dk_at dksJ2_init_2_0 10 rfl rfl)
theorem dJ2_init_2_13 : decode cJ2_init_2 13 = .ok (.istore 4, 2) := dk_54 4 (dk_at dksJ2_init_2_0 13 rfl rfl)
theorem dJ2_init_2_15 : decode cJ2_init_2 15 = .ok (.aload_n 1, 1) := dk_43 (dk_at dksJ2_init_2_0 15 rfl rfl)
theorem dJ2_init_2_16 : decode cJ2_init_2 16 = .ok (.invokevirtual 1047, 3) := dk_182 4 23 (dk_at dksJ2_init_2_0 16 rfl rfl)
theorem dJ2_init_2_19 : decode cJ2_init_2 19 = .ok (.ifCond .eq 22, 3) := dk_153 0 22 (dk_at dksJ2_init_2_0 19 rfl rfl)
theorem dJ2_init_2_22 : decode cJ2_init_2 22 = .ok (.aload_n 0, 1) := dk_42 (dk_at dksJ2_init_2_0 22 rfl rfl)
theorem dJ2_init_2_23 : decode cJ2_init_2 23 = .ok (.iconst 0, 1) := dk_3 (dk_at dksJ2_init_2_0 23 rfl rfl)
theorem dJ2_init_2_24 : decode cJ2_init_2 24 = .ok (.putfield 15, 3) := dk_181 0 15 (dk_at dksJ2_init_2_1 0 rfl rfl)
theorem dJ2_init_2_27 : decode cJ2_init_2 27 = .ok (.aload_n 0, 1) := dk_42 (dk_at dksJ2_init_2_1 3 rfl rfl)
theorem dJ2_init_2_28 : decode cJ2_init_2 28 = .ok (.aload_n 3, 1) := dk_45 (dk_at dksJ2_init_2_1 4 rfl rfl)
theorem dJ2_init_2_29 : decode cJ2_init_2 29 = .ok (.iconst 0, 1) := dk_3 (dk_at dksJ2_init_2_1 5 rfl rfl)
theorem dJ2_init_2_30 : decode cJ2_init_2 30 = .ok (.iload 4, 2) := dk_21 4 (dk_at dksJ2_init_2_1 6 rfl rfl)
theorem dJ2_init_2_32 : decode cJ2_init_2 32 = .ok (.invokestatic 54, 3) := dk_184 0 54 (dk_at dksJ2_init_2_1 8 rfl rfl)
theorem dJ2_init_2_35 : decode cJ2_init_2 35 = .ok (.putfield 9, 3) := dk_181 0 9 (dk_at dksJ2_init_2_1 11 rfl rfl)
theorem dJ2_init_2_38 : decode cJ2_init_2 38 = .ok (.goto 59, 3) := dk_167 0 59 (dk_at dksJ2_init_2_1 14 rfl rfl)
theorem dJ2_init_2_41 : decode cJ2_init_2 41 = .ok (.getstatic 38, 3) := dk_178 0 38 (dk_at dksJ2_init_2_1 17 rfl rfl)
theorem dJ2_init_2_44 : decode cJ2_init_2 44 = .ok (.ifCond .eq 35, 3) := dk_153 0 35 (dk_at dksJ2_init_2_1 20 rfl rfl)
theorem dJ2_init_2_47 : decode cJ2_init_2 47 = .ok (.aload_n 1, 1) := dk_43 (dk_at dksJ2_init_2_1 23 rfl rfl)
theorem dJ2_init_2_48 : decode cJ2_init_2 48 = .ok (.getfield 1048, 3) := dk_180 4 24 (dk_at dksJ2_init_2_2 0 rfl rfl)
theorem dJ2_init_2_51 : decode cJ2_init_2 51 = .ok (.ifCond .eq 28, 3) := dk_153 0 28 (dk_at dksJ2_init_2_2 3 rfl rfl)
theorem dJ2_init_2_54 : decode cJ2_init_2 54 = .ok (.aload_n 0, 1) := dk_42 (dk_at dksJ2_init_2_2 6 rfl rfl)
theorem dJ2_init_2_55 : decode cJ2_init_2 55 = .ok (.aload_n 3, 1) := dk_45 (dk_at dksJ2_init_2_2 7 rfl rfl)
theorem dJ2_init_2_56 : decode cJ2_init_2 56 = .ok (.iconst 0, 1) := dk_3 (dk_at dksJ2_init_2_2 8 rfl rfl)
theorem dJ2_init_2_57 : decode cJ2_init_2 57 = .ok (.iload 4, 2) := dk_21 4 (dk_at dksJ2_init_2_2 9 rfl rfl)
theorem dJ2_init_2_59 : decode cJ2_init_2 59 = .ok (.invokestatic 1051, 3) := dk_184 4 27 (dk_at dksJ2_init_2_2 11 rfl rfl)
theorem dJ2_init_2_62 : decode cJ2_init_2 62 = .ok (.putfield 9, 3) := dk_181 0 9 (dk_at dksJ2_init_2_2 14 rfl rfl)
theorem dJ2_init_2_65 : decode cJ2_init_2 65 = .ok (.aload_n 0, 1) := dk_42 (dk_at dksJ2_init_2_2 17 rfl rfl)
theorem dJ2_init_2_66 : decode cJ2_init_2 66 = .ok (.aload_n 0, 1) := dk_42 (dk_at dksJ2_init_2_2 18 rfl rfl)
theorem dJ2_init_2_67 : decode cJ2_init_2 67 = .ok (.getfield 9, 3) := dk_180 0 9 (dk_at dksJ2_init_2_2 19 rfl rfl)
theorem dJ2_init_2_70 : decode cJ2_init_2 70 = .ok (.iload 4, 2) := dk_21 4 (dk_at dksJ2_init_2_2 22 rfl rfl)
theorem dJ2_init_2_72 : decode cJ2_init_2 72 = .ok (.invokestatic 47, 3) := dk_184 0 47 (dk_at dksJ2_init_2_3 0 rfl rfl)
theorem dJ2_init_2_75 : decode cJ2_init_2 75 = .ok (.putfield 15, 3) := dk_181 0 15 (dk_at dksJ2_init_2_3 3 rfl rfl)
theorem dJ2_init_2_78 : decode cJ2_init_2 78 = .ok (.return_, 1) := dk_177 (dk_at dksJ2_init_2_3 6 rfl rfl)
theorem dJ2_init_2_79 : decode cJ2_init_2 79 = .ok (.aload_n 0, 1) := dk_42 (dk_at dksJ2_init_2_3 7 rfl rfl)
theorem dJ2_init_2_80 : decode cJ2_init_2 80 = .ok (.iconst 1, 1) := dk_4 (dk_at dksJ2_init_2_3 8 rfl rfl)
theorem dJ2_init_2_81 : decode cJ2_init_2 81 = .ok (.putfield 15, 3) := dk_181 0 15 (dk_at dksJ2_init_2_3 9 rfl rfl)
theorem dJ2_init_2_84 : decode cJ2_init_2 84 = .ok (.aload_n 0, 1) := dk_42 (dk_at dksJ2_init_2_3 12 rfl rfl)
theorem dJ2_init_2_85 : decode cJ2_init_2 85 = .ok (.aload_n 3, 1) := dk_45 (dk_at dksJ2_init_2_3 13 rfl rfl)
theorem dJ2_init_2_86 : decode cJ2_init_2 86 = .ok (.iconst 0, 1) := dk_3 (dk_at dksJ2_init_2_3 14 rfl rfl)
theorem dJ2_init_2_87 : decode cJ2_init_2 87 = .ok (.iload 4, 2) := dk_21 4 (dk_at dksJ2_init_2_3 15 rfl rfl)
theorem dJ2_init_2_89 : decode cJ2_init_2 89 = .ok (.iconst 1, 1) := dk_4 (dk_at dksJ2_init_2_3 17 rfl rfl)
theorem dJ2_init_2_90 : decode cJ2_init_2 90 = .ok (.ishl, 1) := dk_120 (dk_at dksJ2_init_2_3 18 rfl rfl)
theorem dJ2_init_2_91 : decode cJ2_init_2 91 = .ok (.invokestatic 54, 3) := dk_184 0 54 (dk_at dksJ2_init_2_3 19 rfl rfl)
theorem dJ2_init_2_94 : decode cJ2_init_2 94 = .ok (.putfield 9, 3) := dk_181 0 9 (dk_at dksJ2_init_2_4 0 rfl rfl)
theorem dJ2_init_2_97 : decode cJ2_init_2 97 = .ok (.return_, 1) := dk_177 (dk_at dksJ2_init_2_4 3 rfl rfl)
abbrev cJ2_checkBoundsBeginEnd : ByteArray := prog_85_method_158_code
def yJ2_checkBoundsBeginEnd : MethodName := ⟨RJ2, "checkBoundsBeginEnd", "(III)V"⟩
def dkwJ2_checkBoundsBeginEnd_0 : List UInt8 := [26, 27, 28, 178, 4, 29, 184, 4, 38, 87, 177]
abbrev dktJ2_checkBoundsBeginEnd_0 : List UInt8 := dkwJ2_checkBoundsBeginEnd_0 ++ []
theorem dksJ2_checkBoundsBeginEnd_0 : cJ2_checkBoundsBeginEnd.data.toList.drop 0 = dktJ2_checkBoundsBeginEnd_0 := by decide +kernel
theorem dJ2_checkBoundsBeginEnd_0 : decode cJ2_checkBoundsBeginEnd 0 = .ok (.iload_n 0, 1) := dk_26 (dk_at dksJ2_checkBoundsBeginEnd_0 0 rfl rfl)
theorem dJ2_checkBoundsBeginEnd_1 : decode cJ2_checkBoundsBeginEnd 1 = .ok (.iload_n 1, 1) := dk_27 (dk_at dksJ2_checkBoundsBeginEnd_0 1 rfl rfl)
theorem dJ2_checkBoundsBeginEnd_2 : decode cJ2_checkBoundsBeginEnd 2 = .ok (.iload_n 2, 1) := dk_28 (dk_at dksJ2_checkBoundsBeginEnd_0 2 rfl rfl)
theorem dJ2_checkBoundsBeginEnd_3 : decode cJ2_checkBoundsBeginEnd 3 = .ok (.getstatic 1053, 3) := dk_178 4 29 (dk_at dksJ2_checkBoundsBeginEnd_0 3 rfl rfl)
theorem dJ2_checkBoundsBeginEnd_6 : decode cJ2_checkBoundsBeginEnd 6 = .ok (.invokestatic 1062, 3) := dk_184 4 38 (dk_at dksJ2_checkBoundsBeginEnd_0 6 rfl rfl)
theorem dJ2_checkBoundsBeginEnd_9 : decode cJ2_checkBoundsBeginEnd 9 = .ok (.pop, 1) := dk_87 (dk_at dksJ2_checkBoundsBeginEnd_0 9 rfl rfl)
theorem dJ2_checkBoundsBeginEnd_10 : decode cJ2_checkBoundsBeginEnd 10 = .ok (.return_, 1) := dk_177 (dk_at dksJ2_checkBoundsBeginEnd_0 10 rfl rfl)
abbrev cJ2_length : ByteArray := prog_85_method_54_code
def yJ2_length : MethodName := ⟨RJ2, "length", "()I"⟩
def dkwJ2_length_0 : List UInt8 := [42, 180, 0, 9, 190, 42, 182, 1, 79, 122, 172]
abbrev dktJ2_length_0 : List UInt8 := dkwJ2_length_0 ++ []
theorem dksJ2_length_0 : cJ2_length.data.toList.drop 0 = dktJ2_length_0 := by decide +kernel
theorem dJ2_length_0 : decode cJ2_length 0 = .ok (.aload_n 0, 1) := dk_42 (dk_at dksJ2_length_0 0 rfl rfl)
theorem dJ2_length_1 : decode cJ2_length 1 = .ok (.getfield 9, 3) := dk_180 0 9 (dk_at dksJ2_length_0 1 rfl rfl)
theorem dJ2_length_4 : decode cJ2_length 4 = .ok (.arraylength, 1) := dk_190 (dk_at dksJ2_length_0 4 rfl rfl)
theorem dJ2_length_5 : decode cJ2_length 5 = .ok (.aload_n 0, 1) := dk_42 (dk_at dksJ2_length_0 5 rfl rfl)
theorem dJ2_length_6 : decode cJ2_length 6 = .ok (.invokevirtual 335, 3) := dk_182 1 79 (dk_at dksJ2_length_0 6 rfl rfl)
theorem dJ2_length_9 : decode cJ2_length 9 = .ok (.ishr, 1) := dk_122 (dk_at dksJ2_length_0 9 rfl rfl)
theorem dJ2_length_10 : decode cJ2_length 10 = .ok (.ireturn, 1) := dk_172 (dk_at dksJ2_length_0 10 rfl rfl)
abbrev cJ2_coder : ByteArray := prog_85_method_152_code
def yJ2_coder : MethodName := ⟨RJ2, "code\x72", "()B"⟩
def dkwJ2_coder_0 : List UInt8 := [178, 0, 38, 153, 0, 10, 42, 180, 0, 15, 167, 0, 4, 4, 172]
abbrev dktJ2_coder_0 : List UInt8 := dkwJ2_coder_0 ++ []
theorem dksJ2_coder_0 : cJ2_coder.data.toList.drop 0 = dktJ2_coder_0 := by decide +kernel
theorem dJ2_coder_0 : decode cJ2_coder 0 = .ok (.getstatic 38, 3) := dk_178 0 38 (dk_at dksJ2_coder_0 0 rfl rfl)
theorem dJ2_coder_3 : decode cJ2_coder 3 = .ok (.ifCond .eq 10, 3) := dk_153 0 10 (dk_at dksJ2_coder_0 3 rfl rfl)
theorem dJ2_coder_6 : decode cJ2_coder 6 = .ok (.aload_n 0, 1) := dk_42 (dk_at dksJ2_coder_0 6 rfl rfl)
theorem dJ2_coder_7 : decode cJ2_coder 7 = .ok (.getfield 15, 3) := dk_180 0 15 (dk_at dksJ2_coder_0 7 rfl rfl)
theorem dJ2_coder_10 : decode cJ2_coder 10 = .ok (.goto 4, 3) := dk_167 0 4 (dk_at dksJ2_coder_0 10 rfl rfl)
theorem dJ2_coder_13 : decode cJ2_coder 13 = .ok (.iconst 1, 1) := dk_4 (dk_at dksJ2_coder_0 13 rfl rfl)
theorem dJ2_coder_14 : decode cJ2_coder 14 = .ok (.ireturn, 1) := dk_172 (dk_at dksJ2_coder_0 14 rfl rfl)
abbrev cJ2_getBytes : ByteArray := prog_85_method_147_code
def yJ2_getBytes : MethodName := ⟨RJ2, "getBytes", "([BIB)V"⟩
def dkwJ2_getBytes_1 : List UInt8 := [184, 0, 212, 167, 0, 18, 42, 180, 0, 9, 3, 43, 28, 42, 180, 0, 9, 190, 184, 0, 106, 177]
abbrev dktJ2_getBytes_1 : List UInt8 := dkwJ2_getBytes_1 ++ []
def dkwJ2_getBytes_0 : List UInt8 := [42, 182, 1, 79, 29, 160, 0, 23, 42, 180, 0, 9, 3, 43, 28, 29, 120, 42, 180, 0, 9, 190]
abbrev dktJ2_getBytes_0 : List UInt8 := dkwJ2_getBytes_0 ++ dktJ2_getBytes_1
theorem dksJ2_getBytes_0 : cJ2_getBytes.data.toList.drop 0 = dktJ2_getBytes_0 := by decide +kernel
theorem dksJ2_getBytes_1 : cJ2_getBytes.data.toList.drop 22 = dktJ2_getBytes_1 := dk_seg dksJ2_getBytes_0 22 rfl rfl
theorem dJ2_getBytes_0 : decode cJ2_getBytes 0 = .ok (.aload_n 0, 1) := dk_42 (dk_at dksJ2_getBytes_0 0 rfl rfl)
theorem dJ2_getBytes_1 : decode cJ2_getBytes 1 = .ok (.invokevirtual 335, 3) := dk_182 1 79 (dk_at dksJ2_getBytes_0 1 rfl rfl)
theorem dJ2_getBytes_4 : decode cJ2_getBytes 4 = .ok (.iload_n 3, 1) := dk_29 (dk_at dksJ2_getBytes_0 4 rfl rfl)
theorem dJ2_getBytes_5 : decode cJ2_getBytes 5 = .ok (.if_icmp .ne 23, 3) := dk_160 0 23 (dk_at dksJ2_getBytes_0 5 rfl rfl)
theorem dJ2_getBytes_8 : decode cJ2_getBytes 8 = .ok (.aload_n 0, 1) := dk_42 (dk_at dksJ2_getBytes_0 8 rfl rfl)
theorem dJ2_getBytes_9 : decode cJ2_getBytes 9 = .ok (.getfield 9, 3) := dk_180 0 9 (dk_at dksJ2_getBytes_0 9 rfl rfl)
theorem dJ2_getBytes_12 : decode cJ2_getBytes 12 = .ok (.iconst 0, 1) := dk_3 (dk_at dksJ2_getBytes_0 12 rfl rfl)
theorem dJ2_getBytes_13 : decode cJ2_getBytes 13 = .ok (.aload_n 1, 1) := dk_43 (dk_at dksJ2_getBytes_0 13 rfl rfl)
theorem dJ2_getBytes_14 : decode cJ2_getBytes 14 = .ok (.iload_n 2, 1) := dk_28 (dk_at dksJ2_getBytes_0 14 rfl rfl)
theorem dJ2_getBytes_15 : decode cJ2_getBytes 15 = .ok (.iload_n 3, 1) := dk_29 (dk_at dksJ2_getBytes_0 15 rfl rfl)
theorem dJ2_getBytes_16 : decode cJ2_getBytes 16 = .ok (.ishl, 1) := dk_120 (dk_at dksJ2_getBytes_0 16 rfl rfl)
theorem dJ2_getBytes_17 : decode cJ2_getBytes 17 = .ok (.aload_n 0, 1) := dk_42 (dk_at dksJ2_getBytes_0 17 rfl rfl)
theorem dJ2_getBytes_18 : decode cJ2_getBytes 18 = .ok (.getfield 9, 3) := dk_180 0 9 (dk_at dksJ2_getBytes_0 18 rfl rfl)
theorem dJ2_getBytes_21 : decode cJ2_getBytes 21 = .ok (.arraylength, 1) := dk_190 (dk_at dksJ2_getBytes_0 21 rfl rfl)
theorem dJ2_getBytes_22 : decode cJ2_getBytes 22 = .ok (.invokestatic 212, 3) := dk_184 0 212 (dk_at dksJ2_getBytes_1 0 rfl rfl)
theorem dJ2_getBytes_25 : decode cJ2_getBytes 25 = .ok (.goto 18, 3) := dk_167 0 18 (dk_at dksJ2_getBytes_1 3 rfl rfl)
theorem dJ2_getBytes_28 : decode cJ2_getBytes 28 = .ok (.aload_n 0, 1) := dk_42 (dk_at dksJ2_getBytes_1 6 rfl rfl)
theorem dJ2_getBytes_29 : decode cJ2_getBytes 29 = .ok (.getfield 9, 3) := dk_180 0 9 (dk_at dksJ2_getBytes_1 7 rfl rfl)
theorem dJ2_getBytes_32 : decode cJ2_getBytes 32 = .ok (.iconst 0, 1) := dk_3 (dk_at dksJ2_getBytes_1 10 rfl rfl)
theorem dJ2_getBytes_33 : decode cJ2_getBytes 33 = .ok (.aload_n 1, 1) := dk_43 (dk_at dksJ2_getBytes_1 11 rfl rfl)
theorem dJ2_getBytes_34 : decode cJ2_getBytes 34 = .ok (.iload_n 2, 1) := dk_28 (dk_at dksJ2_getBytes_1 12 rfl rfl)
theorem dJ2_getBytes_35 : decode cJ2_getBytes 35 = .ok (.aload_n 0, 1) := dk_42 (dk_at dksJ2_getBytes_1 13 rfl rfl)
theorem dJ2_getBytes_36 : decode cJ2_getBytes 36 = .ok (.getfield 9, 3) := dk_180 0 9 (dk_at dksJ2_getBytes_1 14 rfl rfl)
theorem dJ2_getBytes_39 : decode cJ2_getBytes 39 = .ok (.arraylength, 1) := dk_190 (dk_at dksJ2_getBytes_1 17 rfl rfl)
theorem dJ2_getBytes_40 : decode cJ2_getBytes 40 = .ok (.invokestatic 106, 3) := dk_184 0 106 (dk_at dksJ2_getBytes_1 18 rfl rfl)
theorem dJ2_getBytes_43 : decode cJ2_getBytes 43 = .ok (.return_, 1) := dk_177 (dk_at dksJ2_getBytes_1 21 rfl rfl)
abbrev cJ2_charAt : ByteArray := prog_85_method_56_code
def yJ2_charAt : MethodName := ⟨RJ2, "charAt", "(I)C"⟩
def dkwJ2_charAt_1 : List UInt8 := [172]
abbrev dktJ2_charAt_1 : List UInt8 := dkwJ2_charAt_1 ++ []
def dkwJ2_charAt_0 : List UInt8 := [42, 182, 1, 236, 153, 0, 12, 42, 180, 0, 9, 27, 184, 1, 239, 172, 42, 180, 0, 9, 27, 184, 1, 242]
abbrev dktJ2_charAt_0 : List UInt8 := dkwJ2_charAt_0 ++ dktJ2_charAt_1
theorem dksJ2_charAt_0 : cJ2_charAt.data.toList.drop 0 = dktJ2_charAt_0 := by decide +kernel
theorem dksJ2_charAt_1 : cJ2_charAt.data.toList.drop 24 = dktJ2_charAt_1 := dk_seg dksJ2_charAt_0 24 rfl rfl
theorem dJ2_charAt_0 : decode cJ2_charAt 0 = .ok (.aload_n 0, 1) := dk_42 (dk_at dksJ2_charAt_0 0 rfl rfl)
theorem dJ2_charAt_1 : decode cJ2_charAt 1 = .ok (.invokevirtual 492, 3) := dk_182 1 236 (dk_at dksJ2_charAt_0 1 rfl rfl)
theorem dJ2_charAt_4 : decode cJ2_charAt 4 = .ok (.ifCond .eq 12, 3) := dk_153 0 12 (dk_at dksJ2_charAt_0 4 rfl rfl)
theorem dJ2_charAt_7 : decode cJ2_charAt 7 = .ok (.aload_n 0, 1) := dk_42 (dk_at dksJ2_charAt_0 7 rfl rfl)
theorem dJ2_charAt_8 : decode cJ2_charAt 8 = .ok (.getfield 9, 3) := dk_180 0 9 (dk_at dksJ2_charAt_0 8 rfl rfl)
theorem dJ2_charAt_11 : decode cJ2_charAt 11 = .ok (.iload_n 1, 1) := dk_27 (dk_at dksJ2_charAt_0 11 rfl rfl)
theorem dJ2_charAt_12 : decode cJ2_charAt 12 = .ok (.invokestatic 495, 3) := dk_184 1 239 (dk_at dksJ2_charAt_0 12 rfl rfl)
theorem dJ2_charAt_15 : decode cJ2_charAt 15 = .ok (.ireturn, 1) := dk_172 (dk_at dksJ2_charAt_0 15 rfl rfl)
theorem dJ2_charAt_16 : decode cJ2_charAt 16 = .ok (.aload_n 0, 1) := dk_42 (dk_at dksJ2_charAt_0 16 rfl rfl)
theorem dJ2_charAt_17 : decode cJ2_charAt 17 = .ok (.getfield 9, 3) := dk_180 0 9 (dk_at dksJ2_charAt_0 17 rfl rfl)
theorem dJ2_charAt_20 : decode cJ2_charAt 20 = .ok (.iload_n 1, 1) := dk_27 (dk_at dksJ2_charAt_0 20 rfl rfl)
theorem dJ2_charAt_21 : decode cJ2_charAt 21 = .ok (.invokestatic 498, 3) := dk_184 1 242 (dk_at dksJ2_charAt_0 21 rfl rfl)
theorem dJ2_charAt_24 : decode cJ2_charAt 24 = .ok (.ireturn, 1) := dk_172 (dk_at dksJ2_charAt_1 0 rfl rfl)
abbrev cJ2_isLatin1 : ByteArray := prog_85_method_154_code
def yJ2_isLatin1 : MethodName := ⟨RJ2, "isLatin1", "()Z"⟩
def dkwJ2_isLatin1_0 : List UInt8 := [178, 0, 38, 153, 0, 14, 42, 180, 0, 15, 154, 0, 7, 4, 167, 0, 4, 3, 172]
abbrev dktJ2_isLatin1_0 : List UInt8 := dkwJ2_isLatin1_0 ++ []
theorem dksJ2_isLatin1_0 : cJ2_isLatin1.data.toList.drop 0 = dktJ2_isLatin1_0 := by decide +kernel
theorem dJ2_isLatin1_0 : decode cJ2_isLatin1 0 = .ok (.getstatic 38, 3) := dk_178 0 38 (dk_at dksJ2_isLatin1_0 0 rfl rfl)
theorem dJ2_isLatin1_3 : decode cJ2_isLatin1 3 = .ok (.ifCond .eq 14, 3) := dk_153 0 14 (dk_at dksJ2_isLatin1_0 3 rfl rfl)
theorem dJ2_isLatin1_6 : decode cJ2_isLatin1 6 = .ok (.aload_n 0, 1) := dk_42 (dk_at dksJ2_isLatin1_0 6 rfl rfl)
theorem dJ2_isLatin1_7 : decode cJ2_isLatin1 7 = .ok (.getfield 15, 3) := dk_180 0 15 (dk_at dksJ2_isLatin1_0 7 rfl rfl)
theorem dJ2_isLatin1_10 : decode cJ2_isLatin1 10 = .ok (.ifCond .ne 7, 3) := dk_154 0 7 (dk_at dksJ2_isLatin1_0 10 rfl rfl)
theorem dJ2_isLatin1_13 : decode cJ2_isLatin1 13 = .ok (.iconst 1, 1) := dk_4 (dk_at dksJ2_isLatin1_0 13 rfl rfl)
theorem dJ2_isLatin1_14 : decode cJ2_isLatin1 14 = .ok (.goto 4, 3) := dk_167 0 4 (dk_at dksJ2_isLatin1_0 14 rfl rfl)
theorem dJ2_isLatin1_17 : decode cJ2_isLatin1 17 = .ok (.iconst 0, 1) := dk_3 (dk_at dksJ2_isLatin1_0 17 rfl rfl)
theorem dJ2_isLatin1_18 : decode cJ2_isLatin1 18 = .ok (.ireturn, 1) := dk_172 (dk_at dksJ2_isLatin1_0 18 rfl rfl)
abbrev cJ2_isEmpty : ByteArray := prog_85_method_55_code
def yJ2_isEmpty : MethodName := ⟨RJ2, "isEmpty", "()Z"⟩
def dkwJ2_isEmpty_0 : List UInt8 := [42, 180, 0, 9, 190, 154, 0, 7, 4, 167, 0, 4, 3, 172]
abbrev dktJ2_isEmpty_0 : List UInt8 := dkwJ2_isEmpty_0 ++ []
theorem dksJ2_isEmpty_0 : cJ2_isEmpty.data.toList.drop 0 = dktJ2_isEmpty_0 := by decide +kernel
theorem dJ2_isEmpty_0 : decode cJ2_isEmpty 0 = .ok (.aload_n 0, 1) := dk_42 (dk_at dksJ2_isEmpty_0 0 rfl rfl)
theorem dJ2_isEmpty_1 : decode cJ2_isEmpty 1 = .ok (.getfield 9, 3) := dk_180 0 9 (dk_at dksJ2_isEmpty_0 1 rfl rfl)
theorem dJ2_isEmpty_4 : decode cJ2_isEmpty 4 = .ok (.arraylength, 1) := dk_190 (dk_at dksJ2_isEmpty_0 4 rfl rfl)
theorem dJ2_isEmpty_5 : decode cJ2_isEmpty 5 = .ok (.ifCond .ne 7, 3) := dk_154 0 7 (dk_at dksJ2_isEmpty_0 5 rfl rfl)
theorem dJ2_isEmpty_8 : decode cJ2_isEmpty 8 = .ok (.iconst 1, 1) := dk_4 (dk_at dksJ2_isEmpty_0 8 rfl rfl)
theorem dJ2_isEmpty_9 : decode cJ2_isEmpty 9 = .ok (.goto 4, 3) := dk_167 0 4 (dk_at dksJ2_isEmpty_0 9 rfl rfl)
theorem dJ2_isEmpty_12 : decode cJ2_isEmpty 12 = .ok (.iconst 0, 1) := dk_3 (dk_at dksJ2_isEmpty_0 12 rfl rfl)
theorem dJ2_isEmpty_13 : decode cJ2_isEmpty 13 = .ok (.ireturn, 1) := dk_172 (dk_at dksJ2_isEmpty_0 13 rfl rfl)
abbrev cJ2_value : ByteArray := prog_85_method_153_code
def yJ2_value : MethodName := ⟨RJ2, "value", "()[B"⟩
theorem dJ2_value_0 : decode cJ2_value 0 = .ok (.aload_n 0, 1) := by decide +kernel
theorem dJ2_value_1 : decode cJ2_value 1 = .ok (.getfield 9, 3) := by decide +kernel
theorem dJ2_value_4 : decode cJ2_value 4 = .ok (.areturn, 1) := by decide +kernel
abbrev cJ2_equals : ByteArray := prog_85_method_66_code
def yJ2_equals : MethodName := ⟨RJ2, "equals", "(Ljava/lang/Object;)Z"⟩
def dkwJ2_equals_2 : List UInt8 := [184, 2, 29, 153, 0, 7, 4, 167, 0, 4, 3, 172]
abbrev dktJ2_equals_2 : List UInt8 := dkwJ2_equals_2 ++ []
def dkwJ2_equals_1 : List UInt8 := [153, 0, 14, 42, 180, 0, 15, 44, 180, 0, 15, 160, 0, 21, 42, 180, 0, 9, 44, 180, 0, 9]
abbrev dktJ2_equals_1 : List UInt8 := dkwJ2_equals_1 ++ dktJ2_equals_2
def dkwJ2_equals_0 : List UInt8 := [42, 43, 166, 0, 5, 4, 172, 43, 193, 0, 10, 153, 0, 43, 43, 192, 0, 10, 77, 178, 0, 38]
abbrev dktJ2_equals_0 : List UInt8 := dkwJ2_equals_0 ++ dktJ2_equals_1
theorem dksJ2_equals_0 : cJ2_equals.data.toList.drop 0 = dktJ2_equals_0 := by decide +kernel
theorem dksJ2_equals_1 : cJ2_equals.data.toList.drop 22 = dktJ2_equals_1 := dk_seg dksJ2_equals_0 22 rfl rfl
theorem dksJ2_equals_2 : cJ2_equals.data.toList.drop 44 = dktJ2_equals_2 := dk_seg dksJ2_equals_1 22 rfl rfl
theorem dJ2_equals_0 : decode cJ2_equals 0 = .ok (.aload_n 0, 1) := dk_42 (dk_at dksJ2_equals_0 0 rfl rfl)
theorem dJ2_equals_1 : decode cJ2_equals 1 = .ok (.aload_n 1, 1) := dk_43 (dk_at dksJ2_equals_0 1 rfl rfl)
theorem dJ2_equals_2 : decode cJ2_equals 2 = .ok (.if_acmp .ne 5, 3) := dk_166 0 5 (dk_at dksJ2_equals_0 2 rfl rfl)
theorem dJ2_equals_5 : decode cJ2_equals 5 = .ok (.iconst 1, 1) := dk_4 (dk_at dksJ2_equals_0 5 rfl rfl)
theorem dJ2_equals_6 : decode cJ2_equals 6 = .ok (.ireturn, 1) := dk_172 (dk_at dksJ2_equals_0 6 rfl rfl)
theorem dJ2_equals_7 : decode cJ2_equals 7 = .ok (.aload_n 1, 1) := dk_43 (dk_at dksJ2_equals_0 7 rfl rfl)
theorem dJ2_equals_8 : decode cJ2_equals 8 = .ok (.instanceof 10, 3) := dk_193 0 10 (dk_at dksJ2_equals_0 8 rfl rfl)
theorem dJ2_equals_11 : decode cJ2_equals 11 = .ok (.ifCond .eq 43, 3) := dk_153 0 43 (dk_at dksJ2_equals_0 11 rfl rfl)
theorem dJ2_equals_14 : decode cJ2_equals 14 = .ok (.aload_n 1, 1) := dk_43 (dk_at dksJ2_equals_0 14 rfl rfl)
theorem dJ2_equals_15 : decode cJ2_equals 15 = .ok (.checkcast 10, 3) := dk_192 0 10 (dk_at dksJ2_equals_0 15 rfl rfl)
theorem dJ2_equals_18 : decode cJ2_equals 18 = .ok (.astore_n 2, 1) := dk_77 (dk_at dksJ2_equals_0 18 rfl rfl)
theorem dJ2_equals_19 : decode cJ2_equals 19 = .ok (.getstatic 38, 3) := dk_178 0 38 (dk_at dksJ2_equals_0 19 rfl rfl)
theorem dJ2_equals_22 : decode cJ2_equals 22 = .ok (.ifCond .eq 14, 3) := dk_153 0 14 (dk_at dksJ2_equals_1 0 rfl rfl)
theorem dJ2_equals_25 : decode cJ2_equals 25 = .ok (.aload_n 0, 1) := dk_42 (dk_at dksJ2_equals_1 3 rfl rfl)
theorem dJ2_equals_26 : decode cJ2_equals 26 = .ok (.getfield 15, 3) := dk_180 0 15 (dk_at dksJ2_equals_1 4 rfl rfl)
theorem dJ2_equals_29 : decode cJ2_equals 29 = .ok (.aload_n 2, 1) := dk_44 (dk_at dksJ2_equals_1 7 rfl rfl)
theorem dJ2_equals_30 : decode cJ2_equals 30 = .ok (.getfield 15, 3) := dk_180 0 15 (dk_at dksJ2_equals_1 8 rfl rfl)
theorem dJ2_equals_33 : decode cJ2_equals 33 = .ok (.if_icmp .ne 21, 3) := dk_160 0 21 (dk_at dksJ2_equals_1 11 rfl rfl)
theorem dJ2_equals_36 : decode cJ2_equals 36 = .ok (.aload_n 0, 1) := dk_42 (dk_at dksJ2_equals_1 14 rfl rfl)
theorem dJ2_equals_37 : decode cJ2_equals 37 = .ok (.getfield 9, 3) := dk_180 0 9 (dk_at dksJ2_equals_1 15 rfl rfl)
theorem dJ2_equals_40 : decode cJ2_equals 40 = .ok (.aload_n 2, 1) := dk_44 (dk_at dksJ2_equals_1 18 rfl rfl)
theorem dJ2_equals_41 : decode cJ2_equals 41 = .ok (.getfield 9, 3) := dk_180 0 9 (dk_at dksJ2_equals_1 19 rfl rfl)
theorem dJ2_equals_44 : decode cJ2_equals 44 = .ok (.invokestatic 541, 3) := dk_184 2 29 (dk_at dksJ2_equals_2 0 rfl rfl)
theorem dJ2_equals_47 : decode cJ2_equals 47 = .ok (.ifCond .eq 7, 3) := dk_153 0 7 (dk_at dksJ2_equals_2 3 rfl rfl)
theorem dJ2_equals_50 : decode cJ2_equals 50 = .ok (.iconst 1, 1) := dk_4 (dk_at dksJ2_equals_2 6 rfl rfl)
theorem dJ2_equals_51 : decode cJ2_equals 51 = .ok (.goto 4, 3) := dk_167 0 4 (dk_at dksJ2_equals_2 7 rfl rfl)
theorem dJ2_equals_54 : decode cJ2_equals 54 = .ok (.iconst 0, 1) := dk_3 (dk_at dksJ2_equals_2 10 rfl rfl)
theorem dJ2_equals_55 : decode cJ2_equals 55 = .ok (.ireturn, 1) := dk_172 (dk_at dksJ2_equals_2 11 rfl rfl)
abbrev cJ2_hashCode : ByteArray := prog_85_method_78_code
def yJ2_hashCode : MethodName := ⟨RJ2, "hashCode", "()I"⟩
def dkwJ2_hashCode_2 : List UInt8 := [181, 0, 23, 167, 0, 8, 42, 27, 181, 0, 19, 27, 172]
abbrev dktJ2_hashCode_2 : List UInt8 := dkwJ2_hashCode_2 ++ []
def dkwJ2_hashCode_1 : List UInt8 := [180, 0, 9, 184, 2, 116, 167, 0, 10, 42, 180, 0, 9, 184, 2, 120, 60, 27, 154, 0, 11, 42, 4]
abbrev dktJ2_hashCode_1 : List UInt8 := dkwJ2_hashCode_1 ++ dktJ2_hashCode_2
def dkwJ2_hashCode_0 : List UInt8 := [42, 180, 0, 19, 60, 27, 154, 0, 52, 42, 180, 0, 23, 154, 0, 45, 42, 182, 1, 236, 153, 0, 13, 42]
abbrev dktJ2_hashCode_0 : List UInt8 := dkwJ2_hashCode_0 ++ dktJ2_hashCode_1
theorem dksJ2_hashCode_0 : cJ2_hashCode.data.toList.drop 0 = dktJ2_hashCode_0 := by decide +kernel
theorem dksJ2_hashCode_1 : cJ2_hashCode.data.toList.drop 24 = dktJ2_hashCode_1 := dk_seg dksJ2_hashCode_0 24 rfl rfl
theorem dksJ2_hashCode_2 : cJ2_hashCode.data.toList.drop 47 = dktJ2_hashCode_2 := dk_seg dksJ2_hashCode_1 23 rfl rfl
theorem dJ2_hashCode_0 : decode cJ2_hashCode 0 = .ok (.aload_n 0, 1) := dk_42 (dk_at dksJ2_hashCode_0 0 rfl rfl)
theorem dJ2_hashCode_1 : decode cJ2_hashCode 1 = .ok (.getfield 19, 3) := dk_180 0 19 (dk_at dksJ2_hashCode_0 1 rfl rfl)
theorem dJ2_hashCode_4 : decode cJ2_hashCode 4 = .ok (.istore_n 1, 1) := dk_60 (dk_at dksJ2_hashCode_0 4 rfl rfl)
theorem dJ2_hashCode_5 : decode cJ2_hashCode 5 = .ok (.iload_n 1, 1) := dk_27 (dk_at dksJ2_hashCode_0 5 rfl rfl)
theorem dJ2_hashCode_6 : decode cJ2_hashCode 6 = .ok (.ifCond .ne 52, 3) := dk_154 0 52 (dk_at dksJ2_hashCode_0 6 rfl rfl)
theorem dJ2_hashCode_9 : decode cJ2_hashCode 9 = .ok (.aload_n 0, 1) := dk_42 (dk_at dksJ2_hashCode_0 9 rfl rfl)
theorem dJ2_hashCode_10 : decode cJ2_hashCode 10 = .ok (.getfield 23, 3) := dk_180 0 23 (dk_at dksJ2_hashCode_0 10 rfl rfl)
theorem dJ2_hashCode_13 : decode cJ2_hashCode 13 = .ok (.ifCond .ne 45, 3) := dk_154 0 45 (dk_at dksJ2_hashCode_0 13 rfl rfl)
theorem dJ2_hashCode_16 : decode cJ2_hashCode 16 = .ok (.aload_n 0, 1) := dk_42 (dk_at dksJ2_hashCode_0 16 rfl rfl)
theorem dJ2_hashCode_17 : decode cJ2_hashCode 17 = .ok (.invokevirtual 492, 3) := dk_182 1 236 (dk_at dksJ2_hashCode_0 17 rfl rfl)
theorem dJ2_hashCode_20 : decode cJ2_hashCode 20 = .ok (.ifCond .eq 13, 3) := dk_153 0 13 (dk_at dksJ2_hashCode_0 20 rfl rfl)
theorem dJ2_hashCode_23 : decode cJ2_hashCode 23 = .ok (.aload_n 0, 1) := dk_42 (dk_at dksJ2_hashCode_0 23 rfl rfl)
theorem dJ2_hashCode_24 : decode cJ2_hashCode 24 = .ok (.getfield 9, 3) := dk_180 0 9 (dk_at dksJ2_hashCode_1 0 rfl rfl)
theorem dJ2_hashCode_27 : decode cJ2_hashCode 27 = .ok (.invokestatic 628, 3) := dk_184 2 116 (dk_at dksJ2_hashCode_1 3 rfl rfl)
theorem dJ2_hashCode_30 : decode cJ2_hashCode 30 = .ok (.goto 10, 3) := dk_167 0 10 (dk_at dksJ2_hashCode_1 6 rfl rfl)
theorem dJ2_hashCode_33 : decode cJ2_hashCode 33 = .ok (.aload_n 0, 1) := dk_42 (dk_at dksJ2_hashCode_1 9 rfl rfl)
theorem dJ2_hashCode_34 : decode cJ2_hashCode 34 = .ok (.getfield 9, 3) := dk_180 0 9 (dk_at dksJ2_hashCode_1 10 rfl rfl)
theorem dJ2_hashCode_37 : decode cJ2_hashCode 37 = .ok (.invokestatic 632, 3) := dk_184 2 120 (dk_at dksJ2_hashCode_1 13 rfl rfl)
theorem dJ2_hashCode_40 : decode cJ2_hashCode 40 = .ok (.istore_n 1, 1) := dk_60 (dk_at dksJ2_hashCode_1 16 rfl rfl)
theorem dJ2_hashCode_41 : decode cJ2_hashCode 41 = .ok (.iload_n 1, 1) := dk_27 (dk_at dksJ2_hashCode_1 17 rfl rfl)
theorem dJ2_hashCode_42 : decode cJ2_hashCode 42 = .ok (.ifCond .ne 11, 3) := dk_154 0 11 (dk_at dksJ2_hashCode_1 18 rfl rfl)
theorem dJ2_hashCode_45 : decode cJ2_hashCode 45 = .ok (.aload_n 0, 1) := dk_42 (dk_at dksJ2_hashCode_1 21 rfl rfl)
theorem dJ2_hashCode_46 : decode cJ2_hashCode 46 = .ok (.iconst 1, 1) := dk_4 (dk_at dksJ2_hashCode_1 22 rfl rfl)
theorem dJ2_hashCode_47 : decode cJ2_hashCode 47 = .ok (.putfield 23, 3) := dk_181 0 23 (dk_at dksJ2_hashCode_2 0 rfl rfl)
theorem dJ2_hashCode_50 : decode cJ2_hashCode 50 = .ok (.goto 8, 3) := dk_167 0 8 (dk_at dksJ2_hashCode_2 3 rfl rfl)
theorem dJ2_hashCode_53 : decode cJ2_hashCode 53 = .ok (.aload_n 0, 1) := dk_42 (dk_at dksJ2_hashCode_2 6 rfl rfl)
theorem dJ2_hashCode_54 : decode cJ2_hashCode 54 = .ok (.iload_n 1, 1) := dk_27 (dk_at dksJ2_hashCode_2 7 rfl rfl)
theorem dJ2_hashCode_55 : decode cJ2_hashCode 55 = .ok (.putfield 19, 3) := dk_181 0 19 (dk_at dksJ2_hashCode_2 8 rfl rfl)
theorem dJ2_hashCode_58 : decode cJ2_hashCode 58 = .ok (.iload_n 1, 1) := dk_27 (dk_at dksJ2_hashCode_2 11 rfl rfl)
theorem dJ2_hashCode_59 : decode cJ2_hashCode 59 = .ok (.ireturn, 1) := dk_172 (dk_at dksJ2_hashCode_2 12 rfl rfl)
abbrev cJ2_compareTo : ByteArray := prog_85_method_162_code
def yJ2_compareTo : MethodName := ⟨RJ2, "compareTo", "(Ljava/lang/Object;)I"⟩
def dkwJ2_compareTo_0 : List UInt8 := [42, 43, 192, 0, 10, 182, 4, 60, 172]
abbrev dktJ2_compareTo_0 : List UInt8 := dkwJ2_compareTo_0 ++ []
theorem dksJ2_compareTo_0 : cJ2_compareTo.data.toList.drop 0 = dktJ2_compareTo_0 := by decide +kernel
theorem dJ2_compareTo_0 : decode cJ2_compareTo 0 = .ok (.aload_n 0, 1) := dk_42 (dk_at dksJ2_compareTo_0 0 rfl rfl)
theorem dJ2_compareTo_1 : decode cJ2_compareTo 1 = .ok (.aload_n 1, 1) := dk_43 (dk_at dksJ2_compareTo_0 1 rfl rfl)
theorem dJ2_compareTo_2 : decode cJ2_compareTo 2 = .ok (.checkcast 10, 3) := dk_192 0 10 (dk_at dksJ2_compareTo_0 2 rfl rfl)
theorem dJ2_compareTo_5 : decode cJ2_compareTo 5 = .ok (.invokevirtual 1084, 3) := dk_182 4 60 (dk_at dksJ2_compareTo_0 5 rfl rfl)
theorem dJ2_compareTo_8 : decode cJ2_compareTo 8 = .ok (.ireturn, 1) := dk_172 (dk_at dksJ2_compareTo_0 8 rfl rfl)
abbrev cJ2_compareTo_2 : ByteArray := prog_85_method_71_code
def yJ2_compareTo_2 : MethodName := ⟨RJ2, "compareTo", "(Ljava/lang/String;)I"⟩
def dkwJ2_compareTo_2_2 : List UInt8 := [154, 0, 11, 44, 45, 184, 2, 79, 167, 0, 8, 44, 45, 184, 2, 82, 172]
abbrev dktJ2_compareTo_2_2 : List UInt8 := dkwJ2_compareTo_2_2 ++ []
def dkwJ2_compareTo_2_1 : List UInt8 := [160, 0, 22, 21, 4, 154, 0, 11, 44, 45, 184, 2, 74, 167, 0, 8, 44, 45, 184, 2, 78, 172, 21, 4]
abbrev dktJ2_compareTo_2_1 : List UInt8 := dkwJ2_compareTo_2_1 ++ dktJ2_compareTo_2_2
def dkwJ2_compareTo_2_0 : List UInt8 := [42, 180, 0, 9, 77, 43, 180, 0, 9, 78, 42, 182, 1, 79, 54, 4, 21, 4, 43, 182, 1, 79]
abbrev dktJ2_compareTo_2_0 : List UInt8 := dkwJ2_compareTo_2_0 ++ dktJ2_compareTo_2_1
theorem dksJ2_compareTo_2_0 : cJ2_compareTo_2.data.toList.drop 0 = dktJ2_compareTo_2_0 := by decide +kernel
theorem dksJ2_compareTo_2_1 : cJ2_compareTo_2.data.toList.drop 22 = dktJ2_compareTo_2_1 := dk_seg dksJ2_compareTo_2_0 22 rfl rfl
theorem dksJ2_compareTo_2_2 : cJ2_compareTo_2.data.toList.drop 46 = dktJ2_compareTo_2_2 := dk_seg dksJ2_compareTo_2_1 24 rfl rfl
theorem dJ2_compareTo_2_0 : decode cJ2_compareTo_2 0 = .ok (.aload_n 0, 1) := dk_42 (dk_at dksJ2_compareTo_2_0 0 rfl rfl)
theorem dJ2_compareTo_2_1 : decode cJ2_compareTo_2 1 = .ok (.getfield 9, 3) := dk_180 0 9 (dk_at dksJ2_compareTo_2_0 1 rfl rfl)
theorem dJ2_compareTo_2_4 : decode cJ2_compareTo_2 4 = .ok (.astore_n 2, 1) := dk_77 (dk_at dksJ2_compareTo_2_0 4 rfl rfl)
theorem dJ2_compareTo_2_5 : decode cJ2_compareTo_2 5 = .ok (.aload_n 1, 1) := dk_43 (dk_at dksJ2_compareTo_2_0 5 rfl rfl)
theorem dJ2_compareTo_2_6 : decode cJ2_compareTo_2 6 = .ok (.getfield 9, 3) := dk_180 0 9 (dk_at dksJ2_compareTo_2_0 6 rfl rfl)
theorem dJ2_compareTo_2_9 : decode cJ2_compareTo_2 9 = .ok (.astore_n 3, 1) := dk_78 (dk_at dksJ2_compareTo_2_0 9 rfl rfl)
theorem dJ2_compareTo_2_10 : decode cJ2_compareTo_2 10 = .ok (.aload_n 0, 1) := dk_42 (dk_at dksJ2_compareTo_2_0 10 rfl rfl)
theorem dJ2_compareTo_2_11 : decode cJ2_compareTo_2 11 = .ok (.invokevirtual 335, 3) := dk_182 1 79 (dk_at dksJ2_compareTo_2_0 11 rfl rfl)
theorem dJ2_compareTo_2_14 : decode cJ2_compareTo_2 14 = .ok (.istore 4, 2) := dk_54 4 (dk_at dksJ2_compareTo_2_0 14 rfl rfl)
theorem dJ2_compareTo_2_16 : decode cJ2_compareTo_2 16 = .ok (.iload 4, 2) := dk_21 4 (dk_at dksJ2_compareTo_2_0 16 rfl rfl)
theorem dJ2_compareTo_2_18 : decode cJ2_compareTo_2 18 = .ok (.aload_n 1, 1) := dk_43 (dk_at dksJ2_compareTo_2_0 18 rfl rfl)
theorem dJ2_compareTo_2_19 : decode cJ2_compareTo_2 19 = .ok (.invokevirtual 335, 3) := dk_182 1 79 (dk_at dksJ2_compareTo_2_0 19 rfl rfl)
theorem dJ2_compareTo_2_22 : decode cJ2_compareTo_2 22 = .ok (.if_icmp .ne 22, 3) := dk_160 0 22 (dk_at dksJ2_compareTo_2_1 0 rfl rfl)
theorem dJ2_compareTo_2_25 : decode cJ2_compareTo_2 25 = .ok (.iload 4, 2) := dk_21 4 (dk_at dksJ2_compareTo_2_1 3 rfl rfl)
theorem dJ2_compareTo_2_27 : decode cJ2_compareTo_2 27 = .ok (.ifCond .ne 11, 3) := dk_154 0 11 (dk_at dksJ2_compareTo_2_1 5 rfl rfl)
theorem dJ2_compareTo_2_30 : decode cJ2_compareTo_2 30 = .ok (.aload_n 2, 1) := dk_44 (dk_at dksJ2_compareTo_2_1 8 rfl rfl)
theorem dJ2_compareTo_2_31 : decode cJ2_compareTo_2 31 = .ok (.aload_n 3, 1) := dk_45 (dk_at dksJ2_compareTo_2_1 9 rfl rfl)
theorem dJ2_compareTo_2_32 : decode cJ2_compareTo_2 32 = .ok (.invokestatic 586, 3) := dk_184 2 74 (dk_at dksJ2_compareTo_2_1 10 rfl rfl)
theorem dJ2_compareTo_2_35 : decode cJ2_compareTo_2 35 = .ok (.goto 8, 3) := dk_167 0 8 (dk_at dksJ2_compareTo_2_1 13 rfl rfl)
theorem dJ2_compareTo_2_38 : decode cJ2_compareTo_2 38 = .ok (.aload_n 2, 1) := dk_44 (dk_at dksJ2_compareTo_2_1 16 rfl rfl)
theorem dJ2_compareTo_2_39 : decode cJ2_compareTo_2 39 = .ok (.aload_n 3, 1) := dk_45 (dk_at dksJ2_compareTo_2_1 17 rfl rfl)
theorem dJ2_compareTo_2_40 : decode cJ2_compareTo_2 40 = .ok (.invokestatic 590, 3) := dk_184 2 78 (dk_at dksJ2_compareTo_2_1 18 rfl rfl)
theorem dJ2_compareTo_2_43 : decode cJ2_compareTo_2 43 = .ok (.ireturn, 1) := dk_172 (dk_at dksJ2_compareTo_2_1 21 rfl rfl)
theorem dJ2_compareTo_2_44 : decode cJ2_compareTo_2 44 = .ok (.iload 4, 2) := dk_21 4 (dk_at dksJ2_compareTo_2_1 22 rfl rfl)
theorem dJ2_compareTo_2_46 : decode cJ2_compareTo_2 46 = .ok (.ifCond .ne 11, 3) := dk_154 0 11 (dk_at dksJ2_compareTo_2_2 0 rfl rfl)
theorem dJ2_compareTo_2_49 : decode cJ2_compareTo_2 49 = .ok (.aload_n 2, 1) := dk_44 (dk_at dksJ2_compareTo_2_2 3 rfl rfl)
theorem dJ2_compareTo_2_50 : decode cJ2_compareTo_2 50 = .ok (.aload_n 3, 1) := dk_45 (dk_at dksJ2_compareTo_2_2 4 rfl rfl)
theorem dJ2_compareTo_2_51 : decode cJ2_compareTo_2 51 = .ok (.invokestatic 591, 3) := dk_184 2 79 (dk_at dksJ2_compareTo_2_2 5 rfl rfl)
theorem dJ2_compareTo_2_54 : decode cJ2_compareTo_2 54 = .ok (.goto 8, 3) := dk_167 0 8 (dk_at dksJ2_compareTo_2_2 8 rfl rfl)
theorem dJ2_compareTo_2_57 : decode cJ2_compareTo_2 57 = .ok (.aload_n 2, 1) := dk_44 (dk_at dksJ2_compareTo_2_2 11 rfl rfl)
theorem dJ2_compareTo_2_58 : decode cJ2_compareTo_2 58 = .ok (.aload_n 3, 1) := dk_45 (dk_at dksJ2_compareTo_2_2 12 rfl rfl)
theorem dJ2_compareTo_2_59 : decode cJ2_compareTo_2 59 = .ok (.invokestatic 594, 3) := dk_184 2 82 (dk_at dksJ2_compareTo_2_2 13 rfl rfl)
theorem dJ2_compareTo_2_62 : decode cJ2_compareTo_2 62 = .ok (.ireturn, 1) := dk_172 (dk_at dksJ2_compareTo_2_2 16 rfl rfl)
abbrev cJ2_checkOffset : ByteArray := prog_85_method_156_code
def yJ2_checkOffset : MethodName := ⟨RJ2, "checkOffset", "(II)V"⟩
def dkwJ2_checkOffset_0 : List UInt8 := [26, 27, 27, 178, 4, 29, 184, 4, 38, 87, 177]
abbrev dktJ2_checkOffset_0 : List UInt8 := dkwJ2_checkOffset_0 ++ []
theorem dksJ2_checkOffset_0 : cJ2_checkOffset.data.toList.drop 0 = dktJ2_checkOffset_0 := by decide +kernel
theorem dJ2_checkOffset_0 : decode cJ2_checkOffset 0 = .ok (.iload_n 0, 1) := dk_26 (dk_at dksJ2_checkOffset_0 0 rfl rfl)
theorem dJ2_checkOffset_1 : decode cJ2_checkOffset 1 = .ok (.iload_n 1, 1) := dk_27 (dk_at dksJ2_checkOffset_0 1 rfl rfl)
theorem dJ2_checkOffset_2 : decode cJ2_checkOffset 2 = .ok (.iload_n 1, 1) := dk_27 (dk_at dksJ2_checkOffset_0 2 rfl rfl)
theorem dJ2_checkOffset_3 : decode cJ2_checkOffset 3 = .ok (.getstatic 1053, 3) := dk_178 4 29 (dk_at dksJ2_checkOffset_0 3 rfl rfl)
theorem dJ2_checkOffset_6 : decode cJ2_checkOffset 6 = .ok (.invokestatic 1062, 3) := dk_184 4 38 (dk_at dksJ2_checkOffset_0 6 rfl rfl)
theorem dJ2_checkOffset_9 : decode cJ2_checkOffset 9 = .ok (.pop, 1) := dk_87 (dk_at dksJ2_checkOffset_0 9 rfl rfl)
theorem dJ2_checkOffset_10 : decode cJ2_checkOffset 10 = .ok (.return_, 1) := dk_177 (dk_at dksJ2_checkOffset_0 10 rfl rfl)
abbrev cJ2_lastIndexOf : ByteArray := prog_85_method_82_code
def yJ2_lastIndexOf : MethodName := ⟨RJ2, "lastIndexOf", "(I)I"⟩
def dkwJ2_lastIndexOf_0 : List UInt8 := [42, 27, 42, 182, 1, 249, 4, 100, 182, 2, 129, 172]
abbrev dktJ2_lastIndexOf_0 : List UInt8 := dkwJ2_lastIndexOf_0 ++ []
theorem dksJ2_lastIndexOf_0 : cJ2_lastIndexOf.data.toList.drop 0 = dktJ2_lastIndexOf_0 := by decide +kernel
theorem dJ2_lastIndexOf_0 : decode cJ2_lastIndexOf 0 = .ok (.aload_n 0, 1) := dk_42 (dk_at dksJ2_lastIndexOf_0 0 rfl rfl)
theorem dJ2_lastIndexOf_1 : decode cJ2_lastIndexOf 1 = .ok (.iload_n 1, 1) := dk_27 (dk_at dksJ2_lastIndexOf_0 1 rfl rfl)
theorem dJ2_lastIndexOf_2 : decode cJ2_lastIndexOf 2 = .ok (.aload_n 0, 1) := dk_42 (dk_at dksJ2_lastIndexOf_0 2 rfl rfl)
theorem dJ2_lastIndexOf_3 : decode cJ2_lastIndexOf 3 = .ok (.invokevirtual 505, 3) := dk_182 1 249 (dk_at dksJ2_lastIndexOf_0 3 rfl rfl)
theorem dJ2_lastIndexOf_6 : decode cJ2_lastIndexOf 6 = .ok (.iconst 1, 1) := dk_4 (dk_at dksJ2_lastIndexOf_0 6 rfl rfl)
theorem dJ2_lastIndexOf_7 : decode cJ2_lastIndexOf 7 = .ok (.isub, 1) := dk_100 (dk_at dksJ2_lastIndexOf_0 7 rfl rfl)
theorem dJ2_lastIndexOf_8 : decode cJ2_lastIndexOf 8 = .ok (.invokevirtual 641, 3) := dk_182 2 129 (dk_at dksJ2_lastIndexOf_0 8 rfl rfl)
theorem dJ2_lastIndexOf_11 : decode cJ2_lastIndexOf 11 = .ok (.ireturn, 1) := dk_172 (dk_at dksJ2_lastIndexOf_0 11 rfl rfl)
abbrev cJ2_lastIndexOf_2 : ByteArray := prog_85_method_83_code
def yJ2_lastIndexOf_2 : MethodName := ⟨RJ2, "lastIndexOf", "(II)I"⟩
def dkwJ2_lastIndexOf_2_1 : List UInt8 := [28, 184, 2, 134, 172]
abbrev dktJ2_lastIndexOf_2_1 : List UInt8 := dkwJ2_lastIndexOf_2_1 ++ []
def dkwJ2_lastIndexOf_2_0 : List UInt8 := [42, 182, 1, 236, 153, 0, 15, 42, 180, 0, 9, 27, 28, 184, 2, 132, 167, 0, 12, 42, 180, 0, 9, 27]
abbrev dktJ2_lastIndexOf_2_0 : List UInt8 := dkwJ2_lastIndexOf_2_0 ++ dktJ2_lastIndexOf_2_1
theorem dksJ2_lastIndexOf_2_0 : cJ2_lastIndexOf_2.data.toList.drop 0 = dktJ2_lastIndexOf_2_0 := by decide +kernel
theorem dksJ2_lastIndexOf_2_1 : cJ2_lastIndexOf_2.data.toList.drop 24 = dktJ2_lastIndexOf_2_1 := dk_seg dksJ2_lastIndexOf_2_0 24 rfl rfl
theorem dJ2_lastIndexOf_2_0 : decode cJ2_lastIndexOf_2 0 = .ok (.aload_n 0, 1) := dk_42 (dk_at dksJ2_lastIndexOf_2_0 0 rfl rfl)
theorem dJ2_lastIndexOf_2_1 : decode cJ2_lastIndexOf_2 1 = .ok (.invokevirtual 492, 3) := dk_182 1 236 (dk_at dksJ2_lastIndexOf_2_0 1 rfl rfl)
theorem dJ2_lastIndexOf_2_4 : decode cJ2_lastIndexOf_2 4 = .ok (.ifCond .eq 15, 3) := dk_153 0 15 (dk_at dksJ2_lastIndexOf_2_0 4 rfl rfl)
theorem dJ2_lastIndexOf_2_7 : decode cJ2_lastIndexOf_2 7 = .ok (.aload_n 0, 1) := dk_42 (dk_at dksJ2_lastIndexOf_2_0 7 rfl rfl)
theorem dJ2_lastIndexOf_2_8 : decode cJ2_lastIndexOf_2 8 = .ok (.getfield 9, 3) := dk_180 0 9 (dk_at dksJ2_lastIndexOf_2_0 8 rfl rfl)
theorem dJ2_lastIndexOf_2_11 : decode cJ2_lastIndexOf_2 11 = .ok (.iload_n 1, 1) := dk_27 (dk_at dksJ2_lastIndexOf_2_0 11 rfl rfl)
theorem dJ2_lastIndexOf_2_12 : decode cJ2_lastIndexOf_2 12 = .ok (.iload_n 2, 1) := dk_28 (dk_at dksJ2_lastIndexOf_2_0 12 rfl rfl)
theorem dJ2_lastIndexOf_2_13 : decode cJ2_lastIndexOf_2 13 = .ok (.invokestatic 644, 3) := dk_184 2 132 (dk_at dksJ2_lastIndexOf_2_0 13 rfl rfl)
theorem dJ2_lastIndexOf_2_16 : decode cJ2_lastIndexOf_2 16 = .ok (.goto 12, 3) := dk_167 0 12 (dk_at dksJ2_lastIndexOf_2_0 16 rfl rfl)
theorem dJ2_lastIndexOf_2_19 : decode cJ2_lastIndexOf_2 19 = .ok (.aload_n 0, 1) := dk_42 (dk_at dksJ2_lastIndexOf_2_0 19 rfl rfl)
theorem dJ2_lastIndexOf_2_20 : decode cJ2_lastIndexOf_2 20 = .ok (.getfield 9, 3) := dk_180 0 9 (dk_at dksJ2_lastIndexOf_2_0 20 rfl rfl)
theorem dJ2_lastIndexOf_2_23 : decode cJ2_lastIndexOf_2 23 = .ok (.iload_n 1, 1) := dk_27 (dk_at dksJ2_lastIndexOf_2_0 23 rfl rfl)
theorem dJ2_lastIndexOf_2_24 : decode cJ2_lastIndexOf_2 24 = .ok (.iload_n 2, 1) := dk_28 (dk_at dksJ2_lastIndexOf_2_1 0 rfl rfl)
theorem dJ2_lastIndexOf_2_25 : decode cJ2_lastIndexOf_2 25 = .ok (.invokestatic 646, 3) := dk_184 2 134 (dk_at dksJ2_lastIndexOf_2_1 1 rfl rfl)
theorem dJ2_lastIndexOf_2_28 : decode cJ2_lastIndexOf_2 28 = .ok (.ireturn, 1) := dk_172 (dk_at dksJ2_lastIndexOf_2_1 4 rfl rfl)
abbrev cJ2_endsWith : ByteArray := prog_85_method_77_code
def yJ2_endsWith : MethodName := ⟨RJ2, "endsWith", "(Ljava/lang/String;)Z"⟩
def dkwJ2_endsWith_0 : List UInt8 := [42, 43, 42, 182, 1, 249, 43, 182, 1, 249, 100, 182, 2, 112, 172]
abbrev dktJ2_endsWith_0 : List UInt8 := dkwJ2_endsWith_0 ++ []
theorem dksJ2_endsWith_0 : cJ2_endsWith.data.toList.drop 0 = dktJ2_endsWith_0 := by decide +kernel
theorem dJ2_endsWith_0 : decode cJ2_endsWith 0 = .ok (.aload_n 0, 1) := dk_42 (dk_at dksJ2_endsWith_0 0 rfl rfl)
theorem dJ2_endsWith_1 : decode cJ2_endsWith 1 = .ok (.aload_n 1, 1) := dk_43 (dk_at dksJ2_endsWith_0 1 rfl rfl)
theorem dJ2_endsWith_2 : decode cJ2_endsWith 2 = .ok (.aload_n 0, 1) := dk_42 (dk_at dksJ2_endsWith_0 2 rfl rfl)
theorem dJ2_endsWith_3 : decode cJ2_endsWith 3 = .ok (.invokevirtual 505, 3) := dk_182 1 249 (dk_at dksJ2_endsWith_0 3 rfl rfl)
theorem dJ2_endsWith_6 : decode cJ2_endsWith 6 = .ok (.aload_n 1, 1) := dk_43 (dk_at dksJ2_endsWith_0 6 rfl rfl)
theorem dJ2_endsWith_7 : decode cJ2_endsWith 7 = .ok (.invokevirtual 505, 3) := dk_182 1 249 (dk_at dksJ2_endsWith_0 7 rfl rfl)
theorem dJ2_endsWith_10 : decode cJ2_endsWith 10 = .ok (.isub, 1) := dk_100 (dk_at dksJ2_endsWith_0 10 rfl rfl)
theorem dJ2_endsWith_11 : decode cJ2_endsWith 11 = .ok (.invokevirtual 624, 3) := dk_182 2 112 (dk_at dksJ2_endsWith_0 11 rfl rfl)
theorem dJ2_endsWith_14 : decode cJ2_endsWith 14 = .ok (.ireturn, 1) := dk_172 (dk_at dksJ2_endsWith_0 14 rfl rfl)
abbrev cJ2_startsWith : ByteArray := prog_85_method_75_code
def yJ2_startsWith : MethodName := ⟨RJ2, "startsWith", "(Ljava/lang/String;I)Z"⟩
def dkwJ2_startsWith_5 : List UInt8 := [159, 255, 229, 3, 172, 4, 172]
abbrev dktJ2_startsWith_5 : List UInt8 := dkwJ2_startsWith_5 ++ []
def dkwJ2_startsWith_4 : List UInt8 := [162, 0, 28, 45, 28, 132, 2, 1, 184, 1, 104, 25, 4, 21, 5, 132, 5, 1, 51, 17, 0, 255, 126]
abbrev dktJ2_startsWith_4 : List UInt8 := dkwJ2_startsWith_4 ++ dktJ2_startsWith_5
def dkwJ2_startsWith_3 : List UInt8 := [184, 2, 95, 156, 0, 7, 4, 167, 0, 4, 3, 172, 21, 7, 154, 0, 5, 3, 172, 21, 5, 21, 6]
abbrev dktJ2_startsWith_3 : List UInt8 := dkwJ2_startsWith_3 ++ dktJ2_startsWith_4
def dkwJ2_startsWith_2 : List UInt8 := [182, 1, 79, 160, 0, 32, 21, 7, 4, 160, 0, 7, 28, 4, 120, 61, 45, 28, 25, 4, 3, 21, 6]
abbrev dktJ2_startsWith_2 : List UInt8 := dkwJ2_startsWith_2 ++ dktJ2_startsWith_3
def dkwJ2_startsWith_1 : List UInt8 := [43, 180, 0, 9, 58, 4, 3, 54, 5, 25, 4, 190, 54, 6, 42, 182, 1, 79, 54, 7, 21, 7, 43]
abbrev dktJ2_startsWith_1 : List UInt8 := dkwJ2_startsWith_1 ++ dktJ2_startsWith_2
def dkwJ2_startsWith_0 : List UInt8 := [28, 155, 0, 16, 28, 42, 182, 1, 249, 43, 182, 1, 249, 100, 164, 0, 5, 3, 172, 42, 180, 0, 9, 78]
abbrev dktJ2_startsWith_0 : List UInt8 := dkwJ2_startsWith_0 ++ dktJ2_startsWith_1
theorem dksJ2_startsWith_0 : cJ2_startsWith.data.toList.drop 0 = dktJ2_startsWith_0 := by decide +kernel
theorem dksJ2_startsWith_1 : cJ2_startsWith.data.toList.drop 24 = dktJ2_startsWith_1 := dk_seg dksJ2_startsWith_0 24 rfl rfl
theorem dksJ2_startsWith_2 : cJ2_startsWith.data.toList.drop 47 = dktJ2_startsWith_2 := dk_seg dksJ2_startsWith_1 23 rfl rfl
theorem dksJ2_startsWith_3 : cJ2_startsWith.data.toList.drop 70 = dktJ2_startsWith_3 := dk_seg dksJ2_startsWith_2 23 rfl rfl
theorem dksJ2_startsWith_4 : cJ2_startsWith.data.toList.drop 93 = dktJ2_startsWith_4 := dk_seg dksJ2_startsWith_3 23 rfl rfl
theorem dksJ2_startsWith_5 : cJ2_startsWith.data.toList.drop 116 = dktJ2_startsWith_5 := dk_seg dksJ2_startsWith_4 23 rfl rfl
theorem dJ2_startsWith_0 : decode cJ2_startsWith 0 = .ok (.iload_n 2, 1) := dk_28 (dk_at dksJ2_startsWith_0 0 rfl rfl)
theorem dJ2_startsWith_1 : decode cJ2_startsWith 1 = .ok (.ifCond .lt 16, 3) := dk_155 0 16 (dk_at dksJ2_startsWith_0 1 rfl rfl)
theorem dJ2_startsWith_4 : decode cJ2_startsWith 4 = .ok (.iload_n 2, 1) := dk_28 (dk_at dksJ2_startsWith_0 4 rfl rfl)
theorem dJ2_startsWith_5 : decode cJ2_startsWith 5 = .ok (.aload_n 0, 1) := dk_42 (dk_at dksJ2_startsWith_0 5 rfl rfl)
theorem dJ2_startsWith_6 : decode cJ2_startsWith 6 = .ok (.invokevirtual 505, 3) := dk_182 1 249 (dk_at dksJ2_startsWith_0 6 rfl rfl)
theorem dJ2_startsWith_9 : decode cJ2_startsWith 9 = .ok (.aload_n 1, 1) := dk_43 (dk_at dksJ2_startsWith_0 9 rfl rfl)
theorem dJ2_startsWith_10 : decode cJ2_startsWith 10 = .ok (.invokevirtual 505, 3) := dk_182 1 249 (dk_at dksJ2_startsWith_0 10 rfl rfl)
theorem dJ2_startsWith_13 : decode cJ2_startsWith 13 = .ok (.isub, 1) := dk_100 (dk_at dksJ2_startsWith_0 13 rfl rfl)
theorem dJ2_startsWith_14 : decode cJ2_startsWith 14 = .ok (.if_icmp .le 5, 3) := dk_164 0 5 (dk_at dksJ2_startsWith_0 14 rfl rfl)
theorem dJ2_startsWith_17 : decode cJ2_startsWith 17 = .ok (.iconst 0, 1) := dk_3 (dk_at dksJ2_startsWith_0 17 rfl rfl)
theorem dJ2_startsWith_18 : decode cJ2_startsWith 18 = .ok (.ireturn, 1) := dk_172 (dk_at dksJ2_startsWith_0 18 rfl rfl)
theorem dJ2_startsWith_19 : decode cJ2_startsWith 19 = .ok (.aload_n 0, 1) := dk_42 (dk_at dksJ2_startsWith_0 19 rfl rfl)
theorem dJ2_startsWith_20 : decode cJ2_startsWith 20 = .ok (.getfield 9, 3) := dk_180 0 9 (dk_at dksJ2_startsWith_0 20 rfl rfl)
theorem dJ2_startsWith_23 : decode cJ2_startsWith 23 = .ok (.astore_n 3, 1) := dk_78 (dk_at dksJ2_startsWith_0 23 rfl rfl)
theorem dJ2_startsWith_24 : decode cJ2_startsWith 24 = .ok (.aload_n 1, 1) := dk_43 (dk_at dksJ2_startsWith_1 0 rfl rfl)
theorem dJ2_startsWith_25 : decode cJ2_startsWith 25 = .ok (.getfield 9, 3) := dk_180 0 9 (dk_at dksJ2_startsWith_1 1 rfl rfl)
theorem dJ2_startsWith_28 : decode cJ2_startsWith 28 = .ok (.astore 4, 2) := dk_58 4 (dk_at dksJ2_startsWith_1 4 rfl rfl)
theorem dJ2_startsWith_30 : decode cJ2_startsWith 30 = .ok (.iconst 0, 1) := dk_3 (dk_at dksJ2_startsWith_1 6 rfl rfl)
theorem dJ2_startsWith_31 : decode cJ2_startsWith 31 = .ok (.istore 5, 2) := dk_54 5 (dk_at dksJ2_startsWith_1 7 rfl rfl)
theorem dJ2_startsWith_33 : decode cJ2_startsWith 33 = .ok (.aload 4, 2) := dk_25 4 (dk_at dksJ2_startsWith_1 9 rfl rfl)
theorem dJ2_startsWith_35 : decode cJ2_startsWith 35 = .ok (.arraylength, 1) := dk_190 (dk_at dksJ2_startsWith_1 11 rfl rfl)
theorem dJ2_startsWith_36 : decode cJ2_startsWith 36 = .ok (.istore 6, 2) := dk_54 6 (dk_at dksJ2_startsWith_1 12 rfl rfl)
theorem dJ2_startsWith_38 : decode cJ2_startsWith 38 = .ok (.aload_n 0, 1) := dk_42 (dk_at dksJ2_startsWith_1 14 rfl rfl)
theorem dJ2_startsWith_39 : decode cJ2_startsWith 39 = .ok (.invokevirtual 335, 3) := dk_182 1 79 (dk_at dksJ2_startsWith_1 15 rfl rfl)
theorem dJ2_startsWith_42 : decode cJ2_startsWith 42 = .ok (.istore 7, 2) := dk_54 7 (dk_at dksJ2_startsWith_1 18 rfl rfl)
theorem dJ2_startsWith_44 : decode cJ2_startsWith 44 = .ok (.iload 7, 2) := dk_21 7 (dk_at dksJ2_startsWith_1 20 rfl rfl)
theorem dJ2_startsWith_46 : decode cJ2_startsWith 46 = .ok (.aload_n 1, 1) := dk_43 (dk_at dksJ2_startsWith_1 22 rfl rfl)
theorem dJ2_startsWith_47 : decode cJ2_startsWith 47 = .ok (.invokevirtual 335, 3) := dk_182 1 79 (dk_at dksJ2_startsWith_2 0 rfl rfl)
theorem dJ2_startsWith_50 : decode cJ2_startsWith 50 = .ok (.if_icmp .ne 32, 3) := dk_160 0 32 (dk_at dksJ2_startsWith_2 3 rfl rfl)
theorem dJ2_startsWith_53 : decode cJ2_startsWith 53 = .ok (.iload 7, 2) := dk_21 7 (dk_at dksJ2_startsWith_2 6 rfl rfl)
theorem dJ2_startsWith_55 : decode cJ2_startsWith 55 = .ok (.iconst 1, 1) := dk_4 (dk_at dksJ2_startsWith_2 8 rfl rfl)
theorem dJ2_startsWith_56 : decode cJ2_startsWith 56 = .ok (.if_icmp .ne 7, 3) := dk_160 0 7 (dk_at dksJ2_startsWith_2 9 rfl rfl)
theorem dJ2_startsWith_59 : decode cJ2_startsWith 59 = .ok (.iload_n 2, 1) := dk_28 (dk_at dksJ2_startsWith_2 12 rfl rfl)
theorem dJ2_startsWith_60 : decode cJ2_startsWith 60 = .ok (.iconst 1, 1) := dk_4 (dk_at dksJ2_startsWith_2 13 rfl rfl)
theorem dJ2_startsWith_61 : decode cJ2_startsWith 61 = .ok (.ishl, 1) := dk_120 (dk_at dksJ2_startsWith_2 14 rfl rfl)
theorem dJ2_startsWith_62 : decode cJ2_startsWith 62 = .ok (.istore_n 2, 1) := dk_61 (dk_at dksJ2_startsWith_2 15 rfl rfl)
theorem dJ2_startsWith_63 : decode cJ2_startsWith 63 = .ok (.aload_n 3, 1) := dk_45 (dk_at dksJ2_startsWith_2 16 rfl rfl)
theorem dJ2_startsWith_64 : decode cJ2_startsWith 64 = .ok (.iload_n 2, 1) := dk_28 (dk_at dksJ2_startsWith_2 17 rfl rfl)
theorem dJ2_startsWith_65 : decode cJ2_startsWith 65 = .ok (.aload 4, 2) := dk_25 4 (dk_at dksJ2_startsWith_2 18 rfl rfl)
theorem dJ2_startsWith_67 : decode cJ2_startsWith 67 = .ok (.iconst 0, 1) := dk_3 (dk_at dksJ2_startsWith_2 20 rfl rfl)
theorem dJ2_startsWith_68 : decode cJ2_startsWith 68 = .ok (.iload 6, 2) := dk_21 6 (dk_at dksJ2_startsWith_2 21 rfl rfl)
theorem dJ2_startsWith_70 : decode cJ2_startsWith 70 = .ok (.invokestatic 607, 3) := dk_184 2 95 (dk_at dksJ2_startsWith_3 0 rfl rfl)
theorem dJ2_startsWith_73 : decode cJ2_startsWith 73 = .ok (.ifCond .ge 7, 3) := dk_156 0 7 (dk_at dksJ2_startsWith_3 3 rfl rfl)
theorem dJ2_startsWith_76 : decode cJ2_startsWith 76 = .ok (.iconst 1, 1) := dk_4 (dk_at dksJ2_startsWith_3 6 rfl rfl)
theorem dJ2_startsWith_77 : decode cJ2_startsWith 77 = .ok (.goto 4, 3) := dk_167 0 4 (dk_at dksJ2_startsWith_3 7 rfl rfl)
theorem dJ2_startsWith_80 : decode cJ2_startsWith 80 = .ok (.iconst 0, 1) := dk_3 (dk_at dksJ2_startsWith_3 10 rfl rfl)
theorem dJ2_startsWith_81 : decode cJ2_startsWith 81 = .ok (.ireturn, 1) := dk_172 (dk_at dksJ2_startsWith_3 11 rfl rfl)
theorem dJ2_startsWith_82 : decode cJ2_startsWith 82 = .ok (.iload 7, 2) := dk_21 7 (dk_at dksJ2_startsWith_3 12 rfl rfl)
theorem dJ2_startsWith_84 : decode cJ2_startsWith 84 = .ok (.ifCond .ne 5, 3) := dk_154 0 5 (dk_at dksJ2_startsWith_3 14 rfl rfl)
theorem dJ2_startsWith_87 : decode cJ2_startsWith 87 = .ok (.iconst 0, 1) := dk_3 (dk_at dksJ2_startsWith_3 17 rfl rfl)
theorem dJ2_startsWith_88 : decode cJ2_startsWith 88 = .ok (.ireturn, 1) := dk_172 (dk_at dksJ2_startsWith_3 18 rfl rfl)
theorem dJ2_startsWith_89 : decode cJ2_startsWith 89 = .ok (.iload 5, 2) := dk_21 5 (dk_at dksJ2_startsWith_3 19 rfl rfl)
theorem dJ2_startsWith_91 : decode cJ2_startsWith 91 = .ok (.iload 6, 2) := dk_21 6 (dk_at dksJ2_startsWith_3 21 rfl rfl)
theorem dJ2_startsWith_93 : decode cJ2_startsWith 93 = .ok (.if_icmp .ge 28, 3) := dk_162 0 28 (dk_at dksJ2_startsWith_4 0 rfl rfl)
theorem dJ2_startsWith_96 : decode cJ2_startsWith 96 = .ok (.aload_n 3, 1) := dk_45 (dk_at dksJ2_startsWith_4 3 rfl rfl)
theorem dJ2_startsWith_97 : decode cJ2_startsWith 97 = .ok (.iload_n 2, 1) := dk_28 (dk_at dksJ2_startsWith_4 4 rfl rfl)
theorem dJ2_startsWith_98 : decode cJ2_startsWith 98 = .ok (.iinc 2 1, 3) := dk_132 2 1 (dk_at dksJ2_startsWith_4 5 rfl rfl)
theorem dJ2_startsWith_101 : decode cJ2_startsWith 101 = .ok (.invokestatic 360, 3) := dk_184 1 104 (dk_at dksJ2_startsWith_4 8 rfl rfl)
theorem dJ2_startsWith_104 : decode cJ2_startsWith 104 = .ok (.aload 4, 2) := dk_25 4 (dk_at dksJ2_startsWith_4 11 rfl rfl)
theorem dJ2_startsWith_106 : decode cJ2_startsWith 106 = .ok (.iload 5, 2) := dk_21 5 (dk_at dksJ2_startsWith_4 13 rfl rfl)
theorem dJ2_startsWith_108 : decode cJ2_startsWith 108 = .ok (.iinc 5 1, 3) := dk_132 5 1 (dk_at dksJ2_startsWith_4 15 rfl rfl)
theorem dJ2_startsWith_111 : decode cJ2_startsWith 111 = .ok (.baload, 1) := dk_51 (dk_at dksJ2_startsWith_4 18 rfl rfl)
theorem dJ2_startsWith_112 : decode cJ2_startsWith 112 = .ok (.sipush 255, 3) := dk_17 0 255 (dk_at dksJ2_startsWith_4 19 rfl rfl)
theorem dJ2_startsWith_115 : decode cJ2_startsWith 115 = .ok (.iand, 1) := dk_126 (dk_at dksJ2_startsWith_4 22 rfl rfl)
theorem dJ2_startsWith_116 : decode cJ2_startsWith 116 = .ok (.if_icmp .eq (-27), 3) := dk_159 255 229 (dk_at dksJ2_startsWith_5 0 rfl rfl)
theorem dJ2_startsWith_119 : decode cJ2_startsWith 119 = .ok (.iconst 0, 1) := dk_3 (dk_at dksJ2_startsWith_5 3 rfl rfl)
theorem dJ2_startsWith_120 : decode cJ2_startsWith 120 = .ok (.ireturn, 1) := dk_172 (dk_at dksJ2_startsWith_5 4 rfl rfl)
theorem dJ2_startsWith_121 : decode cJ2_startsWith 121 = .ok (.iconst 1, 1) := dk_4 (dk_at dksJ2_startsWith_5 5 rfl rfl)
theorem dJ2_startsWith_122 : decode cJ2_startsWith 122 = .ok (.ireturn, 1) := dk_172 (dk_at dksJ2_startsWith_5 6 rfl rfl)
abbrev cJ2_substring : ByteArray := prog_85_method_92_code
def yJ2_substring : MethodName := ⟨RJ2, "substring", "(II)Ljava/lang/String;"⟩
def dkwJ2_substring_2 : List UInt8 := [180, 0, 9, 27, 21, 4, 184, 2, 177, 176]
abbrev dktJ2_substring_2 : List UInt8 := dkwJ2_substring_2 ++ []
def dkwJ2_substring_1 : List UInt8 := [100, 54, 4, 42, 182, 1, 236, 153, 0, 16, 42, 180, 0, 9, 27, 21, 4, 184, 2, 173, 167, 0, 13, 42]
abbrev dktJ2_substring_1 : List UInt8 := dkwJ2_substring_1 ++ dktJ2_substring_2
def dkwJ2_substring_0 : List UInt8 := [42, 182, 1, 249, 62, 27, 28, 29, 184, 2, 9, 27, 154, 0, 10, 28, 29, 160, 0, 5, 42, 176, 28, 27]
abbrev dktJ2_substring_0 : List UInt8 := dkwJ2_substring_0 ++ dktJ2_substring_1
theorem dksJ2_substring_0 : cJ2_substring.data.toList.drop 0 = dktJ2_substring_0 := by decide +kernel
theorem dksJ2_substring_1 : cJ2_substring.data.toList.drop 24 = dktJ2_substring_1 := dk_seg dksJ2_substring_0 24 rfl rfl
theorem dksJ2_substring_2 : cJ2_substring.data.toList.drop 48 = dktJ2_substring_2 := dk_seg dksJ2_substring_1 24 rfl rfl
theorem dJ2_substring_0 : decode cJ2_substring 0 = .ok (.aload_n 0, 1) := dk_42 (dk_at dksJ2_substring_0 0 rfl rfl)
theorem dJ2_substring_1 : decode cJ2_substring 1 = .ok (.invokevirtual 505, 3) := dk_182 1 249 (dk_at dksJ2_substring_0 1 rfl rfl)
theorem dJ2_substring_4 : decode cJ2_substring 4 = .ok (.istore_n 3, 1) := dk_62 (dk_at dksJ2_substring_0 4 rfl rfl)
theorem dJ2_substring_5 : decode cJ2_substring 5 = .ok (.iload_n 1, 1) := dk_27 (dk_at dksJ2_substring_0 5 rfl rfl)
theorem dJ2_substring_6 : decode cJ2_substring 6 = .ok (.iload_n 2, 1) := dk_28 (dk_at dksJ2_substring_0 6 rfl rfl)
theorem dJ2_substring_7 : decode cJ2_substring 7 = .ok (.iload_n 3, 1) := dk_29 (dk_at dksJ2_substring_0 7 rfl rfl)
theorem dJ2_substring_8 : decode cJ2_substring 8 = .ok (.invokestatic 521, 3) := dk_184 2 9 (dk_at dksJ2_substring_0 8 rfl rfl)
theorem dJ2_substring_11 : decode cJ2_substring 11 = .ok (.iload_n 1, 1) := dk_27 (dk_at dksJ2_substring_0 11 rfl rfl)
theorem dJ2_substring_12 : decode cJ2_substring 12 = .ok (.ifCond .ne 10, 3) := dk_154 0 10 (dk_at dksJ2_substring_0 12 rfl rfl)
theorem dJ2_substring_15 : decode cJ2_substring 15 = .ok (.iload_n 2, 1) := dk_28 (dk_at dksJ2_substring_0 15 rfl rfl)
theorem dJ2_substring_16 : decode cJ2_substring 16 = .ok (.iload_n 3, 1) := dk_29 (dk_at dksJ2_substring_0 16 rfl rfl)
theorem dJ2_substring_17 : decode cJ2_substring 17 = .ok (.if_icmp .ne 5, 3) := dk_160 0 5 (dk_at dksJ2_substring_0 17 rfl rfl)
theorem dJ2_substring_20 : decode cJ2_substring 20 = .ok (.aload_n 0, 1) := dk_42 (dk_at dksJ2_substring_0 20 rfl rfl)
theorem dJ2_substring_21 : decode cJ2_substring 21 = .ok (.areturn, 1) := dk_176 (dk_at dksJ2_substring_0 21 rfl rfl)
theorem dJ2_substring_22 : decode cJ2_substring 22 = .ok (.iload_n 2, 1) := dk_28 (dk_at dksJ2_substring_0 22 rfl rfl)
theorem dJ2_substring_23 : decode cJ2_substring 23 = .ok (.iload_n 1, 1) := dk_27 (dk_at dksJ2_substring_0 23 rfl rfl)
theorem dJ2_substring_24 : decode cJ2_substring 24 = .ok (.isub, 1) := dk_100 (dk_at dksJ2_substring_1 0 rfl rfl)
theorem dJ2_substring_25 : decode cJ2_substring 25 = .ok (.istore 4, 2) := dk_54 4 (dk_at dksJ2_substring_1 1 rfl rfl)
theorem dJ2_substring_27 : decode cJ2_substring 27 = .ok (.aload_n 0, 1) := dk_42 (dk_at dksJ2_substring_1 3 rfl rfl)
theorem dJ2_substring_28 : decode cJ2_substring 28 = .ok (.invokevirtual 492, 3) := dk_182 1 236 (dk_at dksJ2_substring_1 4 rfl rfl)
theorem dJ2_substring_31 : decode cJ2_substring 31 = .ok (.ifCond .eq 16, 3) := dk_153 0 16 (dk_at dksJ2_substring_1 7 rfl rfl)
theorem dJ2_substring_34 : decode cJ2_substring 34 = .ok (.aload_n 0, 1) := dk_42 (dk_at dksJ2_substring_1 10 rfl rfl)
theorem dJ2_substring_35 : decode cJ2_substring 35 = .ok (.getfield 9, 3) := dk_180 0 9 (dk_at dksJ2_substring_1 11 rfl rfl)
theorem dJ2_substring_38 : decode cJ2_substring 38 = .ok (.iload_n 1, 1) := dk_27 (dk_at dksJ2_substring_1 14 rfl rfl)
theorem dJ2_substring_39 : decode cJ2_substring 39 = .ok (.iload 4, 2) := dk_21 4 (dk_at dksJ2_substring_1 15 rfl rfl)
theorem dJ2_substring_41 : decode cJ2_substring 41 = .ok (.invokestatic 685, 3) := dk_184 2 173 (dk_at dksJ2_substring_1 17 rfl rfl)
theorem dJ2_substring_44 : decode cJ2_substring 44 = .ok (.goto 13, 3) := dk_167 0 13 (dk_at dksJ2_substring_1 20 rfl rfl)
theorem dJ2_substring_47 : decode cJ2_substring 47 = .ok (.aload_n 0, 1) := dk_42 (dk_at dksJ2_substring_1 23 rfl rfl)
theorem dJ2_substring_48 : decode cJ2_substring 48 = .ok (.getfield 9, 3) := dk_180 0 9 (dk_at dksJ2_substring_2 0 rfl rfl)
theorem dJ2_substring_51 : decode cJ2_substring 51 = .ok (.iload_n 1, 1) := dk_27 (dk_at dksJ2_substring_2 3 rfl rfl)
theorem dJ2_substring_52 : decode cJ2_substring 52 = .ok (.iload 4, 2) := dk_21 4 (dk_at dksJ2_substring_2 4 rfl rfl)
theorem dJ2_substring_54 : decode cJ2_substring 54 = .ok (.invokestatic 689, 3) := dk_184 2 177 (dk_at dksJ2_substring_2 6 rfl rfl)
theorem dJ2_substring_57 : decode cJ2_substring 57 = .ok (.areturn, 1) := dk_176 (dk_at dksJ2_substring_2 9 rfl rfl)
abbrev cJ2_init_3 : ByteArray := prog_85_method_151_code
def yJ2_init_3 : MethodName := ⟨RJ2, "<init>", "([BB)V"⟩
def dkwJ2_init_3_0 : List UInt8 := [42, 183, 0, 1, 42, 43, 181, 0, 9, 42, 28, 181, 0, 15, 177]
abbrev dktJ2_init_3_0 : List UInt8 := dkwJ2_init_3_0 ++ []
theorem dksJ2_init_3_0 : cJ2_init_3.data.toList.drop 0 = dktJ2_init_3_0 := by decide +kernel
theorem dJ2_init_3_0 : decode cJ2_init_3 0 = .ok (.aload_n 0, 1) := dk_42 (dk_at dksJ2_init_3_0 0 rfl rfl)
theorem dJ2_init_3_1 : decode cJ2_init_3 1 = .ok (.invokespecial 1, 3) := dk_183 0 1 (dk_at dksJ2_init_3_0 1 rfl rfl)
theorem dJ2_init_3_4 : decode cJ2_init_3 4 = .ok (.aload_n 0, 1) := dk_42 (dk_at dksJ2_init_3_0 4 rfl rfl)
theorem dJ2_init_3_5 : decode cJ2_init_3 5 = .ok (.aload_n 1, 1) := dk_43 (dk_at dksJ2_init_3_0 5 rfl rfl)
theorem dJ2_init_3_6 : decode cJ2_init_3 6 = .ok (.putfield 9, 3) := dk_181 0 9 (dk_at dksJ2_init_3_0 6 rfl rfl)
theorem dJ2_init_3_9 : decode cJ2_init_3 9 = .ok (.aload_n 0, 1) := dk_42 (dk_at dksJ2_init_3_0 9 rfl rfl)
theorem dJ2_init_3_10 : decode cJ2_init_3 10 = .ok (.iload_n 2, 1) := dk_28 (dk_at dksJ2_init_3_0 10 rfl rfl)
theorem dJ2_init_3_11 : decode cJ2_init_3 11 = .ok (.putfield 15, 3) := dk_181 0 15 (dk_at dksJ2_init_3_0 11 rfl rfl)
theorem dJ2_init_3_14 : decode cJ2_init_3 14 = .ok (.return_, 1) := dk_177 (dk_at dksJ2_init_3_0 14 rfl rfl)
abbrev cJ2_substring_2 : ByteArray := prog_85_method_91_code
def yJ2_substring_2 : MethodName := ⟨RJ2, "substring", "(I)Ljava/lang/String;"⟩
def dkwJ2_substring_2_0 : List UInt8 := [42, 27, 42, 182, 1, 249, 182, 2, 169, 176]
abbrev dktJ2_substring_2_0 : List UInt8 := dkwJ2_substring_2_0 ++ []
theorem dksJ2_substring_2_0 : cJ2_substring_2.data.toList.drop 0 = dktJ2_substring_2_0 := by decide +kernel
theorem dJ2_substring_2_0 : decode cJ2_substring_2 0 = .ok (.aload_n 0, 1) := dk_42 (dk_at dksJ2_substring_2_0 0 rfl rfl)
theorem dJ2_substring_2_1 : decode cJ2_substring_2 1 = .ok (.iload_n 1, 1) := dk_27 (dk_at dksJ2_substring_2_0 1 rfl rfl)
theorem dJ2_substring_2_2 : decode cJ2_substring_2 2 = .ok (.aload_n 0, 1) := dk_42 (dk_at dksJ2_substring_2_0 2 rfl rfl)
theorem dJ2_substring_2_3 : decode cJ2_substring_2 3 = .ok (.invokevirtual 505, 3) := dk_182 1 249 (dk_at dksJ2_substring_2_0 3 rfl rfl)
theorem dJ2_substring_2_6 : decode cJ2_substring_2 6 = .ok (.invokevirtual 681, 3) := dk_182 2 169 (dk_at dksJ2_substring_2_0 6 rfl rfl)
theorem dJ2_substring_2_9 : decode cJ2_substring_2 9 = .ok (.areturn, 1) := dk_176 (dk_at dksJ2_substring_2_0 9 rfl rfl)
abbrev cJ2_indexOf : ByteArray := prog_85_method_84_code
def yJ2_indexOf : MethodName := ⟨RJ2, "indexOf", "(Ljava/lang/String;)I"⟩
def dkwJ2_indexOf_2 : List UInt8 := [154, 0, 5, 2, 172, 42, 180, 0, 9, 43, 180, 0, 9, 184, 2, 138, 172]
abbrev dktJ2_indexOf_2 : List UInt8 := dkwJ2_indexOf_2 ++ []
def dkwJ2_indexOf_1 : List UInt8 := [43, 180, 0, 9, 184, 2, 135, 167, 0, 14, 42, 180, 0, 9, 43, 180, 0, 9, 184, 2, 137, 172, 28]
abbrev dktJ2_indexOf_1 : List UInt8 := dkwJ2_indexOf_1 ++ dktJ2_indexOf_2
def dkwJ2_indexOf_0 : List UInt8 := [42, 182, 1, 79, 61, 28, 43, 182, 1, 79, 160, 0, 36, 42, 182, 1, 236, 153, 0, 17, 42, 180, 0, 9]
abbrev dktJ2_indexOf_0 : List UInt8 := dkwJ2_indexOf_0 ++ dktJ2_indexOf_1
theorem dksJ2_indexOf_0 : cJ2_indexOf.data.toList.drop 0 = dktJ2_indexOf_0 := by decide +kernel
theorem dksJ2_indexOf_1 : cJ2_indexOf.data.toList.drop 24 = dktJ2_indexOf_1 := dk_seg dksJ2_indexOf_0 24 rfl rfl
theorem dksJ2_indexOf_2 : cJ2_indexOf.data.toList.drop 47 = dktJ2_indexOf_2 := dk_seg dksJ2_indexOf_1 23 rfl rfl
theorem dJ2_indexOf_0 : decode cJ2_indexOf 0 = .ok (.aload_n 0, 1) := dk_42 (dk_at dksJ2_indexOf_0 0 rfl rfl)
theorem dJ2_indexOf_1 : decode cJ2_indexOf 1 = .ok (.invokevirtual 335, 3) := dk_182 1 79 (dk_at dksJ2_indexOf_0 1 rfl rfl)
theorem dJ2_indexOf_4 : decode cJ2_indexOf 4 = .ok (.istore_n 2, 1) := dk_61 (dk_at dksJ2_indexOf_0 4 rfl rfl)
theorem dJ2_indexOf_5 : decode cJ2_indexOf 5 = .ok (.iload_n 2, 1) := dk_28 (dk_at dksJ2_indexOf_0 5 rfl rfl)
theorem dJ2_indexOf_6 : decode cJ2_indexOf 6 = .ok (.aload_n 1, 1) := dk_43 (dk_at dksJ2_indexOf_0 6 rfl rfl)
theorem dJ2_indexOf_7 : decode cJ2_indexOf 7 = .ok (.invokevirtual 335, 3) := dk_182 1 79 (dk_at dksJ2_indexOf_0 7 rfl rfl)
theorem dJ2_indexOf_10 : decode cJ2_indexOf 10 = .ok (.if_icmp .ne 36, 3) := dk_160 0 36 (dk_at dksJ2_indexOf_0 10 rfl rfl)
theorem dJ2_indexOf_13 : decode cJ2_indexOf 13 = .ok (.aload_n 0, 1) := dk_42 (dk_at dksJ2_indexOf_0 13 rfl rfl)
theorem dJ2_indexOf_14 : decode cJ2_indexOf 14 = .ok (.invokevirtual 492, 3) := dk_182 1 236 (dk_at dksJ2_indexOf_0 14 rfl rfl)
theorem dJ2_indexOf_17 : decode cJ2_indexOf 17 = .ok (.ifCond .eq 17, 3) := dk_153 0 17 (dk_at dksJ2_indexOf_0 17 rfl rfl)
theorem dJ2_indexOf_20 : decode cJ2_indexOf 20 = .ok (.aload_n 0, 1) := dk_42 (dk_at dksJ2_indexOf_0 20 rfl rfl)
theorem dJ2_indexOf_21 : decode cJ2_indexOf 21 = .ok (.getfield 9, 3) := dk_180 0 9 (dk_at dksJ2_indexOf_0 21 rfl rfl)
theorem dJ2_indexOf_24 : decode cJ2_indexOf 24 = .ok (.aload_n 1, 1) := dk_43 (dk_at dksJ2_indexOf_1 0 rfl rfl)
theorem dJ2_indexOf_25 : decode cJ2_indexOf 25 = .ok (.getfield 9, 3) := dk_180 0 9 (dk_at dksJ2_indexOf_1 1 rfl rfl)
theorem dJ2_indexOf_28 : decode cJ2_indexOf 28 = .ok (.invokestatic 647, 3) := dk_184 2 135 (dk_at dksJ2_indexOf_1 4 rfl rfl)
theorem dJ2_indexOf_31 : decode cJ2_indexOf 31 = .ok (.goto 14, 3) := dk_167 0 14 (dk_at dksJ2_indexOf_1 7 rfl rfl)
theorem dJ2_indexOf_34 : decode cJ2_indexOf 34 = .ok (.aload_n 0, 1) := dk_42 (dk_at dksJ2_indexOf_1 10 rfl rfl)
theorem dJ2_indexOf_35 : decode cJ2_indexOf 35 = .ok (.getfield 9, 3) := dk_180 0 9 (dk_at dksJ2_indexOf_1 11 rfl rfl)
theorem dJ2_indexOf_38 : decode cJ2_indexOf 38 = .ok (.aload_n 1, 1) := dk_43 (dk_at dksJ2_indexOf_1 14 rfl rfl)
theorem dJ2_indexOf_39 : decode cJ2_indexOf 39 = .ok (.getfield 9, 3) := dk_180 0 9 (dk_at dksJ2_indexOf_1 15 rfl rfl)
theorem dJ2_indexOf_42 : decode cJ2_indexOf 42 = .ok (.invokestatic 649, 3) := dk_184 2 137 (dk_at dksJ2_indexOf_1 18 rfl rfl)
theorem dJ2_indexOf_45 : decode cJ2_indexOf 45 = .ok (.ireturn, 1) := dk_172 (dk_at dksJ2_indexOf_1 21 rfl rfl)
theorem dJ2_indexOf_46 : decode cJ2_indexOf 46 = .ok (.iload_n 2, 1) := dk_28 (dk_at dksJ2_indexOf_1 22 rfl rfl)
theorem dJ2_indexOf_47 : decode cJ2_indexOf 47 = .ok (.ifCond .ne 5, 3) := dk_154 0 5 (dk_at dksJ2_indexOf_2 0 rfl rfl)
theorem dJ2_indexOf_50 : decode cJ2_indexOf 50 = .ok (.iconst (-1), 1) := dk_2 (dk_at dksJ2_indexOf_2 3 rfl rfl)
theorem dJ2_indexOf_51 : decode cJ2_indexOf 51 = .ok (.ireturn, 1) := dk_172 (dk_at dksJ2_indexOf_2 4 rfl rfl)
theorem dJ2_indexOf_52 : decode cJ2_indexOf 52 = .ok (.aload_n 0, 1) := dk_42 (dk_at dksJ2_indexOf_2 5 rfl rfl)
theorem dJ2_indexOf_53 : decode cJ2_indexOf 53 = .ok (.getfield 9, 3) := dk_180 0 9 (dk_at dksJ2_indexOf_2 6 rfl rfl)
theorem dJ2_indexOf_56 : decode cJ2_indexOf 56 = .ok (.aload_n 1, 1) := dk_43 (dk_at dksJ2_indexOf_2 9 rfl rfl)
theorem dJ2_indexOf_57 : decode cJ2_indexOf 57 = .ok (.getfield 9, 3) := dk_180 0 9 (dk_at dksJ2_indexOf_2 10 rfl rfl)
theorem dJ2_indexOf_60 : decode cJ2_indexOf 60 = .ok (.invokestatic 650, 3) := dk_184 2 138 (dk_at dksJ2_indexOf_2 13 rfl rfl)
theorem dJ2_indexOf_63 : decode cJ2_indexOf 63 = .ok (.ireturn, 1) := dk_172 (dk_at dksJ2_indexOf_2 16 rfl rfl)
abbrev cJ2_indexOf_2 : ByteArray := prog_85_method_80_code
def yJ2_indexOf_2 : MethodName := ⟨RJ2, "indexOf", "(II)I"⟩
def dkwJ2_indexOf_2_1 : List UInt8 := [180, 0, 9, 27, 28, 42, 182, 1, 249, 184, 2, 128, 172]
abbrev dktJ2_indexOf_2_1 : List UInt8 := dkwJ2_indexOf_2_1 ++ []
def dkwJ2_indexOf_2_0 : List UInt8 := [42, 182, 1, 236, 153, 0, 19, 42, 180, 0, 9, 27, 28, 42, 182, 1, 249, 184, 2, 125, 167, 0, 16, 42]
abbrev dktJ2_indexOf_2_0 : List UInt8 := dkwJ2_indexOf_2_0 ++ dktJ2_indexOf_2_1
theorem dksJ2_indexOf_2_0 : cJ2_indexOf_2.data.toList.drop 0 = dktJ2_indexOf_2_0 := by decide +kernel
theorem dksJ2_indexOf_2_1 : cJ2_indexOf_2.data.toList.drop 24 = dktJ2_indexOf_2_1 := dk_seg dksJ2_indexOf_2_0 24 rfl rfl
theorem dJ2_indexOf_2_0 : decode cJ2_indexOf_2 0 = .ok (.aload_n 0, 1) := dk_42 (dk_at dksJ2_indexOf_2_0 0 rfl rfl)
theorem dJ2_indexOf_2_1 : decode cJ2_indexOf_2 1 = .ok (.invokevirtual 492, 3) := dk_182 1 236 (dk_at dksJ2_indexOf_2_0 1 rfl rfl)
theorem dJ2_indexOf_2_4 : decode cJ2_indexOf_2 4 = .ok (.ifCond .eq 19, 3) := dk_153 0 19 (dk_at dksJ2_indexOf_2_0 4 rfl rfl)
theorem dJ2_indexOf_2_7 : decode cJ2_indexOf_2 7 = .ok (.aload_n 0, 1) := dk_42 (dk_at dksJ2_indexOf_2_0 7 rfl rfl)
theorem dJ2_indexOf_2_8 : decode cJ2_indexOf_2 8 = .ok (.getfield 9, 3) := dk_180 0 9 (dk_at dksJ2_indexOf_2_0 8 rfl rfl)
theorem dJ2_indexOf_2_11 : decode cJ2_indexOf_2 11 = .ok (.iload_n 1, 1) := dk_27 (dk_at dksJ2_indexOf_2_0 11 rfl rfl)
theorem dJ2_indexOf_2_12 : decode cJ2_indexOf_2 12 = .ok (.iload_n 2, 1) := dk_28 (dk_at dksJ2_indexOf_2_0 12 rfl rfl)
theorem dJ2_indexOf_2_13 : decode cJ2_indexOf_2 13 = .ok (.aload_n 0, 1) := dk_42 (dk_at dksJ2_indexOf_2_0 13 rfl rfl)
theorem dJ2_indexOf_2_14 : decode cJ2_indexOf_2 14 = .ok (.invokevirtual 505, 3) := dk_182 1 249 (dk_at dksJ2_indexOf_2_0 14 rfl rfl)
theorem dJ2_indexOf_2_17 : decode cJ2_indexOf_2 17 = .ok (.invokestatic 637, 3) := dk_184 2 125 (dk_at dksJ2_indexOf_2_0 17 rfl rfl)
theorem dJ2_indexOf_2_20 : decode cJ2_indexOf_2 20 = .ok (.goto 16, 3) := dk_167 0 16 (dk_at dksJ2_indexOf_2_0 20 rfl rfl)
theorem dJ2_indexOf_2_23 : decode cJ2_indexOf_2 23 = .ok (.aload_n 0, 1) := dk_42 (dk_at dksJ2_indexOf_2_0 23 rfl rfl)
theorem dJ2_indexOf_2_24 : decode cJ2_indexOf_2 24 = .ok (.getfield 9, 3) := dk_180 0 9 (dk_at dksJ2_indexOf_2_1 0 rfl rfl)
theorem dJ2_indexOf_2_27 : decode cJ2_indexOf_2 27 = .ok (.iload_n 1, 1) := dk_27 (dk_at dksJ2_indexOf_2_1 3 rfl rfl)
theorem dJ2_indexOf_2_28 : decode cJ2_indexOf_2 28 = .ok (.iload_n 2, 1) := dk_28 (dk_at dksJ2_indexOf_2_1 4 rfl rfl)
theorem dJ2_indexOf_2_29 : decode cJ2_indexOf_2 29 = .ok (.aload_n 0, 1) := dk_42 (dk_at dksJ2_indexOf_2_1 5 rfl rfl)
theorem dJ2_indexOf_2_30 : decode cJ2_indexOf_2 30 = .ok (.invokevirtual 505, 3) := dk_182 1 249 (dk_at dksJ2_indexOf_2_1 6 rfl rfl)
theorem dJ2_indexOf_2_33 : decode cJ2_indexOf_2 33 = .ok (.invokestatic 640, 3) := dk_184 2 128 (dk_at dksJ2_indexOf_2_1 9 rfl rfl)
theorem dJ2_indexOf_2_36 : decode cJ2_indexOf_2 36 = .ok (.ireturn, 1) := dk_172 (dk_at dksJ2_indexOf_2_1 12 rfl rfl)
abbrev cJ2_indexOf_3 : ByteArray := prog_85_method_79_code
def yJ2_indexOf_3 : MethodName := ⟨RJ2, "indexOf", "(I)I"⟩
def dkwJ2_indexOf_3_0 : List UInt8 := [42, 27, 3, 182, 2, 121, 172]
abbrev dktJ2_indexOf_3_0 : List UInt8 := dkwJ2_indexOf_3_0 ++ []
theorem dksJ2_indexOf_3_0 : cJ2_indexOf_3.data.toList.drop 0 = dktJ2_indexOf_3_0 := by decide +kernel
theorem dJ2_indexOf_3_0 : decode cJ2_indexOf_3 0 = .ok (.aload_n 0, 1) := dk_42 (dk_at dksJ2_indexOf_3_0 0 rfl rfl)
theorem dJ2_indexOf_3_1 : decode cJ2_indexOf_3 1 = .ok (.iload_n 1, 1) := dk_27 (dk_at dksJ2_indexOf_3_0 1 rfl rfl)
theorem dJ2_indexOf_3_2 : decode cJ2_indexOf_3 2 = .ok (.iconst 0, 1) := dk_3 (dk_at dksJ2_indexOf_3_0 2 rfl rfl)
theorem dJ2_indexOf_3_3 : decode cJ2_indexOf_3 3 = .ok (.invokevirtual 633, 3) := dk_182 2 121 (dk_at dksJ2_indexOf_3_0 3 rfl rfl)
theorem dJ2_indexOf_3_6 : decode cJ2_indexOf_3 6 = .ok (.ireturn, 1) := dk_172 (dk_at dksJ2_indexOf_3_0 6 rfl rfl)
abbrev cJ2_startsWith_2 : ByteArray := prog_85_method_76_code
def yJ2_startsWith_2 : MethodName := ⟨RJ2, "startsWith", "(Ljava/lang/String;)Z"⟩
def dkwJ2_startsWith_2_0 : List UInt8 := [42, 43, 3, 182, 2, 112, 172]
abbrev dktJ2_startsWith_2_0 : List UInt8 := dkwJ2_startsWith_2_0 ++ []
theorem dksJ2_startsWith_2_0 : cJ2_startsWith_2.data.toList.drop 0 = dktJ2_startsWith_2_0 := by decide +kernel
theorem dJ2_startsWith_2_0 : decode cJ2_startsWith_2 0 = .ok (.aload_n 0, 1) := dk_42 (dk_at dksJ2_startsWith_2_0 0 rfl rfl)
theorem dJ2_startsWith_2_1 : decode cJ2_startsWith_2 1 = .ok (.aload_n 1, 1) := dk_43 (dk_at dksJ2_startsWith_2_0 1 rfl rfl)
theorem dJ2_startsWith_2_2 : decode cJ2_startsWith_2 2 = .ok (.iconst 0, 1) := dk_3 (dk_at dksJ2_startsWith_2_0 2 rfl rfl)
theorem dJ2_startsWith_2_3 : decode cJ2_startsWith_2 3 = .ok (.invokevirtual 624, 3) := dk_182 2 112 (dk_at dksJ2_startsWith_2_0 3 rfl rfl)
theorem dJ2_startsWith_2_6 : decode cJ2_startsWith_2 6 = .ok (.ireturn, 1) := dk_172 (dk_at dksJ2_startsWith_2_0 6 rfl rfl)

abbrev cJ20_init : ByteArray := prog_77_method_2_code
def yJ20_init : MethodName := ⟨RJ20, "<init>", "(Ljava/lang/String;)V"⟩
def dkwJ20_init_0 : List UInt8 := [42, 43, 183, 0, 7, 177]
abbrev dktJ20_init_0 : List UInt8 := dkwJ20_init_0 ++ []
theorem dksJ20_init_0 : cJ20_init.data.toList.drop 0 = dktJ20_init_0 := by decide +kernel
theorem dJ20_init_0 : decode cJ20_init 0 = .ok (.aload_n 0, 1) := dk_42 (dk_at dksJ20_init_0 0 rfl rfl)
theorem dJ20_init_1 : decode cJ20_init 1 = .ok (.aload_n 1, 1) := dk_43 (dk_at dksJ20_init_0 1 rfl rfl)
theorem dJ20_init_2 : decode cJ20_init 2 = .ok (.invokespecial 7, 3) := dk_183 0 7 (dk_at dksJ20_init_0 2 rfl rfl)
theorem dJ20_init_5 : decode cJ20_init 5 = .ok (.return_, 1) := dk_177 (dk_at dksJ20_init_0 5 rfl rfl)
abbrev cJ20_init_2 : ByteArray := prog_77_method_1_code
def yJ20_init_2 : MethodName := ⟨RJ20, "<init>", "()V"⟩
theorem dJ20_init_2_0 : decode cJ20_init_2 0 = .ok (.aload_n 0, 1) := by decide +kernel
theorem dJ20_init_2_1 : decode cJ20_init_2 1 = .ok (.invokespecial 1, 3) := by decide +kernel
theorem dJ20_init_2_4 : decode cJ20_init_2 4 = .ok (.return_, 1) := by decide +kernel

abbrev cJ21_init : ByteArray := prog_87_method_3_code
def yJ21_init : MethodName := ⟨RJ21, "<init>", "(I)V"⟩
def dkwJ21_init_0 : List UInt8 := [42, 187, 0, 10, 89, 183, 0, 12, 18, 13, 182, 0, 15, 27, 182, 0, 19, 182, 0, 22, 183, 0, 7, 177]
abbrev dktJ21_init_0 : List UInt8 := dkwJ21_init_0 ++ []
theorem dksJ21_init_0 : cJ21_init.data.toList.drop 0 = dktJ21_init_0 := by decide +kernel
theorem dJ21_init_0 : decode cJ21_init 0 = .ok (.aload_n 0, 1) := dk_42 (dk_at dksJ21_init_0 0 rfl rfl)
theorem dJ21_init_1 : decode cJ21_init 1 = .ok (.new 10, 3) := dk_187 0 10 (dk_at dksJ21_init_0 1 rfl rfl)
theorem dJ21_init_4 : decode cJ21_init 4 = .ok (.dup, 1) := dk_89 (dk_at dksJ21_init_0 4 rfl rfl)
theorem dJ21_init_5 : decode cJ21_init 5 = .ok (.invokespecial 12, 3) := dk_183 0 12 (dk_at dksJ21_init_0 5 rfl rfl)
theorem dJ21_init_8 : decode cJ21_init 8 = .ok (.ldc 13, 2) := dk_18 13 (dk_at dksJ21_init_0 8 rfl rfl)
theorem dJ21_init_10 : decode cJ21_init 10 = .ok (.invokevirtual 15, 3) := dk_182 0 15 (dk_at dksJ21_init_0 10 rfl rfl)
theorem dJ21_init_13 : decode cJ21_init 13 = .ok (.iload_n 1, 1) := dk_27 (dk_at dksJ21_init_0 13 rfl rfl)
theorem dJ21_init_14 : decode cJ21_init 14 = .ok (.invokevirtual 19, 3) := dk_182 0 19 (dk_at dksJ21_init_0 14 rfl rfl)
theorem dJ21_init_17 : decode cJ21_init 17 = .ok (.invokevirtual 22, 3) := dk_182 0 22 (dk_at dksJ21_init_0 17 rfl rfl)
theorem dJ21_init_20 : decode cJ21_init 20 = .ok (.invokespecial 7, 3) := dk_183 0 7 (dk_at dksJ21_init_0 20 rfl rfl)
theorem dJ21_init_23 : decode cJ21_init 23 = .ok (.return_, 1) := dk_177 (dk_at dksJ21_init_0 23 rfl rfl)

abbrev cJ22_init : ByteArray := prog_68_method_3_code
def yJ22_init : MethodName := ⟨RJ22, "<init>", "(I)V"⟩
def dkwJ22_init_0 : List UInt8 := [42, 187, 0, 10, 89, 183, 0, 12, 18, 13, 182, 0, 15, 27, 182, 0, 19, 182, 0, 22, 183, 0, 7, 177]
abbrev dktJ22_init_0 : List UInt8 := dkwJ22_init_0 ++ []
theorem dksJ22_init_0 : cJ22_init.data.toList.drop 0 = dktJ22_init_0 := by decide +kernel
theorem dJ22_init_0 : decode cJ22_init 0 = .ok (.aload_n 0, 1) := dk_42 (dk_at dksJ22_init_0 0 rfl rfl)
theorem dJ22_init_1 : decode cJ22_init 1 = .ok (.new 10, 3) := dk_187 0 10 (dk_at dksJ22_init_0 1 rfl rfl)
theorem dJ22_init_4 : decode cJ22_init 4 = .ok (.dup, 1) := dk_89 (dk_at dksJ22_init_0 4 rfl rfl)
theorem dJ22_init_5 : decode cJ22_init 5 = .ok (.invokespecial 12, 3) := dk_183 0 12 (dk_at dksJ22_init_0 5 rfl rfl)
theorem dJ22_init_8 : decode cJ22_init 8 = .ok (.ldc 13, 2) := dk_18 13 (dk_at dksJ22_init_0 8 rfl rfl)
theorem dJ22_init_10 : decode cJ22_init 10 = .ok (.invokevirtual 15, 3) := dk_182 0 15 (dk_at dksJ22_init_0 10 rfl rfl)
theorem dJ22_init_13 : decode cJ22_init 13 = .ok (.iload_n 1, 1) := dk_27 (dk_at dksJ22_init_0 13 rfl rfl)
theorem dJ22_init_14 : decode cJ22_init 14 = .ok (.invokevirtual 19, 3) := dk_182 0 19 (dk_at dksJ22_init_0 14 rfl rfl)
theorem dJ22_init_17 : decode cJ22_init 17 = .ok (.invokevirtual 22, 3) := dk_182 0 22 (dk_at dksJ22_init_0 17 rfl rfl)
theorem dJ22_init_20 : decode cJ22_init 20 = .ok (.invokespecial 7, 3) := dk_183 0 7 (dk_at dksJ22_init_0 20 rfl rfl)
theorem dJ22_init_23 : decode cJ22_init 23 = .ok (.return_, 1) := dk_177 (dk_at dksJ22_init_0 23 rfl rfl)
abbrev cJ22_init_2 : ByteArray := prog_68_method_2_code
def yJ22_init_2 : MethodName := ⟨RJ22, "<init>", "(Ljava/lang/String;)V"⟩
def dkwJ22_init_2_0 : List UInt8 := [42, 43, 183, 0, 7, 177]
abbrev dktJ22_init_2_0 : List UInt8 := dkwJ22_init_2_0 ++ []
theorem dksJ22_init_2_0 : cJ22_init_2.data.toList.drop 0 = dktJ22_init_2_0 := by decide +kernel
theorem dJ22_init_2_0 : decode cJ22_init_2 0 = .ok (.aload_n 0, 1) := dk_42 (dk_at dksJ22_init_2_0 0 rfl rfl)
theorem dJ22_init_2_1 : decode cJ22_init_2 1 = .ok (.aload_n 1, 1) := dk_43 (dk_at dksJ22_init_2_0 1 rfl rfl)
theorem dJ22_init_2_2 : decode cJ22_init_2 2 = .ok (.invokespecial 7, 3) := dk_183 0 7 (dk_at dksJ22_init_2_0 2 rfl rfl)
theorem dJ22_init_2_5 : decode cJ22_init_2 5 = .ok (.return_, 1) := dk_177 (dk_at dksJ22_init_2_0 5 rfl rfl)

abbrev cJ23_checkIndex : ByteArray := prog_110_method_17_code
def yJ23_checkIndex : MethodName := ⟨RJ23, "checkIndex", "(II)I"⟩
def dkwJ23_checkIndex_0 : List UInt8 := [26, 27, 1, 184, 0, 105, 172]
abbrev dktJ23_checkIndex_0 : List UInt8 := dkwJ23_checkIndex_0 ++ []
theorem dksJ23_checkIndex_0 : cJ23_checkIndex.data.toList.drop 0 = dktJ23_checkIndex_0 := by decide +kernel
theorem dJ23_checkIndex_0 : decode cJ23_checkIndex 0 = .ok (.iload_n 0, 1) := dk_26 (dk_at dksJ23_checkIndex_0 0 rfl rfl)
theorem dJ23_checkIndex_1 : decode cJ23_checkIndex 1 = .ok (.iload_n 1, 1) := dk_27 (dk_at dksJ23_checkIndex_0 1 rfl rfl)
theorem dJ23_checkIndex_2 : decode cJ23_checkIndex 2 = .ok (.aconst_null, 1) := dk_1 (dk_at dksJ23_checkIndex_0 2 rfl rfl)
theorem dJ23_checkIndex_3 : decode cJ23_checkIndex 3 = .ok (.invokestatic 105, 3) := dk_184 0 105 (dk_at dksJ23_checkIndex_0 3 rfl rfl)
theorem dJ23_checkIndex_6 : decode cJ23_checkIndex 6 = .ok (.ireturn, 1) := dk_172 (dk_at dksJ23_checkIndex_0 6 rfl rfl)

abbrev cJ25_isValidCodePoint : ByteArray := prog_70_method_11_code
def yJ25_isValidCodePoint : MethodName := ⟨RJ25, "isValidCodePoint", "(I)Z"⟩
def dkwJ25_isValidCodePoint_0 : List UInt8 := [26, 16, 16, 124, 60, 27, 16, 17, 162, 0, 7, 4, 167, 0, 4, 3, 172]
abbrev dktJ25_isValidCodePoint_0 : List UInt8 := dkwJ25_isValidCodePoint_0 ++ []
theorem dksJ25_isValidCodePoint_0 : cJ25_isValidCodePoint.data.toList.drop 0 = dktJ25_isValidCodePoint_0 := by decide +kernel
theorem dJ25_isValidCodePoint_0 : decode cJ25_isValidCodePoint 0 = .ok (.iload_n 0, 1) := dk_26 (dk_at dksJ25_isValidCodePoint_0 0 rfl rfl)
theorem dJ25_isValidCodePoint_1 : decode cJ25_isValidCodePoint 1 = .ok (.bipush 16, 2) := dk_16 16 (dk_at dksJ25_isValidCodePoint_0 1 rfl rfl)
theorem dJ25_isValidCodePoint_3 : decode cJ25_isValidCodePoint 3 = .ok (.iushr, 1) := dk_124 (dk_at dksJ25_isValidCodePoint_0 3 rfl rfl)
theorem dJ25_isValidCodePoint_4 : decode cJ25_isValidCodePoint 4 = .ok (.istore_n 1, 1) := dk_60 (dk_at dksJ25_isValidCodePoint_0 4 rfl rfl)
theorem dJ25_isValidCodePoint_5 : decode cJ25_isValidCodePoint 5 = .ok (.iload_n 1, 1) := dk_27 (dk_at dksJ25_isValidCodePoint_0 5 rfl rfl)
theorem dJ25_isValidCodePoint_6 : decode cJ25_isValidCodePoint 6 = .ok (.bipush 17, 2) := dk_16 17 (dk_at dksJ25_isValidCodePoint_0 6 rfl rfl)
theorem dJ25_isValidCodePoint_8 : decode cJ25_isValidCodePoint 8 = .ok (.if_icmp .ge 7, 3) := dk_162 0 7 (dk_at dksJ25_isValidCodePoint_0 8 rfl rfl)
theorem dJ25_isValidCodePoint_11 : decode cJ25_isValidCodePoint 11 = .ok (.iconst 1, 1) := dk_4 (dk_at dksJ25_isValidCodePoint_0 11 rfl rfl)
theorem dJ25_isValidCodePoint_12 : decode cJ25_isValidCodePoint 12 = .ok (.goto 4, 3) := dk_167 0 4 (dk_at dksJ25_isValidCodePoint_0 12 rfl rfl)
theorem dJ25_isValidCodePoint_15 : decode cJ25_isValidCodePoint 15 = .ok (.iconst 0, 1) := dk_3 (dk_at dksJ25_isValidCodePoint_0 15 rfl rfl)
theorem dJ25_isValidCodePoint_16 : decode cJ25_isValidCodePoint 16 = .ok (.ireturn, 1) := dk_172 (dk_at dksJ25_isValidCodePoint_0 16 rfl rfl)
abbrev cJ25_highSurrogate : ByteArray := prog_70_method_28_code
def yJ25_highSurrogate : MethodName := ⟨RJ25, "highSurrogate", "(I)C"⟩
def dkwJ25_highSurrogate_0 : List UInt8 := [26, 16, 10, 124, 18, 110, 96, 146, 172]
abbrev dktJ25_highSurrogate_0 : List UInt8 := dkwJ25_highSurrogate_0 ++ []
theorem dksJ25_highSurrogate_0 : cJ25_highSurrogate.data.toList.drop 0 = dktJ25_highSurrogate_0 := by decide +kernel
theorem dJ25_highSurrogate_0 : decode cJ25_highSurrogate 0 = .ok (.iload_n 0, 1) := dk_26 (dk_at dksJ25_highSurrogate_0 0 rfl rfl)
theorem dJ25_highSurrogate_1 : decode cJ25_highSurrogate 1 = .ok (.bipush 10, 2) := dk_16 10 (dk_at dksJ25_highSurrogate_0 1 rfl rfl)
theorem dJ25_highSurrogate_3 : decode cJ25_highSurrogate 3 = .ok (.iushr, 1) := dk_124 (dk_at dksJ25_highSurrogate_0 3 rfl rfl)
theorem dJ25_highSurrogate_4 : decode cJ25_highSurrogate 4 = .ok (.ldc 110, 2) := dk_18 110 (dk_at dksJ25_highSurrogate_0 4 rfl rfl)
theorem dJ25_highSurrogate_6 : decode cJ25_highSurrogate 6 = .ok (.iadd, 1) := dk_96 (dk_at dksJ25_highSurrogate_0 6 rfl rfl)
theorem dJ25_highSurrogate_7 : decode cJ25_highSurrogate 7 = .ok (.i2c, 1) := dk_146 (dk_at dksJ25_highSurrogate_0 7 rfl rfl)
theorem dJ25_highSurrogate_8 : decode cJ25_highSurrogate 8 = .ok (.ireturn, 1) := dk_172 (dk_at dksJ25_highSurrogate_0 8 rfl rfl)
abbrev cJ25_lowSurrogate : ByteArray := prog_70_method_29_code
def yJ25_lowSurrogate : MethodName := ⟨RJ25, "lowSurrogate", "(I)C"⟩
def dkwJ25_lowSurrogate_0 : List UInt8 := [26, 17, 3, 255, 126, 18, 76, 96, 146, 172]
abbrev dktJ25_lowSurrogate_0 : List UInt8 := dkwJ25_lowSurrogate_0 ++ []
theorem dksJ25_lowSurrogate_0 : cJ25_lowSurrogate.data.toList.drop 0 = dktJ25_lowSurrogate_0 := by decide +kernel
theorem dJ25_lowSurrogate_0 : decode cJ25_lowSurrogate 0 = .ok (.iload_n 0, 1) := dk_26 (dk_at dksJ25_lowSurrogate_0 0 rfl rfl)
theorem dJ25_lowSurrogate_1 : decode cJ25_lowSurrogate 1 = .ok (.sipush 1023, 3) := dk_17 3 255 (dk_at dksJ25_lowSurrogate_0 1 rfl rfl)
theorem dJ25_lowSurrogate_4 : decode cJ25_lowSurrogate 4 = .ok (.iand, 1) := dk_126 (dk_at dksJ25_lowSurrogate_0 4 rfl rfl)
theorem dJ25_lowSurrogate_5 : decode cJ25_lowSurrogate 5 = .ok (.ldc 76, 2) := dk_18 76 (dk_at dksJ25_lowSurrogate_0 5 rfl rfl)
theorem dJ25_lowSurrogate_7 : decode cJ25_lowSurrogate 7 = .ok (.iadd, 1) := dk_96 (dk_at dksJ25_lowSurrogate_0 7 rfl rfl)
theorem dJ25_lowSurrogate_8 : decode cJ25_lowSurrogate 8 = .ok (.i2c, 1) := dk_146 (dk_at dksJ25_lowSurrogate_0 8 rfl rfl)
theorem dJ25_lowSurrogate_9 : decode cJ25_lowSurrogate 9 = .ok (.ireturn, 1) := dk_172 (dk_at dksJ25_lowSurrogate_0 9 rfl rfl)

abbrev cJ28_init : ByteArray := prog_103_method_1_code
def yJ28_init : MethodName := ⟨RJ28, "<init>", "(ILjava/lang/Object;Ljava/lang/Object;Ljava/util/HashMap$Node;)V"⟩
def dkwJ28_init_1 : List UInt8 := [181, 0, 20, 177]
abbrev dktJ28_init_1 : List UInt8 := dkwJ28_init_1 ++ []
def dkwJ28_init_0 : List UInt8 := [42, 183, 0, 1, 42, 27, 181, 0, 7, 42, 44, 181, 0, 13, 42, 45, 181, 0, 17, 42, 25, 4]
abbrev dktJ28_init_0 : List UInt8 := dkwJ28_init_0 ++ dktJ28_init_1
theorem dksJ28_init_0 : cJ28_init.data.toList.drop 0 = dktJ28_init_0 := by decide +kernel
theorem dksJ28_init_1 : cJ28_init.data.toList.drop 22 = dktJ28_init_1 := dk_seg dksJ28_init_0 22 rfl rfl
theorem dJ28_init_0 : decode cJ28_init 0 = .ok (.aload_n 0, 1) := dk_42 (dk_at dksJ28_init_0 0 rfl rfl)
theorem dJ28_init_1 : decode cJ28_init 1 = .ok (.invokespecial 1, 3) := dk_183 0 1 (dk_at dksJ28_init_0 1 rfl rfl)
theorem dJ28_init_4 : decode cJ28_init 4 = .ok (.aload_n 0, 1) := dk_42 (dk_at dksJ28_init_0 4 rfl rfl)
theorem dJ28_init_5 : decode cJ28_init 5 = .ok (.iload_n 1, 1) := dk_27 (dk_at dksJ28_init_0 5 rfl rfl)
theorem dJ28_init_6 : decode cJ28_init 6 = .ok (.putfield 7, 3) := dk_181 0 7 (dk_at dksJ28_init_0 6 rfl rfl)
theorem dJ28_init_9 : decode cJ28_init 9 = .ok (.aload_n 0, 1) := dk_42 (dk_at dksJ28_init_0 9 rfl rfl)
theorem dJ28_init_10 : decode cJ28_init 10 = .ok (.aload_n 2, 1) := dk_44 (dk_at dksJ28_init_0 10 rfl rfl)
theorem dJ28_init_11 : decode cJ28_init 11 = .ok (.putfield 13, 3) := dk_181 0 13 (dk_at dksJ28_init_0 11 rfl rfl)
theorem dJ28_init_14 : decode cJ28_init 14 = .ok (.aload_n 0, 1) := dk_42 (dk_at dksJ28_init_0 14 rfl rfl)
theorem dJ28_init_15 : decode cJ28_init 15 = .ok (.aload_n 3, 1) := dk_45 (dk_at dksJ28_init_0 15 rfl rfl)
theorem dJ28_init_16 : decode cJ28_init 16 = .ok (.putfield 17, 3) := dk_181 0 17 (dk_at dksJ28_init_0 16 rfl rfl)
theorem dJ28_init_19 : decode cJ28_init 19 = .ok (.aload_n 0, 1) := dk_42 (dk_at dksJ28_init_0 19 rfl rfl)
theorem dJ28_init_20 : decode cJ28_init 20 = .ok (.aload 4, 2) := dk_25 4 (dk_at dksJ28_init_0 20 rfl rfl)
theorem dJ28_init_22 : decode cJ28_init 22 = .ok (.putfield 20, 3) := dk_181 0 20 (dk_at dksJ28_init_1 0 rfl rfl)
theorem dJ28_init_25 : decode cJ28_init 25 = .ok (.return_, 1) := dk_177 (dk_at dksJ28_init_1 3 rfl rfl)

abbrev cJ29_init : ByteArray := prog_106_method_1_code
def yJ29_init : MethodName := ⟨RJ29, "<init>", "(ILjava/lang/Object;Ljava/lang/Object;Ljava/util/HashMap$Node;)V"⟩
def dkwJ29_init_0 : List UInt8 := [42, 27, 44, 45, 25, 4, 183, 0, 1, 177]
abbrev dktJ29_init_0 : List UInt8 := dkwJ29_init_0 ++ []
theorem dksJ29_init_0 : cJ29_init.data.toList.drop 0 = dktJ29_init_0 := by decide +kernel
theorem dJ29_init_0 : decode cJ29_init 0 = .ok (.aload_n 0, 1) := dk_42 (dk_at dksJ29_init_0 0 rfl rfl)
theorem dJ29_init_1 : decode cJ29_init 1 = .ok (.iload_n 1, 1) := dk_27 (dk_at dksJ29_init_0 1 rfl rfl)
theorem dJ29_init_2 : decode cJ29_init 2 = .ok (.aload_n 2, 1) := dk_44 (dk_at dksJ29_init_0 2 rfl rfl)
theorem dJ29_init_3 : decode cJ29_init 3 = .ok (.aload_n 3, 1) := dk_45 (dk_at dksJ29_init_0 3 rfl rfl)
theorem dJ29_init_4 : decode cJ29_init 4 = .ok (.aload 4, 2) := dk_25 4 (dk_at dksJ29_init_0 4 rfl rfl)
theorem dJ29_init_6 : decode cJ29_init 6 = .ok (.invokespecial 1, 3) := dk_183 0 1 (dk_at dksJ29_init_0 6 rfl rfl)
theorem dJ29_init_9 : decode cJ29_init 9 = .ok (.return_, 1) := dk_177 (dk_at dksJ29_init_0 9 rfl rfl)

abbrev cJ3_newBytesFor : ByteArray := prog_89_method_2_code
def yJ3_newBytesFor : MethodName := ⟨RJ3, "newBytesFo\x72", "(I)[B"⟩
def dkwJ3_newBytesFor_0 : List UInt8 := [26, 184, 0, 11, 188, 8, 176]
abbrev dktJ3_newBytesFor_0 : List UInt8 := dkwJ3_newBytesFor_0 ++ []
theorem dksJ3_newBytesFor_0 : cJ3_newBytesFor.data.toList.drop 0 = dktJ3_newBytesFor_0 := by decide +kernel
theorem dJ3_newBytesFor_0 : decode cJ3_newBytesFor 0 = .ok (.iload_n 0, 1) := dk_26 (dk_at dksJ3_newBytesFor_0 0 rfl rfl)
theorem dJ3_newBytesFor_1 : decode cJ3_newBytesFor 1 = .ok (.invokestatic 11, 3) := dk_184 0 11 (dk_at dksJ3_newBytesFor_0 1 rfl rfl)
theorem dJ3_newBytesFor_4 : decode cJ3_newBytesFor 4 = .ok (.newarray .byte, 2) := dk_188_8 (dk_at dksJ3_newBytesFor_0 4 rfl rfl)
theorem dJ3_newBytesFor_6 : decode cJ3_newBytesFor 6 = .ok (.areturn, 1) := dk_176 (dk_at dksJ3_newBytesFor_0 6 rfl rfl)
abbrev cJ3_newBytesLength : ByteArray := prog_89_method_3_code
def yJ3_newBytesLength : MethodName := ⟨RJ3, "newBytesLength", "(I)I"⟩
def dkwJ3_newBytesLength_2 : List UInt8 := [182, 0, 32, 182, 0, 37, 183, 0, 41, 191, 26, 4, 120, 172]
abbrev dktJ3_newBytesLength_2 : List UInt8 := dkwJ3_newBytesLength_2 ++ []
def dkwJ3_newBytesLength_1 : List UInt8 := [187, 0, 23, 89, 183, 0, 25, 18, 26, 182, 0, 28, 26, 182, 0, 32, 18, 35, 182, 0, 28, 18, 20]
abbrev dktJ3_newBytesLength_1 : List UInt8 := dkwJ3_newBytesLength_1 ++ dktJ3_newBytesLength_2
def dkwJ3_newBytesLength_0 : List UInt8 := [26, 156, 0, 11, 187, 0, 17, 89, 183, 0, 19, 191, 26, 18, 20, 161, 0, 40, 187, 0, 21, 89]
abbrev dktJ3_newBytesLength_0 : List UInt8 := dkwJ3_newBytesLength_0 ++ dktJ3_newBytesLength_1
theorem dksJ3_newBytesLength_0 : cJ3_newBytesLength.data.toList.drop 0 = dktJ3_newBytesLength_0 := by decide +kernel
theorem dksJ3_newBytesLength_1 : cJ3_newBytesLength.data.toList.drop 22 = dktJ3_newBytesLength_1 := dk_seg dksJ3_newBytesLength_0 22 rfl rfl
theorem dksJ3_newBytesLength_2 : cJ3_newBytesLength.data.toList.drop 45 = dktJ3_newBytesLength_2 := dk_seg dksJ3_newBytesLength_1 23 rfl rfl
theorem dJ3_newBytesLength_0 : decode cJ3_newBytesLength 0 = .ok (.iload_n 0, 1) := dk_26 (dk_at dksJ3_newBytesLength_0 0 rfl rfl)
theorem dJ3_newBytesLength_1 : decode cJ3_newBytesLength 1 = .ok (.ifCond .ge 11, 3) := dk_156 0 11 (dk_at dksJ3_newBytesLength_0 1 rfl rfl)
theorem dJ3_newBytesLength_4 : decode cJ3_newBytesLength 4 = .ok (.new 17, 3) := dk_187 0 17 (dk_at dksJ3_newBytesLength_0 4 rfl rfl)
theorem dJ3_newBytesLength_7 : decode cJ3_newBytesLength 7 = .ok (.dup, 1) := dk_89 (dk_at dksJ3_newBytesLength_0 7 rfl rfl)
theorem dJ3_newBytesLength_8 : decode cJ3_newBytesLength 8 = .ok (.invokespecial 19, 3) := dk_183 0 19 (dk_at dksJ3_newBytesLength_0 8 rfl rfl)
theorem dJ3_newBytesLength_11 : decode cJ3_newBytesLength 11 = .ok (.athrow, 1) := dk_191 (dk_at dksJ3_newBytesLength_0 11 rfl rfl)
theorem dJ3_newBytesLength_12 : decode cJ3_newBytesLength 12 = .ok (.iload_n 0, 1) := dk_26 (dk_at dksJ3_newBytesLength_0 12 rfl rfl)
theorem dJ3_newBytesLength_13 : decode cJ3_newBytesLength 13 = .ok (.ldc 20, 2) := dk_18 20 (dk_at dksJ3_newBytesLength_0 13 rfl rfl)
theorem dJ3_newBytesLength_15 : decode cJ3_newBytesLength 15 = .ok (.if_icmp .lt 40, 3) := dk_161 0 40 (dk_at dksJ3_newBytesLength_0 15 rfl rfl)
theorem dJ3_newBytesLength_18 : decode cJ3_newBytesLength 18 = .ok (.new 21, 3) := dk_187 0 21 (dk_at dksJ3_newBytesLength_0 18 rfl rfl)
theorem dJ3_newBytesLength_21 : decode cJ3_newBytesLength 21 = .ok (.dup, 1) := dk_89 (dk_at dksJ3_newBytesLength_0 21 rfl rfl)
theorem dJ3_newBytesLength_22 : decode cJ3_newBytesLength 22 = .ok (.new 23, 3) := dk_187 0 23 (dk_at dksJ3_newBytesLength_1 0 rfl rfl)
theorem dJ3_newBytesLength_25 : decode cJ3_newBytesLength 25 = .ok (.dup, 1) := dk_89 (dk_at dksJ3_newBytesLength_1 3 rfl rfl)
theorem dJ3_newBytesLength_26 : decode cJ3_newBytesLength 26 = .ok (.invokespecial 25, 3) := dk_183 0 25 (dk_at dksJ3_newBytesLength_1 4 rfl rfl)
theorem dJ3_newBytesLength_29 : decode cJ3_newBytesLength 29 = .ok (.ldc 26, 2) := dk_18 26 (dk_at dksJ3_newBytesLength_1 7 rfl rfl)
theorem dJ3_newBytesLength_31 : decode cJ3_newBytesLength 31 = .ok (.invokevirtual 28, 3) := dk_182 0 28 (dk_at dksJ3_newBytesLength_1 9 rfl rfl)
theorem dJ3_newBytesLength_34 : decode cJ3_newBytesLength 34 = .ok (.iload_n 0, 1) := dk_26 (dk_at dksJ3_newBytesLength_1 12 rfl rfl)
theorem dJ3_newBytesLength_35 : decode cJ3_newBytesLength 35 = .ok (.invokevirtual 32, 3) := dk_182 0 32 (dk_at dksJ3_newBytesLength_1 13 rfl rfl)
theorem dJ3_newBytesLength_38 : decode cJ3_newBytesLength 38 = .ok (.ldc 35, 2) := dk_18 35 (dk_at dksJ3_newBytesLength_1 16 rfl rfl)
theorem dJ3_newBytesLength_40 : decode cJ3_newBytesLength 40 = .ok (.invokevirtual 28, 3) := dk_182 0 28 (dk_at dksJ3_newBytesLength_1 18 rfl rfl)
theorem dJ3_newBytesLength_43 : decode cJ3_newBytesLength 43 = .ok (.ldc 20, 2) := dk_18 20 (dk_at dksJ3_newBytesLength_1 21 rfl rfl)
theorem dJ3_newBytesLength_45 : decode cJ3_newBytesLength 45 = .ok (.invokevirtual 32, 3) := dk_182 0 32 (dk_at dksJ3_newBytesLength_2 0 rfl rfl)
theorem dJ3_newBytesLength_48 : decode cJ3_newBytesLength 48 = .ok (.invokevirtual 37, 3) := dk_182 0 37 (dk_at dksJ3_newBytesLength_2 3 rfl rfl)
theorem dJ3_newBytesLength_51 : decode cJ3_newBytesLength 51 = .ok (.invokespecial 41, 3) := dk_183 0 41 (dk_at dksJ3_newBytesLength_2 6 rfl rfl)
theorem dJ3_newBytesLength_54 : decode cJ3_newBytesLength 54 = .ok (.athrow, 1) := dk_191 (dk_at dksJ3_newBytesLength_2 9 rfl rfl)
theorem dJ3_newBytesLength_55 : decode cJ3_newBytesLength 55 = .ok (.iload_n 0, 1) := dk_26 (dk_at dksJ3_newBytesLength_2 10 rfl rfl)
theorem dJ3_newBytesLength_56 : decode cJ3_newBytesLength 56 = .ok (.iconst 1, 1) := dk_4 (dk_at dksJ3_newBytesLength_2 11 rfl rfl)
theorem dJ3_newBytesLength_57 : decode cJ3_newBytesLength 57 = .ok (.ishl, 1) := dk_120 (dk_at dksJ3_newBytesLength_2 12 rfl rfl)
theorem dJ3_newBytesLength_58 : decode cJ3_newBytesLength 58 = .ok (.ireturn, 1) := dk_172 (dk_at dksJ3_newBytesLength_2 13 rfl rfl)
abbrev cJ3_inflate : ByteArray := prog_89_method_86_code
def yJ3_inflate : MethodName := ⟨RJ3, "inflate", "([BI[BII)V"⟩
def dkwJ3_inflate_1 : List UInt8 := [132, 1, 1, 51, 17, 0, 255, 126, 184, 0, 111, 132, 5, 1, 167, 255, 228, 177]
abbrev dktJ3_inflate_1 : List UInt8 := dkwJ3_inflate_1 ++ []
def dkwJ3_inflate_0 : List UInt8 := [29, 21, 4, 44, 184, 0, 173, 3, 54, 5, 21, 5, 21, 4, 162, 0, 27, 44, 29, 132, 3, 1, 42, 27]
abbrev dktJ3_inflate_0 : List UInt8 := dkwJ3_inflate_0 ++ dktJ3_inflate_1
theorem dksJ3_inflate_0 : cJ3_inflate.data.toList.drop 0 = dktJ3_inflate_0 := by decide +kernel
theorem dksJ3_inflate_1 : cJ3_inflate.data.toList.drop 24 = dktJ3_inflate_1 := dk_seg dksJ3_inflate_0 24 rfl rfl
theorem dJ3_inflate_0 : decode cJ3_inflate 0 = .ok (.iload_n 3, 1) := dk_29 (dk_at dksJ3_inflate_0 0 rfl rfl)
theorem dJ3_inflate_1 : decode cJ3_inflate 1 = .ok (.iload 4, 2) := dk_21 4 (dk_at dksJ3_inflate_0 1 rfl rfl)
theorem dJ3_inflate_3 : decode cJ3_inflate 3 = .ok (.aload_n 2, 1) := dk_44 (dk_at dksJ3_inflate_0 3 rfl rfl)
theorem dJ3_inflate_4 : decode cJ3_inflate 4 = .ok (.invokestatic 173, 3) := dk_184 0 173 (dk_at dksJ3_inflate_0 4 rfl rfl)
theorem dJ3_inflate_7 : decode cJ3_inflate 7 = .ok (.iconst 0, 1) := dk_3 (dk_at dksJ3_inflate_0 7 rfl rfl)
theorem dJ3_inflate_8 : decode cJ3_inflate 8 = .ok (.istore 5, 2) := dk_54 5 (dk_at dksJ3_inflate_0 8 rfl rfl)
theorem dJ3_inflate_10 : decode cJ3_inflate 10 = .ok (.iload 5, 2) := dk_21 5 (dk_at dksJ3_inflate_0 10 rfl rfl)
theorem dJ3_inflate_12 : decode cJ3_inflate 12 = .ok (.iload 4, 2) := dk_21 4 (dk_at dksJ3_inflate_0 12 rfl rfl)
theorem dJ3_inflate_14 : decode cJ3_inflate 14 = .ok (.if_icmp .ge 27, 3) := dk_162 0 27 (dk_at dksJ3_inflate_0 14 rfl rfl)
theorem dJ3_inflate_17 : decode cJ3_inflate 17 = .ok (.aload_n 2, 1) := dk_44 (dk_at dksJ3_inflate_0 17 rfl rfl)
theorem dJ3_inflate_18 : decode cJ3_inflate 18 = .ok (.iload_n 3, 1) := dk_29 (dk_at dksJ3_inflate_0 18 rfl rfl)
theorem dJ3_inflate_19 : decode cJ3_inflate 19 = .ok (.iinc 3 1, 3) := dk_132 3 1 (dk_at dksJ3_inflate_0 19 rfl rfl)
theorem dJ3_inflate_22 : decode cJ3_inflate 22 = .ok (.aload_n 0, 1) := dk_42 (dk_at dksJ3_inflate_0 22 rfl rfl)
theorem dJ3_inflate_23 : decode cJ3_inflate 23 = .ok (.iload_n 1, 1) := dk_27 (dk_at dksJ3_inflate_0 23 rfl rfl)
theorem dJ3_inflate_24 : decode cJ3_inflate 24 = .ok (.iinc 1 1, 3) := dk_132 1 1 (dk_at dksJ3_inflate_1 0 rfl rfl)
theorem dJ3_inflate_27 : decode cJ3_inflate 27 = .ok (.baload, 1) := dk_51 (dk_at dksJ3_inflate_1 3 rfl rfl)
theorem dJ3_inflate_28 : decode cJ3_inflate 28 = .ok (.sipush 255, 3) := dk_17 0 255 (dk_at dksJ3_inflate_1 4 rfl rfl)
theorem dJ3_inflate_31 : decode cJ3_inflate 31 = .ok (.iand, 1) := dk_126 (dk_at dksJ3_inflate_1 7 rfl rfl)
theorem dJ3_inflate_32 : decode cJ3_inflate 32 = .ok (.invokestatic 111, 3) := dk_184 0 111 (dk_at dksJ3_inflate_1 8 rfl rfl)
theorem dJ3_inflate_35 : decode cJ3_inflate 35 = .ok (.iinc 5 1, 3) := dk_132 5 1 (dk_at dksJ3_inflate_1 11 rfl rfl)
theorem dJ3_inflate_38 : decode cJ3_inflate 38 = .ok (.goto (-28), 3) := dk_167 255 228 (dk_at dksJ3_inflate_1 14 rfl rfl)
theorem dJ3_inflate_41 : decode cJ3_inflate 41 = .ok (.return_, 1) := dk_177 (dk_at dksJ3_inflate_1 17 rfl rfl)
abbrev cJ3_checkBoundsOffCount : ByteArray := prog_89_method_94_code
def yJ3_checkBoundsOffCount : MethodName := ⟨RJ3, "checkBoundsOffCount", "(II[B)V"⟩
def dkwJ3_checkBoundsOffCount_0 : List UInt8 := [26, 27, 44, 184, 0, 48, 184, 1, 163, 87, 177]
abbrev dktJ3_checkBoundsOffCount_0 : List UInt8 := dkwJ3_checkBoundsOffCount_0 ++ []
theorem dksJ3_checkBoundsOffCount_0 : cJ3_checkBoundsOffCount.data.toList.drop 0 = dktJ3_checkBoundsOffCount_0 := by decide +kernel
theorem dJ3_checkBoundsOffCount_0 : decode cJ3_checkBoundsOffCount 0 = .ok (.iload_n 0, 1) := dk_26 (dk_at dksJ3_checkBoundsOffCount_0 0 rfl rfl)
theorem dJ3_checkBoundsOffCount_1 : decode cJ3_checkBoundsOffCount 1 = .ok (.iload_n 1, 1) := dk_27 (dk_at dksJ3_checkBoundsOffCount_0 1 rfl rfl)
theorem dJ3_checkBoundsOffCount_2 : decode cJ3_checkBoundsOffCount 2 = .ok (.aload_n 2, 1) := dk_44 (dk_at dksJ3_checkBoundsOffCount_0 2 rfl rfl)
theorem dJ3_checkBoundsOffCount_3 : decode cJ3_checkBoundsOffCount 3 = .ok (.invokestatic 48, 3) := dk_184 0 48 (dk_at dksJ3_checkBoundsOffCount_0 3 rfl rfl)
theorem dJ3_checkBoundsOffCount_6 : decode cJ3_checkBoundsOffCount 6 = .ok (.invokestatic 419, 3) := dk_184 1 163 (dk_at dksJ3_checkBoundsOffCount_0 6 rfl rfl)
theorem dJ3_checkBoundsOffCount_9 : decode cJ3_checkBoundsOffCount 9 = .ok (.pop, 1) := dk_87 (dk_at dksJ3_checkBoundsOffCount_0 9 rfl rfl)
theorem dJ3_checkBoundsOffCount_10 : decode cJ3_checkBoundsOffCount 10 = .ok (.return_, 1) := dk_177 (dk_at dksJ3_checkBoundsOffCount_0 10 rfl rfl)
abbrev cJ3_length : ByteArray := prog_89_method_6_code
def yJ3_length : MethodName := ⟨RJ3, "length", "([B)I"⟩
def dkwJ3_length_0 : List UInt8 := [42, 190, 4, 122, 172]
abbrev dktJ3_length_0 : List UInt8 := dkwJ3_length_0 ++ []
theorem dksJ3_length_0 : cJ3_length.data.toList.drop 0 = dktJ3_length_0 := by decide +kernel
theorem dJ3_length_0 : decode cJ3_length 0 = .ok (.aload_n 0, 1) := dk_42 (dk_at dksJ3_length_0 0 rfl rfl)
theorem dJ3_length_1 : decode cJ3_length 1 = .ok (.arraylength, 1) := dk_190 (dk_at dksJ3_length_0 1 rfl rfl)
theorem dJ3_length_2 : decode cJ3_length 2 = .ok (.iconst 1, 1) := dk_4 (dk_at dksJ3_length_0 2 rfl rfl)
theorem dJ3_length_3 : decode cJ3_length 3 = .ok (.ishr, 1) := dk_122 (dk_at dksJ3_length_0 3 rfl rfl)
theorem dJ3_length_4 : decode cJ3_length 4 = .ok (.ireturn, 1) := dk_172 (dk_at dksJ3_length_0 4 rfl rfl)
abbrev cJ3_putChar : ByteArray := prog_89_method_4_code
def yJ3_putChar : MethodName := ⟨RJ3, "putCha\x72", "([BII)V"⟩
def dkwJ3_putChar_2 : List UInt8 := [178, 0, 63, 122, 145, 84, 177]
abbrev dktJ3_putChar_2 : List UInt8 := dkwJ3_putChar_2 ++ []
def dkwJ3_putChar_1 : List UInt8 := [183, 0, 56, 191, 27, 4, 120, 60, 42, 27, 132, 1, 1, 28, 178, 0, 59, 122, 145, 84, 42, 27, 28]
abbrev dktJ3_putChar_1 : List UInt8 := dkwJ3_putChar_1 ++ dktJ3_putChar_2
def dkwJ3_putChar_0 : List UInt8 := [178, 0, 44, 154, 0, 25, 27, 155, 0, 11, 27, 42, 184, 0, 48, 161, 0, 13, 187, 0, 52, 89, 18, 54]
abbrev dktJ3_putChar_0 : List UInt8 := dkwJ3_putChar_0 ++ dktJ3_putChar_1
theorem dksJ3_putChar_0 : cJ3_putChar.data.toList.drop 0 = dktJ3_putChar_0 := by decide +kernel
theorem dksJ3_putChar_1 : cJ3_putChar.data.toList.drop 24 = dktJ3_putChar_1 := dk_seg dksJ3_putChar_0 24 rfl rfl
theorem dksJ3_putChar_2 : cJ3_putChar.data.toList.drop 47 = dktJ3_putChar_2 := dk_seg dksJ3_putChar_1 23 rfl rfl
theorem dJ3_putChar_0 : decode cJ3_putChar 0 = .ok (.getstatic 44, 3) := dk_178 0 44 (dk_at dksJ3_putChar_0 0 rfl rfl)
theorem dJ3_putChar_3 : decode cJ3_putChar 3 = .ok (.ifCond .ne 25, 3) := dk_154 0 25 (dk_at dksJ3_putChar_0 3 rfl rfl)
theorem dJ3_putChar_6 : decode cJ3_putChar 6 = .ok (.iload_n 1, 1) := dk_27 (dk_at dksJ3_putChar_0 6 rfl rfl)
theorem dJ3_putChar_7 : decode cJ3_putChar 7 = .ok (.ifCond .lt 11, 3) := dk_155 0 11 (dk_at dksJ3_putChar_0 7 rfl rfl)
theorem dJ3_putChar_10 : decode cJ3_putChar 10 = .ok (.iload_n 1, 1) := dk_27 (dk_at dksJ3_putChar_0 10 rfl rfl)
theorem dJ3_putChar_11 : decode cJ3_putChar 11 = .ok (.aload_n 0, 1) := dk_42 (dk_at dksJ3_putChar_0 11 rfl rfl)
theorem dJ3_putChar_12 : decode cJ3_putChar 12 = .ok (.invokestatic 48, 3) := dk_184 0 48 (dk_at dksJ3_putChar_0 12 rfl rfl)
theorem dJ3_putChar_15 : decode cJ3_putChar 15 = .ok (.if_icmp .lt 13, 3) := dk_161 0 13 (dk_at dksJ3_putChar_0 15 rfl rfl)
theorem dJ3_putChar_18 : decode cJ3_putChar 18 = .ok (.new 52, 3) := dk_187 0 52 (dk_at dksJ3_putChar_0 18 rfl rfl)
theorem dJ3_putChar_21 : decode cJ3_putChar 21 = .ok (.dup, 1) := dk_89 (dk_at dksJ3_putChar_0 21 rfl rfl)
theorem dJ3_putChar_22 : decode cJ3_putChar 22 = .ok (.ldc 54, 2) := dk_18 54 (dk_at dksJ3_putChar_0 22 rfl rfl)
theorem dJ3_putChar_24 : decode cJ3_putChar 24 = .ok (.invokespecial 56, 3) := dk_183 0 56 (dk_at dksJ3_putChar_1 0 rfl rfl)
theorem dJ3_putChar_27 : decode cJ3_putChar 27 = .ok (.athrow, 1) := dk_191 (dk_at dksJ3_putChar_1 3 rfl rfl)
theorem dJ3_putChar_28 : decode cJ3_putChar 28 = .ok (.iload_n 1, 1) := dk_27 (dk_at dksJ3_putChar_1 4 rfl rfl)
theorem dJ3_putChar_29 : decode cJ3_putChar 29 = .ok (.iconst 1, 1) := dk_4 (dk_at dksJ3_putChar_1 5 rfl rfl)
theorem dJ3_putChar_30 : decode cJ3_putChar 30 = .ok (.ishl, 1) := dk_120 (dk_at dksJ3_putChar_1 6 rfl rfl)
theorem dJ3_putChar_31 : decode cJ3_putChar 31 = .ok (.istore_n 1, 1) := dk_60 (dk_at dksJ3_putChar_1 7 rfl rfl)
theorem dJ3_putChar_32 : decode cJ3_putChar 32 = .ok (.aload_n 0, 1) := dk_42 (dk_at dksJ3_putChar_1 8 rfl rfl)
theorem dJ3_putChar_33 : decode cJ3_putChar 33 = .ok (.iload_n 1, 1) := dk_27 (dk_at dksJ3_putChar_1 9 rfl rfl)
theorem dJ3_putChar_34 : decode cJ3_putChar 34 = .ok (.iinc 1 1, 3) := dk_132 1 1 (dk_at dksJ3_putChar_1 10 rfl rfl)
theorem dJ3_putChar_37 : decode cJ3_putChar 37 = .ok (.iload_n 2, 1) := dk_28 (dk_at dksJ3_putChar_1 13 rfl rfl)
theorem dJ3_putChar_38 : decode cJ3_putChar 38 = .ok (.getstatic 59, 3) := dk_178 0 59 (dk_at dksJ3_putChar_1 14 rfl rfl)
theorem dJ3_putChar_41 : decode cJ3_putChar 41 = .ok (.ishr, 1) := dk_122 (dk_at dksJ3_putChar_1 17 rfl rfl)
theorem dJ3_putChar_42 : decode cJ3_putChar 42 = .ok (.i2b, 1) := dk_145 (dk_at dksJ3_putChar_1 18 rfl rfl)
theorem dJ3_putChar_43 : decode cJ3_putChar 43 = .ok (.bastore, 1) := dk_84 (dk_at dksJ3_putChar_1 19 rfl rfl)
theorem dJ3_putChar_44 : decode cJ3_putChar 44 = .ok (.aload_n 0, 1) := dk_42 (dk_at dksJ3_putChar_1 20 rfl rfl)
theorem dJ3_putChar_45 : decode cJ3_putChar 45 = .ok (.iload_n 1, 1) := dk_27 (dk_at dksJ3_putChar_1 21 rfl rfl)
theorem dJ3_putChar_46 : decode cJ3_putChar 46 = .ok (.iload_n 2, 1) := dk_28 (dk_at dksJ3_putChar_1 22 rfl rfl)
theorem dJ3_putChar_47 : decode cJ3_putChar 47 = .ok (.getstatic 63, 3) := dk_178 0 63 (dk_at dksJ3_putChar_2 0 rfl rfl)
theorem dJ3_putChar_50 : decode cJ3_putChar 50 = .ok (.ishr, 1) := dk_122 (dk_at dksJ3_putChar_2 3 rfl rfl)
theorem dJ3_putChar_51 : decode cJ3_putChar 51 = .ok (.i2b, 1) := dk_145 (dk_at dksJ3_putChar_2 4 rfl rfl)
theorem dJ3_putChar_52 : decode cJ3_putChar 52 = .ok (.bastore, 1) := dk_84 (dk_at dksJ3_putChar_2 5 rfl rfl)
theorem dJ3_putChar_53 : decode cJ3_putChar 53 = .ok (.return_, 1) := dk_177 (dk_at dksJ3_putChar_2 6 rfl rfl)
abbrev cJ3_putCharSB : ByteArray := prog_89_method_71_code
def yJ3_putCharSB : MethodName := ⟨RJ3, "putCharSB", "([BII)V"⟩
def dkwJ3_putCharSB_0 : List UInt8 := [27, 42, 184, 0, 67, 42, 27, 28, 184, 0, 111, 177]
abbrev dktJ3_putCharSB_0 : List UInt8 := dkwJ3_putCharSB_0 ++ []
theorem dksJ3_putCharSB_0 : cJ3_putCharSB.data.toList.drop 0 = dktJ3_putCharSB_0 := by decide +kernel
theorem dJ3_putCharSB_0 : decode cJ3_putCharSB 0 = .ok (.iload_n 1, 1) := dk_27 (dk_at dksJ3_putCharSB_0 0 rfl rfl)
theorem dJ3_putCharSB_1 : decode cJ3_putCharSB 1 = .ok (.aload_n 0, 1) := dk_42 (dk_at dksJ3_putCharSB_0 1 rfl rfl)
theorem dJ3_putCharSB_2 : decode cJ3_putCharSB 2 = .ok (.invokestatic 67, 3) := dk_184 0 67 (dk_at dksJ3_putCharSB_0 2 rfl rfl)
theorem dJ3_putCharSB_5 : decode cJ3_putCharSB 5 = .ok (.aload_n 0, 1) := dk_42 (dk_at dksJ3_putCharSB_0 5 rfl rfl)
theorem dJ3_putCharSB_6 : decode cJ3_putCharSB 6 = .ok (.iload_n 1, 1) := dk_27 (dk_at dksJ3_putCharSB_0 6 rfl rfl)
theorem dJ3_putCharSB_7 : decode cJ3_putCharSB 7 = .ok (.iload_n 2, 1) := dk_28 (dk_at dksJ3_putCharSB_0 7 rfl rfl)
theorem dJ3_putCharSB_8 : decode cJ3_putCharSB 8 = .ok (.invokestatic 111, 3) := dk_184 0 111 (dk_at dksJ3_putCharSB_0 8 rfl rfl)
theorem dJ3_putCharSB_11 : decode cJ3_putCharSB 11 = .ok (.return_, 1) := dk_177 (dk_at dksJ3_putCharSB_0 11 rfl rfl)
abbrev cJ3_checkIndex : ByteArray := prog_89_method_91_code
def yJ3_checkIndex : MethodName := ⟨RJ3, "checkIndex", "(I[B)V"⟩
def dkwJ3_checkIndex_0 : List UInt8 := [26, 43, 184, 0, 48, 184, 1, 158, 177]
abbrev dktJ3_checkIndex_0 : List UInt8 := dkwJ3_checkIndex_0 ++ []
theorem dksJ3_checkIndex_0 : cJ3_checkIndex.data.toList.drop 0 = dktJ3_checkIndex_0 := by decide +kernel
theorem dJ3_checkIndex_0 : decode cJ3_checkIndex 0 = .ok (.iload_n 0, 1) := dk_26 (dk_at dksJ3_checkIndex_0 0 rfl rfl)
theorem dJ3_checkIndex_1 : decode cJ3_checkIndex 1 = .ok (.aload_n 1, 1) := dk_43 (dk_at dksJ3_checkIndex_0 1 rfl rfl)
theorem dJ3_checkIndex_2 : decode cJ3_checkIndex 2 = .ok (.invokestatic 48, 3) := dk_184 0 48 (dk_at dksJ3_checkIndex_0 2 rfl rfl)
theorem dJ3_checkIndex_5 : decode cJ3_checkIndex 5 = .ok (.invokestatic 414, 3) := dk_184 1 158 (dk_at dksJ3_checkIndex_0 5 rfl rfl)
theorem dJ3_checkIndex_8 : decode cJ3_checkIndex 8 = .ok (.return_, 1) := dk_177 (dk_at dksJ3_checkIndex_0 8 rfl rfl)
abbrev cJ3_getChar : ByteArray := prog_89_method_5_code
def yJ3_getChar : MethodName := ⟨RJ3, "getCha\x72", "([BI)C"⟩
def dkwJ3_getChar_2 : List UInt8 := [51, 17, 0, 255, 126, 178, 0, 63, 120, 128, 146, 172]
abbrev dktJ3_getChar_2 : List UInt8 := dkwJ3_getChar_2 ++ []
def dkwJ3_getChar_1 : List UInt8 := [183, 0, 56, 191, 27, 4, 120, 60, 42, 27, 132, 1, 1, 51, 17, 0, 255, 126, 178, 0, 59, 120, 42, 27]
abbrev dktJ3_getChar_1 : List UInt8 := dkwJ3_getChar_1 ++ dktJ3_getChar_2
def dkwJ3_getChar_0 : List UInt8 := [178, 0, 44, 154, 0, 25, 27, 155, 0, 11, 27, 42, 184, 0, 48, 161, 0, 13, 187, 0, 52, 89, 18, 54]
abbrev dktJ3_getChar_0 : List UInt8 := dkwJ3_getChar_0 ++ dktJ3_getChar_1
theorem dksJ3_getChar_0 : cJ3_getChar.data.toList.drop 0 = dktJ3_getChar_0 := by decide +kernel
theorem dksJ3_getChar_1 : cJ3_getChar.data.toList.drop 24 = dktJ3_getChar_1 := dk_seg dksJ3_getChar_0 24 rfl rfl
theorem dksJ3_getChar_2 : cJ3_getChar.data.toList.drop 48 = dktJ3_getChar_2 := dk_seg dksJ3_getChar_1 24 rfl rfl
theorem dJ3_getChar_0 : decode cJ3_getChar 0 = .ok (.getstatic 44, 3) := dk_178 0 44 (dk_at dksJ3_getChar_0 0 rfl rfl)
theorem dJ3_getChar_3 : decode cJ3_getChar 3 = .ok (.ifCond .ne 25, 3) := dk_154 0 25 (dk_at dksJ3_getChar_0 3 rfl rfl)
theorem dJ3_getChar_6 : decode cJ3_getChar 6 = .ok (.iload_n 1, 1) := dk_27 (dk_at dksJ3_getChar_0 6 rfl rfl)
theorem dJ3_getChar_7 : decode cJ3_getChar 7 = .ok (.ifCond .lt 11, 3) := dk_155 0 11 (dk_at dksJ3_getChar_0 7 rfl rfl)
theorem dJ3_getChar_10 : decode cJ3_getChar 10 = .ok (.iload_n 1, 1) := dk_27 (dk_at dksJ3_getChar_0 10 rfl rfl)
theorem dJ3_getChar_11 : decode cJ3_getChar 11 = .ok (.aload_n 0, 1) := dk_42 (dk_at dksJ3_getChar_0 11 rfl rfl)
theorem dJ3_getChar_12 : decode cJ3_getChar 12 = .ok (.invokestatic 48, 3) := dk_184 0 48 (dk_at dksJ3_getChar_0 12 rfl rfl)
theorem dJ3_getChar_15 : decode cJ3_getChar 15 = .ok (.if_icmp .lt 13, 3) := dk_161 0 13 (dk_at dksJ3_getChar_0 15 rfl rfl)
theorem dJ3_getChar_18 : decode cJ3_getChar 18 = .ok (.new 52, 3) := dk_187 0 52 (dk_at dksJ3_getChar_0 18 rfl rfl)
theorem dJ3_getChar_21 : decode cJ3_getChar 21 = .ok (.dup, 1) := dk_89 (dk_at dksJ3_getChar_0 21 rfl rfl)
theorem dJ3_getChar_22 : decode cJ3_getChar 22 = .ok (.ldc 54, 2) := dk_18 54 (dk_at dksJ3_getChar_0 22 rfl rfl)
theorem dJ3_getChar_24 : decode cJ3_getChar 24 = .ok (.invokespecial 56, 3) := dk_183 0 56 (dk_at dksJ3_getChar_1 0 rfl rfl)
theorem dJ3_getChar_27 : decode cJ3_getChar 27 = .ok (.athrow, 1) := dk_191 (dk_at dksJ3_getChar_1 3 rfl rfl)
theorem dJ3_getChar_28 : decode cJ3_getChar 28 = .ok (.iload_n 1, 1) := dk_27 (dk_at dksJ3_getChar_1 4 rfl rfl)
theorem dJ3_getChar_29 : decode cJ3_getChar 29 = .ok (.iconst 1, 1) := dk_4 (dk_at dksJ3_getChar_1 5 rfl rfl)
theorem dJ3_getChar_30 : decode cJ3_getChar 30 = .ok (.ishl, 1) := dk_120 (dk_at dksJ3_getChar_1 6 rfl rfl)
theorem dJ3_getChar_31 : decode cJ3_getChar 31 = .ok (.istore_n 1, 1) := dk_60 (dk_at dksJ3_getChar_1 7 rfl rfl)
theorem dJ3_getChar_32 : decode cJ3_getChar 32 = .ok (.aload_n 0, 1) := dk_42 (dk_at dksJ3_getChar_1 8 rfl rfl)
theorem dJ3_getChar_33 : decode cJ3_getChar 33 = .ok (.iload_n 1, 1) := dk_27 (dk_at dksJ3_getChar_1 9 rfl rfl)
theorem dJ3_getChar_34 : decode cJ3_getChar 34 = .ok (.iinc 1 1, 3) := dk_132 1 1 (dk_at dksJ3_getChar_1 10 rfl rfl)
theorem dJ3_getChar_37 : decode cJ3_getChar 37 = .ok (.baload, 1) := dk_51 (dk_at dksJ3_getChar_1 13 rfl rfl)
theorem dJ3_getChar_38 : decode cJ3_getChar 38 = .ok (.sipush 255, 3) := dk_17 0 255 (dk_at dksJ3_getChar_1 14 rfl rfl)
theorem dJ3_getChar_41 : decode cJ3_getChar 41 = .ok (.iand, 1) := dk_126 (dk_at dksJ3_getChar_1 17 rfl rfl)
theorem dJ3_getChar_42 : decode cJ3_getChar 42 = .ok (.getstatic 59, 3) := dk_178 0 59 (dk_at dksJ3_getChar_1 18 rfl rfl)
theorem dJ3_getChar_45 : decode cJ3_getChar 45 = .ok (.ishl, 1) := dk_120 (dk_at dksJ3_getChar_1 21 rfl rfl)
theorem dJ3_getChar_46 : decode cJ3_getChar 46 = .ok (.aload_n 0, 1) := dk_42 (dk_at dksJ3_getChar_1 22 rfl rfl)
theorem dJ3_getChar_47 : decode cJ3_getChar 47 = .ok (.iload_n 1, 1) := dk_27 (dk_at dksJ3_getChar_1 23 rfl rfl)
theorem dJ3_getChar_48 : decode cJ3_getChar 48 = .ok (.baload, 1) := dk_51 (dk_at dksJ3_getChar_2 0 rfl rfl)
theorem dJ3_getChar_49 : decode cJ3_getChar 49 = .ok (.sipush 255, 3) := dk_17 0 255 (dk_at dksJ3_getChar_2 1 rfl rfl)
theorem dJ3_getChar_52 : decode cJ3_getChar 52 = .ok (.iand, 1) := dk_126 (dk_at dksJ3_getChar_2 4 rfl rfl)
theorem dJ3_getChar_53 : decode cJ3_getChar 53 = .ok (.getstatic 63, 3) := dk_178 0 63 (dk_at dksJ3_getChar_2 5 rfl rfl)
theorem dJ3_getChar_56 : decode cJ3_getChar 56 = .ok (.ishl, 1) := dk_120 (dk_at dksJ3_getChar_2 8 rfl rfl)
theorem dJ3_getChar_57 : decode cJ3_getChar 57 = .ok (.ior, 1) := dk_128 (dk_at dksJ3_getChar_2 9 rfl rfl)
theorem dJ3_getChar_58 : decode cJ3_getChar 58 = .ok (.i2c, 1) := dk_146 (dk_at dksJ3_getChar_2 10 rfl rfl)
theorem dJ3_getChar_59 : decode cJ3_getChar 59 = .ok (.ireturn, 1) := dk_172 (dk_at dksJ3_getChar_2 11 rfl rfl)
abbrev cJ3_getChars : ByteArray := prog_89_method_77_code
def yJ3_getChars : MethodName := ⟨RJ3, "getChars", "(III[B)I"⟩
def dkwJ3_getChars_1 : List UInt8 := [159, 0, 11, 187, 0, 52, 89, 183, 0, 66, 191, 21, 4, 172]
abbrev dktJ3_getChars_1 : List UInt8 := dkwJ3_getChars_1 ++ []
def dkwJ3_getChars_0 : List UInt8 := [27, 28, 45, 184, 0, 96, 26, 28, 45, 184, 1, 137, 54, 4, 178, 0, 44, 154, 0, 17, 27, 21, 4]
abbrev dktJ3_getChars_0 : List UInt8 := dkwJ3_getChars_0 ++ dktJ3_getChars_1
theorem dksJ3_getChars_0 : cJ3_getChars.data.toList.drop 0 = dktJ3_getChars_0 := by decide +kernel
theorem dksJ3_getChars_1 : cJ3_getChars.data.toList.drop 23 = dktJ3_getChars_1 := dk_seg dksJ3_getChars_0 23 rfl rfl
theorem dJ3_getChars_0 : decode cJ3_getChars 0 = .ok (.iload_n 1, 1) := dk_27 (dk_at dksJ3_getChars_0 0 rfl rfl)
theorem dJ3_getChars_1 : decode cJ3_getChars 1 = .ok (.iload_n 2, 1) := dk_28 (dk_at dksJ3_getChars_0 1 rfl rfl)
theorem dJ3_getChars_2 : decode cJ3_getChars 2 = .ok (.aload_n 3, 1) := dk_45 (dk_at dksJ3_getChars_0 2 rfl rfl)
theorem dJ3_getChars_3 : decode cJ3_getChars 3 = .ok (.invokestatic 96, 3) := dk_184 0 96 (dk_at dksJ3_getChars_0 3 rfl rfl)
theorem dJ3_getChars_6 : decode cJ3_getChars 6 = .ok (.iload_n 0, 1) := dk_26 (dk_at dksJ3_getChars_0 6 rfl rfl)
theorem dJ3_getChars_7 : decode cJ3_getChars 7 = .ok (.iload_n 2, 1) := dk_28 (dk_at dksJ3_getChars_0 7 rfl rfl)
theorem dJ3_getChars_8 : decode cJ3_getChars 8 = .ok (.aload_n 3, 1) := dk_45 (dk_at dksJ3_getChars_0 8 rfl rfl)
theorem dJ3_getChars_9 : decode cJ3_getChars 9 = .ok (.invokestatic 393, 3) := dk_184 1 137 (dk_at dksJ3_getChars_0 9 rfl rfl)
theorem dJ3_getChars_12 : decode cJ3_getChars 12 = .ok (.istore 4, 2) := dk_54 4 (dk_at dksJ3_getChars_0 12 rfl rfl)
theorem dJ3_getChars_14 : decode cJ3_getChars 14 = .ok (.getstatic 44, 3) := dk_178 0 44 (dk_at dksJ3_getChars_0 14 rfl rfl)
theorem dJ3_getChars_17 : decode cJ3_getChars 17 = .ok (.ifCond .ne 17, 3) := dk_154 0 17 (dk_at dksJ3_getChars_0 17 rfl rfl)
theorem dJ3_getChars_20 : decode cJ3_getChars 20 = .ok (.iload_n 1, 1) := dk_27 (dk_at dksJ3_getChars_0 20 rfl rfl)
theorem dJ3_getChars_21 : decode cJ3_getChars 21 = .ok (.iload 4, 2) := dk_21 4 (dk_at dksJ3_getChars_0 21 rfl rfl)
theorem dJ3_getChars_23 : decode cJ3_getChars 23 = .ok (.if_icmp .eq 11, 3) := dk_159 0 11 (dk_at dksJ3_getChars_1 0 rfl rfl)
theorem dJ3_getChars_26 : decode cJ3_getChars 26 = .ok (.new 52, 3) := dk_187 0 52 (dk_at dksJ3_getChars_1 3 rfl rfl)
theorem dJ3_getChars_29 : decode cJ3_getChars 29 = .ok (.dup, 1) := dk_89 (dk_at dksJ3_getChars_1 6 rfl rfl)
theorem dJ3_getChars_30 : decode cJ3_getChars 30 = .ok (.invokespecial 66, 3) := dk_183 0 66 (dk_at dksJ3_getChars_1 7 rfl rfl)
theorem dJ3_getChars_33 : decode cJ3_getChars 33 = .ok (.athrow, 1) := dk_191 (dk_at dksJ3_getChars_1 10 rfl rfl)
theorem dJ3_getChars_34 : decode cJ3_getChars 34 = .ok (.iload 4, 2) := dk_21 4 (dk_at dksJ3_getChars_1 11 rfl rfl)
theorem dJ3_getChars_36 : decode cJ3_getChars 36 = .ok (.ireturn, 1) := dk_172 (dk_at dksJ3_getChars_1 13 rfl rfl)
abbrev cJ3_checkBoundsBeginEnd : ByteArray := prog_89_method_93_code
def yJ3_checkBoundsBeginEnd : MethodName := ⟨RJ3, "checkBoundsBeginEnd", "(II[B)V"⟩
def dkwJ3_checkBoundsBeginEnd_0 : List UInt8 := [26, 27, 44, 184, 0, 48, 184, 0, 241, 177]
abbrev dktJ3_checkBoundsBeginEnd_0 : List UInt8 := dkwJ3_checkBoundsBeginEnd_0 ++ []
theorem dksJ3_checkBoundsBeginEnd_0 : cJ3_checkBoundsBeginEnd.data.toList.drop 0 = dktJ3_checkBoundsBeginEnd_0 := by decide +kernel
theorem dJ3_checkBoundsBeginEnd_0 : decode cJ3_checkBoundsBeginEnd 0 = .ok (.iload_n 0, 1) := dk_26 (dk_at dksJ3_checkBoundsBeginEnd_0 0 rfl rfl)
theorem dJ3_checkBoundsBeginEnd_1 : decode cJ3_checkBoundsBeginEnd 1 = .ok (.iload_n 1, 1) := dk_27 (dk_at dksJ3_checkBoundsBeginEnd_0 1 rfl rfl)
theorem dJ3_checkBoundsBeginEnd_2 : decode cJ3_checkBoundsBeginEnd 2 = .ok (.aload_n 2, 1) := dk_44 (dk_at dksJ3_checkBoundsBeginEnd_0 2 rfl rfl)
theorem dJ3_checkBoundsBeginEnd_3 : decode cJ3_checkBoundsBeginEnd 3 = .ok (.invokestatic 48, 3) := dk_184 0 48 (dk_at dksJ3_checkBoundsBeginEnd_0 3 rfl rfl)
theorem dJ3_checkBoundsBeginEnd_6 : decode cJ3_checkBoundsBeginEnd 6 = .ok (.invokestatic 241, 3) := dk_184 0 241 (dk_at dksJ3_checkBoundsBeginEnd_0 6 rfl rfl)
theorem dJ3_checkBoundsBeginEnd_9 : decode cJ3_checkBoundsBeginEnd 9 = .ok (.return_, 1) := dk_177 (dk_at dksJ3_checkBoundsBeginEnd_0 9 rfl rfl)
abbrev cJ3_getChars_2 : ByteArray := prog_89_method_89_code
def yJ3_getChars_2 : MethodName := ⟨RJ3, "getChars", "(II[B)I"⟩
def dkwJ3_getChars_2_5 : List UInt8 := [132, 5, 255, 21, 5, 16, 45, 184, 0, 111, 21, 5, 172]
abbrev dktJ3_getChars_2_5 : List UInt8 := dkwJ3_getChars_2_5 ++ []
def dkwJ3_getChars_2_4 : List UInt8 := [162, 0, 18, 44, 132, 5, 255, 21, 5, 178, 1, 151, 26, 116, 51, 184, 0, 111, 21, 6, 153, 0, 14, 44]
abbrev dktJ3_getChars_2_4 : List UInt8 := dkwJ3_getChars_2_4 ++ dktJ3_getChars_2_5
def dkwJ3_getChars_2_3 : List UInt8 := [184, 0, 111, 167, 255, 205, 44, 132, 5, 255, 21, 5, 178, 1, 147, 26, 116, 51, 184, 0, 111, 26, 16, 247]
abbrev dktJ3_getChars_2_3 : List UInt8 := dkwJ3_getChars_2_3 ++ dktJ3_getChars_2_4
def dkwJ3_getChars_2_2 : List UInt8 := [21, 5, 178, 1, 147, 21, 4, 51, 184, 0, 111, 44, 132, 5, 255, 21, 5, 178, 1, 151, 21, 4, 51]
abbrev dktJ3_getChars_2_2 : List UInt8 := dkwJ3_getChars_2_2 ++ dktJ3_getChars_2_3
def dkwJ3_getChars_2_1 : List UInt8 := [16, 156, 163, 0, 51, 26, 16, 100, 108, 62, 29, 16, 100, 104, 26, 100, 54, 4, 29, 59, 44, 132, 5, 255]
abbrev dktJ3_getChars_2_1 : List UInt8 := dkwJ3_getChars_2_1 ++ dktJ3_getChars_2_2
def dkwJ3_getChars_2_0 : List UInt8 := [27, 54, 5, 26, 156, 0, 7, 4, 167, 0, 4, 3, 54, 6, 21, 6, 154, 0, 6, 26, 116, 59, 26]
abbrev dktJ3_getChars_2_0 : List UInt8 := dkwJ3_getChars_2_0 ++ dktJ3_getChars_2_1
theorem dksJ3_getChars_2_0 : cJ3_getChars_2.data.toList.drop 0 = dktJ3_getChars_2_0 := by decide +kernel
theorem dksJ3_getChars_2_1 : cJ3_getChars_2.data.toList.drop 23 = dktJ3_getChars_2_1 := dk_seg dksJ3_getChars_2_0 23 rfl rfl
theorem dksJ3_getChars_2_2 : cJ3_getChars_2.data.toList.drop 47 = dktJ3_getChars_2_2 := dk_seg dksJ3_getChars_2_1 24 rfl rfl
theorem dksJ3_getChars_2_3 : cJ3_getChars_2.data.toList.drop 70 = dktJ3_getChars_2_3 := dk_seg dksJ3_getChars_2_2 23 rfl rfl
theorem dksJ3_getChars_2_4 : cJ3_getChars_2.data.toList.drop 94 = dktJ3_getChars_2_4 := dk_seg dksJ3_getChars_2_3 24 rfl rfl
theorem dksJ3_getChars_2_5 : cJ3_getChars_2.data.toList.drop 118 = dktJ3_getChars_2_5 := dk_seg dksJ3_getChars_2_4 24 rfl rfl
theorem dJ3_getChars_2_0 : decode cJ3_getChars_2 0 = .ok (.iload_n 1, 1) := dk_27 (dk_at dksJ3_getChars_2_0 0 rfl rfl)
theorem dJ3_getChars_2_1 : decode cJ3_getChars_2 1 = .ok (.istore 5, 2) := dk_54 5 (dk_at dksJ3_getChars_2_0 1 rfl rfl)
theorem dJ3_getChars_2_3 : decode cJ3_getChars_2 3 = .ok (.iload_n 0, 1) := dk_26 (dk_at dksJ3_getChars_2_0 3 rfl rfl)
theorem dJ3_getChars_2_4 : decode cJ3_getChars_2 4 = .ok (.ifCond .ge 7, 3) := dk_156 0 7 (dk_at dksJ3_getChars_2_0 4 rfl rfl)
theorem dJ3_getChars_2_7 : decode cJ3_getChars_2 7 = .ok (.iconst 1, 1) := dk_4 (dk_at dksJ3_getChars_2_0 7 rfl rfl)
theorem dJ3_getChars_2_8 : decode cJ3_getChars_2 8 = .ok (.goto 4, 3) := dk_167 0 4 (dk_at dksJ3_getChars_2_0 8 rfl rfl)
theorem dJ3_getChars_2_11 : decode cJ3_getChars_2 11 = .ok (.iconst 0, 1) := dk_3 (dk_at dksJ3_getChars_2_0 11 rfl rfl)
theorem dJ3_getChars_2_12 : decode cJ3_getChars_2 12 = .ok (.istore 6, 2) := dk_54 6 (dk_at dksJ3_getChars_2_0 12 rfl rfl)
theorem dJ3_getChars_2_14 : decode cJ3_getChars_2 14 = .ok (.iload 6, 2) := dk_21 6 (dk_at dksJ3_getChars_2_0 14 rfl rfl)
theorem dJ3_getChars_2_16 : decode cJ3_getChars_2 16 = .ok (.ifCond .ne 6, 3) := dk_154 0 6 (dk_at dksJ3_getChars_2_0 16 rfl rfl)
theorem dJ3_getChars_2_19 : decode cJ3_getChars_2 19 = .ok (.iload_n 0, 1) := dk_26 (dk_at dksJ3_getChars_2_0 19 rfl rfl)
theorem dJ3_getChars_2_20 : decode cJ3_getChars_2 20 = .ok (.ineg, 1) := dk_116 (dk_at dksJ3_getChars_2_0 20 rfl rfl)
theorem dJ3_getChars_2_21 : decode cJ3_getChars_2 21 = .ok (.istore_n 0, 1) := dk_59 (dk_at dksJ3_getChars_2_0 21 rfl rfl)
theorem dJ3_getChars_2_22 : decode cJ3_getChars_2 22 = .ok (.iload_n 0, 1) := dk_26 (dk_at dksJ3_getChars_2_0 22 rfl rfl)
theorem dJ3_getChars_2_23 : decode cJ3_getChars_2 23 = .ok (.bipush (-100), 2) := dk_16 156 (dk_at dksJ3_getChars_2_1 0 rfl rfl)
theorem dJ3_getChars_2_25 : decode cJ3_getChars_2 25 = .ok (.if_icmp .gt 51, 3) := dk_163 0 51 (dk_at dksJ3_getChars_2_1 2 rfl rfl)
theorem dJ3_getChars_2_28 : decode cJ3_getChars_2 28 = .ok (.iload_n 0, 1) := dk_26 (dk_at dksJ3_getChars_2_1 5 rfl rfl)
theorem dJ3_getChars_2_29 : decode cJ3_getChars_2 29 = .ok (.bipush 100, 2) := dk_16 100 (dk_at dksJ3_getChars_2_1 6 rfl rfl)
theorem dJ3_getChars_2_31 : decode cJ3_getChars_2 31 = .ok (.idiv, 1) := dk_108 (dk_at dksJ3_getChars_2_1 8 rfl rfl)
theorem dJ3_getChars_2_32 : decode cJ3_getChars_2 32 = .ok (.istore_n 3, 1) := dk_62 (dk_at dksJ3_getChars_2_1 9 rfl rfl)
theorem dJ3_getChars_2_33 : decode cJ3_getChars_2 33 = .ok (.iload_n 3, 1) := dk_29 (dk_at dksJ3_getChars_2_1 10 rfl rfl)
theorem dJ3_getChars_2_34 : decode cJ3_getChars_2 34 = .ok (.bipush 100, 2) := dk_16 100 (dk_at dksJ3_getChars_2_1 11 rfl rfl)
theorem dJ3_getChars_2_36 : decode cJ3_getChars_2 36 = .ok (.imul, 1) := dk_104 (dk_at dksJ3_getChars_2_1 13 rfl rfl)
theorem dJ3_getChars_2_37 : decode cJ3_getChars_2 37 = .ok (.iload_n 0, 1) := dk_26 (dk_at dksJ3_getChars_2_1 14 rfl rfl)
theorem dJ3_getChars_2_38 : decode cJ3_getChars_2 38 = .ok (.isub, 1) := dk_100 (dk_at dksJ3_getChars_2_1 15 rfl rfl)
theorem dJ3_getChars_2_39 : decode cJ3_getChars_2 39 = .ok (.istore 4, 2) := dk_54 4 (dk_at dksJ3_getChars_2_1 16 rfl rfl)
theorem dJ3_getChars_2_41 : decode cJ3_getChars_2 41 = .ok (.iload_n 3, 1) := dk_29 (dk_at dksJ3_getChars_2_1 18 rfl rfl)
theorem dJ3_getChars_2_42 : decode cJ3_getChars_2 42 = .ok (.istore_n 0, 1) := dk_59 (dk_at dksJ3_getChars_2_1 19 rfl rfl)
theorem dJ3_getChars_2_43 : decode cJ3_getChars_2 43 = .ok (.aload_n 2, 1) := dk_44 (dk_at dksJ3_getChars_2_1 20 rfl rfl)
theorem dJ3_getChars_2_44 : decode cJ3_getChars_2 44 = .ok (.iinc 5 (-1), 3) := dk_132 5 255 (dk_at dksJ3_getChars_2_1 21 rfl rfl)
theorem dJ3_getChars_2_47 : decode cJ3_getChars_2 47 = .ok (.iload 5, 2) := dk_21 5 (dk_at dksJ3_getChars_2_2 0 rfl rfl)
theorem dJ3_getChars_2_49 : decode cJ3_getChars_2 49 = .ok (.getstatic 403, 3) := dk_178 1 147 (dk_at dksJ3_getChars_2_2 2 rfl rfl)
theorem dJ3_getChars_2_52 : decode cJ3_getChars_2 52 = .ok (.iload 4, 2) := dk_21 4 (dk_at dksJ3_getChars_2_2 5 rfl rfl)
theorem dJ3_getChars_2_54 : decode cJ3_getChars_2 54 = .ok (.baload, 1) := dk_51 (dk_at dksJ3_getChars_2_2 7 rfl rfl)
theorem dJ3_getChars_2_55 : decode cJ3_getChars_2 55 = .ok (.invokestatic 111, 3) := dk_184 0 111 (dk_at dksJ3_getChars_2_2 8 rfl rfl)
theorem dJ3_getChars_2_58 : decode cJ3_getChars_2 58 = .ok (.aload_n 2, 1) := dk_44 (dk_at dksJ3_getChars_2_2 11 rfl rfl)
theorem dJ3_getChars_2_59 : decode cJ3_getChars_2 59 = .ok (.iinc 5 (-1), 3) := dk_132 5 255 (dk_at dksJ3_getChars_2_2 12 rfl rfl)
theorem dJ3_getChars_2_62 : decode cJ3_getChars_2 62 = .ok (.iload 5, 2) := dk_21 5 (dk_at dksJ3_getChars_2_2 15 rfl rfl)
theorem dJ3_getChars_2_64 : decode cJ3_getChars_2 64 = .ok (.getstatic 407, 3) := dk_178 1 151 (dk_at dksJ3_getChars_2_2 17 rfl rfl)
theorem dJ3_getChars_2_67 : decode cJ3_getChars_2 67 = .ok (.iload 4, 2) := dk_21 4 (dk_at dksJ3_getChars_2_2 20 rfl rfl)
theorem dJ3_getChars_2_69 : decode cJ3_getChars_2 69 = .ok (.baload, 1) := dk_51 (dk_at dksJ3_getChars_2_2 22 rfl rfl)
theorem dJ3_getChars_2_70 : decode cJ3_getChars_2 70 = .ok (.invokestatic 111, 3) := dk_184 0 111 (dk_at dksJ3_getChars_2_3 0 rfl rfl)
theorem dJ3_getChars_2_73 : decode cJ3_getChars_2 73 = .ok (.goto (-51), 3) := dk_167 255 205 (dk_at dksJ3_getChars_2_3 3 rfl rfl)
theorem dJ3_getChars_2_76 : decode cJ3_getChars_2 76 = .ok (.aload_n 2, 1) := dk_44 (dk_at dksJ3_getChars_2_3 6 rfl rfl)
theorem dJ3_getChars_2_77 : decode cJ3_getChars_2 77 = .ok (.iinc 5 (-1), 3) := dk_132 5 255 (dk_at dksJ3_getChars_2_3 7 rfl rfl)
theorem dJ3_getChars_2_80 : decode cJ3_getChars_2 80 = .ok (.iload 5, 2) := dk_21 5 (dk_at dksJ3_getChars_2_3 10 rfl rfl)
theorem dJ3_getChars_2_82 : decode cJ3_getChars_2 82 = .ok (.getstatic 403, 3) := dk_178 1 147 (dk_at dksJ3_getChars_2_3 12 rfl rfl)
theorem dJ3_getChars_2_85 : decode cJ3_getChars_2 85 = .ok (.iload_n 0, 1) := dk_26 (dk_at dksJ3_getChars_2_3 15 rfl rfl)
theorem dJ3_getChars_2_86 : decode cJ3_getChars_2 86 = .ok (.ineg, 1) := dk_116 (dk_at dksJ3_getChars_2_3 16 rfl rfl)
theorem dJ3_getChars_2_87 : decode cJ3_getChars_2 87 = .ok (.baload, 1) := dk_51 (dk_at dksJ3_getChars_2_3 17 rfl rfl)
theorem dJ3_getChars_2_88 : decode cJ3_getChars_2 88 = .ok (.invokestatic 111, 3) := dk_184 0 111 (dk_at dksJ3_getChars_2_3 18 rfl rfl)
theorem dJ3_getChars_2_91 : decode cJ3_getChars_2 91 = .ok (.iload_n 0, 1) := dk_26 (dk_at dksJ3_getChars_2_3 21 rfl rfl)
theorem dJ3_getChars_2_92 : decode cJ3_getChars_2 92 = .ok (.bipush (-9), 2) := dk_16 247 (dk_at dksJ3_getChars_2_3 22 rfl rfl)
theorem dJ3_getChars_2_94 : decode cJ3_getChars_2 94 = .ok (.if_icmp .ge 18, 3) := dk_162 0 18 (dk_at dksJ3_getChars_2_4 0 rfl rfl)
theorem dJ3_getChars_2_97 : decode cJ3_getChars_2 97 = .ok (.aload_n 2, 1) := dk_44 (dk_at dksJ3_getChars_2_4 3 rfl rfl)
theorem dJ3_getChars_2_98 : decode cJ3_getChars_2 98 = .ok (.iinc 5 (-1), 3) := dk_132 5 255 (dk_at dksJ3_getChars_2_4 4 rfl rfl)
theorem dJ3_getChars_2_101 : decode cJ3_getChars_2 101 = .ok (.iload 5, 2) := dk_21 5 (dk_at dksJ3_getChars_2_4 7 rfl rfl)
theorem dJ3_getChars_2_103 : decode cJ3_getChars_2 103 = .ok (.getstatic 407, 3) := dk_178 1 151 (dk_at dksJ3_getChars_2_4 9 rfl rfl)
theorem dJ3_getChars_2_106 : decode cJ3_getChars_2 106 = .ok (.iload_n 0, 1) := dk_26 (dk_at dksJ3_getChars_2_4 12 rfl rfl)
theorem dJ3_getChars_2_107 : decode cJ3_getChars_2 107 = .ok (.ineg, 1) := dk_116 (dk_at dksJ3_getChars_2_4 13 rfl rfl)
theorem dJ3_getChars_2_108 : decode cJ3_getChars_2 108 = .ok (.baload, 1) := dk_51 (dk_at dksJ3_getChars_2_4 14 rfl rfl)
theorem dJ3_getChars_2_109 : decode cJ3_getChars_2 109 = .ok (.invokestatic 111, 3) := dk_184 0 111 (dk_at dksJ3_getChars_2_4 15 rfl rfl)
theorem dJ3_getChars_2_112 : decode cJ3_getChars_2 112 = .ok (.iload 6, 2) := dk_21 6 (dk_at dksJ3_getChars_2_4 18 rfl rfl)
theorem dJ3_getChars_2_114 : decode cJ3_getChars_2 114 = .ok (.ifCond .eq 14, 3) := dk_153 0 14 (dk_at dksJ3_getChars_2_4 20 rfl rfl)
theorem dJ3_getChars_2_117 : decode cJ3_getChars_2 117 = .ok (.aload_n 2, 1) := dk_44 (dk_at dksJ3_getChars_2_4 23 rfl rfl)
theorem dJ3_getChars_2_118 : decode cJ3_getChars_2 118 = .ok (.iinc 5 (-1), 3) := dk_132 5 255 (dk_at dksJ3_getChars_2_5 0 rfl rfl)
theorem dJ3_getChars_2_121 : decode cJ3_getChars_2 121 = .ok (.iload 5, 2) := dk_21 5 (dk_at dksJ3_getChars_2_5 3 rfl rfl)
theorem dJ3_getChars_2_123 : decode cJ3_getChars_2 123 = .ok (.bipush 45, 2) := dk_16 45 (dk_at dksJ3_getChars_2_5 5 rfl rfl)
theorem dJ3_getChars_2_125 : decode cJ3_getChars_2 125 = .ok (.invokestatic 111, 3) := dk_184 0 111 (dk_at dksJ3_getChars_2_5 7 rfl rfl)
theorem dJ3_getChars_2_128 : decode cJ3_getChars_2 128 = .ok (.iload 5, 2) := dk_21 5 (dk_at dksJ3_getChars_2_5 10 rfl rfl)
theorem dJ3_getChars_2_130 : decode cJ3_getChars_2 130 = .ok (.ireturn, 1) := dk_172 (dk_at dksJ3_getChars_2_5 12 rfl rfl)
abbrev cJ3_putCharsAt : ByteArray := prog_89_method_81_code
def yJ3_putCharsAt : MethodName := ⟨RJ3, "putCharsAt", "([BICCCC)I"⟩
def dkwJ3_putCharsAt_3 : List UInt8 := [21, 6, 172]
abbrev dktJ3_putCharsAt_3 : List UInt8 := dkwJ3_putCharsAt_3 ++ []
def dkwJ3_putCharsAt_2 : List UInt8 := [184, 0, 111, 178, 0, 44, 154, 0, 17, 27, 21, 6, 159, 0, 11, 187, 0, 52, 89, 183, 0, 66, 191]
abbrev dktJ3_putCharsAt_2 : List UInt8 := dkwJ3_putCharsAt_2 ++ dktJ3_putCharsAt_3
def dkwJ3_putCharsAt_1 : List UInt8 := [132, 1, 1, 29, 184, 0, 111, 42, 27, 132, 1, 1, 21, 4, 184, 0, 111, 42, 27, 132, 1, 1, 21, 5]
abbrev dktJ3_putCharsAt_1 : List UInt8 := dkwJ3_putCharsAt_1 ++ dktJ3_putCharsAt_2
def dkwJ3_putCharsAt_0 : List UInt8 := [27, 7, 96, 54, 6, 27, 21, 6, 42, 184, 0, 96, 42, 27, 132, 1, 1, 28, 184, 0, 111, 42, 27]
abbrev dktJ3_putCharsAt_0 : List UInt8 := dkwJ3_putCharsAt_0 ++ dktJ3_putCharsAt_1
theorem dksJ3_putCharsAt_0 : cJ3_putCharsAt.data.toList.drop 0 = dktJ3_putCharsAt_0 := by decide +kernel
theorem dksJ3_putCharsAt_1 : cJ3_putCharsAt.data.toList.drop 23 = dktJ3_putCharsAt_1 := dk_seg dksJ3_putCharsAt_0 23 rfl rfl
theorem dksJ3_putCharsAt_2 : cJ3_putCharsAt.data.toList.drop 47 = dktJ3_putCharsAt_2 := dk_seg dksJ3_putCharsAt_1 24 rfl rfl
theorem dksJ3_putCharsAt_3 : cJ3_putCharsAt.data.toList.drop 70 = dktJ3_putCharsAt_3 := dk_seg dksJ3_putCharsAt_2 23 rfl rfl
theorem dJ3_putCharsAt_0 : decode cJ3_putCharsAt 0 = .ok (.iload_n 1, 1) := dk_27 (dk_at dksJ3_putCharsAt_0 0 rfl rfl)
theorem dJ3_putCharsAt_1 : decode cJ3_putCharsAt 1 = .ok (.iconst 4, 1) := dk_7 (dk_at dksJ3_putCharsAt_0 1 rfl rfl)
theorem dJ3_putCharsAt_2 : decode cJ3_putCharsAt 2 = .ok (.iadd, 1) := dk_96 (dk_at dksJ3_putCharsAt_0 2 rfl rfl)
theorem dJ3_putCharsAt_3 : decode cJ3_putCharsAt 3 = .ok (.istore 6, 2) := dk_54 6 (dk_at dksJ3_putCharsAt_0 3 rfl rfl)
theorem dJ3_putCharsAt_5 : decode cJ3_putCharsAt 5 = .ok (.iload_n 1, 1) := dk_27 (dk_at dksJ3_putCharsAt_0 5 rfl rfl)
theorem dJ3_putCharsAt_6 : decode cJ3_putCharsAt 6 = .ok (.iload 6, 2) := dk_21 6 (dk_at dksJ3_putCharsAt_0 6 rfl rfl)
theorem dJ3_putCharsAt_8 : decode cJ3_putCharsAt 8 = .ok (.aload_n 0, 1) := dk_42 (dk_at dksJ3_putCharsAt_0 8 rfl rfl)
theorem dJ3_putCharsAt_9 : decode cJ3_putCharsAt 9 = .ok (.invokestatic 96, 3) := dk_184 0 96 (dk_at dksJ3_putCharsAt_0 9 rfl rfl)
theorem dJ3_putCharsAt_12 : decode cJ3_putCharsAt 12 = .ok (.aload_n 0, 1) := dk_42 (dk_at dksJ3_putCharsAt_0 12 rfl rfl)
theorem dJ3_putCharsAt_13 : decode cJ3_putCharsAt 13 = .ok (.iload_n 1, 1) := dk_27 (dk_at dksJ3_putCharsAt_0 13 rfl rfl)
theorem dJ3_putCharsAt_14 : decode cJ3_putCharsAt 14 = .ok (.iinc 1 1, 3) := dk_132 1 1 (dk_at dksJ3_putCharsAt_0 14 rfl rfl)
theorem dJ3_putCharsAt_17 : decode cJ3_putCharsAt 17 = .ok (.iload_n 2, 1) := dk_28 (dk_at dksJ3_putCharsAt_0 17 rfl rfl)
theorem dJ3_putCharsAt_18 : decode cJ3_putCharsAt 18 = .ok (.invokestatic 111, 3) := dk_184 0 111 (dk_at dksJ3_putCharsAt_0 18 rfl rfl)
theorem dJ3_putCharsAt_21 : decode cJ3_putCharsAt 21 = .ok (.aload_n 0, 1) := dk_42 (dk_at dksJ3_putCharsAt_0 21 rfl rfl)
theorem dJ3_putCharsAt_22 : decode cJ3_putCharsAt 22 = .ok (.iload_n 1, 1) := dk_27 (dk_at dksJ3_putCharsAt_0 22 rfl rfl)
theorem dJ3_putCharsAt_23 : decode cJ3_putCharsAt 23 = .ok (.iinc 1 1, 3) := dk_132 1 1 (dk_at dksJ3_putCharsAt_1 0 rfl rfl)
theorem dJ3_putCharsAt_26 : decode cJ3_putCharsAt 26 = .ok (.iload_n 3, 1) := dk_29 (dk_at dksJ3_putCharsAt_1 3 rfl rfl)
theorem dJ3_putCharsAt_27 : decode cJ3_putCharsAt 27 = .ok (.invokestatic 111, 3) := dk_184 0 111 (dk_at dksJ3_putCharsAt_1 4 rfl rfl)
theorem dJ3_putCharsAt_30 : decode cJ3_putCharsAt 30 = .ok (.aload_n 0, 1) := dk_42 (dk_at dksJ3_putCharsAt_1 7 rfl rfl)
theorem dJ3_putCharsAt_31 : decode cJ3_putCharsAt 31 = .ok (.iload_n 1, 1) := dk_27 (dk_at dksJ3_putCharsAt_1 8 rfl rfl)
theorem dJ3_putCharsAt_32 : decode cJ3_putCharsAt 32 = .ok (.iinc 1 1, 3) := dk_132 1 1 (dk_at dksJ3_putCharsAt_1 9 rfl rfl)
theorem dJ3_putCharsAt_35 : decode cJ3_putCharsAt 35 = .ok (.iload 4, 2) := dk_21 4 (dk_at dksJ3_putCharsAt_1 12 rfl rfl)
theorem dJ3_putCharsAt_37 : decode cJ3_putCharsAt 37 = .ok (.invokestatic 111, 3) := dk_184 0 111 (dk_at dksJ3_putCharsAt_1 14 rfl rfl)
theorem dJ3_putCharsAt_40 : decode cJ3_putCharsAt 40 = .ok (.aload_n 0, 1) := dk_42 (dk_at dksJ3_putCharsAt_1 17 rfl rfl)
theorem dJ3_putCharsAt_41 : decode cJ3_putCharsAt 41 = .ok (.iload_n 1, 1) := dk_27 (dk_at dksJ3_putCharsAt_1 18 rfl rfl)
theorem dJ3_putCharsAt_42 : decode cJ3_putCharsAt 42 = .ok (.iinc 1 1, 3) := dk_132 1 1 (dk_at dksJ3_putCharsAt_1 19 rfl rfl)
theorem dJ3_putCharsAt_45 : decode cJ3_putCharsAt 45 = .ok (.iload 5, 2) := dk_21 5 (dk_at dksJ3_putCharsAt_1 22 rfl rfl)
theorem dJ3_putCharsAt_47 : decode cJ3_putCharsAt 47 = .ok (.invokestatic 111, 3) := dk_184 0 111 (dk_at dksJ3_putCharsAt_2 0 rfl rfl)
theorem dJ3_putCharsAt_50 : decode cJ3_putCharsAt 50 = .ok (.getstatic 44, 3) := dk_178 0 44 (dk_at dksJ3_putCharsAt_2 3 rfl rfl)
theorem dJ3_putCharsAt_53 : decode cJ3_putCharsAt 53 = .ok (.ifCond .ne 17, 3) := dk_154 0 17 (dk_at dksJ3_putCharsAt_2 6 rfl rfl)
theorem dJ3_putCharsAt_56 : decode cJ3_putCharsAt 56 = .ok (.iload_n 1, 1) := dk_27 (dk_at dksJ3_putCharsAt_2 9 rfl rfl)
theorem dJ3_putCharsAt_57 : decode cJ3_putCharsAt 57 = .ok (.iload 6, 2) := dk_21 6 (dk_at dksJ3_putCharsAt_2 10 rfl rfl)
theorem dJ3_putCharsAt_59 : decode cJ3_putCharsAt 59 = .ok (.if_icmp .eq 11, 3) := dk_159 0 11 (dk_at dksJ3_putCharsAt_2 12 rfl rfl)
theorem dJ3_putCharsAt_62 : decode cJ3_putCharsAt 62 = .ok (.new 52, 3) := dk_187 0 52 (dk_at dksJ3_putCharsAt_2 15 rfl rfl)
theorem dJ3_putCharsAt_65 : decode cJ3_putCharsAt 65 = .ok (.dup, 1) := dk_89 (dk_at dksJ3_putCharsAt_2 18 rfl rfl)
theorem dJ3_putCharsAt_66 : decode cJ3_putCharsAt 66 = .ok (.invokespecial 66, 3) := dk_183 0 66 (dk_at dksJ3_putCharsAt_2 19 rfl rfl)
theorem dJ3_putCharsAt_69 : decode cJ3_putCharsAt 69 = .ok (.athrow, 1) := dk_191 (dk_at dksJ3_putCharsAt_2 22 rfl rfl)
theorem dJ3_putCharsAt_70 : decode cJ3_putCharsAt 70 = .ok (.iload 6, 2) := dk_21 6 (dk_at dksJ3_putCharsAt_3 0 rfl rfl)
theorem dJ3_putCharsAt_72 : decode cJ3_putCharsAt 72 = .ok (.ireturn, 1) := dk_172 (dk_at dksJ3_putCharsAt_3 2 rfl rfl)
abbrev cJ3_compress : ByteArray := prog_89_method_17_code
def yJ3_compress : MethodName := ⟨RJ3, "compress", "([BII)[B"⟩
def dkwJ3_compress_2 : List UInt8 := [25, 5, 3, 45, 3, 28, 184, 0, 123, 28, 159, 0, 6, 25, 5, 176, 45, 176]
abbrev dktJ3_compress_2 : List UInt8 := dkwJ3_compress_2 ++ []
def dkwJ3_compress_1 : List UInt8 := [27, 28, 96, 184, 0, 11, 184, 0, 126, 58, 5, 25, 5, 21, 4, 184, 0, 71, 17, 0, 255, 163, 0, 16]
abbrev dktJ3_compress_1 : List UInt8 := dkwJ3_compress_1 ++ dktJ3_compress_2
def dkwJ3_compress_0 : List UInt8 := [28, 188, 8, 78, 42, 27, 45, 3, 28, 184, 0, 123, 54, 4, 21, 4, 28, 159, 0, 47, 42, 27, 4, 120]
abbrev dktJ3_compress_0 : List UInt8 := dkwJ3_compress_0 ++ dktJ3_compress_1
theorem dksJ3_compress_0 : cJ3_compress.data.toList.drop 0 = dktJ3_compress_0 := by decide +kernel
theorem dksJ3_compress_1 : cJ3_compress.data.toList.drop 24 = dktJ3_compress_1 := dk_seg dksJ3_compress_0 24 rfl rfl
theorem dksJ3_compress_2 : cJ3_compress.data.toList.drop 48 = dktJ3_compress_2 := dk_seg dksJ3_compress_1 24 rfl rfl
theorem dJ3_compress_0 : decode cJ3_compress 0 = .ok (.iload_n 2, 1) := dk_28 (dk_at dksJ3_compress_0 0 rfl rfl)
theorem dJ3_compress_1 : decode cJ3_compress 1 = .ok (.newarray .byte, 2) := dk_188_8 (dk_at dksJ3_compress_0 1 rfl rfl)
theorem dJ3_compress_3 : decode cJ3_compress 3 = .ok (.astore_n 3, 1) := dk_78 (dk_at dksJ3_compress_0 3 rfl rfl)
theorem dJ3_compress_4 : decode cJ3_compress 4 = .ok (.aload_n 0, 1) := dk_42 (dk_at dksJ3_compress_0 4 rfl rfl)
theorem dJ3_compress_5 : decode cJ3_compress 5 = .ok (.iload_n 1, 1) := dk_27 (dk_at dksJ3_compress_0 5 rfl rfl)
theorem dJ3_compress_6 : decode cJ3_compress 6 = .ok (.aload_n 3, 1) := dk_45 (dk_at dksJ3_compress_0 6 rfl rfl)
theorem dJ3_compress_7 : decode cJ3_compress 7 = .ok (.iconst 0, 1) := dk_3 (dk_at dksJ3_compress_0 7 rfl rfl)
theorem dJ3_compress_8 : decode cJ3_compress 8 = .ok (.iload_n 2, 1) := dk_28 (dk_at dksJ3_compress_0 8 rfl rfl)
theorem dJ3_compress_9 : decode cJ3_compress 9 = .ok (.invokestatic 123, 3) := dk_184 0 123 (dk_at dksJ3_compress_0 9 rfl rfl)
theorem dJ3_compress_12 : decode cJ3_compress 12 = .ok (.istore 4, 2) := dk_54 4 (dk_at dksJ3_compress_0 12 rfl rfl)
theorem dJ3_compress_14 : decode cJ3_compress 14 = .ok (.iload 4, 2) := dk_21 4 (dk_at dksJ3_compress_0 14 rfl rfl)
theorem dJ3_compress_16 : decode cJ3_compress 16 = .ok (.iload_n 2, 1) := dk_28 (dk_at dksJ3_compress_0 16 rfl rfl)
theorem dJ3_compress_17 : decode cJ3_compress 17 = .ok (.if_icmp .eq 47, 3) := dk_159 0 47 (dk_at dksJ3_compress_0 17 rfl rfl)
theorem dJ3_compress_20 : decode cJ3_compress 20 = .ok (.aload_n 0, 1) := dk_42 (dk_at dksJ3_compress_0 20 rfl rfl)
theorem dJ3_compress_21 : decode cJ3_compress 21 = .ok (.iload_n 1, 1) := dk_27 (dk_at dksJ3_compress_0 21 rfl rfl)
theorem dJ3_compress_22 : decode cJ3_compress 22 = .ok (.iconst 1, 1) := dk_4 (dk_at dksJ3_compress_0 22 rfl rfl)
theorem dJ3_compress_23 : decode cJ3_compress 23 = .ok (.ishl, 1) := dk_120 (dk_at dksJ3_compress_0 23 rfl rfl)
theorem dJ3_compress_24 : decode cJ3_compress 24 = .ok (.iload_n 1, 1) := dk_27 (dk_at dksJ3_compress_1 0 rfl rfl)
theorem dJ3_compress_25 : decode cJ3_compress 25 = .ok (.iload_n 2, 1) := dk_28 (dk_at dksJ3_compress_1 1 rfl rfl)
theorem dJ3_compress_26 : decode cJ3_compress 26 = .ok (.iadd, 1) := dk_96 (dk_at dksJ3_compress_1 2 rfl rfl)
theorem dJ3_compress_27 : decode cJ3_compress 27 = .ok (.invokestatic 11, 3) := dk_184 0 11 (dk_at dksJ3_compress_1 3 rfl rfl)
theorem dJ3_compress_30 : decode cJ3_compress 30 = .ok (.invokestatic 126, 3) := dk_184 0 126 (dk_at dksJ3_compress_1 6 rfl rfl)
theorem dJ3_compress_33 : decode cJ3_compress 33 = .ok (.astore 5, 2) := dk_58 5 (dk_at dksJ3_compress_1 9 rfl rfl)
theorem dJ3_compress_35 : decode cJ3_compress 35 = .ok (.aload 5, 2) := dk_25 5 (dk_at dksJ3_compress_1 11 rfl rfl)
theorem dJ3_compress_37 : decode cJ3_compress 37 = .ok (.iload 4, 2) := dk_21 4 (dk_at dksJ3_compress_1 13 rfl rfl)
theorem dJ3_compress_39 : decode cJ3_compress 39 = .ok (.invokestatic 71, 3) := dk_184 0 71 (dk_at dksJ3_compress_1 15 rfl rfl)
theorem dJ3_compress_42 : decode cJ3_compress 42 = .ok (.sipush 255, 3) := dk_17 0 255 (dk_at dksJ3_compress_1 18 rfl rfl)
theorem dJ3_compress_45 : decode cJ3_compress 45 = .ok (.if_icmp .gt 16, 3) := dk_163 0 16 (dk_at dksJ3_compress_1 21 rfl rfl)
theorem dJ3_compress_48 : decode cJ3_compress 48 = .ok (.aload 5, 2) := dk_25 5 (dk_at dksJ3_compress_2 0 rfl rfl)
theorem dJ3_compress_50 : decode cJ3_compress 50 = .ok (.iconst 0, 1) := dk_3 (dk_at dksJ3_compress_2 2 rfl rfl)
theorem dJ3_compress_51 : decode cJ3_compress 51 = .ok (.aload_n 3, 1) := dk_45 (dk_at dksJ3_compress_2 3 rfl rfl)
theorem dJ3_compress_52 : decode cJ3_compress 52 = .ok (.iconst 0, 1) := dk_3 (dk_at dksJ3_compress_2 4 rfl rfl)
theorem dJ3_compress_53 : decode cJ3_compress 53 = .ok (.iload_n 2, 1) := dk_28 (dk_at dksJ3_compress_2 5 rfl rfl)
theorem dJ3_compress_54 : decode cJ3_compress 54 = .ok (.invokestatic 123, 3) := dk_184 0 123 (dk_at dksJ3_compress_2 6 rfl rfl)
theorem dJ3_compress_57 : decode cJ3_compress 57 = .ok (.iload_n 2, 1) := dk_28 (dk_at dksJ3_compress_2 9 rfl rfl)
theorem dJ3_compress_58 : decode cJ3_compress 58 = .ok (.if_icmp .eq 6, 3) := dk_159 0 6 (dk_at dksJ3_compress_2 10 rfl rfl)
theorem dJ3_compress_61 : decode cJ3_compress 61 = .ok (.aload 5, 2) := dk_25 5 (dk_at dksJ3_compress_2 13 rfl rfl)
theorem dJ3_compress_63 : decode cJ3_compress 63 = .ok (.areturn, 1) := dk_176 (dk_at dksJ3_compress_2 15 rfl rfl)
theorem dJ3_compress_64 : decode cJ3_compress 64 = .ok (.aload_n 3, 1) := dk_45 (dk_at dksJ3_compress_2 16 rfl rfl)
theorem dJ3_compress_65 : decode cJ3_compress 65 = .ok (.areturn, 1) := dk_176 (dk_at dksJ3_compress_2 17 rfl rfl)
abbrev cJ3_compress_2 : ByteArray := prog_89_method_22_code
def yJ3_compress_2 : MethodName := ⟨RJ3, "compress", "([BI[BII)I"⟩
def dkwJ3_compress_2_2 : List UInt8 := [132, 5, 1, 167, 255, 216, 21, 4, 172]
abbrev dktJ3_compress_2_2 : List UInt8 := dkwJ3_compress_2_2 ++ []
def dkwJ3_compress_2_1 : List UInt8 := [21, 6, 17, 0, 255, 164, 0, 6, 21, 5, 172, 44, 29, 21, 6, 145, 84, 132, 1, 1, 132, 3, 1]
abbrev dktJ3_compress_2_1 : List UInt8 := dkwJ3_compress_2_1 ++ dktJ3_compress_2_2
def dkwJ3_compress_2_0 : List UInt8 := [27, 21, 4, 42, 184, 0, 173, 3, 54, 5, 21, 5, 21, 4, 162, 0, 39, 42, 27, 184, 0, 71, 54, 6]
abbrev dktJ3_compress_2_0 : List UInt8 := dkwJ3_compress_2_0 ++ dktJ3_compress_2_1
theorem dksJ3_compress_2_0 : cJ3_compress_2.data.toList.drop 0 = dktJ3_compress_2_0 := by decide +kernel
theorem dksJ3_compress_2_1 : cJ3_compress_2.data.toList.drop 24 = dktJ3_compress_2_1 := dk_seg dksJ3_compress_2_0 24 rfl rfl
theorem dksJ3_compress_2_2 : cJ3_compress_2.data.toList.drop 47 = dktJ3_compress_2_2 := dk_seg dksJ3_compress_2_1 23 rfl rfl
theorem dJ3_compress_2_0 : decode cJ3_compress_2 0 = .ok (.iload_n 1, 1) := dk_27 (dk_at dksJ3_compress_2_0 0 rfl rfl)
theorem dJ3_compress_2_1 : decode cJ3_compress_2 1 = .ok (.iload 4, 2) := dk_21 4 (dk_at dksJ3_compress_2_0 1 rfl rfl)
theorem dJ3_compress_2_3 : decode cJ3_compress_2 3 = .ok (.aload_n 0, 1) := dk_42 (dk_at dksJ3_compress_2_0 3 rfl rfl)
theorem dJ3_compress_2_4 : decode cJ3_compress_2 4 = .ok (.invokestatic 173, 3) := dk_184 0 173 (dk_at dksJ3_compress_2_0 4 rfl rfl)
theorem dJ3_compress_2_7 : decode cJ3_compress_2 7 = .ok (.iconst 0, 1) := dk_3 (dk_at dksJ3_compress_2_0 7 rfl rfl)
theorem dJ3_compress_2_8 : decode cJ3_compress_2 8 = .ok (.istore 5, 2) := dk_54 5 (dk_at dksJ3_compress_2_0 8 rfl rfl)
theorem dJ3_compress_2_10 : decode cJ3_compress_2 10 = .ok (.iload 5, 2) := dk_21 5 (dk_at dksJ3_compress_2_0 10 rfl rfl)
theorem dJ3_compress_2_12 : decode cJ3_compress_2 12 = .ok (.iload 4, 2) := dk_21 4 (dk_at dksJ3_compress_2_0 12 rfl rfl)
theorem dJ3_compress_2_14 : decode cJ3_compress_2 14 = .ok (.if_icmp .ge 39, 3) := dk_162 0 39 (dk_at dksJ3_compress_2_0 14 rfl rfl)
theorem dJ3_compress_2_17 : decode cJ3_compress_2 17 = .ok (.aload_n 0, 1) := dk_42 (dk_at dksJ3_compress_2_0 17 rfl rfl)
theorem dJ3_compress_2_18 : decode cJ3_compress_2 18 = .ok (.iload_n 1, 1) := dk_27 (dk_at dksJ3_compress_2_0 18 rfl rfl)
theorem dJ3_compress_2_19 : decode cJ3_compress_2 19 = .ok (.invokestatic 71, 3) := dk_184 0 71 (dk_at dksJ3_compress_2_0 19 rfl rfl)
theorem dJ3_compress_2_22 : decode cJ3_compress_2 22 = .ok (.istore 6, 2) := dk_54 6 (dk_at dksJ3_compress_2_0 22 rfl rfl)
theorem dJ3_compress_2_24 : decode cJ3_compress_2 24 = .ok (.iload 6, 2) := dk_21 6 (dk_at dksJ3_compress_2_1 0 rfl rfl)
theorem dJ3_compress_2_26 : decode cJ3_compress_2 26 = .ok (.sipush 255, 3) := dk_17 0 255 (dk_at dksJ3_compress_2_1 2 rfl rfl)
theorem dJ3_compress_2_29 : decode cJ3_compress_2 29 = .ok (.if_icmp .le 6, 3) := dk_164 0 6 (dk_at dksJ3_compress_2_1 5 rfl rfl)
theorem dJ3_compress_2_32 : decode cJ3_compress_2 32 = .ok (.iload 5, 2) := dk_21 5 (dk_at dksJ3_compress_2_1 8 rfl rfl)
theorem dJ3_compress_2_34 : decode cJ3_compress_2 34 = .ok (.ireturn, 1) := dk_172 (dk_at dksJ3_compress_2_1 10 rfl rfl)
theorem dJ3_compress_2_35 : decode cJ3_compress_2 35 = .ok (.aload_n 2, 1) := dk_44 (dk_at dksJ3_compress_2_1 11 rfl rfl)
theorem dJ3_compress_2_36 : decode cJ3_compress_2 36 = .ok (.iload_n 3, 1) := dk_29 (dk_at dksJ3_compress_2_1 12 rfl rfl)
theorem dJ3_compress_2_37 : decode cJ3_compress_2 37 = .ok (.iload 6, 2) := dk_21 6 (dk_at dksJ3_compress_2_1 13 rfl rfl)
theorem dJ3_compress_2_39 : decode cJ3_compress_2 39 = .ok (.i2b, 1) := dk_145 (dk_at dksJ3_compress_2_1 15 rfl rfl)
theorem dJ3_compress_2_40 : decode cJ3_compress_2 40 = .ok (.bastore, 1) := dk_84 (dk_at dksJ3_compress_2_1 16 rfl rfl)
theorem dJ3_compress_2_41 : decode cJ3_compress_2 41 = .ok (.iinc 1 1, 3) := dk_132 1 1 (dk_at dksJ3_compress_2_1 17 rfl rfl)
theorem dJ3_compress_2_44 : decode cJ3_compress_2 44 = .ok (.iinc 3 1, 3) := dk_132 3 1 (dk_at dksJ3_compress_2_1 20 rfl rfl)
theorem dJ3_compress_2_47 : decode cJ3_compress_2 47 = .ok (.iinc 5 1, 3) := dk_132 5 1 (dk_at dksJ3_compress_2_2 0 rfl rfl)
theorem dJ3_compress_2_50 : decode cJ3_compress_2 50 = .ok (.goto (-40), 3) := dk_167 255 216 (dk_at dksJ3_compress_2_2 3 rfl rfl)
theorem dJ3_compress_2_53 : decode cJ3_compress_2 53 = .ok (.iload 4, 2) := dk_21 4 (dk_at dksJ3_compress_2_2 6 rfl rfl)
theorem dJ3_compress_2_55 : decode cJ3_compress_2 55 = .ok (.ireturn, 1) := dk_172 (dk_at dksJ3_compress_2_2 8 rfl rfl)
abbrev cJ3_coderFromArrayLen : ByteArray := prog_89_method_15_code
def yJ3_coderFromArrayLen : MethodName := ⟨RJ3, "coderFromArrayLen", "([BI)B"⟩
def dkwJ3_coderFromArrayLen_0 : List UInt8 := [27, 42, 190, 100, 16, 31, 124, 145, 172]
abbrev dktJ3_coderFromArrayLen_0 : List UInt8 := dkwJ3_coderFromArrayLen_0 ++ []
theorem dksJ3_coderFromArrayLen_0 : cJ3_coderFromArrayLen.data.toList.drop 0 = dktJ3_coderFromArrayLen_0 := by decide +kernel
theorem dJ3_coderFromArrayLen_0 : decode cJ3_coderFromArrayLen 0 = .ok (.iload_n 1, 1) := dk_27 (dk_at dksJ3_coderFromArrayLen_0 0 rfl rfl)
theorem dJ3_coderFromArrayLen_1 : decode cJ3_coderFromArrayLen 1 = .ok (.aload_n 0, 1) := dk_42 (dk_at dksJ3_coderFromArrayLen_0 1 rfl rfl)
theorem dJ3_coderFromArrayLen_2 : decode cJ3_coderFromArrayLen 2 = .ok (.arraylength, 1) := dk_190 (dk_at dksJ3_coderFromArrayLen_0 2 rfl rfl)
theorem dJ3_coderFromArrayLen_3 : decode cJ3_coderFromArrayLen 3 = .ok (.isub, 1) := dk_100 (dk_at dksJ3_coderFromArrayLen_0 3 rfl rfl)
theorem dJ3_coderFromArrayLen_4 : decode cJ3_coderFromArrayLen 4 = .ok (.bipush 31, 2) := dk_16 31 (dk_at dksJ3_coderFromArrayLen_0 4 rfl rfl)
theorem dJ3_coderFromArrayLen_6 : decode cJ3_coderFromArrayLen 6 = .ok (.iushr, 1) := dk_124 (dk_at dksJ3_coderFromArrayLen_0 6 rfl rfl)
theorem dJ3_coderFromArrayLen_7 : decode cJ3_coderFromArrayLen 7 = .ok (.i2b, 1) := dk_145 (dk_at dksJ3_coderFromArrayLen_0 7 rfl rfl)
theorem dJ3_coderFromArrayLen_8 : decode cJ3_coderFromArrayLen 8 = .ok (.ireturn, 1) := dk_172 (dk_at dksJ3_coderFromArrayLen_0 8 rfl rfl)
abbrev cJ3_fillNull : ByteArray := prog_89_method_70_code
def yJ3_fillNull : MethodName := ⟨RJ3, "fillNull", "([BII)V"⟩
def dkwJ3_fillNull_0 : List UInt8 := [42, 27, 4, 120, 28, 4, 120, 3, 184, 1, 124, 177]
abbrev dktJ3_fillNull_0 : List UInt8 := dkwJ3_fillNull_0 ++ []
theorem dksJ3_fillNull_0 : cJ3_fillNull.data.toList.drop 0 = dktJ3_fillNull_0 := by decide +kernel
theorem dJ3_fillNull_0 : decode cJ3_fillNull 0 = .ok (.aload_n 0, 1) := dk_42 (dk_at dksJ3_fillNull_0 0 rfl rfl)
theorem dJ3_fillNull_1 : decode cJ3_fillNull 1 = .ok (.iload_n 1, 1) := dk_27 (dk_at dksJ3_fillNull_0 1 rfl rfl)
theorem dJ3_fillNull_2 : decode cJ3_fillNull 2 = .ok (.iconst 1, 1) := dk_4 (dk_at dksJ3_fillNull_0 2 rfl rfl)
theorem dJ3_fillNull_3 : decode cJ3_fillNull 3 = .ok (.ishl, 1) := dk_120 (dk_at dksJ3_fillNull_0 3 rfl rfl)
theorem dJ3_fillNull_4 : decode cJ3_fillNull 4 = .ok (.iload_n 2, 1) := dk_28 (dk_at dksJ3_fillNull_0 4 rfl rfl)
theorem dJ3_fillNull_5 : decode cJ3_fillNull 5 = .ok (.iconst 1, 1) := dk_4 (dk_at dksJ3_fillNull_0 5 rfl rfl)
theorem dJ3_fillNull_6 : decode cJ3_fillNull 6 = .ok (.ishl, 1) := dk_120 (dk_at dksJ3_fillNull_0 6 rfl rfl)
theorem dJ3_fillNull_7 : decode cJ3_fillNull 7 = .ok (.iconst 0, 1) := dk_3 (dk_at dksJ3_fillNull_0 7 rfl rfl)
theorem dJ3_fillNull_8 : decode cJ3_fillNull 8 = .ok (.invokestatic 380, 3) := dk_184 1 124 (dk_at dksJ3_fillNull_0 8 rfl rfl)
theorem dJ3_fillNull_11 : decode cJ3_fillNull 11 = .ok (.return_, 1) := dk_177 (dk_at dksJ3_fillNull_0 11 rfl rfl)
abbrev cJ3_charAt : ByteArray := prog_89_method_83_code
def yJ3_charAt : MethodName := ⟨RJ3, "charAt", "([BI)C"⟩
def dkwJ3_charAt_0 : List UInt8 := [27, 42, 184, 0, 67, 42, 27, 184, 0, 71, 172]
abbrev dktJ3_charAt_0 : List UInt8 := dkwJ3_charAt_0 ++ []
theorem dksJ3_charAt_0 : cJ3_charAt.data.toList.drop 0 = dktJ3_charAt_0 := by decide +kernel
theorem dJ3_charAt_0 : decode cJ3_charAt 0 = .ok (.iload_n 1, 1) := dk_27 (dk_at dksJ3_charAt_0 0 rfl rfl)
theorem dJ3_charAt_1 : decode cJ3_charAt 1 = .ok (.aload_n 0, 1) := dk_42 (dk_at dksJ3_charAt_0 1 rfl rfl)
theorem dJ3_charAt_2 : decode cJ3_charAt 2 = .ok (.invokestatic 67, 3) := dk_184 0 67 (dk_at dksJ3_charAt_0 2 rfl rfl)
theorem dJ3_charAt_5 : decode cJ3_charAt 5 = .ok (.aload_n 0, 1) := dk_42 (dk_at dksJ3_charAt_0 5 rfl rfl)
theorem dJ3_charAt_6 : decode cJ3_charAt 6 = .ok (.iload_n 1, 1) := dk_27 (dk_at dksJ3_charAt_0 6 rfl rfl)
theorem dJ3_charAt_7 : decode cJ3_charAt 7 = .ok (.invokestatic 71, 3) := dk_184 0 71 (dk_at dksJ3_charAt_0 7 rfl rfl)
theorem dJ3_charAt_10 : decode cJ3_charAt 10 = .ok (.ireturn, 1) := dk_172 (dk_at dksJ3_charAt_0 10 rfl rfl)
abbrev cJ3_putCharsSB : ByteArray := prog_89_method_73_code
def yJ3_putCharsSB : MethodName := ⟨RJ3, "putCharsSB", "([BILjava/lang/CharSequence;II)V"⟩
def dkwJ3_putCharsSB_1 : List UInt8 := [132, 1, 1, 44, 21, 5, 185, 1, 132, 2, 0, 184, 0, 111, 132, 5, 1, 167, 255, 230, 177]
abbrev dktJ3_putCharsSB_1 : List UInt8 := dkwJ3_putCharsSB_1 ++ []
def dkwJ3_putCharsSB_0 : List UInt8 := [27, 27, 21, 4, 96, 29, 100, 42, 184, 0, 96, 29, 54, 5, 21, 5, 21, 4, 162, 0, 25, 42, 27]
abbrev dktJ3_putCharsSB_0 : List UInt8 := dkwJ3_putCharsSB_0 ++ dktJ3_putCharsSB_1
theorem dksJ3_putCharsSB_0 : cJ3_putCharsSB.data.toList.drop 0 = dktJ3_putCharsSB_0 := by decide +kernel
theorem dksJ3_putCharsSB_1 : cJ3_putCharsSB.data.toList.drop 23 = dktJ3_putCharsSB_1 := dk_seg dksJ3_putCharsSB_0 23 rfl rfl
theorem dJ3_putCharsSB_0 : decode cJ3_putCharsSB 0 = .ok (.iload_n 1, 1) := dk_27 (dk_at dksJ3_putCharsSB_0 0 rfl rfl)
theorem dJ3_putCharsSB_1 : decode cJ3_putCharsSB 1 = .ok (.iload_n 1, 1) := dk_27 (dk_at dksJ3_putCharsSB_0 1 rfl rfl)
theorem dJ3_putCharsSB_2 : decode cJ3_putCharsSB 2 = .ok (.iload 4, 2) := dk_21 4 (dk_at dksJ3_putCharsSB_0 2 rfl rfl)
theorem dJ3_putCharsSB_4 : decode cJ3_putCharsSB 4 = .ok (.iadd, 1) := dk_96 (dk_at dksJ3_putCharsSB_0 4 rfl rfl)
theorem dJ3_putCharsSB_5 : decode cJ3_putCharsSB 5 = .ok (.iload_n 3, 1) := dk_29 (dk_at dksJ3_putCharsSB_0 5 rfl rfl)
theorem dJ3_putCharsSB_6 : decode cJ3_putCharsSB 6 = .ok (.isub, 1) := dk_100 (dk_at dksJ3_putCharsSB_0 6 rfl rfl)
theorem dJ3_putCharsSB_7 : decode cJ3_putCharsSB 7 = .ok (.aload_n 0, 1) := dk_42 (dk_at dksJ3_putCharsSB_0 7 rfl rfl)
theorem dJ3_putCharsSB_8 : decode cJ3_putCharsSB 8 = .ok (.invokestatic 96, 3) := dk_184 0 96 (dk_at dksJ3_putCharsSB_0 8 rfl rfl)
theorem dJ3_putCharsSB_11 : decode cJ3_putCharsSB 11 = .ok (.iload_n 3, 1) := dk_29 (dk_at dksJ3_putCharsSB_0 11 rfl rfl)
theorem dJ3_putCharsSB_12 : decode cJ3_putCharsSB 12 = .ok (.istore 5, 2) := dk_54 5 (dk_at dksJ3_putCharsSB_0 12 rfl rfl)
theorem dJ3_putCharsSB_14 : decode cJ3_putCharsSB 14 = .ok (.iload 5, 2) := dk_21 5 (dk_at dksJ3_putCharsSB_0 14 rfl rfl)
theorem dJ3_putCharsSB_16 : decode cJ3_putCharsSB 16 = .ok (.iload 4, 2) := dk_21 4 (dk_at dksJ3_putCharsSB_0 16 rfl rfl)
theorem dJ3_putCharsSB_18 : decode cJ3_putCharsSB 18 = .ok (.if_icmp .ge 25, 3) := dk_162 0 25 (dk_at dksJ3_putCharsSB_0 18 rfl rfl)
theorem dJ3_putCharsSB_21 : decode cJ3_putCharsSB 21 = .ok (.aload_n 0, 1) := dk_42 (dk_at dksJ3_putCharsSB_0 21 rfl rfl)
theorem dJ3_putCharsSB_22 : decode cJ3_putCharsSB 22 = .ok (.iload_n 1, 1) := dk_27 (dk_at dksJ3_putCharsSB_0 22 rfl rfl)
theorem dJ3_putCharsSB_23 : decode cJ3_putCharsSB 23 = .ok (.iinc 1 1, 3) := dk_132 1 1 (dk_at dksJ3_putCharsSB_1 0 rfl rfl)
theorem dJ3_putCharsSB_26 : decode cJ3_putCharsSB 26 = .ok (.aload_n 2, 1) := dk_44 (dk_at dksJ3_putCharsSB_1 3 rfl rfl)
theorem dJ3_putCharsSB_27 : decode cJ3_putCharsSB 27 = .ok (.iload 5, 2) := dk_21 5 (dk_at dksJ3_putCharsSB_1 4 rfl rfl)
theorem dJ3_putCharsSB_29 : decode cJ3_putCharsSB 29 = .ok (.invokeinterface 388 2, 5) := by decide +kernel
theorem dJ3_putCharsSB_34 : decode cJ3_putCharsSB 34 = .ok (.invokestatic 111, 3) := dk_184 0 111 (dk_at dksJ3_putCharsSB_1 11 rfl rfl)
theorem dJ3_putCharsSB_37 : decode cJ3_putCharsSB 37 = .ok (.iinc 5 1, 3) := dk_132 5 1 (dk_at dksJ3_putCharsSB_1 14 rfl rfl)
theorem dJ3_putCharsSB_40 : decode cJ3_putCharsSB 40 = .ok (.goto (-26), 3) := dk_167 255 230 (dk_at dksJ3_putCharsSB_1 17 rfl rfl)
theorem dJ3_putCharsSB_43 : decode cJ3_putCharsSB 43 = .ok (.return_, 1) := dk_177 (dk_at dksJ3_putCharsSB_1 20 rfl rfl)
abbrev cJ3_hashCode : ByteArray := prog_89_method_39_code
def yJ3_hashCode : MethodName := ⟨RJ3, "hashCode", "([B)I"⟩
def dkwJ3_hashCode_2 : List UInt8 := [3, 167, 0, 22, 42, 3, 184, 0, 71, 167, 0, 14, 42, 3, 42, 190, 4, 122, 3, 8, 184, 0, 220, 172]
abbrev dktJ3_hashCode_2 : List UInt8 := dkwJ3_hashCode_2 ++ []
def dkwJ3_hashCode_1 : List UInt8 := [171, 0, 0, 0, 0, 38, 0, 0, 0, 2, 0, 0, 0, 0, 0, 0, 0, 26, 0, 0, 0, 2, 0, 0, 0, 30]
abbrev dktJ3_hashCode_1 : List UInt8 := dkwJ3_hashCode_1 ++ dktJ3_hashCode_2
def dkwJ3_hashCode_0 : List UInt8 := [42, 190]
abbrev dktJ3_hashCode_0 : List UInt8 := dkwJ3_hashCode_0 ++ dktJ3_hashCode_1
theorem dksJ3_hashCode_0 : cJ3_hashCode.data.toList.drop 0 = dktJ3_hashCode_0 := by decide +kernel
theorem dksJ3_hashCode_1 : cJ3_hashCode.data.toList.drop 2 = dktJ3_hashCode_1 := dk_seg dksJ3_hashCode_0 2 rfl rfl
theorem dksJ3_hashCode_2 : cJ3_hashCode.data.toList.drop 28 = dktJ3_hashCode_2 := dk_seg dksJ3_hashCode_1 26 rfl rfl
theorem dJ3_hashCode_0 : decode cJ3_hashCode 0 = .ok (.aload_n 0, 1) := dk_42 (dk_at dksJ3_hashCode_0 0 rfl rfl)
theorem dJ3_hashCode_1 : decode cJ3_hashCode 1 = .ok (.arraylength, 1) := dk_190 (dk_at dksJ3_hashCode_0 1 rfl rfl)
theorem dJ3_hashCode_2 : decode cJ3_hashCode 2 = .ok (.lookupswitch 38 #[(0, 26), (2, 30)], 26) := by decide +kernel
theorem dJ3_hashCode_28 : decode cJ3_hashCode 28 = .ok (.iconst 0, 1) := dk_3 (dk_at dksJ3_hashCode_2 0 rfl rfl)
theorem dJ3_hashCode_29 : decode cJ3_hashCode 29 = .ok (.goto 22, 3) := dk_167 0 22 (dk_at dksJ3_hashCode_2 1 rfl rfl)
theorem dJ3_hashCode_32 : decode cJ3_hashCode 32 = .ok (.aload_n 0, 1) := dk_42 (dk_at dksJ3_hashCode_2 4 rfl rfl)
theorem dJ3_hashCode_33 : decode cJ3_hashCode 33 = .ok (.iconst 0, 1) := dk_3 (dk_at dksJ3_hashCode_2 5 rfl rfl)
theorem dJ3_hashCode_34 : decode cJ3_hashCode 34 = .ok (.invokestatic 71, 3) := dk_184 0 71 (dk_at dksJ3_hashCode_2 6 rfl rfl)
theorem dJ3_hashCode_37 : decode cJ3_hashCode 37 = .ok (.goto 14, 3) := dk_167 0 14 (dk_at dksJ3_hashCode_2 9 rfl rfl)
theorem dJ3_hashCode_40 : decode cJ3_hashCode 40 = .ok (.aload_n 0, 1) := dk_42 (dk_at dksJ3_hashCode_2 12 rfl rfl)
theorem dJ3_hashCode_41 : decode cJ3_hashCode 41 = .ok (.iconst 0, 1) := dk_3 (dk_at dksJ3_hashCode_2 13 rfl rfl)
theorem dJ3_hashCode_42 : decode cJ3_hashCode 42 = .ok (.aload_n 0, 1) := dk_42 (dk_at dksJ3_hashCode_2 14 rfl rfl)
theorem dJ3_hashCode_43 : decode cJ3_hashCode 43 = .ok (.arraylength, 1) := dk_190 (dk_at dksJ3_hashCode_2 15 rfl rfl)
theorem dJ3_hashCode_44 : decode cJ3_hashCode 44 = .ok (.iconst 1, 1) := dk_4 (dk_at dksJ3_hashCode_2 16 rfl rfl)
theorem dJ3_hashCode_45 : decode cJ3_hashCode 45 = .ok (.ishr, 1) := dk_122 (dk_at dksJ3_hashCode_2 17 rfl rfl)
theorem dJ3_hashCode_46 : decode cJ3_hashCode 46 = .ok (.iconst 0, 1) := dk_3 (dk_at dksJ3_hashCode_2 18 rfl rfl)
theorem dJ3_hashCode_47 : decode cJ3_hashCode 47 = .ok (.iconst 5, 1) := dk_8 (dk_at dksJ3_hashCode_2 19 rfl rfl)
theorem dJ3_hashCode_48 : decode cJ3_hashCode 48 = .ok (.invokestatic 220, 3) := dk_184 0 220 (dk_at dksJ3_hashCode_2 20 rfl rfl)
theorem dJ3_hashCode_51 : decode cJ3_hashCode 51 = .ok (.ireturn, 1) := dk_172 (dk_at dksJ3_hashCode_2 23 rfl rfl)
abbrev cJ3_compareTo : ByteArray := prog_89_method_29_code
def yJ3_compareTo : MethodName := ⟨RJ3, "compareTo", "([B[B)I"⟩
def dkwJ3_compareTo_0 : List UInt8 := [42, 184, 0, 48, 61, 43, 184, 0, 48, 62, 42, 43, 28, 29, 184, 0, 176, 172]
abbrev dktJ3_compareTo_0 : List UInt8 := dkwJ3_compareTo_0 ++ []
theorem dksJ3_compareTo_0 : cJ3_compareTo.data.toList.drop 0 = dktJ3_compareTo_0 := by decide +kernel
theorem dJ3_compareTo_0 : decode cJ3_compareTo 0 = .ok (.aload_n 0, 1) := dk_42 (dk_at dksJ3_compareTo_0 0 rfl rfl)
theorem dJ3_compareTo_1 : decode cJ3_compareTo 1 = .ok (.invokestatic 48, 3) := dk_184 0 48 (dk_at dksJ3_compareTo_0 1 rfl rfl)
theorem dJ3_compareTo_4 : decode cJ3_compareTo 4 = .ok (.istore_n 2, 1) := dk_61 (dk_at dksJ3_compareTo_0 4 rfl rfl)
theorem dJ3_compareTo_5 : decode cJ3_compareTo 5 = .ok (.aload_n 1, 1) := dk_43 (dk_at dksJ3_compareTo_0 5 rfl rfl)
theorem dJ3_compareTo_6 : decode cJ3_compareTo 6 = .ok (.invokestatic 48, 3) := dk_184 0 48 (dk_at dksJ3_compareTo_0 6 rfl rfl)
theorem dJ3_compareTo_9 : decode cJ3_compareTo 9 = .ok (.istore_n 3, 1) := dk_62 (dk_at dksJ3_compareTo_0 9 rfl rfl)
theorem dJ3_compareTo_10 : decode cJ3_compareTo 10 = .ok (.aload_n 0, 1) := dk_42 (dk_at dksJ3_compareTo_0 10 rfl rfl)
theorem dJ3_compareTo_11 : decode cJ3_compareTo 11 = .ok (.aload_n 1, 1) := dk_43 (dk_at dksJ3_compareTo_0 11 rfl rfl)
theorem dJ3_compareTo_12 : decode cJ3_compareTo 12 = .ok (.iload_n 2, 1) := dk_28 (dk_at dksJ3_compareTo_0 12 rfl rfl)
theorem dJ3_compareTo_13 : decode cJ3_compareTo 13 = .ok (.iload_n 3, 1) := dk_29 (dk_at dksJ3_compareTo_0 13 rfl rfl)
theorem dJ3_compareTo_14 : decode cJ3_compareTo 14 = .ok (.invokestatic 176, 3) := dk_184 0 176 (dk_at dksJ3_compareTo_0 14 rfl rfl)
theorem dJ3_compareTo_17 : decode cJ3_compareTo 17 = .ok (.ireturn, 1) := dk_172 (dk_at dksJ3_compareTo_0 17 rfl rfl)
abbrev cJ3_compareValues : ByteArray := prog_89_method_31_code
def yJ3_compareValues : MethodName := ⟨RJ3, "compareValues", "([B[BII)I"⟩
def dkwJ3_compareValues_2 : List UInt8 := [132, 5, 1, 167, 255, 217, 28, 29, 100, 172]
abbrev dktJ3_compareValues_2 : List UInt8 := dkwJ3_compareValues_2 ++ []
def dkwJ3_compareValues_1 : List UInt8 := [54, 6, 43, 21, 5, 184, 0, 71, 54, 7, 21, 6, 21, 7, 159, 0, 9, 21, 6, 21, 7, 100, 172]
abbrev dktJ3_compareValues_1 : List UInt8 := dkwJ3_compareValues_1 ++ dktJ3_compareValues_2
def dkwJ3_compareValues_0 : List UInt8 := [28, 29, 184, 0, 183, 54, 4, 3, 54, 5, 21, 5, 21, 4, 162, 0, 38, 42, 21, 5, 184, 0, 71]
abbrev dktJ3_compareValues_0 : List UInt8 := dkwJ3_compareValues_0 ++ dktJ3_compareValues_1
theorem dksJ3_compareValues_0 : cJ3_compareValues.data.toList.drop 0 = dktJ3_compareValues_0 := by decide +kernel
theorem dksJ3_compareValues_1 : cJ3_compareValues.data.toList.drop 23 = dktJ3_compareValues_1 := dk_seg dksJ3_compareValues_0 23 rfl rfl
theorem dksJ3_compareValues_2 : cJ3_compareValues.data.toList.drop 46 = dktJ3_compareValues_2 := dk_seg dksJ3_compareValues_1 23 rfl rfl
theorem dJ3_compareValues_0 : decode cJ3_compareValues 0 = .ok (.iload_n 2, 1) := dk_28 (dk_at dksJ3_compareValues_0 0 rfl rfl)
theorem dJ3_compareValues_1 : decode cJ3_compareValues 1 = .ok (.iload_n 3, 1) := dk_29 (dk_at dksJ3_compareValues_0 1 rfl rfl)
theorem dJ3_compareValues_2 : decode cJ3_compareValues 2 = .ok (.invokestatic 183, 3) := dk_184 0 183 (dk_at dksJ3_compareValues_0 2 rfl rfl)
theorem dJ3_compareValues_5 : decode cJ3_compareValues 5 = .ok (.istore 4, 2) := dk_54 4 (dk_at dksJ3_compareValues_0 5 rfl rfl)
theorem dJ3_compareValues_7 : decode cJ3_compareValues 7 = .ok (.iconst 0, 1) := dk_3 (dk_at dksJ3_compareValues_0 7 rfl rfl)
theorem dJ3_compareValues_8 : decode cJ3_compareValues 8 = .ok (.istore 5, 2) := dk_54 5 (dk_at dksJ3_compareValues_0 8 rfl rfl)
theorem dJ3_compareValues_10 : decode cJ3_compareValues 10 = .ok (.iload 5, 2) := dk_21 5 (dk_at dksJ3_compareValues_0 10 rfl rfl)
theorem dJ3_compareValues_12 : decode cJ3_compareValues 12 = .ok (.iload 4, 2) := dk_21 4 (dk_at dksJ3_compareValues_0 12 rfl rfl)
theorem dJ3_compareValues_14 : decode cJ3_compareValues 14 = .ok (.if_icmp .ge 38, 3) := dk_162 0 38 (dk_at dksJ3_compareValues_0 14 rfl rfl)
theorem dJ3_compareValues_17 : decode cJ3_compareValues 17 = .ok (.aload_n 0, 1) := dk_42 (dk_at dksJ3_compareValues_0 17 rfl rfl)
theorem dJ3_compareValues_18 : decode cJ3_compareValues 18 = .ok (.iload 5, 2) := dk_21 5 (dk_at dksJ3_compareValues_0 18 rfl rfl)
theorem dJ3_compareValues_20 : decode cJ3_compareValues 20 = .ok (.invokestatic 71, 3) := dk_184 0 71 (dk_at dksJ3_compareValues_0 20 rfl rfl)
theorem dJ3_compareValues_23 : decode cJ3_compareValues 23 = .ok (.istore 6, 2) := dk_54 6 (dk_at dksJ3_compareValues_1 0 rfl rfl)
theorem dJ3_compareValues_25 : decode cJ3_compareValues 25 = .ok (.aload_n 1, 1) := dk_43 (dk_at dksJ3_compareValues_1 2 rfl rfl)
theorem dJ3_compareValues_26 : decode cJ3_compareValues 26 = .ok (.iload 5, 2) := dk_21 5 (dk_at dksJ3_compareValues_1 3 rfl rfl)
theorem dJ3_compareValues_28 : decode cJ3_compareValues 28 = .ok (.invokestatic 71, 3) := dk_184 0 71 (dk_at dksJ3_compareValues_1 5 rfl rfl)
theorem dJ3_compareValues_31 : decode cJ3_compareValues 31 = .ok (.istore 7, 2) := dk_54 7 (dk_at dksJ3_compareValues_1 8 rfl rfl)
theorem dJ3_compareValues_33 : decode cJ3_compareValues 33 = .ok (.iload 6, 2) := dk_21 6 (dk_at dksJ3_compareValues_1 10 rfl rfl)
theorem dJ3_compareValues_35 : decode cJ3_compareValues 35 = .ok (.iload 7, 2) := dk_21 7 (dk_at dksJ3_compareValues_1 12 rfl rfl)
theorem dJ3_compareValues_37 : decode cJ3_compareValues 37 = .ok (.if_icmp .eq 9, 3) := dk_159 0 9 (dk_at dksJ3_compareValues_1 14 rfl rfl)
theorem dJ3_compareValues_40 : decode cJ3_compareValues 40 = .ok (.iload 6, 2) := dk_21 6 (dk_at dksJ3_compareValues_1 17 rfl rfl)
theorem dJ3_compareValues_42 : decode cJ3_compareValues 42 = .ok (.iload 7, 2) := dk_21 7 (dk_at dksJ3_compareValues_1 19 rfl rfl)
theorem dJ3_compareValues_44 : decode cJ3_compareValues 44 = .ok (.isub, 1) := dk_100 (dk_at dksJ3_compareValues_1 21 rfl rfl)
theorem dJ3_compareValues_45 : decode cJ3_compareValues 45 = .ok (.ireturn, 1) := dk_172 (dk_at dksJ3_compareValues_1 22 rfl rfl)
theorem dJ3_compareValues_46 : decode cJ3_compareValues 46 = .ok (.iinc 5 1, 3) := dk_132 5 1 (dk_at dksJ3_compareValues_2 0 rfl rfl)
theorem dJ3_compareValues_49 : decode cJ3_compareValues 49 = .ok (.goto (-39), 3) := dk_167 255 217 (dk_at dksJ3_compareValues_2 3 rfl rfl)
theorem dJ3_compareValues_52 : decode cJ3_compareValues 52 = .ok (.iload_n 2, 1) := dk_28 (dk_at dksJ3_compareValues_2 6 rfl rfl)
theorem dJ3_compareValues_53 : decode cJ3_compareValues 53 = .ok (.iload_n 3, 1) := dk_29 (dk_at dksJ3_compareValues_2 7 rfl rfl)
theorem dJ3_compareValues_54 : decode cJ3_compareValues 54 = .ok (.isub, 1) := dk_100 (dk_at dksJ3_compareValues_2 8 rfl rfl)
theorem dJ3_compareValues_55 : decode cJ3_compareValues 55 = .ok (.ireturn, 1) := dk_172 (dk_at dksJ3_compareValues_2 9 rfl rfl)
abbrev cJ3_compareToLatin1 : ByteArray := prog_89_method_32_code
def yJ3_compareToLatin1 : MethodName := ⟨RJ3, "compareToLatin1", "([B[B)I"⟩
def dkwJ3_compareToLatin1_0 : List UInt8 := [43, 42, 184, 0, 189, 116, 172]
abbrev dktJ3_compareToLatin1_0 : List UInt8 := dkwJ3_compareToLatin1_0 ++ []
theorem dksJ3_compareToLatin1_0 : cJ3_compareToLatin1.data.toList.drop 0 = dktJ3_compareToLatin1_0 := by decide +kernel
theorem dJ3_compareToLatin1_0 : decode cJ3_compareToLatin1 0 = .ok (.aload_n 1, 1) := dk_43 (dk_at dksJ3_compareToLatin1_0 0 rfl rfl)
theorem dJ3_compareToLatin1_1 : decode cJ3_compareToLatin1 1 = .ok (.aload_n 0, 1) := dk_42 (dk_at dksJ3_compareToLatin1_0 1 rfl rfl)
theorem dJ3_compareToLatin1_2 : decode cJ3_compareToLatin1 2 = .ok (.invokestatic 189, 3) := dk_184 0 189 (dk_at dksJ3_compareToLatin1_0 2 rfl rfl)
theorem dJ3_compareToLatin1_5 : decode cJ3_compareToLatin1 5 = .ok (.ineg, 1) := dk_116 (dk_at dksJ3_compareToLatin1_0 5 rfl rfl)
theorem dJ3_compareToLatin1_6 : decode cJ3_compareToLatin1 6 = .ok (.ireturn, 1) := dk_172 (dk_at dksJ3_compareToLatin1_0 6 rfl rfl)
abbrev cJ3_compareTo_2 : ByteArray := prog_89_method_30_code
def yJ3_compareTo_2 : MethodName := ⟨RJ3, "compareTo", "([B[BII)I"⟩
def dkwJ3_compareTo_2_0 : List UInt8 := [28, 42, 184, 0, 180, 29, 43, 184, 0, 180, 42, 43, 28, 29, 184, 0, 176, 172]
abbrev dktJ3_compareTo_2_0 : List UInt8 := dkwJ3_compareTo_2_0 ++ []
theorem dksJ3_compareTo_2_0 : cJ3_compareTo_2.data.toList.drop 0 = dktJ3_compareTo_2_0 := by decide +kernel
theorem dJ3_compareTo_2_0 : decode cJ3_compareTo_2 0 = .ok (.iload_n 2, 1) := dk_28 (dk_at dksJ3_compareTo_2_0 0 rfl rfl)
theorem dJ3_compareTo_2_1 : decode cJ3_compareTo_2 1 = .ok (.aload_n 0, 1) := dk_42 (dk_at dksJ3_compareTo_2_0 1 rfl rfl)
theorem dJ3_compareTo_2_2 : decode cJ3_compareTo_2 2 = .ok (.invokestatic 180, 3) := dk_184 0 180 (dk_at dksJ3_compareTo_2_0 2 rfl rfl)
theorem dJ3_compareTo_2_5 : decode cJ3_compareTo_2 5 = .ok (.iload_n 3, 1) := dk_29 (dk_at dksJ3_compareTo_2_0 5 rfl rfl)
theorem dJ3_compareTo_2_6 : decode cJ3_compareTo_2 6 = .ok (.aload_n 1, 1) := dk_43 (dk_at dksJ3_compareTo_2_0 6 rfl rfl)
theorem dJ3_compareTo_2_7 : decode cJ3_compareTo_2 7 = .ok (.invokestatic 180, 3) := dk_184 0 180 (dk_at dksJ3_compareTo_2_0 7 rfl rfl)
theorem dJ3_compareTo_2_10 : decode cJ3_compareTo_2 10 = .ok (.aload_n 0, 1) := dk_42 (dk_at dksJ3_compareTo_2_0 10 rfl rfl)
theorem dJ3_compareTo_2_11 : decode cJ3_compareTo_2 11 = .ok (.aload_n 1, 1) := dk_43 (dk_at dksJ3_compareTo_2_0 11 rfl rfl)
theorem dJ3_compareTo_2_12 : decode cJ3_compareTo_2 12 = .ok (.iload_n 2, 1) := dk_28 (dk_at dksJ3_compareTo_2_0 12 rfl rfl)
theorem dJ3_compareTo_2_13 : decode cJ3_compareTo_2 13 = .ok (.iload_n 3, 1) := dk_29 (dk_at dksJ3_compareTo_2_0 13 rfl rfl)
theorem dJ3_compareTo_2_14 : decode cJ3_compareTo_2 14 = .ok (.invokestatic 176, 3) := dk_184 0 176 (dk_at dksJ3_compareTo_2_0 14 rfl rfl)
theorem dJ3_compareTo_2_17 : decode cJ3_compareTo_2 17 = .ok (.ireturn, 1) := dk_172 (dk_at dksJ3_compareTo_2_0 17 rfl rfl)
abbrev cJ3_checkOffset : ByteArray := prog_89_method_92_code
def yJ3_checkOffset : MethodName := ⟨RJ3, "checkOffset", "(I[B)V"⟩
def dkwJ3_checkOffset_0 : List UInt8 := [26, 43, 184, 0, 48, 184, 1, 161, 177]
abbrev dktJ3_checkOffset_0 : List UInt8 := dkwJ3_checkOffset_0 ++ []
theorem dksJ3_checkOffset_0 : cJ3_checkOffset.data.toList.drop 0 = dktJ3_checkOffset_0 := by decide +kernel
theorem dJ3_checkOffset_0 : decode cJ3_checkOffset 0 = .ok (.iload_n 0, 1) := dk_26 (dk_at dksJ3_checkOffset_0 0 rfl rfl)
theorem dJ3_checkOffset_1 : decode cJ3_checkOffset 1 = .ok (.aload_n 1, 1) := dk_43 (dk_at dksJ3_checkOffset_0 1 rfl rfl)
theorem dJ3_checkOffset_2 : decode cJ3_checkOffset 2 = .ok (.invokestatic 48, 3) := dk_184 0 48 (dk_at dksJ3_checkOffset_0 2 rfl rfl)
theorem dJ3_checkOffset_5 : decode cJ3_checkOffset 5 = .ok (.invokestatic 417, 3) := dk_184 1 161 (dk_at dksJ3_checkOffset_0 5 rfl rfl)
theorem dJ3_checkOffset_8 : decode cJ3_checkOffset 8 = .ok (.return_, 1) := dk_177 (dk_at dksJ3_checkOffset_0 8 rfl rfl)
abbrev cJ3_compareToLatin1_2 : ByteArray := prog_89_method_33_code
def yJ3_compareToLatin1_2 : MethodName := ⟨RJ3, "compareToLatin1", "([B[BII)I"⟩
def dkwJ3_compareToLatin1_2_0 : List UInt8 := [43, 42, 29, 28, 184, 0, 193, 116, 172]
abbrev dktJ3_compareToLatin1_2_0 : List UInt8 := dkwJ3_compareToLatin1_2_0 ++ []
theorem dksJ3_compareToLatin1_2_0 : cJ3_compareToLatin1_2.data.toList.drop 0 = dktJ3_compareToLatin1_2_0 := by decide +kernel
theorem dJ3_compareToLatin1_2_0 : decode cJ3_compareToLatin1_2 0 = .ok (.aload_n 1, 1) := dk_43 (dk_at dksJ3_compareToLatin1_2_0 0 rfl rfl)
theorem dJ3_compareToLatin1_2_1 : decode cJ3_compareToLatin1_2 1 = .ok (.aload_n 0, 1) := dk_42 (dk_at dksJ3_compareToLatin1_2_0 1 rfl rfl)
theorem dJ3_compareToLatin1_2_2 : decode cJ3_compareToLatin1_2 2 = .ok (.iload_n 3, 1) := dk_29 (dk_at dksJ3_compareToLatin1_2_0 2 rfl rfl)
theorem dJ3_compareToLatin1_2_3 : decode cJ3_compareToLatin1_2 3 = .ok (.iload_n 2, 1) := dk_28 (dk_at dksJ3_compareToLatin1_2_0 3 rfl rfl)
theorem dJ3_compareToLatin1_2_4 : decode cJ3_compareToLatin1_2 4 = .ok (.invokestatic 193, 3) := dk_184 0 193 (dk_at dksJ3_compareToLatin1_2_0 4 rfl rfl)
theorem dJ3_compareToLatin1_2_7 : decode cJ3_compareToLatin1_2 7 = .ok (.ineg, 1) := dk_116 (dk_at dksJ3_compareToLatin1_2_0 7 rfl rfl)
theorem dJ3_compareToLatin1_2_8 : decode cJ3_compareToLatin1_2 8 = .ok (.ireturn, 1) := dk_172 (dk_at dksJ3_compareToLatin1_2_0 8 rfl rfl)
abbrev cJ3_lastIndexOf : ByteArray := prog_89_method_51_code
def yJ3_lastIndexOf : MethodName := ⟨RJ3, "lastIndexOf", "([BII)I"⟩
def dkwJ3_lastIndexOf_1 : List UInt8 := [184, 0, 71, 27, 160, 0, 5, 29, 172, 132, 3, 255, 167, 255, 238, 2, 172, 42, 27, 28, 184, 0, 247, 172]
abbrev dktJ3_lastIndexOf_1 : List UInt8 := dkwJ3_lastIndexOf_1 ++ []
def dkwJ3_lastIndexOf_0 : List UInt8 := [27, 18, 227, 162, 0, 37, 28, 42, 190, 4, 122, 4, 100, 184, 0, 183, 62, 29, 155, 0, 20, 42, 29]
abbrev dktJ3_lastIndexOf_0 : List UInt8 := dkwJ3_lastIndexOf_0 ++ dktJ3_lastIndexOf_1
theorem dksJ3_lastIndexOf_0 : cJ3_lastIndexOf.data.toList.drop 0 = dktJ3_lastIndexOf_0 := by decide +kernel
theorem dksJ3_lastIndexOf_1 : cJ3_lastIndexOf.data.toList.drop 23 = dktJ3_lastIndexOf_1 := dk_seg dksJ3_lastIndexOf_0 23 rfl rfl
theorem dJ3_lastIndexOf_0 : decode cJ3_lastIndexOf 0 = .ok (.iload_n 1, 1) := dk_27 (dk_at dksJ3_lastIndexOf_0 0 rfl rfl)
theorem dJ3_lastIndexOf_1 : decode cJ3_lastIndexOf 1 = .ok (.ldc 227, 2) := dk_18 227 (dk_at dksJ3_lastIndexOf_0 1 rfl rfl)
theorem dJ3_lastIndexOf_3 : decode cJ3_lastIndexOf 3 = .ok (.if_icmp .ge 37, 3) := dk_162 0 37 (dk_at dksJ3_lastIndexOf_0 3 rfl rfl)
theorem dJ3_lastIndexOf_6 : decode cJ3_lastIndexOf 6 = .ok (.iload_n 2, 1) := dk_28 (dk_at dksJ3_lastIndexOf_0 6 rfl rfl)
theorem dJ3_lastIndexOf_7 : decode cJ3_lastIndexOf 7 = .ok (.aload_n 0, 1) := dk_42 (dk_at dksJ3_lastIndexOf_0 7 rfl rfl)
theorem dJ3_lastIndexOf_8 : decode cJ3_lastIndexOf 8 = .ok (.arraylength, 1) := dk_190 (dk_at dksJ3_lastIndexOf_0 8 rfl rfl)
theorem dJ3_lastIndexOf_9 : decode cJ3_lastIndexOf 9 = .ok (.iconst 1, 1) := dk_4 (dk_at dksJ3_lastIndexOf_0 9 rfl rfl)
theorem dJ3_lastIndexOf_10 : decode cJ3_lastIndexOf 10 = .ok (.ishr, 1) := dk_122 (dk_at dksJ3_lastIndexOf_0 10 rfl rfl)
theorem dJ3_lastIndexOf_11 : decode cJ3_lastIndexOf 11 = .ok (.iconst 1, 1) := dk_4 (dk_at dksJ3_lastIndexOf_0 11 rfl rfl)
theorem dJ3_lastIndexOf_12 : decode cJ3_lastIndexOf 12 = .ok (.isub, 1) := dk_100 (dk_at dksJ3_lastIndexOf_0 12 rfl rfl)
theorem dJ3_lastIndexOf_13 : decode cJ3_lastIndexOf 13 = .ok (.invokestatic 183, 3) := dk_184 0 183 (dk_at dksJ3_lastIndexOf_0 13 rfl rfl)
theorem dJ3_lastIndexOf_16 : decode cJ3_lastIndexOf 16 = .ok (.istore_n 3, 1) := dk_62 (dk_at dksJ3_lastIndexOf_0 16 rfl rfl)
theorem dJ3_lastIndexOf_17 : decode cJ3_lastIndexOf 17 = .ok (.iload_n 3, 1) := dk_29 (dk_at dksJ3_lastIndexOf_0 17 rfl rfl)
theorem dJ3_lastIndexOf_18 : decode cJ3_lastIndexOf 18 = .ok (.ifCond .lt 20, 3) := dk_155 0 20 (dk_at dksJ3_lastIndexOf_0 18 rfl rfl)
theorem dJ3_lastIndexOf_21 : decode cJ3_lastIndexOf 21 = .ok (.aload_n 0, 1) := dk_42 (dk_at dksJ3_lastIndexOf_0 21 rfl rfl)
theorem dJ3_lastIndexOf_22 : decode cJ3_lastIndexOf 22 = .ok (.iload_n 3, 1) := dk_29 (dk_at dksJ3_lastIndexOf_0 22 rfl rfl)
theorem dJ3_lastIndexOf_23 : decode cJ3_lastIndexOf 23 = .ok (.invokestatic 71, 3) := dk_184 0 71 (dk_at dksJ3_lastIndexOf_1 0 rfl rfl)
theorem dJ3_lastIndexOf_26 : decode cJ3_lastIndexOf 26 = .ok (.iload_n 1, 1) := dk_27 (dk_at dksJ3_lastIndexOf_1 3 rfl rfl)
theorem dJ3_lastIndexOf_27 : decode cJ3_lastIndexOf 27 = .ok (.if_icmp .ne 5, 3) := dk_160 0 5 (dk_at dksJ3_lastIndexOf_1 4 rfl rfl)
theorem dJ3_lastIndexOf_30 : decode cJ3_lastIndexOf 30 = .ok (.iload_n 3, 1) := dk_29 (dk_at dksJ3_lastIndexOf_1 7 rfl rfl)
theorem dJ3_lastIndexOf_31 : decode cJ3_lastIndexOf 31 = .ok (.ireturn, 1) := dk_172 (dk_at dksJ3_lastIndexOf_1 8 rfl rfl)
theorem dJ3_lastIndexOf_32 : decode cJ3_lastIndexOf 32 = .ok (.iinc 3 (-1), 3) := dk_132 3 255 (dk_at dksJ3_lastIndexOf_1 9 rfl rfl)
theorem dJ3_lastIndexOf_35 : decode cJ3_lastIndexOf 35 = .ok (.goto (-18), 3) := dk_167 255 238 (dk_at dksJ3_lastIndexOf_1 12 rfl rfl)
theorem dJ3_lastIndexOf_38 : decode cJ3_lastIndexOf 38 = .ok (.iconst (-1), 1) := dk_2 (dk_at dksJ3_lastIndexOf_1 15 rfl rfl)
theorem dJ3_lastIndexOf_39 : decode cJ3_lastIndexOf 39 = .ok (.ireturn, 1) := dk_172 (dk_at dksJ3_lastIndexOf_1 16 rfl rfl)
theorem dJ3_lastIndexOf_40 : decode cJ3_lastIndexOf 40 = .ok (.aload_n 0, 1) := dk_42 (dk_at dksJ3_lastIndexOf_1 17 rfl rfl)
theorem dJ3_lastIndexOf_41 : decode cJ3_lastIndexOf 41 = .ok (.iload_n 1, 1) := dk_27 (dk_at dksJ3_lastIndexOf_1 18 rfl rfl)
theorem dJ3_lastIndexOf_42 : decode cJ3_lastIndexOf 42 = .ok (.iload_n 2, 1) := dk_28 (dk_at dksJ3_lastIndexOf_1 19 rfl rfl)
theorem dJ3_lastIndexOf_43 : decode cJ3_lastIndexOf 43 = .ok (.invokestatic 247, 3) := dk_184 0 247 (dk_at dksJ3_lastIndexOf_1 20 rfl rfl)
theorem dJ3_lastIndexOf_46 : decode cJ3_lastIndexOf 46 = .ok (.ireturn, 1) := dk_172 (dk_at dksJ3_lastIndexOf_1 23 rfl rfl)
abbrev cJ3_lastIndexOfSupplementary : ByteArray := prog_89_method_52_code
def yJ3_lastIndexOfSupplementary : MethodName := ⟨RJ3, "lastIndexOfSupplementary", "([BII)I"⟩
def dkwJ3_lastIndexOfSupplementary_2 : List UInt8 := [4, 96, 184, 0, 71, 21, 4, 160, 0, 6, 21, 5, 172, 132, 5, 255, 167, 255, 222, 2, 172]
abbrev dktJ3_lastIndexOfSupplementary_2 : List UInt8 := dkwJ3_lastIndexOfSupplementary_2 ++ []
def dkwJ3_lastIndexOfSupplementary_1 : List UInt8 := [100, 184, 0, 183, 54, 5, 21, 5, 155, 0, 35, 42, 21, 5, 184, 0, 71, 29, 160, 0, 19, 42, 21, 5]
abbrev dktJ3_lastIndexOfSupplementary_1 : List UInt8 := dkwJ3_lastIndexOfSupplementary_1 ++ dktJ3_lastIndexOfSupplementary_2
def dkwJ3_lastIndexOfSupplementary_0 : List UInt8 := [27, 184, 0, 164, 153, 0, 63, 27, 184, 0, 157, 62, 27, 184, 0, 161, 54, 4, 28, 42, 190, 4, 122, 5]
abbrev dktJ3_lastIndexOfSupplementary_0 : List UInt8 := dkwJ3_lastIndexOfSupplementary_0 ++ dktJ3_lastIndexOfSupplementary_1
theorem dksJ3_lastIndexOfSupplementary_0 : cJ3_lastIndexOfSupplementary.data.toList.drop 0 = dktJ3_lastIndexOfSupplementary_0 := by decide +kernel
theorem dksJ3_lastIndexOfSupplementary_1 : cJ3_lastIndexOfSupplementary.data.toList.drop 24 = dktJ3_lastIndexOfSupplementary_1 := dk_seg dksJ3_lastIndexOfSupplementary_0 24 rfl rfl
theorem dksJ3_lastIndexOfSupplementary_2 : cJ3_lastIndexOfSupplementary.data.toList.drop 48 = dktJ3_lastIndexOfSupplementary_2 := dk_seg dksJ3_lastIndexOfSupplementary_1 24 rfl rfl
theorem dJ3_lastIndexOfSupplementary_0 : decode cJ3_lastIndexOfSupplementary 0 = .ok (.iload_n 1, 1) := dk_27 (dk_at dksJ3_lastIndexOfSupplementary_0 0 rfl rfl)
theorem dJ3_lastIndexOfSupplementary_1 : decode cJ3_lastIndexOfSupplementary 1 = .ok (.invokestatic 164, 3) := dk_184 0 164 (dk_at dksJ3_lastIndexOfSupplementary_0 1 rfl rfl)
theorem dJ3_lastIndexOfSupplementary_4 : decode cJ3_lastIndexOfSupplementary 4 = .ok (.ifCond .eq 63, 3) := dk_153 0 63 (dk_at dksJ3_lastIndexOfSupplementary_0 4 rfl rfl)
theorem dJ3_lastIndexOfSupplementary_7 : decode cJ3_lastIndexOfSupplementary 7 = .ok (.iload_n 1, 1) := dk_27 (dk_at dksJ3_lastIndexOfSupplementary_0 7 rfl rfl)
theorem dJ3_lastIndexOfSupplementary_8 : decode cJ3_lastIndexOfSupplementary 8 = .ok (.invokestatic 157, 3) := dk_184 0 157 (dk_at dksJ3_lastIndexOfSupplementary_0 8 rfl rfl)
theorem dJ3_lastIndexOfSupplementary_11 : decode cJ3_lastIndexOfSupplementary 11 = .ok (.istore_n 3, 1) := dk_62 (dk_at dksJ3_lastIndexOfSupplementary_0 11 rfl rfl)
theorem dJ3_lastIndexOfSupplementary_12 : decode cJ3_lastIndexOfSupplementary 12 = .ok (.iload_n 1, 1) := dk_27 (dk_at dksJ3_lastIndexOfSupplementary_0 12 rfl rfl)
theorem dJ3_lastIndexOfSupplementary_13 : decode cJ3_lastIndexOfSupplementary 13 = .ok (.invokestatic 161, 3) := dk_184 0 161 (dk_at dksJ3_lastIndexOfSupplementary_0 13 rfl rfl)
theorem dJ3_lastIndexOfSupplementary_16 : decode cJ3_lastIndexOfSupplementary 16 = .ok (.istore 4, 2) := dk_54 4 (dk_at dksJ3_lastIndexOfSupplementary_0 16 rfl rfl)
theorem dJ3_lastIndexOfSupplementary_18 : decode cJ3_lastIndexOfSupplementary 18 = .ok (.iload_n 2, 1) := dk_28 (dk_at dksJ3_lastIndexOfSupplementary_0 18 rfl rfl)
theorem dJ3_lastIndexOfSupplementary_19 : decode cJ3_lastIndexOfSupplementary 19 = .ok (.aload_n 0, 1) := dk_42 (dk_at dksJ3_lastIndexOfSupplementary_0 19 rfl rfl)
theorem dJ3_lastIndexOfSupplementary_20 : decode cJ3_lastIndexOfSupplementary 20 = .ok (.arraylength, 1) := dk_190 (dk_at dksJ3_lastIndexOfSupplementary_0 20 rfl rfl)
theorem dJ3_lastIndexOfSupplementary_21 : decode cJ3_lastIndexOfSupplementary 21 = .ok (.iconst 1, 1) := dk_4 (dk_at dksJ3_lastIndexOfSupplementary_0 21 rfl rfl)
theorem dJ3_lastIndexOfSupplementary_22 : decode cJ3_lastIndexOfSupplementary 22 = .ok (.ishr, 1) := dk_122 (dk_at dksJ3_lastIndexOfSupplementary_0 22 rfl rfl)
theorem dJ3_lastIndexOfSupplementary_23 : decode cJ3_lastIndexOfSupplementary 23 = .ok (.iconst 2, 1) := dk_5 (dk_at dksJ3_lastIndexOfSupplementary_0 23 rfl rfl)
theorem dJ3_lastIndexOfSupplementary_24 : decode cJ3_lastIndexOfSupplementary 24 = .ok (.isub, 1) := dk_100 (dk_at dksJ3_lastIndexOfSupplementary_1 0 rfl rfl)
theorem dJ3_lastIndexOfSupplementary_25 : decode cJ3_lastIndexOfSupplementary 25 = .ok (.invokestatic 183, 3) := dk_184 0 183 (dk_at dksJ3_lastIndexOfSupplementary_1 1 rfl rfl)
theorem dJ3_lastIndexOfSupplementary_28 : decode cJ3_lastIndexOfSupplementary 28 = .ok (.istore 5, 2) := dk_54 5 (dk_at dksJ3_lastIndexOfSupplementary_1 4 rfl rfl)
theorem dJ3_lastIndexOfSupplementary_30 : decode cJ3_lastIndexOfSupplementary 30 = .ok (.iload 5, 2) := dk_21 5 (dk_at dksJ3_lastIndexOfSupplementary_1 6 rfl rfl)
theorem dJ3_lastIndexOfSupplementary_32 : decode cJ3_lastIndexOfSupplementary 32 = .ok (.ifCond .lt 35, 3) := dk_155 0 35 (dk_at dksJ3_lastIndexOfSupplementary_1 8 rfl rfl)
theorem dJ3_lastIndexOfSupplementary_35 : decode cJ3_lastIndexOfSupplementary 35 = .ok (.aload_n 0, 1) := dk_42 (dk_at dksJ3_lastIndexOfSupplementary_1 11 rfl rfl)
theorem dJ3_lastIndexOfSupplementary_36 : decode cJ3_lastIndexOfSupplementary 36 = .ok (.iload 5, 2) := dk_21 5 (dk_at dksJ3_lastIndexOfSupplementary_1 12 rfl rfl)
theorem dJ3_lastIndexOfSupplementary_38 : decode cJ3_lastIndexOfSupplementary 38 = .ok (.invokestatic 71, 3) := dk_184 0 71 (dk_at dksJ3_lastIndexOfSupplementary_1 14 rfl rfl)
theorem dJ3_lastIndexOfSupplementary_41 : decode cJ3_lastIndexOfSupplementary 41 = .ok (.iload_n 3, 1) := dk_29 (dk_at dksJ3_lastIndexOfSupplementary_1 17 rfl rfl)
theorem dJ3_lastIndexOfSupplementary_42 : decode cJ3_lastIndexOfSupplementary 42 = .ok (.if_icmp .ne 19, 3) := dk_160 0 19 (dk_at dksJ3_lastIndexOfSupplementary_1 18 rfl rfl)
theorem dJ3_lastIndexOfSupplementary_45 : decode cJ3_lastIndexOfSupplementary 45 = .ok (.aload_n 0, 1) := dk_42 (dk_at dksJ3_lastIndexOfSupplementary_1 21 rfl rfl)
theorem dJ3_lastIndexOfSupplementary_46 : decode cJ3_lastIndexOfSupplementary 46 = .ok (.iload 5, 2) := dk_21 5 (dk_at dksJ3_lastIndexOfSupplementary_1 22 rfl rfl)
theorem dJ3_lastIndexOfSupplementary_48 : decode cJ3_lastIndexOfSupplementary 48 = .ok (.iconst 1, 1) := dk_4 (dk_at dksJ3_lastIndexOfSupplementary_2 0 rfl rfl)
theorem dJ3_lastIndexOfSupplementary_49 : decode cJ3_lastIndexOfSupplementary 49 = .ok (.iadd, 1) := dk_96 (dk_at dksJ3_lastIndexOfSupplementary_2 1 rfl rfl)
theorem dJ3_lastIndexOfSupplementary_50 : decode cJ3_lastIndexOfSupplementary 50 = .ok (.invokestatic 71, 3) := dk_184 0 71 (dk_at dksJ3_lastIndexOfSupplementary_2 2 rfl rfl)
theorem dJ3_lastIndexOfSupplementary_53 : decode cJ3_lastIndexOfSupplementary 53 = .ok (.iload 4, 2) := dk_21 4 (dk_at dksJ3_lastIndexOfSupplementary_2 5 rfl rfl)
theorem dJ3_lastIndexOfSupplementary_55 : decode cJ3_lastIndexOfSupplementary 55 = .ok (.if_icmp .ne 6, 3) := dk_160 0 6 (dk_at dksJ3_lastIndexOfSupplementary_2 7 rfl rfl)
theorem dJ3_lastIndexOfSupplementary_58 : decode cJ3_lastIndexOfSupplementary 58 = .ok (.iload 5, 2) := dk_21 5 (dk_at dksJ3_lastIndexOfSupplementary_2 10 rfl rfl)
theorem dJ3_lastIndexOfSupplementary_60 : decode cJ3_lastIndexOfSupplementary 60 = .ok (.ireturn, 1) := dk_172 (dk_at dksJ3_lastIndexOfSupplementary_2 12 rfl rfl)
theorem dJ3_lastIndexOfSupplementary_61 : decode cJ3_lastIndexOfSupplementary 61 = .ok (.iinc 5 (-1), 3) := dk_132 5 255 (dk_at dksJ3_lastIndexOfSupplementary_2 13 rfl rfl)
theorem dJ3_lastIndexOfSupplementary_64 : decode cJ3_lastIndexOfSupplementary 64 = .ok (.goto (-34), 3) := dk_167 255 222 (dk_at dksJ3_lastIndexOfSupplementary_2 16 rfl rfl)
theorem dJ3_lastIndexOfSupplementary_67 : decode cJ3_lastIndexOfSupplementary 67 = .ok (.iconst (-1), 1) := dk_2 (dk_at dksJ3_lastIndexOfSupplementary_2 19 rfl rfl)
theorem dJ3_lastIndexOfSupplementary_68 : decode cJ3_lastIndexOfSupplementary 68 = .ok (.ireturn, 1) := dk_172 (dk_at dksJ3_lastIndexOfSupplementary_2 20 rfl rfl)
abbrev cJ3_newString : ByteArray := prog_89_method_69_code
def yJ3_newString : MethodName := ⟨RJ3, "newString", "([BII)Ljava/lang/String;"⟩
def dkwJ3_newString_2 : List UInt8 := [42, 27, 4, 120, 29, 4, 120, 184, 0, 126, 4, 183, 1, 7, 176]
abbrev dktJ3_newString_2 : List UInt8 := dkwJ3_newString_2 ++ []
def dkwJ3_newString_1 : List UInt8 := [184, 1, 3, 54, 4, 187, 0, 3, 89, 45, 21, 4, 183, 1, 7, 176, 27, 28, 96, 62, 187, 0, 3, 89]
abbrev dktJ3_newString_1 : List UInt8 := dkwJ3_newString_1 ++ dktJ3_newString_2
def dkwJ3_newString_0 : List UInt8 := [28, 154, 0, 7, 19, 1, 39, 176, 178, 0, 251, 153, 0, 28, 42, 27, 28, 184, 1, 1, 78, 45, 28]
abbrev dktJ3_newString_0 : List UInt8 := dkwJ3_newString_0 ++ dktJ3_newString_1
theorem dksJ3_newString_0 : cJ3_newString.data.toList.drop 0 = dktJ3_newString_0 := by decide +kernel
theorem dksJ3_newString_1 : cJ3_newString.data.toList.drop 23 = dktJ3_newString_1 := dk_seg dksJ3_newString_0 23 rfl rfl
theorem dksJ3_newString_2 : cJ3_newString.data.toList.drop 47 = dktJ3_newString_2 := dk_seg dksJ3_newString_1 24 rfl rfl
theorem dJ3_newString_0 : decode cJ3_newString 0 = .ok (.iload_n 2, 1) := dk_28 (dk_at dksJ3_newString_0 0 rfl rfl)
theorem dJ3_newString_1 : decode cJ3_newString 1 = .ok (.ifCond .ne 7, 3) := dk_154 0 7 (dk_at dksJ3_newString_0 1 rfl rfl)
theorem dJ3_newString_4 : decode cJ3_newString 4 = .ok (.ldc_w 295, 3) := dk_19 1 39 (dk_at dksJ3_newString_0 4 rfl rfl)
theorem dJ3_newString_7 : decode cJ3_newString 7 = .ok (.areturn, 1) := dk_176 (dk_at dksJ3_newString_0 7 rfl rfl)
theorem dJ3_newString_8 : decode cJ3_newString 8 = .ok (.getstatic 251, 3) := dk_178 0 251 (dk_at dksJ3_newString_0 8 rfl rfl)
theorem dJ3_newString_11 : decode cJ3_newString 11 = .ok (.ifCond .eq 28, 3) := dk_153 0 28 (dk_at dksJ3_newString_0 11 rfl rfl)
theorem dJ3_newString_14 : decode cJ3_newString 14 = .ok (.aload_n 0, 1) := dk_42 (dk_at dksJ3_newString_0 14 rfl rfl)
theorem dJ3_newString_15 : decode cJ3_newString 15 = .ok (.iload_n 1, 1) := dk_27 (dk_at dksJ3_newString_0 15 rfl rfl)
theorem dJ3_newString_16 : decode cJ3_newString 16 = .ok (.iload_n 2, 1) := dk_28 (dk_at dksJ3_newString_0 16 rfl rfl)
theorem dJ3_newString_17 : decode cJ3_newString 17 = .ok (.invokestatic 257, 3) := dk_184 1 1 (dk_at dksJ3_newString_0 17 rfl rfl)
theorem dJ3_newString_20 : decode cJ3_newString 20 = .ok (.astore_n 3, 1) := dk_78 (dk_at dksJ3_newString_0 20 rfl rfl)
theorem dJ3_newString_21 : decode cJ3_newString 21 = .ok (.aload_n 3, 1) := dk_45 (dk_at dksJ3_newString_0 21 rfl rfl)
theorem dJ3_newString_22 : decode cJ3_newString 22 = .ok (.iload_n 2, 1) := dk_28 (dk_at dksJ3_newString_0 22 rfl rfl)
theorem dJ3_newString_23 : decode cJ3_newString 23 = .ok (.invokestatic 259, 3) := dk_184 1 3 (dk_at dksJ3_newString_1 0 rfl rfl)
theorem dJ3_newString_26 : decode cJ3_newString 26 = .ok (.istore 4, 2) := dk_54 4 (dk_at dksJ3_newString_1 3 rfl rfl)
theorem dJ3_newString_28 : decode cJ3_newString 28 = .ok (.new 3, 3) := dk_187 0 3 (dk_at dksJ3_newString_1 5 rfl rfl)
theorem dJ3_newString_31 : decode cJ3_newString 31 = .ok (.dup, 1) := dk_89 (dk_at dksJ3_newString_1 8 rfl rfl)
theorem dJ3_newString_32 : decode cJ3_newString 32 = .ok (.aload_n 3, 1) := dk_45 (dk_at dksJ3_newString_1 9 rfl rfl)
theorem dJ3_newString_33 : decode cJ3_newString 33 = .ok (.iload 4, 2) := dk_21 4 (dk_at dksJ3_newString_1 10 rfl rfl)
theorem dJ3_newString_35 : decode cJ3_newString 35 = .ok (.invokespecial 263, 3) := dk_183 1 7 (dk_at dksJ3_newString_1 12 rfl rfl)
theorem dJ3_newString_38 : decode cJ3_newString 38 = .ok (.areturn, 1) := dk_176 (dk_at dksJ3_newString_1 15 rfl rfl)
theorem dJ3_newString_39 : decode cJ3_newString 39 = .ok (.iload_n 1, 1) := dk_27 (dk_at dksJ3_newString_1 16 rfl rfl)
theorem dJ3_newString_40 : decode cJ3_newString 40 = .ok (.iload_n 2, 1) := dk_28 (dk_at dksJ3_newString_1 17 rfl rfl)
theorem dJ3_newString_41 : decode cJ3_newString 41 = .ok (.iadd, 1) := dk_96 (dk_at dksJ3_newString_1 18 rfl rfl)
theorem dJ3_newString_42 : decode cJ3_newString 42 = .ok (.istore_n 3, 1) := dk_62 (dk_at dksJ3_newString_1 19 rfl rfl)
theorem dJ3_newString_43 : decode cJ3_newString 43 = .ok (.new 3, 3) := dk_187 0 3 (dk_at dksJ3_newString_1 20 rfl rfl)
theorem dJ3_newString_46 : decode cJ3_newString 46 = .ok (.dup, 1) := dk_89 (dk_at dksJ3_newString_1 23 rfl rfl)
theorem dJ3_newString_47 : decode cJ3_newString 47 = .ok (.aload_n 0, 1) := dk_42 (dk_at dksJ3_newString_2 0 rfl rfl)
theorem dJ3_newString_48 : decode cJ3_newString 48 = .ok (.iload_n 1, 1) := dk_27 (dk_at dksJ3_newString_2 1 rfl rfl)
theorem dJ3_newString_49 : decode cJ3_newString 49 = .ok (.iconst 1, 1) := dk_4 (dk_at dksJ3_newString_2 2 rfl rfl)
theorem dJ3_newString_50 : decode cJ3_newString 50 = .ok (.ishl, 1) := dk_120 (dk_at dksJ3_newString_2 3 rfl rfl)
theorem dJ3_newString_51 : decode cJ3_newString 51 = .ok (.iload_n 3, 1) := dk_29 (dk_at dksJ3_newString_2 4 rfl rfl)
theorem dJ3_newString_52 : decode cJ3_newString 52 = .ok (.iconst 1, 1) := dk_4 (dk_at dksJ3_newString_2 5 rfl rfl)
theorem dJ3_newString_53 : decode cJ3_newString 53 = .ok (.ishl, 1) := dk_120 (dk_at dksJ3_newString_2 6 rfl rfl)
theorem dJ3_newString_54 : decode cJ3_newString 54 = .ok (.invokestatic 126, 3) := dk_184 0 126 (dk_at dksJ3_newString_2 7 rfl rfl)
theorem dJ3_newString_57 : decode cJ3_newString 57 = .ok (.iconst 1, 1) := dk_4 (dk_at dksJ3_newString_2 10 rfl rfl)
theorem dJ3_newString_58 : decode cJ3_newString 58 = .ok (.invokespecial 263, 3) := dk_183 1 7 (dk_at dksJ3_newString_2 11 rfl rfl)
theorem dJ3_newString_61 : decode cJ3_newString 61 = .ok (.areturn, 1) := dk_176 (dk_at dksJ3_newString_2 14 rfl rfl)
abbrev cJ3_indexOf : ByteArray := prog_89_method_41_code
def yJ3_indexOf : MethodName := ⟨RJ3, "indexOf", "([B[B)I"⟩
def dkwJ3_indexOf_1 : List UInt8 := [184, 0, 48, 3, 184, 0, 235, 172]
abbrev dktJ3_indexOf_1 : List UInt8 := dkwJ3_indexOf_1 ++ []
def dkwJ3_indexOf_0 : List UInt8 := [43, 190, 154, 0, 5, 3, 172, 42, 190, 43, 190, 162, 0, 5, 2, 172, 42, 42, 184, 0, 48, 43, 43]
abbrev dktJ3_indexOf_0 : List UInt8 := dkwJ3_indexOf_0 ++ dktJ3_indexOf_1
theorem dksJ3_indexOf_0 : cJ3_indexOf.data.toList.drop 0 = dktJ3_indexOf_0 := by decide +kernel
theorem dksJ3_indexOf_1 : cJ3_indexOf.data.toList.drop 23 = dktJ3_indexOf_1 := dk_seg dksJ3_indexOf_0 23 rfl rfl
theorem dJ3_indexOf_0 : decode cJ3_indexOf 0 = .ok (.aload_n 1, 1) := dk_43 (dk_at dksJ3_indexOf_0 0 rfl rfl)
theorem dJ3_indexOf_1 : decode cJ3_indexOf 1 = .ok (.arraylength, 1) := dk_190 (dk_at dksJ3_indexOf_0 1 rfl rfl)
theorem dJ3_indexOf_2 : decode cJ3_indexOf 2 = .ok (.ifCond .ne 5, 3) := dk_154 0 5 (dk_at dksJ3_indexOf_0 2 rfl rfl)
theorem dJ3_indexOf_5 : decode cJ3_indexOf 5 = .ok (.iconst 0, 1) := dk_3 (dk_at dksJ3_indexOf_0 5 rfl rfl)
theorem dJ3_indexOf_6 : decode cJ3_indexOf 6 = .ok (.ireturn, 1) := dk_172 (dk_at dksJ3_indexOf_0 6 rfl rfl)
theorem dJ3_indexOf_7 : decode cJ3_indexOf 7 = .ok (.aload_n 0, 1) := dk_42 (dk_at dksJ3_indexOf_0 7 rfl rfl)
theorem dJ3_indexOf_8 : decode cJ3_indexOf 8 = .ok (.arraylength, 1) := dk_190 (dk_at dksJ3_indexOf_0 8 rfl rfl)
theorem dJ3_indexOf_9 : decode cJ3_indexOf 9 = .ok (.aload_n 1, 1) := dk_43 (dk_at dksJ3_indexOf_0 9 rfl rfl)
theorem dJ3_indexOf_10 : decode cJ3_indexOf 10 = .ok (.arraylength, 1) := dk_190 (dk_at dksJ3_indexOf_0 10 rfl rfl)
theorem dJ3_indexOf_11 : decode cJ3_indexOf 11 = .ok (.if_icmp .ge 5, 3) := dk_162 0 5 (dk_at dksJ3_indexOf_0 11 rfl rfl)
theorem dJ3_indexOf_14 : decode cJ3_indexOf 14 = .ok (.iconst (-1), 1) := dk_2 (dk_at dksJ3_indexOf_0 14 rfl rfl)
theorem dJ3_indexOf_15 : decode cJ3_indexOf 15 = .ok (.ireturn, 1) := dk_172 (dk_at dksJ3_indexOf_0 15 rfl rfl)
theorem dJ3_indexOf_16 : decode cJ3_indexOf 16 = .ok (.aload_n 0, 1) := dk_42 (dk_at dksJ3_indexOf_0 16 rfl rfl)
theorem dJ3_indexOf_17 : decode cJ3_indexOf 17 = .ok (.aload_n 0, 1) := dk_42 (dk_at dksJ3_indexOf_0 17 rfl rfl)
theorem dJ3_indexOf_18 : decode cJ3_indexOf 18 = .ok (.invokestatic 48, 3) := dk_184 0 48 (dk_at dksJ3_indexOf_0 18 rfl rfl)
theorem dJ3_indexOf_21 : decode cJ3_indexOf 21 = .ok (.aload_n 1, 1) := dk_43 (dk_at dksJ3_indexOf_0 21 rfl rfl)
theorem dJ3_indexOf_22 : decode cJ3_indexOf 22 = .ok (.aload_n 1, 1) := dk_43 (dk_at dksJ3_indexOf_0 22 rfl rfl)
theorem dJ3_indexOf_23 : decode cJ3_indexOf 23 = .ok (.invokestatic 48, 3) := dk_184 0 48 (dk_at dksJ3_indexOf_1 0 rfl rfl)
theorem dJ3_indexOf_26 : decode cJ3_indexOf 26 = .ok (.iconst 0, 1) := dk_3 (dk_at dksJ3_indexOf_1 3 rfl rfl)
theorem dJ3_indexOf_27 : decode cJ3_indexOf 27 = .ok (.invokestatic 235, 3) := dk_184 0 235 (dk_at dksJ3_indexOf_1 4 rfl rfl)
theorem dJ3_indexOf_30 : decode cJ3_indexOf 30 = .ok (.ireturn, 1) := dk_172 (dk_at dksJ3_indexOf_1 7 rfl rfl)
abbrev cJ3_indexOfUnsafe : ByteArray := prog_89_method_43_code
def yJ3_indexOfUnsafe : MethodName := ⟨RJ3, "indexOfUnsafe", "([BI[BII)I"⟩
def dkwJ3_indexOfUnsafe_9 : List UInt8 := [167, 255, 146, 2, 172]
abbrev dktJ3_indexOfUnsafe_9 : List UInt8 := dkwJ3_indexOfUnsafe_9 ++ []
def dkwJ3_indexOfUnsafe_8 : List UInt8 := [132, 8, 1, 132, 10, 1, 167, 255, 228, 21, 8, 21, 9, 160, 0, 6, 21, 7, 172, 132, 7, 1]
abbrev dktJ3_indexOfUnsafe_8 : List UInt8 := dkwJ3_indexOfUnsafe_8 ++ dktJ3_indexOfUnsafe_9
def dkwJ3_indexOfUnsafe_7 : List UInt8 := [21, 8, 21, 9, 162, 0, 27, 42, 21, 8, 184, 0, 71, 44, 21, 10, 184, 0, 71, 160, 0, 12]
abbrev dktJ3_indexOfUnsafe_7 : List UInt8 := dkwJ3_indexOfUnsafe_7 ++ dktJ3_indexOfUnsafe_8
def dkwJ3_indexOfUnsafe_6 : List UInt8 := [21, 7, 21, 6, 163, 0, 61, 21, 7, 4, 96, 54, 8, 21, 8, 29, 96, 4, 100, 54, 9, 4, 54, 10]
abbrev dktJ3_indexOfUnsafe_6 : List UInt8 := dkwJ3_indexOfUnsafe_6 ++ dktJ3_indexOfUnsafe_7
def dkwJ3_indexOfUnsafe_5 : List UInt8 := [132, 7, 1, 21, 7, 21, 6, 163, 0, 17, 42, 21, 7, 184, 0, 71, 21, 5, 159, 0, 6, 167, 255, 235]
abbrev dktJ3_indexOfUnsafe_5 : List UInt8 := dkwJ3_indexOfUnsafe_5 ++ dktJ3_indexOfUnsafe_6
def dkwJ3_indexOfUnsafe_4 : List UInt8 := [21, 4, 54, 7, 21, 7, 21, 6, 163, 0, 109, 42, 21, 7, 184, 0, 71, 21, 5, 159, 0, 27]
abbrev dktJ3_indexOfUnsafe_4 : List UInt8 := dkwJ3_indexOfUnsafe_4 ++ dktJ3_indexOfUnsafe_5
def dkwJ3_indexOfUnsafe_3 : List UInt8 := [162, 0, 11, 187, 0, 52, 89, 183, 0, 66, 191, 44, 3, 184, 0, 71, 54, 5, 27, 29, 100, 54, 6]
abbrev dktJ3_indexOfUnsafe_3 : List UInt8 := dkwJ3_indexOfUnsafe_3 ++ dktJ3_indexOfUnsafe_4
def dkwJ3_indexOfUnsafe_2 : List UInt8 := [184, 0, 48, 164, 0, 11, 187, 0, 52, 89, 183, 0, 66, 191, 178, 0, 44, 154, 0, 16, 27, 29]
abbrev dktJ3_indexOfUnsafe_2 : List UInt8 := dkwJ3_indexOfUnsafe_2 ++ dktJ3_indexOfUnsafe_3
def dkwJ3_indexOfUnsafe_1 : List UInt8 := [154, 0, 15, 29, 157, 0, 11, 187, 0, 52, 89, 183, 0, 66, 191, 178, 0, 44, 154, 0, 19, 29, 44]
abbrev dktJ3_indexOfUnsafe_1 : List UInt8 := dkwJ3_indexOfUnsafe_1 ++ dktJ3_indexOfUnsafe_2
def dkwJ3_indexOfUnsafe_0 : List UInt8 := [178, 0, 44, 154, 0, 16, 21, 4, 156, 0, 11, 187, 0, 52, 89, 183, 0, 66, 191, 178, 0, 44]
abbrev dktJ3_indexOfUnsafe_0 : List UInt8 := dkwJ3_indexOfUnsafe_0 ++ dktJ3_indexOfUnsafe_1
theorem dksJ3_indexOfUnsafe_0 : cJ3_indexOfUnsafe.data.toList.drop 0 = dktJ3_indexOfUnsafe_0 := by decide +kernel
theorem dksJ3_indexOfUnsafe_1 : cJ3_indexOfUnsafe.data.toList.drop 22 = dktJ3_indexOfUnsafe_1 := dk_seg dksJ3_indexOfUnsafe_0 22 rfl rfl
theorem dksJ3_indexOfUnsafe_2 : cJ3_indexOfUnsafe.data.toList.drop 45 = dktJ3_indexOfUnsafe_2 := dk_seg dksJ3_indexOfUnsafe_1 23 rfl rfl
theorem dksJ3_indexOfUnsafe_3 : cJ3_indexOfUnsafe.data.toList.drop 67 = dktJ3_indexOfUnsafe_3 := dk_seg dksJ3_indexOfUnsafe_2 22 rfl rfl
theorem dksJ3_indexOfUnsafe_4 : cJ3_indexOfUnsafe.data.toList.drop 90 = dktJ3_indexOfUnsafe_4 := dk_seg dksJ3_indexOfUnsafe_3 23 rfl rfl
theorem dksJ3_indexOfUnsafe_5 : cJ3_indexOfUnsafe.data.toList.drop 112 = dktJ3_indexOfUnsafe_5 := dk_seg dksJ3_indexOfUnsafe_4 22 rfl rfl
theorem dksJ3_indexOfUnsafe_6 : cJ3_indexOfUnsafe.data.toList.drop 136 = dktJ3_indexOfUnsafe_6 := dk_seg dksJ3_indexOfUnsafe_5 24 rfl rfl
theorem dksJ3_indexOfUnsafe_7 : cJ3_indexOfUnsafe.data.toList.drop 160 = dktJ3_indexOfUnsafe_7 := dk_seg dksJ3_indexOfUnsafe_6 24 rfl rfl
theorem dksJ3_indexOfUnsafe_8 : cJ3_indexOfUnsafe.data.toList.drop 182 = dktJ3_indexOfUnsafe_8 := dk_seg dksJ3_indexOfUnsafe_7 22 rfl rfl
theorem dksJ3_indexOfUnsafe_9 : cJ3_indexOfUnsafe.data.toList.drop 204 = dktJ3_indexOfUnsafe_9 := dk_seg dksJ3_indexOfUnsafe_8 22 rfl rfl
theorem dJ3_indexOfUnsafe_0 : decode cJ3_indexOfUnsafe 0 = .ok (.getstatic 44, 3) := dk_178 0 44 (dk_at dksJ3_indexOfUnsafe_0 0 rfl rfl)
theorem dJ3_indexOfUnsafe_3 : decode cJ3_indexOfUnsafe 3 = .ok (.ifCond .ne 16, 3) := dk_154 0 16 (dk_at dksJ3_indexOfUnsafe_0 3 rfl rfl)
theorem dJ3_indexOfUnsafe_6 : decode cJ3_indexOfUnsafe 6 = .ok (.iload 4, 2) := dk_21 4 (dk_at dksJ3_indexOfUnsafe_0 6 rfl rfl)
theorem dJ3_indexOfUnsafe_8 : decode cJ3_indexOfUnsafe 8 = .ok (.ifCond .ge 11, 3) := dk_156 0 11 (dk_at dksJ3_indexOfUnsafe_0 8 rfl rfl)
theorem dJ3_indexOfUnsafe_11 : decode cJ3_indexOfUnsafe 11 = .ok (.new 52, 3) := dk_187 0 52 (dk_at dksJ3_indexOfUnsafe_0 11 rfl rfl)
theorem dJ3_indexOfUnsafe_14 : decode cJ3_indexOfUnsafe 14 = .ok (.dup, 1) := dk_89 (dk_at dksJ3_indexOfUnsafe_0 14 rfl rfl)
theorem dJ3_indexOfUnsafe_15 : decode cJ3_indexOfUnsafe 15 = .ok (.invokespecial 66, 3) := dk_183 0 66 (dk_at dksJ3_indexOfUnsafe_0 15 rfl rfl)
theorem dJ3_indexOfUnsafe_18 : decode cJ3_indexOfUnsafe 18 = .ok (.athrow, 1) := dk_191 (dk_at dksJ3_indexOfUnsafe_0 18 rfl rfl)
theorem dJ3_indexOfUnsafe_19 : decode cJ3_indexOfUnsafe 19 = .ok (.getstatic 44, 3) := dk_178 0 44 (dk_at dksJ3_indexOfUnsafe_0 19 rfl rfl)
theorem dJ3_indexOfUnsafe_22 : decode cJ3_indexOfUnsafe 22 = .ok (.ifCond .ne 15, 3) := dk_154 0 15 (dk_at dksJ3_indexOfUnsafe_1 0 rfl rfl)
theorem dJ3_indexOfUnsafe_25 : decode cJ3_indexOfUnsafe 25 = .ok (.iload_n 3, 1) := dk_29 (dk_at dksJ3_indexOfUnsafe_1 3 rfl rfl)
theorem dJ3_indexOfUnsafe_26 : decode cJ3_indexOfUnsafe 26 = .ok (.ifCond .gt 11, 3) := dk_157 0 11 (dk_at dksJ3_indexOfUnsafe_1 4 rfl rfl)
theorem dJ3_indexOfUnsafe_29 : decode cJ3_indexOfUnsafe 29 = .ok (.new 52, 3) := dk_187 0 52 (dk_at dksJ3_indexOfUnsafe_1 7 rfl rfl)
theorem dJ3_indexOfUnsafe_32 : decode cJ3_indexOfUnsafe 32 = .ok (.dup, 1) := dk_89 (dk_at dksJ3_indexOfUnsafe_1 10 rfl rfl)
theorem dJ3_indexOfUnsafe_33 : decode cJ3_indexOfUnsafe 33 = .ok (.invokespecial 66, 3) := dk_183 0 66 (dk_at dksJ3_indexOfUnsafe_1 11 rfl rfl)
theorem dJ3_indexOfUnsafe_36 : decode cJ3_indexOfUnsafe 36 = .ok (.athrow, 1) := dk_191 (dk_at dksJ3_indexOfUnsafe_1 14 rfl rfl)
theorem dJ3_indexOfUnsafe_37 : decode cJ3_indexOfUnsafe 37 = .ok (.getstatic 44, 3) := dk_178 0 44 (dk_at dksJ3_indexOfUnsafe_1 15 rfl rfl)
theorem dJ3_indexOfUnsafe_40 : decode cJ3_indexOfUnsafe 40 = .ok (.ifCond .ne 19, 3) := dk_154 0 19 (dk_at dksJ3_indexOfUnsafe_1 18 rfl rfl)
theorem dJ3_indexOfUnsafe_43 : decode cJ3_indexOfUnsafe 43 = .ok (.iload_n 3, 1) := dk_29 (dk_at dksJ3_indexOfUnsafe_1 21 rfl rfl)
theorem dJ3_indexOfUnsafe_44 : decode cJ3_indexOfUnsafe 44 = .ok (.aload_n 2, 1) := dk_44 (dk_at dksJ3_indexOfUnsafe_1 22 rfl rfl)
theorem dJ3_indexOfUnsafe_45 : decode cJ3_indexOfUnsafe 45 = .ok (.invokestatic 48, 3) := dk_184 0 48 (dk_at dksJ3_indexOfUnsafe_2 0 rfl rfl)
theorem dJ3_indexOfUnsafe_48 : decode cJ3_indexOfUnsafe 48 = .ok (.if_icmp .le 11, 3) := dk_164 0 11 (dk_at dksJ3_indexOfUnsafe_2 3 rfl rfl)
theorem dJ3_indexOfUnsafe_51 : decode cJ3_indexOfUnsafe 51 = .ok (.new 52, 3) := dk_187 0 52 (dk_at dksJ3_indexOfUnsafe_2 6 rfl rfl)
theorem dJ3_indexOfUnsafe_54 : decode cJ3_indexOfUnsafe 54 = .ok (.dup, 1) := dk_89 (dk_at dksJ3_indexOfUnsafe_2 9 rfl rfl)
theorem dJ3_indexOfUnsafe_55 : decode cJ3_indexOfUnsafe 55 = .ok (.invokespecial 66, 3) := dk_183 0 66 (dk_at dksJ3_indexOfUnsafe_2 10 rfl rfl)
theorem dJ3_indexOfUnsafe_58 : decode cJ3_indexOfUnsafe 58 = .ok (.athrow, 1) := dk_191 (dk_at dksJ3_indexOfUnsafe_2 13 rfl rfl)
theorem dJ3_indexOfUnsafe_59 : decode cJ3_indexOfUnsafe 59 = .ok (.getstatic 44, 3) := dk_178 0 44 (dk_at dksJ3_indexOfUnsafe_2 14 rfl rfl)
theorem dJ3_indexOfUnsafe_62 : decode cJ3_indexOfUnsafe 62 = .ok (.ifCond .ne 16, 3) := dk_154 0 16 (dk_at dksJ3_indexOfUnsafe_2 17 rfl rfl)
theorem dJ3_indexOfUnsafe_65 : decode cJ3_indexOfUnsafe 65 = .ok (.iload_n 1, 1) := dk_27 (dk_at dksJ3_indexOfUnsafe_2 20 rfl rfl)
theorem dJ3_indexOfUnsafe_66 : decode cJ3_indexOfUnsafe 66 = .ok (.iload_n 3, 1) := dk_29 (dk_at dksJ3_indexOfUnsafe_2 21 rfl rfl)
theorem dJ3_indexOfUnsafe_67 : decode cJ3_indexOfUnsafe 67 = .ok (.if_icmp .ge 11, 3) := dk_162 0 11 (dk_at dksJ3_indexOfUnsafe_3 0 rfl rfl)
theorem dJ3_indexOfUnsafe_70 : decode cJ3_indexOfUnsafe 70 = .ok (.new 52, 3) := dk_187 0 52 (dk_at dksJ3_indexOfUnsafe_3 3 rfl rfl)
theorem dJ3_indexOfUnsafe_73 : decode cJ3_indexOfUnsafe 73 = .ok (.dup, 1) := dk_89 (dk_at dksJ3_indexOfUnsafe_3 6 rfl rfl)
theorem dJ3_indexOfUnsafe_74 : decode cJ3_indexOfUnsafe 74 = .ok (.invokespecial 66, 3) := dk_183 0 66 (dk_at dksJ3_indexOfUnsafe_3 7 rfl rfl)
theorem dJ3_indexOfUnsafe_77 : decode cJ3_indexOfUnsafe 77 = .ok (.athrow, 1) := dk_191 (dk_at dksJ3_indexOfUnsafe_3 10 rfl rfl)
theorem dJ3_indexOfUnsafe_78 : decode cJ3_indexOfUnsafe 78 = .ok (.aload_n 2, 1) := dk_44 (dk_at dksJ3_indexOfUnsafe_3 11 rfl rfl)
theorem dJ3_indexOfUnsafe_79 : decode cJ3_indexOfUnsafe 79 = .ok (.iconst 0, 1) := dk_3 (dk_at dksJ3_indexOfUnsafe_3 12 rfl rfl)
theorem dJ3_indexOfUnsafe_80 : decode cJ3_indexOfUnsafe 80 = .ok (.invokestatic 71, 3) := dk_184 0 71 (dk_at dksJ3_indexOfUnsafe_3 13 rfl rfl)
theorem dJ3_indexOfUnsafe_83 : decode cJ3_indexOfUnsafe 83 = .ok (.istore 5, 2) := dk_54 5 (dk_at dksJ3_indexOfUnsafe_3 16 rfl rfl)
theorem dJ3_indexOfUnsafe_85 : decode cJ3_indexOfUnsafe 85 = .ok (.iload_n 1, 1) := dk_27 (dk_at dksJ3_indexOfUnsafe_3 18 rfl rfl)
theorem dJ3_indexOfUnsafe_86 : decode cJ3_indexOfUnsafe 86 = .ok (.iload_n 3, 1) := dk_29 (dk_at dksJ3_indexOfUnsafe_3 19 rfl rfl)
theorem dJ3_indexOfUnsafe_87 : decode cJ3_indexOfUnsafe 87 = .ok (.isub, 1) := dk_100 (dk_at dksJ3_indexOfUnsafe_3 20 rfl rfl)
theorem dJ3_indexOfUnsafe_88 : decode cJ3_indexOfUnsafe 88 = .ok (.istore 6, 2) := dk_54 6 (dk_at dksJ3_indexOfUnsafe_3 21 rfl rfl)
theorem dJ3_indexOfUnsafe_90 : decode cJ3_indexOfUnsafe 90 = .ok (.iload 4, 2) := dk_21 4 (dk_at dksJ3_indexOfUnsafe_4 0 rfl rfl)
theorem dJ3_indexOfUnsafe_92 : decode cJ3_indexOfUnsafe 92 = .ok (.istore 7, 2) := dk_54 7 (dk_at dksJ3_indexOfUnsafe_4 2 rfl rfl)
theorem dJ3_indexOfUnsafe_94 : decode cJ3_indexOfUnsafe 94 = .ok (.iload 7, 2) := dk_21 7 (dk_at dksJ3_indexOfUnsafe_4 4 rfl rfl)
theorem dJ3_indexOfUnsafe_96 : decode cJ3_indexOfUnsafe 96 = .ok (.iload 6, 2) := dk_21 6 (dk_at dksJ3_indexOfUnsafe_4 6 rfl rfl)
theorem dJ3_indexOfUnsafe_98 : decode cJ3_indexOfUnsafe 98 = .ok (.if_icmp .gt 109, 3) := dk_163 0 109 (dk_at dksJ3_indexOfUnsafe_4 8 rfl rfl)
theorem dJ3_indexOfUnsafe_101 : decode cJ3_indexOfUnsafe 101 = .ok (.aload_n 0, 1) := dk_42 (dk_at dksJ3_indexOfUnsafe_4 11 rfl rfl)
theorem dJ3_indexOfUnsafe_102 : decode cJ3_indexOfUnsafe 102 = .ok (.iload 7, 2) := dk_21 7 (dk_at dksJ3_indexOfUnsafe_4 12 rfl rfl)
theorem dJ3_indexOfUnsafe_104 : decode cJ3_indexOfUnsafe 104 = .ok (.invokestatic 71, 3) := dk_184 0 71 (dk_at dksJ3_indexOfUnsafe_4 14 rfl rfl)
theorem dJ3_indexOfUnsafe_107 : decode cJ3_indexOfUnsafe 107 = .ok (.iload 5, 2) := dk_21 5 (dk_at dksJ3_indexOfUnsafe_4 17 rfl rfl)
theorem dJ3_indexOfUnsafe_109 : decode cJ3_indexOfUnsafe 109 = .ok (.if_icmp .eq 27, 3) := dk_159 0 27 (dk_at dksJ3_indexOfUnsafe_4 19 rfl rfl)
theorem dJ3_indexOfUnsafe_112 : decode cJ3_indexOfUnsafe 112 = .ok (.iinc 7 1, 3) := dk_132 7 1 (dk_at dksJ3_indexOfUnsafe_5 0 rfl rfl)
theorem dJ3_indexOfUnsafe_115 : decode cJ3_indexOfUnsafe 115 = .ok (.iload 7, 2) := dk_21 7 (dk_at dksJ3_indexOfUnsafe_5 3 rfl rfl)
theorem dJ3_indexOfUnsafe_117 : decode cJ3_indexOfUnsafe 117 = .ok (.iload 6, 2) := dk_21 6 (dk_at dksJ3_indexOfUnsafe_5 5 rfl rfl)
theorem dJ3_indexOfUnsafe_119 : decode cJ3_indexOfUnsafe 119 = .ok (.if_icmp .gt 17, 3) := dk_163 0 17 (dk_at dksJ3_indexOfUnsafe_5 7 rfl rfl)
theorem dJ3_indexOfUnsafe_122 : decode cJ3_indexOfUnsafe 122 = .ok (.aload_n 0, 1) := dk_42 (dk_at dksJ3_indexOfUnsafe_5 10 rfl rfl)
theorem dJ3_indexOfUnsafe_123 : decode cJ3_indexOfUnsafe 123 = .ok (.iload 7, 2) := dk_21 7 (dk_at dksJ3_indexOfUnsafe_5 11 rfl rfl)
theorem dJ3_indexOfUnsafe_125 : decode cJ3_indexOfUnsafe 125 = .ok (.invokestatic 71, 3) := dk_184 0 71 (dk_at dksJ3_indexOfUnsafe_5 13 rfl rfl)
theorem dJ3_indexOfUnsafe_128 : decode cJ3_indexOfUnsafe 128 = .ok (.iload 5, 2) := dk_21 5 (dk_at dksJ3_indexOfUnsafe_5 16 rfl rfl)
theorem dJ3_indexOfUnsafe_130 : decode cJ3_indexOfUnsafe 130 = .ok (.if_icmp .eq 6, 3) := dk_159 0 6 (dk_at dksJ3_indexOfUnsafe_5 18 rfl rfl)
theorem dJ3_indexOfUnsafe_133 : decode cJ3_indexOfUnsafe 133 = .ok (.goto (-21), 3) := dk_167 255 235 (dk_at dksJ3_indexOfUnsafe_5 21 rfl rfl)
theorem dJ3_indexOfUnsafe_136 : decode cJ3_indexOfUnsafe 136 = .ok (.iload 7, 2) := dk_21 7 (dk_at dksJ3_indexOfUnsafe_6 0 rfl rfl)
theorem dJ3_indexOfUnsafe_138 : decode cJ3_indexOfUnsafe 138 = .ok (.iload 6, 2) := dk_21 6 (dk_at dksJ3_indexOfUnsafe_6 2 rfl rfl)
theorem dJ3_indexOfUnsafe_140 : decode cJ3_indexOfUnsafe 140 = .ok (.if_icmp .gt 61, 3) := dk_163 0 61 (dk_at dksJ3_indexOfUnsafe_6 4 rfl rfl)
theorem dJ3_indexOfUnsafe_143 : decode cJ3_indexOfUnsafe 143 = .ok (.iload 7, 2) := dk_21 7 (dk_at dksJ3_indexOfUnsafe_6 7 rfl rfl)
theorem dJ3_indexOfUnsafe_145 : decode cJ3_indexOfUnsafe 145 = .ok (.iconst 1, 1) := dk_4 (dk_at dksJ3_indexOfUnsafe_6 9 rfl rfl)
theorem dJ3_indexOfUnsafe_146 : decode cJ3_indexOfUnsafe 146 = .ok (.iadd, 1) := dk_96 (dk_at dksJ3_indexOfUnsafe_6 10 rfl rfl)
theorem dJ3_indexOfUnsafe_147 : decode cJ3_indexOfUnsafe 147 = .ok (.istore 8, 2) := dk_54 8 (dk_at dksJ3_indexOfUnsafe_6 11 rfl rfl)
theorem dJ3_indexOfUnsafe_149 : decode cJ3_indexOfUnsafe 149 = .ok (.iload 8, 2) := dk_21 8 (dk_at dksJ3_indexOfUnsafe_6 13 rfl rfl)
theorem dJ3_indexOfUnsafe_151 : decode cJ3_indexOfUnsafe 151 = .ok (.iload_n 3, 1) := dk_29 (dk_at dksJ3_indexOfUnsafe_6 15 rfl rfl)
theorem dJ3_indexOfUnsafe_152 : decode cJ3_indexOfUnsafe 152 = .ok (.iadd, 1) := dk_96 (dk_at dksJ3_indexOfUnsafe_6 16 rfl rfl)
theorem dJ3_indexOfUnsafe_153 : decode cJ3_indexOfUnsafe 153 = .ok (.iconst 1, 1) := dk_4 (dk_at dksJ3_indexOfUnsafe_6 17 rfl rfl)
theorem dJ3_indexOfUnsafe_154 : decode cJ3_indexOfUnsafe 154 = .ok (.isub, 1) := dk_100 (dk_at dksJ3_indexOfUnsafe_6 18 rfl rfl)
theorem dJ3_indexOfUnsafe_155 : decode cJ3_indexOfUnsafe 155 = .ok (.istore 9, 2) := dk_54 9 (dk_at dksJ3_indexOfUnsafe_6 19 rfl rfl)
theorem dJ3_indexOfUnsafe_157 : decode cJ3_indexOfUnsafe 157 = .ok (.iconst 1, 1) := dk_4 (dk_at dksJ3_indexOfUnsafe_6 21 rfl rfl)
theorem dJ3_indexOfUnsafe_158 : decode cJ3_indexOfUnsafe 158 = .ok (.istore 10, 2) := dk_54 10 (dk_at dksJ3_indexOfUnsafe_6 22 rfl rfl)
theorem dJ3_indexOfUnsafe_160 : decode cJ3_indexOfUnsafe 160 = .ok (.iload 8, 2) := dk_21 8 (dk_at dksJ3_indexOfUnsafe_7 0 rfl rfl)
theorem dJ3_indexOfUnsafe_162 : decode cJ3_indexOfUnsafe 162 = .ok (.iload 9, 2) := dk_21 9 (dk_at dksJ3_indexOfUnsafe_7 2 rfl rfl)
theorem dJ3_indexOfUnsafe_164 : decode cJ3_indexOfUnsafe 164 = .ok (.if_icmp .ge 27, 3) := dk_162 0 27 (dk_at dksJ3_indexOfUnsafe_7 4 rfl rfl)
theorem dJ3_indexOfUnsafe_167 : decode cJ3_indexOfUnsafe 167 = .ok (.aload_n 0, 1) := dk_42 (dk_at dksJ3_indexOfUnsafe_7 7 rfl rfl)
theorem dJ3_indexOfUnsafe_168 : decode cJ3_indexOfUnsafe 168 = .ok (.iload 8, 2) := dk_21 8 (dk_at dksJ3_indexOfUnsafe_7 8 rfl rfl)
theorem dJ3_indexOfUnsafe_170 : decode cJ3_indexOfUnsafe 170 = .ok (.invokestatic 71, 3) := dk_184 0 71 (dk_at dksJ3_indexOfUnsafe_7 10 rfl rfl)
theorem dJ3_indexOfUnsafe_173 : decode cJ3_indexOfUnsafe 173 = .ok (.aload_n 2, 1) := dk_44 (dk_at dksJ3_indexOfUnsafe_7 13 rfl rfl)
theorem dJ3_indexOfUnsafe_174 : decode cJ3_indexOfUnsafe 174 = .ok (.iload 10, 2) := dk_21 10 (dk_at dksJ3_indexOfUnsafe_7 14 rfl rfl)
theorem dJ3_indexOfUnsafe_176 : decode cJ3_indexOfUnsafe 176 = .ok (.invokestatic 71, 3) := dk_184 0 71 (dk_at dksJ3_indexOfUnsafe_7 16 rfl rfl)
theorem dJ3_indexOfUnsafe_179 : decode cJ3_indexOfUnsafe 179 = .ok (.if_icmp .ne 12, 3) := dk_160 0 12 (dk_at dksJ3_indexOfUnsafe_7 19 rfl rfl)
theorem dJ3_indexOfUnsafe_182 : decode cJ3_indexOfUnsafe 182 = .ok (.iinc 8 1, 3) := dk_132 8 1 (dk_at dksJ3_indexOfUnsafe_8 0 rfl rfl)
theorem dJ3_indexOfUnsafe_185 : decode cJ3_indexOfUnsafe 185 = .ok (.iinc 10 1, 3) := dk_132 10 1 (dk_at dksJ3_indexOfUnsafe_8 3 rfl rfl)
theorem dJ3_indexOfUnsafe_188 : decode cJ3_indexOfUnsafe 188 = .ok (.goto (-28), 3) := dk_167 255 228 (dk_at dksJ3_indexOfUnsafe_8 6 rfl rfl)
theorem dJ3_indexOfUnsafe_191 : decode cJ3_indexOfUnsafe 191 = .ok (.iload 8, 2) := dk_21 8 (dk_at dksJ3_indexOfUnsafe_8 9 rfl rfl)
theorem dJ3_indexOfUnsafe_193 : decode cJ3_indexOfUnsafe 193 = .ok (.iload 9, 2) := dk_21 9 (dk_at dksJ3_indexOfUnsafe_8 11 rfl rfl)
theorem dJ3_indexOfUnsafe_195 : decode cJ3_indexOfUnsafe 195 = .ok (.if_icmp .ne 6, 3) := dk_160 0 6 (dk_at dksJ3_indexOfUnsafe_8 13 rfl rfl)
theorem dJ3_indexOfUnsafe_198 : decode cJ3_indexOfUnsafe 198 = .ok (.iload 7, 2) := dk_21 7 (dk_at dksJ3_indexOfUnsafe_8 16 rfl rfl)
theorem dJ3_indexOfUnsafe_200 : decode cJ3_indexOfUnsafe 200 = .ok (.ireturn, 1) := dk_172 (dk_at dksJ3_indexOfUnsafe_8 18 rfl rfl)
theorem dJ3_indexOfUnsafe_201 : decode cJ3_indexOfUnsafe 201 = .ok (.iinc 7 1, 3) := dk_132 7 1 (dk_at dksJ3_indexOfUnsafe_8 19 rfl rfl)
theorem dJ3_indexOfUnsafe_204 : decode cJ3_indexOfUnsafe 204 = .ok (.goto (-110), 3) := dk_167 255 146 (dk_at dksJ3_indexOfUnsafe_9 0 rfl rfl)
theorem dJ3_indexOfUnsafe_207 : decode cJ3_indexOfUnsafe 207 = .ok (.iconst (-1), 1) := dk_2 (dk_at dksJ3_indexOfUnsafe_9 3 rfl rfl)
theorem dJ3_indexOfUnsafe_208 : decode cJ3_indexOfUnsafe 208 = .ok (.ireturn, 1) := dk_172 (dk_at dksJ3_indexOfUnsafe_9 4 rfl rfl)
abbrev cJ3_indexOfLatin1 : ByteArray := prog_89_method_44_code
def yJ3_indexOfLatin1 : MethodName := ⟨RJ3, "indexOfLatin1", "([B[B)I"⟩
def dkwJ3_indexOfLatin1_1 : List UInt8 := [43, 190, 3, 184, 0, 238, 172]
abbrev dktJ3_indexOfLatin1_1 : List UInt8 := dkwJ3_indexOfLatin1_1 ++ []
def dkwJ3_indexOfLatin1_0 : List UInt8 := [43, 190, 154, 0, 5, 3, 172, 42, 184, 0, 48, 43, 190, 162, 0, 5, 2, 172, 42, 42, 184, 0, 48, 43]
abbrev dktJ3_indexOfLatin1_0 : List UInt8 := dkwJ3_indexOfLatin1_0 ++ dktJ3_indexOfLatin1_1
theorem dksJ3_indexOfLatin1_0 : cJ3_indexOfLatin1.data.toList.drop 0 = dktJ3_indexOfLatin1_0 := by decide +kernel
theorem dksJ3_indexOfLatin1_1 : cJ3_indexOfLatin1.data.toList.drop 24 = dktJ3_indexOfLatin1_1 := dk_seg dksJ3_indexOfLatin1_0 24 rfl rfl
theorem dJ3_indexOfLatin1_0 : decode cJ3_indexOfLatin1 0 = .ok (.aload_n 1, 1) := dk_43 (dk_at dksJ3_indexOfLatin1_0 0 rfl rfl)
theorem dJ3_indexOfLatin1_1 : decode cJ3_indexOfLatin1 1 = .ok (.arraylength, 1) := dk_190 (dk_at dksJ3_indexOfLatin1_0 1 rfl rfl)
theorem dJ3_indexOfLatin1_2 : decode cJ3_indexOfLatin1 2 = .ok (.ifCond .ne 5, 3) := dk_154 0 5 (dk_at dksJ3_indexOfLatin1_0 2 rfl rfl)
theorem dJ3_indexOfLatin1_5 : decode cJ3_indexOfLatin1 5 = .ok (.iconst 0, 1) := dk_3 (dk_at dksJ3_indexOfLatin1_0 5 rfl rfl)
theorem dJ3_indexOfLatin1_6 : decode cJ3_indexOfLatin1 6 = .ok (.ireturn, 1) := dk_172 (dk_at dksJ3_indexOfLatin1_0 6 rfl rfl)
theorem dJ3_indexOfLatin1_7 : decode cJ3_indexOfLatin1 7 = .ok (.aload_n 0, 1) := dk_42 (dk_at dksJ3_indexOfLatin1_0 7 rfl rfl)
theorem dJ3_indexOfLatin1_8 : decode cJ3_indexOfLatin1 8 = .ok (.invokestatic 48, 3) := dk_184 0 48 (dk_at dksJ3_indexOfLatin1_0 8 rfl rfl)
theorem dJ3_indexOfLatin1_11 : decode cJ3_indexOfLatin1 11 = .ok (.aload_n 1, 1) := dk_43 (dk_at dksJ3_indexOfLatin1_0 11 rfl rfl)
theorem dJ3_indexOfLatin1_12 : decode cJ3_indexOfLatin1 12 = .ok (.arraylength, 1) := dk_190 (dk_at dksJ3_indexOfLatin1_0 12 rfl rfl)
theorem dJ3_indexOfLatin1_13 : decode cJ3_indexOfLatin1 13 = .ok (.if_icmp .ge 5, 3) := dk_162 0 5 (dk_at dksJ3_indexOfLatin1_0 13 rfl rfl)
theorem dJ3_indexOfLatin1_16 : decode cJ3_indexOfLatin1 16 = .ok (.iconst (-1), 1) := dk_2 (dk_at dksJ3_indexOfLatin1_0 16 rfl rfl)
theorem dJ3_indexOfLatin1_17 : decode cJ3_indexOfLatin1 17 = .ok (.ireturn, 1) := dk_172 (dk_at dksJ3_indexOfLatin1_0 17 rfl rfl)
theorem dJ3_indexOfLatin1_18 : decode cJ3_indexOfLatin1 18 = .ok (.aload_n 0, 1) := dk_42 (dk_at dksJ3_indexOfLatin1_0 18 rfl rfl)
theorem dJ3_indexOfLatin1_19 : decode cJ3_indexOfLatin1 19 = .ok (.aload_n 0, 1) := dk_42 (dk_at dksJ3_indexOfLatin1_0 19 rfl rfl)
theorem dJ3_indexOfLatin1_20 : decode cJ3_indexOfLatin1 20 = .ok (.invokestatic 48, 3) := dk_184 0 48 (dk_at dksJ3_indexOfLatin1_0 20 rfl rfl)
theorem dJ3_indexOfLatin1_23 : decode cJ3_indexOfLatin1 23 = .ok (.aload_n 1, 1) := dk_43 (dk_at dksJ3_indexOfLatin1_0 23 rfl rfl)
theorem dJ3_indexOfLatin1_24 : decode cJ3_indexOfLatin1 24 = .ok (.aload_n 1, 1) := dk_43 (dk_at dksJ3_indexOfLatin1_1 0 rfl rfl)
theorem dJ3_indexOfLatin1_25 : decode cJ3_indexOfLatin1 25 = .ok (.arraylength, 1) := dk_190 (dk_at dksJ3_indexOfLatin1_1 1 rfl rfl)
theorem dJ3_indexOfLatin1_26 : decode cJ3_indexOfLatin1 26 = .ok (.iconst 0, 1) := dk_3 (dk_at dksJ3_indexOfLatin1_1 2 rfl rfl)
theorem dJ3_indexOfLatin1_27 : decode cJ3_indexOfLatin1 27 = .ok (.invokestatic 238, 3) := dk_184 0 238 (dk_at dksJ3_indexOfLatin1_1 3 rfl rfl)
theorem dJ3_indexOfLatin1_30 : decode cJ3_indexOfLatin1 30 = .ok (.ireturn, 1) := dk_172 (dk_at dksJ3_indexOfLatin1_1 6 rfl rfl)
abbrev cJ3_indexOfLatin1Unsafe : ByteArray := prog_89_method_46_code
def yJ3_indexOfLatin1Unsafe : MethodName := ⟨RJ3, "indexOfLatin1Unsafe", "([BI[BII)I"⟩
def dkwJ3_indexOfLatin1Unsafe_9 : List UInt8 := [167, 255, 144, 2, 172]
abbrev dktJ3_indexOfLatin1Unsafe_9 : List UInt8 := dkwJ3_indexOfLatin1Unsafe_9 ++ []
def dkwJ3_indexOfLatin1Unsafe_8 : List UInt8 := [132, 8, 1, 132, 10, 1, 167, 255, 226, 21, 8, 21, 9, 160, 0, 6, 21, 7, 172, 132, 7, 1]
abbrev dktJ3_indexOfLatin1Unsafe_8 : List UInt8 := dkwJ3_indexOfLatin1Unsafe_8 ++ dktJ3_indexOfLatin1Unsafe_9
def dkwJ3_indexOfLatin1Unsafe_7 : List UInt8 := [21, 8, 21, 9, 162, 0, 29, 42, 21, 8, 184, 0, 71, 44, 21, 10, 51, 17, 0, 255, 126, 160, 0, 12]
abbrev dktJ3_indexOfLatin1Unsafe_7 : List UInt8 := dkwJ3_indexOfLatin1Unsafe_7 ++ dktJ3_indexOfLatin1Unsafe_8
def dkwJ3_indexOfLatin1Unsafe_6 : List UInt8 := [21, 7, 21, 6, 163, 0, 63, 21, 7, 4, 96, 54, 8, 21, 8, 29, 96, 4, 100, 54, 9, 4, 54, 10]
abbrev dktJ3_indexOfLatin1Unsafe_6 : List UInt8 := dkwJ3_indexOfLatin1Unsafe_6 ++ dktJ3_indexOfLatin1Unsafe_7
def dkwJ3_indexOfLatin1Unsafe_5 : List UInt8 := [132, 7, 1, 21, 7, 21, 6, 163, 0, 17, 42, 21, 7, 184, 0, 71, 21, 5, 159, 0, 6, 167, 255, 235]
abbrev dktJ3_indexOfLatin1Unsafe_5 : List UInt8 := dkwJ3_indexOfLatin1Unsafe_5 ++ dktJ3_indexOfLatin1Unsafe_6
def dkwJ3_indexOfLatin1Unsafe_4 : List UInt8 := [21, 4, 54, 7, 21, 7, 21, 6, 163, 0, 111, 42, 21, 7, 184, 0, 71, 21, 5, 159, 0, 27]
abbrev dktJ3_indexOfLatin1Unsafe_4 : List UInt8 := dkwJ3_indexOfLatin1Unsafe_4 ++ dktJ3_indexOfLatin1Unsafe_5
def dkwJ3_indexOfLatin1Unsafe_3 : List UInt8 := [187, 0, 52, 89, 183, 0, 66, 191, 44, 3, 51, 17, 0, 255, 126, 146, 54, 5, 27, 29, 100, 54, 6]
abbrev dktJ3_indexOfLatin1Unsafe_3 : List UInt8 := dkwJ3_indexOfLatin1Unsafe_3 ++ dktJ3_indexOfLatin1Unsafe_4
def dkwJ3_indexOfLatin1Unsafe_2 : List UInt8 := [164, 0, 11, 187, 0, 52, 89, 183, 0, 66, 191, 178, 0, 44, 154, 0, 16, 27, 29, 162, 0, 11]
abbrev dktJ3_indexOfLatin1Unsafe_2 : List UInt8 := dkwJ3_indexOfLatin1Unsafe_2 ++ dktJ3_indexOfLatin1Unsafe_3
def dkwJ3_indexOfLatin1Unsafe_1 : List UInt8 := [154, 0, 15, 29, 157, 0, 11, 187, 0, 52, 89, 183, 0, 66, 191, 178, 0, 44, 154, 0, 17, 29, 44, 190]
abbrev dktJ3_indexOfLatin1Unsafe_1 : List UInt8 := dkwJ3_indexOfLatin1Unsafe_1 ++ dktJ3_indexOfLatin1Unsafe_2
def dkwJ3_indexOfLatin1Unsafe_0 : List UInt8 := [178, 0, 44, 154, 0, 16, 21, 4, 156, 0, 11, 187, 0, 52, 89, 183, 0, 66, 191, 178, 0, 44]
abbrev dktJ3_indexOfLatin1Unsafe_0 : List UInt8 := dkwJ3_indexOfLatin1Unsafe_0 ++ dktJ3_indexOfLatin1Unsafe_1
theorem dksJ3_indexOfLatin1Unsafe_0 : cJ3_indexOfLatin1Unsafe.data.toList.drop 0 = dktJ3_indexOfLatin1Unsafe_0 := by decide +kernel
theorem dksJ3_indexOfLatin1Unsafe_1 : cJ3_indexOfLatin1Unsafe.data.toList.drop 22 = dktJ3_indexOfLatin1Unsafe_1 := dk_seg dksJ3_indexOfLatin1Unsafe_0 22 rfl rfl
theorem dksJ3_indexOfLatin1Unsafe_2 : cJ3_indexOfLatin1Unsafe.data.toList.drop 46 = dktJ3_indexOfLatin1Unsafe_2 := dk_seg dksJ3_indexOfLatin1Unsafe_1 24 rfl rfl
theorem dksJ3_indexOfLatin1Unsafe_3 : cJ3_indexOfLatin1Unsafe.data.toList.drop 68 = dktJ3_indexOfLatin1Unsafe_3 := dk_seg dksJ3_indexOfLatin1Unsafe_2 22 rfl rfl
theorem dksJ3_indexOfLatin1Unsafe_4 : cJ3_indexOfLatin1Unsafe.data.toList.drop 91 = dktJ3_indexOfLatin1Unsafe_4 := dk_seg dksJ3_indexOfLatin1Unsafe_3 23 rfl rfl
theorem dksJ3_indexOfLatin1Unsafe_5 : cJ3_indexOfLatin1Unsafe.data.toList.drop 113 = dktJ3_indexOfLatin1Unsafe_5 := dk_seg dksJ3_indexOfLatin1Unsafe_4 22 rfl rfl
theorem dksJ3_indexOfLatin1Unsafe_6 : cJ3_indexOfLatin1Unsafe.data.toList.drop 137 = dktJ3_indexOfLatin1Unsafe_6 := dk_seg dksJ3_indexOfLatin1Unsafe_5 24 rfl rfl
theorem dksJ3_indexOfLatin1Unsafe_7 : cJ3_indexOfLatin1Unsafe.data.toList.drop 161 = dktJ3_indexOfLatin1Unsafe_7 := dk_seg dksJ3_indexOfLatin1Unsafe_6 24 rfl rfl
theorem dksJ3_indexOfLatin1Unsafe_8 : cJ3_indexOfLatin1Unsafe.data.toList.drop 185 = dktJ3_indexOfLatin1Unsafe_8 := dk_seg dksJ3_indexOfLatin1Unsafe_7 24 rfl rfl
theorem dksJ3_indexOfLatin1Unsafe_9 : cJ3_indexOfLatin1Unsafe.data.toList.drop 207 = dktJ3_indexOfLatin1Unsafe_9 := dk_seg dksJ3_indexOfLatin1Unsafe_8 22 rfl rfl
theorem dJ3_indexOfLatin1Unsafe_0 : decode cJ3_indexOfLatin1Unsafe 0 = .ok (.getstatic 44, 3) := dk_178 0 44 (dk_at dksJ3_indexOfLatin1Unsafe_0 0 rfl rfl)
theorem dJ3_indexOfLatin1Unsafe_3 : decode cJ3_indexOfLatin1Unsafe 3 = .ok (.ifCond .ne 16, 3) := dk_154 0 16 (dk_at dksJ3_indexOfLatin1Unsafe_0 3 rfl rfl)
theorem dJ3_indexOfLatin1Unsafe_6 : decode cJ3_indexOfLatin1Unsafe 6 = .ok (.iload 4, 2) := dk_21 4 (dk_at dksJ3_indexOfLatin1Unsafe_0 6 rfl rfl)
theorem dJ3_indexOfLatin1Unsafe_8 : decode cJ3_indexOfLatin1Unsafe 8 = .ok (.ifCond .ge 11, 3) := dk_156 0 11 (dk_at dksJ3_indexOfLatin1Unsafe_0 8 rfl rfl)
theorem dJ3_indexOfLatin1Unsafe_11 : decode cJ3_indexOfLatin1Unsafe 11 = .ok (.new 52, 3) := dk_187 0 52 (dk_at dksJ3_indexOfLatin1Unsafe_0 11 rfl rfl)
theorem dJ3_indexOfLatin1Unsafe_14 : decode cJ3_indexOfLatin1Unsafe 14 = .ok (.dup, 1) := dk_89 (dk_at dksJ3_indexOfLatin1Unsafe_0 14 rfl rfl)
theorem dJ3_indexOfLatin1Unsafe_15 : decode cJ3_indexOfLatin1Unsafe 15 = .ok (.invokespecial 66, 3) := dk_183 0 66 (dk_at dksJ3_indexOfLatin1Unsafe_0 15 rfl rfl)
theorem dJ3_indexOfLatin1Unsafe_18 : decode cJ3_indexOfLatin1Unsafe 18 = .ok (.athrow, 1) := dk_191 (dk_at dksJ3_indexOfLatin1Unsafe_0 18 rfl rfl)
theorem dJ3_indexOfLatin1Unsafe_19 : decode cJ3_indexOfLatin1Unsafe 19 = .ok (.getstatic 44, 3) := dk_178 0 44 (dk_at dksJ3_indexOfLatin1Unsafe_0 19 rfl rfl)
theorem dJ3_indexOfLatin1Unsafe_22 : decode cJ3_indexOfLatin1Unsafe 22 = .ok (.ifCond .ne 15, 3) := dk_154 0 15 (dk_at dksJ3_indexOfLatin1Unsafe_1 0 rfl rfl)
theorem dJ3_indexOfLatin1Unsafe_25 : decode cJ3_indexOfLatin1Unsafe 25 = .ok (.iload_n 3, 1) := dk_29 (dk_at dksJ3_indexOfLatin1Unsafe_1 3 rfl rfl)
theorem dJ3_indexOfLatin1Unsafe_26 : decode cJ3_indexOfLatin1Unsafe 26 = .ok (.ifCond .gt 11, 3) := dk_157 0 11 (dk_at dksJ3_indexOfLatin1Unsafe_1 4 rfl rfl)
theorem dJ3_indexOfLatin1Unsafe_29 : decode cJ3_indexOfLatin1Unsafe 29 = .ok (.new 52, 3) := dk_187 0 52 (dk_at dksJ3_indexOfLatin1Unsafe_1 7 rfl rfl)
theorem dJ3_indexOfLatin1Unsafe_32 : decode cJ3_indexOfLatin1Unsafe 32 = .ok (.dup, 1) := dk_89 (dk_at dksJ3_indexOfLatin1Unsafe_1 10 rfl rfl)
theorem dJ3_indexOfLatin1Unsafe_33 : decode cJ3_indexOfLatin1Unsafe 33 = .ok (.invokespecial 66, 3) := dk_183 0 66 (dk_at dksJ3_indexOfLatin1Unsafe_1 11 rfl rfl)
theorem dJ3_indexOfLatin1Unsafe_36 : decode cJ3_indexOfLatin1Unsafe 36 = .ok (.athrow, 1) := dk_191 (dk_at dksJ3_indexOfLatin1Unsafe_1 14 rfl rfl)
theorem dJ3_indexOfLatin1Unsafe_37 : decode cJ3_indexOfLatin1Unsafe 37 = .ok (.getstatic 44, 3) := dk_178 0 44 (dk_at dksJ3_indexOfLatin1Unsafe_1 15 rfl rfl)
theorem dJ3_indexOfLatin1Unsafe_40 : decode cJ3_indexOfLatin1Unsafe 40 = .ok (.ifCond .ne 17, 3) := dk_154 0 17 (dk_at dksJ3_indexOfLatin1Unsafe_1 18 rfl rfl)
theorem dJ3_indexOfLatin1Unsafe_43 : decode cJ3_indexOfLatin1Unsafe 43 = .ok (.iload_n 3, 1) := dk_29 (dk_at dksJ3_indexOfLatin1Unsafe_1 21 rfl rfl)
theorem dJ3_indexOfLatin1Unsafe_44 : decode cJ3_indexOfLatin1Unsafe 44 = .ok (.aload_n 2, 1) := dk_44 (dk_at dksJ3_indexOfLatin1Unsafe_1 22 rfl rfl)
theorem dJ3_indexOfLatin1Unsafe_45 : decode cJ3_indexOfLatin1Unsafe 45 = .ok (.arraylength, 1) := dk_190 (dk_at dksJ3_indexOfLatin1Unsafe_1 23 rfl rfl)
theorem dJ3_indexOfLatin1Unsafe_46 : decode cJ3_indexOfLatin1Unsafe 46 = .ok (.if_icmp .le 11, 3) := dk_164 0 11 (dk_at dksJ3_indexOfLatin1Unsafe_2 0 rfl rfl)
theorem dJ3_indexOfLatin1Unsafe_49 : decode cJ3_indexOfLatin1Unsafe 49 = .ok (.new 52, 3) := dk_187 0 52 (dk_at dksJ3_indexOfLatin1Unsafe_2 3 rfl rfl)
theorem dJ3_indexOfLatin1Unsafe_52 : decode cJ3_indexOfLatin1Unsafe 52 = .ok (.dup, 1) := dk_89 (dk_at dksJ3_indexOfLatin1Unsafe_2 6 rfl rfl)
theorem dJ3_indexOfLatin1Unsafe_53 : decode cJ3_indexOfLatin1Unsafe 53 = .ok (.invokespecial 66, 3) := dk_183 0 66 (dk_at dksJ3_indexOfLatin1Unsafe_2 7 rfl rfl)
theorem dJ3_indexOfLatin1Unsafe_56 : decode cJ3_indexOfLatin1Unsafe 56 = .ok (.athrow, 1) := dk_191 (dk_at dksJ3_indexOfLatin1Unsafe_2 10 rfl rfl)
theorem dJ3_indexOfLatin1Unsafe_57 : decode cJ3_indexOfLatin1Unsafe 57 = .ok (.getstatic 44, 3) := dk_178 0 44 (dk_at dksJ3_indexOfLatin1Unsafe_2 11 rfl rfl)
theorem dJ3_indexOfLatin1Unsafe_60 : decode cJ3_indexOfLatin1Unsafe 60 = .ok (.ifCond .ne 16, 3) := dk_154 0 16 (dk_at dksJ3_indexOfLatin1Unsafe_2 14 rfl rfl)
theorem dJ3_indexOfLatin1Unsafe_63 : decode cJ3_indexOfLatin1Unsafe 63 = .ok (.iload_n 1, 1) := dk_27 (dk_at dksJ3_indexOfLatin1Unsafe_2 17 rfl rfl)
theorem dJ3_indexOfLatin1Unsafe_64 : decode cJ3_indexOfLatin1Unsafe 64 = .ok (.iload_n 3, 1) := dk_29 (dk_at dksJ3_indexOfLatin1Unsafe_2 18 rfl rfl)
theorem dJ3_indexOfLatin1Unsafe_65 : decode cJ3_indexOfLatin1Unsafe 65 = .ok (.if_icmp .ge 11, 3) := dk_162 0 11 (dk_at dksJ3_indexOfLatin1Unsafe_2 19 rfl rfl)
theorem dJ3_indexOfLatin1Unsafe_68 : decode cJ3_indexOfLatin1Unsafe 68 = .ok (.new 52, 3) := dk_187 0 52 (dk_at dksJ3_indexOfLatin1Unsafe_3 0 rfl rfl)
theorem dJ3_indexOfLatin1Unsafe_71 : decode cJ3_indexOfLatin1Unsafe 71 = .ok (.dup, 1) := dk_89 (dk_at dksJ3_indexOfLatin1Unsafe_3 3 rfl rfl)
theorem dJ3_indexOfLatin1Unsafe_72 : decode cJ3_indexOfLatin1Unsafe 72 = .ok (.invokespecial 66, 3) := dk_183 0 66 (dk_at dksJ3_indexOfLatin1Unsafe_3 4 rfl rfl)
theorem dJ3_indexOfLatin1Unsafe_75 : decode cJ3_indexOfLatin1Unsafe 75 = .ok (.athrow, 1) := dk_191 (dk_at dksJ3_indexOfLatin1Unsafe_3 7 rfl rfl)
theorem dJ3_indexOfLatin1Unsafe_76 : decode cJ3_indexOfLatin1Unsafe 76 = .ok (.aload_n 2, 1) := dk_44 (dk_at dksJ3_indexOfLatin1Unsafe_3 8 rfl rfl)
theorem dJ3_indexOfLatin1Unsafe_77 : decode cJ3_indexOfLatin1Unsafe 77 = .ok (.iconst 0, 1) := dk_3 (dk_at dksJ3_indexOfLatin1Unsafe_3 9 rfl rfl)
theorem dJ3_indexOfLatin1Unsafe_78 : decode cJ3_indexOfLatin1Unsafe 78 = .ok (.baload, 1) := dk_51 (dk_at dksJ3_indexOfLatin1Unsafe_3 10 rfl rfl)
theorem dJ3_indexOfLatin1Unsafe_79 : decode cJ3_indexOfLatin1Unsafe 79 = .ok (.sipush 255, 3) := dk_17 0 255 (dk_at dksJ3_indexOfLatin1Unsafe_3 11 rfl rfl)
theorem dJ3_indexOfLatin1Unsafe_82 : decode cJ3_indexOfLatin1Unsafe 82 = .ok (.iand, 1) := dk_126 (dk_at dksJ3_indexOfLatin1Unsafe_3 14 rfl rfl)
theorem dJ3_indexOfLatin1Unsafe_83 : decode cJ3_indexOfLatin1Unsafe 83 = .ok (.i2c, 1) := dk_146 (dk_at dksJ3_indexOfLatin1Unsafe_3 15 rfl rfl)
theorem dJ3_indexOfLatin1Unsafe_84 : decode cJ3_indexOfLatin1Unsafe 84 = .ok (.istore 5, 2) := dk_54 5 (dk_at dksJ3_indexOfLatin1Unsafe_3 16 rfl rfl)
theorem dJ3_indexOfLatin1Unsafe_86 : decode cJ3_indexOfLatin1Unsafe 86 = .ok (.iload_n 1, 1) := dk_27 (dk_at dksJ3_indexOfLatin1Unsafe_3 18 rfl rfl)
theorem dJ3_indexOfLatin1Unsafe_87 : decode cJ3_indexOfLatin1Unsafe 87 = .ok (.iload_n 3, 1) := dk_29 (dk_at dksJ3_indexOfLatin1Unsafe_3 19 rfl rfl)
theorem dJ3_indexOfLatin1Unsafe_88 : decode cJ3_indexOfLatin1Unsafe 88 = .ok (.isub, 1) := dk_100 (dk_at dksJ3_indexOfLatin1Unsafe_3 20 rfl rfl)
theorem dJ3_indexOfLatin1Unsafe_89 : decode cJ3_indexOfLatin1Unsafe 89 = .ok (.istore 6, 2) := dk_54 6 (dk_at dksJ3_indexOfLatin1Unsafe_3 21 rfl rfl)
theorem dJ3_indexOfLatin1Unsafe_91 : decode cJ3_indexOfLatin1Unsafe 91 = .ok (.iload 4, 2) := dk_21 4 (dk_at dksJ3_indexOfLatin1Unsafe_4 0 rfl rfl)
theorem dJ3_indexOfLatin1Unsafe_93 : decode cJ3_indexOfLatin1Unsafe 93 = .ok (.istore 7, 2) := dk_54 7 (dk_at dksJ3_indexOfLatin1Unsafe_4 2 rfl rfl)
theorem dJ3_indexOfLatin1Unsafe_95 : decode cJ3_indexOfLatin1Unsafe 95 = .ok (.iload 7, 2) := dk_21 7 (dk_at dksJ3_indexOfLatin1Unsafe_4 4 rfl rfl)
theorem dJ3_indexOfLatin1Unsafe_97 : decode cJ3_indexOfLatin1Unsafe 97 = .ok (.iload 6, 2) := dk_21 6 (dk_at dksJ3_indexOfLatin1Unsafe_4 6 rfl rfl)
theorem dJ3_indexOfLatin1Unsafe_99 : decode cJ3_indexOfLatin1Unsafe 99 = .ok (.if_icmp .gt 111, 3) := dk_163 0 111 (dk_at dksJ3_indexOfLatin1Unsafe_4 8 rfl rfl)
theorem dJ3_indexOfLatin1Unsafe_102 : decode cJ3_indexOfLatin1Unsafe 102 = .ok (.aload_n 0, 1) := dk_42 (dk_at dksJ3_indexOfLatin1Unsafe_4 11 rfl rfl)
theorem dJ3_indexOfLatin1Unsafe_103 : decode cJ3_indexOfLatin1Unsafe 103 = .ok (.iload 7, 2) := dk_21 7 (dk_at dksJ3_indexOfLatin1Unsafe_4 12 rfl rfl)
theorem dJ3_indexOfLatin1Unsafe_105 : decode cJ3_indexOfLatin1Unsafe 105 = .ok (.invokestatic 71, 3) := dk_184 0 71 (dk_at dksJ3_indexOfLatin1Unsafe_4 14 rfl rfl)
theorem dJ3_indexOfLatin1Unsafe_108 : decode cJ3_indexOfLatin1Unsafe 108 = .ok (.iload 5, 2) := dk_21 5 (dk_at dksJ3_indexOfLatin1Unsafe_4 17 rfl rfl)
theorem dJ3_indexOfLatin1Unsafe_110 : decode cJ3_indexOfLatin1Unsafe 110 = .ok (.if_icmp .eq 27, 3) := dk_159 0 27 (dk_at dksJ3_indexOfLatin1Unsafe_4 19 rfl rfl)
theorem dJ3_indexOfLatin1Unsafe_113 : decode cJ3_indexOfLatin1Unsafe 113 = .ok (.iinc 7 1, 3) := dk_132 7 1 (dk_at dksJ3_indexOfLatin1Unsafe_5 0 rfl rfl)
theorem dJ3_indexOfLatin1Unsafe_116 : decode cJ3_indexOfLatin1Unsafe 116 = .ok (.iload 7, 2) := dk_21 7 (dk_at dksJ3_indexOfLatin1Unsafe_5 3 rfl rfl)
theorem dJ3_indexOfLatin1Unsafe_118 : decode cJ3_indexOfLatin1Unsafe 118 = .ok (.iload 6, 2) := dk_21 6 (dk_at dksJ3_indexOfLatin1Unsafe_5 5 rfl rfl)
theorem dJ3_indexOfLatin1Unsafe_120 : decode cJ3_indexOfLatin1Unsafe 120 = .ok (.if_icmp .gt 17, 3) := dk_163 0 17 (dk_at dksJ3_indexOfLatin1Unsafe_5 7 rfl rfl)
theorem dJ3_indexOfLatin1Unsafe_123 : decode cJ3_indexOfLatin1Unsafe 123 = .ok (.aload_n 0, 1) := dk_42 (dk_at dksJ3_indexOfLatin1Unsafe_5 10 rfl rfl)
theorem dJ3_indexOfLatin1Unsafe_124 : decode cJ3_indexOfLatin1Unsafe 124 = .ok (.iload 7, 2) := dk_21 7 (dk_at dksJ3_indexOfLatin1Unsafe_5 11 rfl rfl)
theorem dJ3_indexOfLatin1Unsafe_126 : decode cJ3_indexOfLatin1Unsafe 126 = .ok (.invokestatic 71, 3) := dk_184 0 71 (dk_at dksJ3_indexOfLatin1Unsafe_5 13 rfl rfl)
theorem dJ3_indexOfLatin1Unsafe_129 : decode cJ3_indexOfLatin1Unsafe 129 = .ok (.iload 5, 2) := dk_21 5 (dk_at dksJ3_indexOfLatin1Unsafe_5 16 rfl rfl)
theorem dJ3_indexOfLatin1Unsafe_131 : decode cJ3_indexOfLatin1Unsafe 131 = .ok (.if_icmp .eq 6, 3) := dk_159 0 6 (dk_at dksJ3_indexOfLatin1Unsafe_5 18 rfl rfl)
theorem dJ3_indexOfLatin1Unsafe_134 : decode cJ3_indexOfLatin1Unsafe 134 = .ok (.goto (-21), 3) := dk_167 255 235 (dk_at dksJ3_indexOfLatin1Unsafe_5 21 rfl rfl)
theorem dJ3_indexOfLatin1Unsafe_137 : decode cJ3_indexOfLatin1Unsafe 137 = .ok (.iload 7, 2) := dk_21 7 (dk_at dksJ3_indexOfLatin1Unsafe_6 0 rfl rfl)
theorem dJ3_indexOfLatin1Unsafe_139 : decode cJ3_indexOfLatin1Unsafe 139 = .ok (.iload 6, 2) := dk_21 6 (dk_at dksJ3_indexOfLatin1Unsafe_6 2 rfl rfl)
theorem dJ3_indexOfLatin1Unsafe_141 : decode cJ3_indexOfLatin1Unsafe 141 = .ok (.if_icmp .gt 63, 3) := dk_163 0 63 (dk_at dksJ3_indexOfLatin1Unsafe_6 4 rfl rfl)
theorem dJ3_indexOfLatin1Unsafe_144 : decode cJ3_indexOfLatin1Unsafe 144 = .ok (.iload 7, 2) := dk_21 7 (dk_at dksJ3_indexOfLatin1Unsafe_6 7 rfl rfl)
theorem dJ3_indexOfLatin1Unsafe_146 : decode cJ3_indexOfLatin1Unsafe 146 = .ok (.iconst 1, 1) := dk_4 (dk_at dksJ3_indexOfLatin1Unsafe_6 9 rfl rfl)
theorem dJ3_indexOfLatin1Unsafe_147 : decode cJ3_indexOfLatin1Unsafe 147 = .ok (.iadd, 1) := dk_96 (dk_at dksJ3_indexOfLatin1Unsafe_6 10 rfl rfl)
theorem dJ3_indexOfLatin1Unsafe_148 : decode cJ3_indexOfLatin1Unsafe 148 = .ok (.istore 8, 2) := dk_54 8 (dk_at dksJ3_indexOfLatin1Unsafe_6 11 rfl rfl)
theorem dJ3_indexOfLatin1Unsafe_150 : decode cJ3_indexOfLatin1Unsafe 150 = .ok (.iload 8, 2) := dk_21 8 (dk_at dksJ3_indexOfLatin1Unsafe_6 13 rfl rfl)
theorem dJ3_indexOfLatin1Unsafe_152 : decode cJ3_indexOfLatin1Unsafe 152 = .ok (.iload_n 3, 1) := dk_29 (dk_at dksJ3_indexOfLatin1Unsafe_6 15 rfl rfl)
theorem dJ3_indexOfLatin1Unsafe_153 : decode cJ3_indexOfLatin1Unsafe 153 = .ok (.iadd, 1) := dk_96 (dk_at dksJ3_indexOfLatin1Unsafe_6 16 rfl rfl)
theorem dJ3_indexOfLatin1Unsafe_154 : decode cJ3_indexOfLatin1Unsafe 154 = .ok (.iconst 1, 1) := dk_4 (dk_at dksJ3_indexOfLatin1Unsafe_6 17 rfl rfl)
theorem dJ3_indexOfLatin1Unsafe_155 : decode cJ3_indexOfLatin1Unsafe 155 = .ok (.isub, 1) := dk_100 (dk_at dksJ3_indexOfLatin1Unsafe_6 18 rfl rfl)
theorem dJ3_indexOfLatin1Unsafe_156 : decode cJ3_indexOfLatin1Unsafe 156 = .ok (.istore 9, 2) := dk_54 9 (dk_at dksJ3_indexOfLatin1Unsafe_6 19 rfl rfl)
theorem dJ3_indexOfLatin1Unsafe_158 : decode cJ3_indexOfLatin1Unsafe 158 = .ok (.iconst 1, 1) := dk_4 (dk_at dksJ3_indexOfLatin1Unsafe_6 21 rfl rfl)
theorem dJ3_indexOfLatin1Unsafe_159 : decode cJ3_indexOfLatin1Unsafe 159 = .ok (.istore 10, 2) := dk_54 10 (dk_at dksJ3_indexOfLatin1Unsafe_6 22 rfl rfl)
theorem dJ3_indexOfLatin1Unsafe_161 : decode cJ3_indexOfLatin1Unsafe 161 = .ok (.iload 8, 2) := dk_21 8 (dk_at dksJ3_indexOfLatin1Unsafe_7 0 rfl rfl)
theorem dJ3_indexOfLatin1Unsafe_163 : decode cJ3_indexOfLatin1Unsafe 163 = .ok (.iload 9, 2) := dk_21 9 (dk_at dksJ3_indexOfLatin1Unsafe_7 2 rfl rfl)
theorem dJ3_indexOfLatin1Unsafe_165 : decode cJ3_indexOfLatin1Unsafe 165 = .ok (.if_icmp .ge 29, 3) := dk_162 0 29 (dk_at dksJ3_indexOfLatin1Unsafe_7 4 rfl rfl)
theorem dJ3_indexOfLatin1Unsafe_168 : decode cJ3_indexOfLatin1Unsafe 168 = .ok (.aload_n 0, 1) := dk_42 (dk_at dksJ3_indexOfLatin1Unsafe_7 7 rfl rfl)
theorem dJ3_indexOfLatin1Unsafe_169 : decode cJ3_indexOfLatin1Unsafe 169 = .ok (.iload 8, 2) := dk_21 8 (dk_at dksJ3_indexOfLatin1Unsafe_7 8 rfl rfl)
theorem dJ3_indexOfLatin1Unsafe_171 : decode cJ3_indexOfLatin1Unsafe 171 = .ok (.invokestatic 71, 3) := dk_184 0 71 (dk_at dksJ3_indexOfLatin1Unsafe_7 10 rfl rfl)
theorem dJ3_indexOfLatin1Unsafe_174 : decode cJ3_indexOfLatin1Unsafe 174 = .ok (.aload_n 2, 1) := dk_44 (dk_at dksJ3_indexOfLatin1Unsafe_7 13 rfl rfl)
theorem dJ3_indexOfLatin1Unsafe_175 : decode cJ3_indexOfLatin1Unsafe 175 = .ok (.iload 10, 2) := dk_21 10 (dk_at dksJ3_indexOfLatin1Unsafe_7 14 rfl rfl)
theorem dJ3_indexOfLatin1Unsafe_177 : decode cJ3_indexOfLatin1Unsafe 177 = .ok (.baload, 1) := dk_51 (dk_at dksJ3_indexOfLatin1Unsafe_7 16 rfl rfl)
theorem dJ3_indexOfLatin1Unsafe_178 : decode cJ3_indexOfLatin1Unsafe 178 = .ok (.sipush 255, 3) := dk_17 0 255 (dk_at dksJ3_indexOfLatin1Unsafe_7 17 rfl rfl)
theorem dJ3_indexOfLatin1Unsafe_181 : decode cJ3_indexOfLatin1Unsafe 181 = .ok (.iand, 1) := dk_126 (dk_at dksJ3_indexOfLatin1Unsafe_7 20 rfl rfl)
theorem dJ3_indexOfLatin1Unsafe_182 : decode cJ3_indexOfLatin1Unsafe 182 = .ok (.if_icmp .ne 12, 3) := dk_160 0 12 (dk_at dksJ3_indexOfLatin1Unsafe_7 21 rfl rfl)
theorem dJ3_indexOfLatin1Unsafe_185 : decode cJ3_indexOfLatin1Unsafe 185 = .ok (.iinc 8 1, 3) := dk_132 8 1 (dk_at dksJ3_indexOfLatin1Unsafe_8 0 rfl rfl)
theorem dJ3_indexOfLatin1Unsafe_188 : decode cJ3_indexOfLatin1Unsafe 188 = .ok (.iinc 10 1, 3) := dk_132 10 1 (dk_at dksJ3_indexOfLatin1Unsafe_8 3 rfl rfl)
theorem dJ3_indexOfLatin1Unsafe_191 : decode cJ3_indexOfLatin1Unsafe 191 = .ok (.goto (-30), 3) := dk_167 255 226 (dk_at dksJ3_indexOfLatin1Unsafe_8 6 rfl rfl)
theorem dJ3_indexOfLatin1Unsafe_194 : decode cJ3_indexOfLatin1Unsafe 194 = .ok (.iload 8, 2) := dk_21 8 (dk_at dksJ3_indexOfLatin1Unsafe_8 9 rfl rfl)
theorem dJ3_indexOfLatin1Unsafe_196 : decode cJ3_indexOfLatin1Unsafe 196 = .ok (.iload 9, 2) := dk_21 9 (dk_at dksJ3_indexOfLatin1Unsafe_8 11 rfl rfl)
theorem dJ3_indexOfLatin1Unsafe_198 : decode cJ3_indexOfLatin1Unsafe 198 = .ok (.if_icmp .ne 6, 3) := dk_160 0 6 (dk_at dksJ3_indexOfLatin1Unsafe_8 13 rfl rfl)
theorem dJ3_indexOfLatin1Unsafe_201 : decode cJ3_indexOfLatin1Unsafe 201 = .ok (.iload 7, 2) := dk_21 7 (dk_at dksJ3_indexOfLatin1Unsafe_8 16 rfl rfl)
theorem dJ3_indexOfLatin1Unsafe_203 : decode cJ3_indexOfLatin1Unsafe 203 = .ok (.ireturn, 1) := dk_172 (dk_at dksJ3_indexOfLatin1Unsafe_8 18 rfl rfl)
theorem dJ3_indexOfLatin1Unsafe_204 : decode cJ3_indexOfLatin1Unsafe 204 = .ok (.iinc 7 1, 3) := dk_132 7 1 (dk_at dksJ3_indexOfLatin1Unsafe_8 19 rfl rfl)
theorem dJ3_indexOfLatin1Unsafe_207 : decode cJ3_indexOfLatin1Unsafe 207 = .ok (.goto (-112), 3) := dk_167 255 144 (dk_at dksJ3_indexOfLatin1Unsafe_9 0 rfl rfl)
theorem dJ3_indexOfLatin1Unsafe_210 : decode cJ3_indexOfLatin1Unsafe 210 = .ok (.iconst (-1), 1) := dk_2 (dk_at dksJ3_indexOfLatin1Unsafe_9 3 rfl rfl)
theorem dJ3_indexOfLatin1Unsafe_211 : decode cJ3_indexOfLatin1Unsafe 211 = .ok (.ireturn, 1) := dk_172 (dk_at dksJ3_indexOfLatin1Unsafe_9 4 rfl rfl)
abbrev cJ3_indexOf_2 : ByteArray := prog_89_method_40_code
def yJ3_indexOf_2 : MethodName := ⟨RJ3, "indexOf", "([BIII)I"⟩
def dkwJ3_indexOf_2_1 : List UInt8 := [18, 227, 162, 0, 11, 42, 27, 28, 29, 184, 0, 228, 172, 42, 27, 28, 29, 184, 0, 232, 172]
abbrev dktJ3_indexOf_2_1 : List UInt8 := dkwJ3_indexOf_2_1 ++ []
def dkwJ3_indexOf_2_0 : List UInt8 := [28, 3, 184, 0, 224, 61, 29, 42, 190, 4, 122, 184, 0, 183, 62, 28, 29, 161, 0, 5, 2, 172, 27]
abbrev dktJ3_indexOf_2_0 : List UInt8 := dkwJ3_indexOf_2_0 ++ dktJ3_indexOf_2_1
theorem dksJ3_indexOf_2_0 : cJ3_indexOf_2.data.toList.drop 0 = dktJ3_indexOf_2_0 := by decide +kernel
theorem dksJ3_indexOf_2_1 : cJ3_indexOf_2.data.toList.drop 23 = dktJ3_indexOf_2_1 := dk_seg dksJ3_indexOf_2_0 23 rfl rfl
theorem dJ3_indexOf_2_0 : decode cJ3_indexOf_2 0 = .ok (.iload_n 2, 1) := dk_28 (dk_at dksJ3_indexOf_2_0 0 rfl rfl)
theorem dJ3_indexOf_2_1 : decode cJ3_indexOf_2 1 = .ok (.iconst 0, 1) := dk_3 (dk_at dksJ3_indexOf_2_0 1 rfl rfl)
theorem dJ3_indexOf_2_2 : decode cJ3_indexOf_2 2 = .ok (.invokestatic 224, 3) := dk_184 0 224 (dk_at dksJ3_indexOf_2_0 2 rfl rfl)
theorem dJ3_indexOf_2_5 : decode cJ3_indexOf_2 5 = .ok (.istore_n 2, 1) := dk_61 (dk_at dksJ3_indexOf_2_0 5 rfl rfl)
theorem dJ3_indexOf_2_6 : decode cJ3_indexOf_2 6 = .ok (.iload_n 3, 1) := dk_29 (dk_at dksJ3_indexOf_2_0 6 rfl rfl)
theorem dJ3_indexOf_2_7 : decode cJ3_indexOf_2 7 = .ok (.aload_n 0, 1) := dk_42 (dk_at dksJ3_indexOf_2_0 7 rfl rfl)
theorem dJ3_indexOf_2_8 : decode cJ3_indexOf_2 8 = .ok (.arraylength, 1) := dk_190 (dk_at dksJ3_indexOf_2_0 8 rfl rfl)
theorem dJ3_indexOf_2_9 : decode cJ3_indexOf_2 9 = .ok (.iconst 1, 1) := dk_4 (dk_at dksJ3_indexOf_2_0 9 rfl rfl)
theorem dJ3_indexOf_2_10 : decode cJ3_indexOf_2 10 = .ok (.ishr, 1) := dk_122 (dk_at dksJ3_indexOf_2_0 10 rfl rfl)
theorem dJ3_indexOf_2_11 : decode cJ3_indexOf_2 11 = .ok (.invokestatic 183, 3) := dk_184 0 183 (dk_at dksJ3_indexOf_2_0 11 rfl rfl)
theorem dJ3_indexOf_2_14 : decode cJ3_indexOf_2 14 = .ok (.istore_n 3, 1) := dk_62 (dk_at dksJ3_indexOf_2_0 14 rfl rfl)
theorem dJ3_indexOf_2_15 : decode cJ3_indexOf_2 15 = .ok (.iload_n 2, 1) := dk_28 (dk_at dksJ3_indexOf_2_0 15 rfl rfl)
theorem dJ3_indexOf_2_16 : decode cJ3_indexOf_2 16 = .ok (.iload_n 3, 1) := dk_29 (dk_at dksJ3_indexOf_2_0 16 rfl rfl)
theorem dJ3_indexOf_2_17 : decode cJ3_indexOf_2 17 = .ok (.if_icmp .lt 5, 3) := dk_161 0 5 (dk_at dksJ3_indexOf_2_0 17 rfl rfl)
theorem dJ3_indexOf_2_20 : decode cJ3_indexOf_2 20 = .ok (.iconst (-1), 1) := dk_2 (dk_at dksJ3_indexOf_2_0 20 rfl rfl)
theorem dJ3_indexOf_2_21 : decode cJ3_indexOf_2 21 = .ok (.ireturn, 1) := dk_172 (dk_at dksJ3_indexOf_2_0 21 rfl rfl)
theorem dJ3_indexOf_2_22 : decode cJ3_indexOf_2 22 = .ok (.iload_n 1, 1) := dk_27 (dk_at dksJ3_indexOf_2_0 22 rfl rfl)
theorem dJ3_indexOf_2_23 : decode cJ3_indexOf_2 23 = .ok (.ldc 227, 2) := dk_18 227 (dk_at dksJ3_indexOf_2_1 0 rfl rfl)
theorem dJ3_indexOf_2_25 : decode cJ3_indexOf_2 25 = .ok (.if_icmp .ge 11, 3) := dk_162 0 11 (dk_at dksJ3_indexOf_2_1 2 rfl rfl)
theorem dJ3_indexOf_2_28 : decode cJ3_indexOf_2 28 = .ok (.aload_n 0, 1) := dk_42 (dk_at dksJ3_indexOf_2_1 5 rfl rfl)
theorem dJ3_indexOf_2_29 : decode cJ3_indexOf_2 29 = .ok (.iload_n 1, 1) := dk_27 (dk_at dksJ3_indexOf_2_1 6 rfl rfl)
theorem dJ3_indexOf_2_30 : decode cJ3_indexOf_2 30 = .ok (.iload_n 2, 1) := dk_28 (dk_at dksJ3_indexOf_2_1 7 rfl rfl)
theorem dJ3_indexOf_2_31 : decode cJ3_indexOf_2 31 = .ok (.iload_n 3, 1) := dk_29 (dk_at dksJ3_indexOf_2_1 8 rfl rfl)
theorem dJ3_indexOf_2_32 : decode cJ3_indexOf_2 32 = .ok (.invokestatic 228, 3) := dk_184 0 228 (dk_at dksJ3_indexOf_2_1 9 rfl rfl)
theorem dJ3_indexOf_2_35 : decode cJ3_indexOf_2 35 = .ok (.ireturn, 1) := dk_172 (dk_at dksJ3_indexOf_2_1 12 rfl rfl)
theorem dJ3_indexOf_2_36 : decode cJ3_indexOf_2 36 = .ok (.aload_n 0, 1) := dk_42 (dk_at dksJ3_indexOf_2_1 13 rfl rfl)
theorem dJ3_indexOf_2_37 : decode cJ3_indexOf_2 37 = .ok (.iload_n 1, 1) := dk_27 (dk_at dksJ3_indexOf_2_1 14 rfl rfl)
theorem dJ3_indexOf_2_38 : decode cJ3_indexOf_2 38 = .ok (.iload_n 2, 1) := dk_28 (dk_at dksJ3_indexOf_2_1 15 rfl rfl)
theorem dJ3_indexOf_2_39 : decode cJ3_indexOf_2 39 = .ok (.iload_n 3, 1) := dk_29 (dk_at dksJ3_indexOf_2_1 16 rfl rfl)
theorem dJ3_indexOf_2_40 : decode cJ3_indexOf_2 40 = .ok (.invokestatic 232, 3) := dk_184 0 232 (dk_at dksJ3_indexOf_2_1 17 rfl rfl)
theorem dJ3_indexOf_2_43 : decode cJ3_indexOf_2 43 = .ok (.ireturn, 1) := dk_172 (dk_at dksJ3_indexOf_2_1 20 rfl rfl)
abbrev cJ3_indexOfChar : ByteArray := prog_89_method_47_code
def yJ3_indexOfChar : MethodName := ⟨RJ3, "indexOfCha\x72", "([BIII)I"⟩
def dkwJ3_indexOfChar_0 : List UInt8 := [28, 29, 42, 184, 0, 96, 42, 27, 28, 29, 184, 0, 244, 172]
abbrev dktJ3_indexOfChar_0 : List UInt8 := dkwJ3_indexOfChar_0 ++ []
theorem dksJ3_indexOfChar_0 : cJ3_indexOfChar.data.toList.drop 0 = dktJ3_indexOfChar_0 := by decide +kernel
theorem dJ3_indexOfChar_0 : decode cJ3_indexOfChar 0 = .ok (.iload_n 2, 1) := dk_28 (dk_at dksJ3_indexOfChar_0 0 rfl rfl)
theorem dJ3_indexOfChar_1 : decode cJ3_indexOfChar 1 = .ok (.iload_n 3, 1) := dk_29 (dk_at dksJ3_indexOfChar_0 1 rfl rfl)
theorem dJ3_indexOfChar_2 : decode cJ3_indexOfChar 2 = .ok (.aload_n 0, 1) := dk_42 (dk_at dksJ3_indexOfChar_0 2 rfl rfl)
theorem dJ3_indexOfChar_3 : decode cJ3_indexOfChar 3 = .ok (.invokestatic 96, 3) := dk_184 0 96 (dk_at dksJ3_indexOfChar_0 3 rfl rfl)
theorem dJ3_indexOfChar_6 : decode cJ3_indexOfChar 6 = .ok (.aload_n 0, 1) := dk_42 (dk_at dksJ3_indexOfChar_0 6 rfl rfl)
theorem dJ3_indexOfChar_7 : decode cJ3_indexOfChar 7 = .ok (.iload_n 1, 1) := dk_27 (dk_at dksJ3_indexOfChar_0 7 rfl rfl)
theorem dJ3_indexOfChar_8 : decode cJ3_indexOfChar 8 = .ok (.iload_n 2, 1) := dk_28 (dk_at dksJ3_indexOfChar_0 8 rfl rfl)
theorem dJ3_indexOfChar_9 : decode cJ3_indexOfChar 9 = .ok (.iload_n 3, 1) := dk_29 (dk_at dksJ3_indexOfChar_0 9 rfl rfl)
theorem dJ3_indexOfChar_10 : decode cJ3_indexOfChar 10 = .ok (.invokestatic 244, 3) := dk_184 0 244 (dk_at dksJ3_indexOfChar_0 10 rfl rfl)
theorem dJ3_indexOfChar_13 : decode cJ3_indexOfChar 13 = .ok (.ireturn, 1) := dk_172 (dk_at dksJ3_indexOfChar_0 13 rfl rfl)
abbrev cJ3_indexOfCharUnsafe : ByteArray := prog_89_method_48_code
def yJ3_indexOfCharUnsafe : MethodName := ⟨RJ3, "indexOfCharUnsafe", "([BIII)I"⟩
def dkwJ3_indexOfCharUnsafe_1 : List UInt8 := [132, 4, 1, 167, 255, 234, 2, 172]
abbrev dktJ3_indexOfCharUnsafe_1 : List UInt8 := dkwJ3_indexOfCharUnsafe_1 ++ []
def dkwJ3_indexOfCharUnsafe_0 : List UInt8 := [28, 54, 4, 21, 4, 29, 162, 0, 22, 42, 21, 4, 184, 0, 71, 27, 160, 0, 6, 21, 4, 172]
abbrev dktJ3_indexOfCharUnsafe_0 : List UInt8 := dkwJ3_indexOfCharUnsafe_0 ++ dktJ3_indexOfCharUnsafe_1
theorem dksJ3_indexOfCharUnsafe_0 : cJ3_indexOfCharUnsafe.data.toList.drop 0 = dktJ3_indexOfCharUnsafe_0 := by decide +kernel
theorem dksJ3_indexOfCharUnsafe_1 : cJ3_indexOfCharUnsafe.data.toList.drop 22 = dktJ3_indexOfCharUnsafe_1 := dk_seg dksJ3_indexOfCharUnsafe_0 22 rfl rfl
theorem dJ3_indexOfCharUnsafe_0 : decode cJ3_indexOfCharUnsafe 0 = .ok (.iload_n 2, 1) := dk_28 (dk_at dksJ3_indexOfCharUnsafe_0 0 rfl rfl)
theorem dJ3_indexOfCharUnsafe_1 : decode cJ3_indexOfCharUnsafe 1 = .ok (.istore 4, 2) := dk_54 4 (dk_at dksJ3_indexOfCharUnsafe_0 1 rfl rfl)
theorem dJ3_indexOfCharUnsafe_3 : decode cJ3_indexOfCharUnsafe 3 = .ok (.iload 4, 2) := dk_21 4 (dk_at dksJ3_indexOfCharUnsafe_0 3 rfl rfl)
theorem dJ3_indexOfCharUnsafe_5 : decode cJ3_indexOfCharUnsafe 5 = .ok (.iload_n 3, 1) := dk_29 (dk_at dksJ3_indexOfCharUnsafe_0 5 rfl rfl)
theorem dJ3_indexOfCharUnsafe_6 : decode cJ3_indexOfCharUnsafe 6 = .ok (.if_icmp .ge 22, 3) := dk_162 0 22 (dk_at dksJ3_indexOfCharUnsafe_0 6 rfl rfl)
theorem dJ3_indexOfCharUnsafe_9 : decode cJ3_indexOfCharUnsafe 9 = .ok (.aload_n 0, 1) := dk_42 (dk_at dksJ3_indexOfCharUnsafe_0 9 rfl rfl)
theorem dJ3_indexOfCharUnsafe_10 : decode cJ3_indexOfCharUnsafe 10 = .ok (.iload 4, 2) := dk_21 4 (dk_at dksJ3_indexOfCharUnsafe_0 10 rfl rfl)
theorem dJ3_indexOfCharUnsafe_12 : decode cJ3_indexOfCharUnsafe 12 = .ok (.invokestatic 71, 3) := dk_184 0 71 (dk_at dksJ3_indexOfCharUnsafe_0 12 rfl rfl)
theorem dJ3_indexOfCharUnsafe_15 : decode cJ3_indexOfCharUnsafe 15 = .ok (.iload_n 1, 1) := dk_27 (dk_at dksJ3_indexOfCharUnsafe_0 15 rfl rfl)
theorem dJ3_indexOfCharUnsafe_16 : decode cJ3_indexOfCharUnsafe 16 = .ok (.if_icmp .ne 6, 3) := dk_160 0 6 (dk_at dksJ3_indexOfCharUnsafe_0 16 rfl rfl)
theorem dJ3_indexOfCharUnsafe_19 : decode cJ3_indexOfCharUnsafe 19 = .ok (.iload 4, 2) := dk_21 4 (dk_at dksJ3_indexOfCharUnsafe_0 19 rfl rfl)
theorem dJ3_indexOfCharUnsafe_21 : decode cJ3_indexOfCharUnsafe 21 = .ok (.ireturn, 1) := dk_172 (dk_at dksJ3_indexOfCharUnsafe_0 21 rfl rfl)
theorem dJ3_indexOfCharUnsafe_22 : decode cJ3_indexOfCharUnsafe 22 = .ok (.iinc 4 1, 3) := dk_132 4 1 (dk_at dksJ3_indexOfCharUnsafe_1 0 rfl rfl)
theorem dJ3_indexOfCharUnsafe_25 : decode cJ3_indexOfCharUnsafe 25 = .ok (.goto (-22), 3) := dk_167 255 234 (dk_at dksJ3_indexOfCharUnsafe_1 3 rfl rfl)
theorem dJ3_indexOfCharUnsafe_28 : decode cJ3_indexOfCharUnsafe 28 = .ok (.iconst (-1), 1) := dk_2 (dk_at dksJ3_indexOfCharUnsafe_1 6 rfl rfl)
theorem dJ3_indexOfCharUnsafe_29 : decode cJ3_indexOfCharUnsafe 29 = .ok (.ireturn, 1) := dk_172 (dk_at dksJ3_indexOfCharUnsafe_1 7 rfl rfl)
abbrev cJ3_indexOfSupplementary : ByteArray := prog_89_method_49_code
def yJ3_indexOfSupplementary : MethodName := ⟨RJ3, "indexOfSupplementary", "([BIII)I"⟩
def dkwJ3_indexOfSupplementary_3 : List UInt8 := [167, 255, 218, 2, 172]
abbrev dktJ3_indexOfSupplementary_3 : List UInt8 := dkwJ3_indexOfSupplementary_3 ++ []
def dkwJ3_indexOfSupplementary_2 : List UInt8 := [160, 0, 19, 42, 21, 6, 4, 96, 184, 0, 71, 21, 5, 160, 0, 6, 21, 6, 172, 132, 6, 1]
abbrev dktJ3_indexOfSupplementary_2 : List UInt8 := dkwJ3_indexOfSupplementary_2 ++ dktJ3_indexOfSupplementary_3
def dkwJ3_indexOfSupplementary_1 : List UInt8 := [184, 0, 96, 28, 54, 6, 21, 6, 29, 4, 100, 162, 0, 36, 42, 21, 6, 184, 0, 71, 21, 4]
abbrev dktJ3_indexOfSupplementary_1 : List UInt8 := dkwJ3_indexOfSupplementary_1 ++ dktJ3_indexOfSupplementary_2
def dkwJ3_indexOfSupplementary_0 : List UInt8 := [27, 184, 0, 164, 153, 0, 65, 27, 184, 0, 157, 54, 4, 27, 184, 0, 161, 54, 5, 28, 29, 42]
abbrev dktJ3_indexOfSupplementary_0 : List UInt8 := dkwJ3_indexOfSupplementary_0 ++ dktJ3_indexOfSupplementary_1
theorem dksJ3_indexOfSupplementary_0 : cJ3_indexOfSupplementary.data.toList.drop 0 = dktJ3_indexOfSupplementary_0 := by decide +kernel
theorem dksJ3_indexOfSupplementary_1 : cJ3_indexOfSupplementary.data.toList.drop 22 = dktJ3_indexOfSupplementary_1 := dk_seg dksJ3_indexOfSupplementary_0 22 rfl rfl
theorem dksJ3_indexOfSupplementary_2 : cJ3_indexOfSupplementary.data.toList.drop 44 = dktJ3_indexOfSupplementary_2 := dk_seg dksJ3_indexOfSupplementary_1 22 rfl rfl
theorem dksJ3_indexOfSupplementary_3 : cJ3_indexOfSupplementary.data.toList.drop 66 = dktJ3_indexOfSupplementary_3 := dk_seg dksJ3_indexOfSupplementary_2 22 rfl rfl
theorem dJ3_indexOfSupplementary_0 : decode cJ3_indexOfSupplementary 0 = .ok (.iload_n 1, 1) := dk_27 (dk_at dksJ3_indexOfSupplementary_0 0 rfl rfl)
theorem dJ3_indexOfSupplementary_1 : decode cJ3_indexOfSupplementary 1 = .ok (.invokestatic 164, 3) := dk_184 0 164 (dk_at dksJ3_indexOfSupplementary_0 1 rfl rfl)
theorem dJ3_indexOfSupplementary_4 : decode cJ3_indexOfSupplementary 4 = .ok (.ifCond .eq 65, 3) := dk_153 0 65 (dk_at dksJ3_indexOfSupplementary_0 4 rfl rfl)
theorem dJ3_indexOfSupplementary_7 : decode cJ3_indexOfSupplementary 7 = .ok (.iload_n 1, 1) := dk_27 (dk_at dksJ3_indexOfSupplementary_0 7 rfl rfl)
theorem dJ3_indexOfSupplementary_8 : decode cJ3_indexOfSupplementary 8 = .ok (.invokestatic 157, 3) := dk_184 0 157 (dk_at dksJ3_indexOfSupplementary_0 8 rfl rfl)
theorem dJ3_indexOfSupplementary_11 : decode cJ3_indexOfSupplementary 11 = .ok (.istore 4, 2) := dk_54 4 (dk_at dksJ3_indexOfSupplementary_0 11 rfl rfl)
theorem dJ3_indexOfSupplementary_13 : decode cJ3_indexOfSupplementary 13 = .ok (.iload_n 1, 1) := dk_27 (dk_at dksJ3_indexOfSupplementary_0 13 rfl rfl)
theorem dJ3_indexOfSupplementary_14 : decode cJ3_indexOfSupplementary 14 = .ok (.invokestatic 161, 3) := dk_184 0 161 (dk_at dksJ3_indexOfSupplementary_0 14 rfl rfl)
theorem dJ3_indexOfSupplementary_17 : decode cJ3_indexOfSupplementary 17 = .ok (.istore 5, 2) := dk_54 5 (dk_at dksJ3_indexOfSupplementary_0 17 rfl rfl)
theorem dJ3_indexOfSupplementary_19 : decode cJ3_indexOfSupplementary 19 = .ok (.iload_n 2, 1) := dk_28 (dk_at dksJ3_indexOfSupplementary_0 19 rfl rfl)
theorem dJ3_indexOfSupplementary_20 : decode cJ3_indexOfSupplementary 20 = .ok (.iload_n 3, 1) := dk_29 (dk_at dksJ3_indexOfSupplementary_0 20 rfl rfl)
theorem dJ3_indexOfSupplementary_21 : decode cJ3_indexOfSupplementary 21 = .ok (.aload_n 0, 1) := dk_42 (dk_at dksJ3_indexOfSupplementary_0 21 rfl rfl)
theorem dJ3_indexOfSupplementary_22 : decode cJ3_indexOfSupplementary 22 = .ok (.invokestatic 96, 3) := dk_184 0 96 (dk_at dksJ3_indexOfSupplementary_1 0 rfl rfl)
theorem dJ3_indexOfSupplementary_25 : decode cJ3_indexOfSupplementary 25 = .ok (.iload_n 2, 1) := dk_28 (dk_at dksJ3_indexOfSupplementary_1 3 rfl rfl)
theorem dJ3_indexOfSupplementary_26 : decode cJ3_indexOfSupplementary 26 = .ok (.istore 6, 2) := dk_54 6 (dk_at dksJ3_indexOfSupplementary_1 4 rfl rfl)
theorem dJ3_indexOfSupplementary_28 : decode cJ3_indexOfSupplementary 28 = .ok (.iload 6, 2) := dk_21 6 (dk_at dksJ3_indexOfSupplementary_1 6 rfl rfl)
theorem dJ3_indexOfSupplementary_30 : decode cJ3_indexOfSupplementary 30 = .ok (.iload_n 3, 1) := dk_29 (dk_at dksJ3_indexOfSupplementary_1 8 rfl rfl)
theorem dJ3_indexOfSupplementary_31 : decode cJ3_indexOfSupplementary 31 = .ok (.iconst 1, 1) := dk_4 (dk_at dksJ3_indexOfSupplementary_1 9 rfl rfl)
theorem dJ3_indexOfSupplementary_32 : decode cJ3_indexOfSupplementary 32 = .ok (.isub, 1) := dk_100 (dk_at dksJ3_indexOfSupplementary_1 10 rfl rfl)
theorem dJ3_indexOfSupplementary_33 : decode cJ3_indexOfSupplementary 33 = .ok (.if_icmp .ge 36, 3) := dk_162 0 36 (dk_at dksJ3_indexOfSupplementary_1 11 rfl rfl)
theorem dJ3_indexOfSupplementary_36 : decode cJ3_indexOfSupplementary 36 = .ok (.aload_n 0, 1) := dk_42 (dk_at dksJ3_indexOfSupplementary_1 14 rfl rfl)
theorem dJ3_indexOfSupplementary_37 : decode cJ3_indexOfSupplementary 37 = .ok (.iload 6, 2) := dk_21 6 (dk_at dksJ3_indexOfSupplementary_1 15 rfl rfl)
theorem dJ3_indexOfSupplementary_39 : decode cJ3_indexOfSupplementary 39 = .ok (.invokestatic 71, 3) := dk_184 0 71 (dk_at dksJ3_indexOfSupplementary_1 17 rfl rfl)
theorem dJ3_indexOfSupplementary_42 : decode cJ3_indexOfSupplementary 42 = .ok (.iload 4, 2) := dk_21 4 (dk_at dksJ3_indexOfSupplementary_1 20 rfl rfl)
theorem dJ3_indexOfSupplementary_44 : decode cJ3_indexOfSupplementary 44 = .ok (.if_icmp .ne 19, 3) := dk_160 0 19 (dk_at dksJ3_indexOfSupplementary_2 0 rfl rfl)
theorem dJ3_indexOfSupplementary_47 : decode cJ3_indexOfSupplementary 47 = .ok (.aload_n 0, 1) := dk_42 (dk_at dksJ3_indexOfSupplementary_2 3 rfl rfl)
theorem dJ3_indexOfSupplementary_48 : decode cJ3_indexOfSupplementary 48 = .ok (.iload 6, 2) := dk_21 6 (dk_at dksJ3_indexOfSupplementary_2 4 rfl rfl)
theorem dJ3_indexOfSupplementary_50 : decode cJ3_indexOfSupplementary 50 = .ok (.iconst 1, 1) := dk_4 (dk_at dksJ3_indexOfSupplementary_2 6 rfl rfl)
theorem dJ3_indexOfSupplementary_51 : decode cJ3_indexOfSupplementary 51 = .ok (.iadd, 1) := dk_96 (dk_at dksJ3_indexOfSupplementary_2 7 rfl rfl)
theorem dJ3_indexOfSupplementary_52 : decode cJ3_indexOfSupplementary 52 = .ok (.invokestatic 71, 3) := dk_184 0 71 (dk_at dksJ3_indexOfSupplementary_2 8 rfl rfl)
theorem dJ3_indexOfSupplementary_55 : decode cJ3_indexOfSupplementary 55 = .ok (.iload 5, 2) := dk_21 5 (dk_at dksJ3_indexOfSupplementary_2 11 rfl rfl)
theorem dJ3_indexOfSupplementary_57 : decode cJ3_indexOfSupplementary 57 = .ok (.if_icmp .ne 6, 3) := dk_160 0 6 (dk_at dksJ3_indexOfSupplementary_2 13 rfl rfl)
theorem dJ3_indexOfSupplementary_60 : decode cJ3_indexOfSupplementary 60 = .ok (.iload 6, 2) := dk_21 6 (dk_at dksJ3_indexOfSupplementary_2 16 rfl rfl)
theorem dJ3_indexOfSupplementary_62 : decode cJ3_indexOfSupplementary 62 = .ok (.ireturn, 1) := dk_172 (dk_at dksJ3_indexOfSupplementary_2 18 rfl rfl)
theorem dJ3_indexOfSupplementary_63 : decode cJ3_indexOfSupplementary 63 = .ok (.iinc 6 1, 3) := dk_132 6 1 (dk_at dksJ3_indexOfSupplementary_2 19 rfl rfl)
theorem dJ3_indexOfSupplementary_66 : decode cJ3_indexOfSupplementary 66 = .ok (.goto (-38), 3) := dk_167 255 218 (dk_at dksJ3_indexOfSupplementary_3 0 rfl rfl)
theorem dJ3_indexOfSupplementary_69 : decode cJ3_indexOfSupplementary 69 = .ok (.iconst (-1), 1) := dk_2 (dk_at dksJ3_indexOfSupplementary_3 3 rfl rfl)
theorem dJ3_indexOfSupplementary_70 : decode cJ3_indexOfSupplementary 70 = .ok (.ireturn, 1) := dk_172 (dk_at dksJ3_indexOfSupplementary_3 4 rfl rfl)

abbrev cJ30_getTreeNode : ByteArray := prog_104_method_5_code
def yJ30_getTreeNode : MethodName := ⟨RJ30, "getTreeNode", "(ILjava/lang/Object;)Ljava/util/HashMap$TreeNode;"⟩
def dkwJ30_getTreeNode_0 : List UInt8 := [42, 180, 0, 9, 198, 0, 10, 42, 182, 0, 67, 167, 0, 4, 42, 27, 44, 1, 182, 0, 63, 176]
abbrev dktJ30_getTreeNode_0 : List UInt8 := dkwJ30_getTreeNode_0 ++ []
theorem dksJ30_getTreeNode_0 : cJ30_getTreeNode.data.toList.drop 0 = dktJ30_getTreeNode_0 := by decide +kernel
theorem dJ30_getTreeNode_0 : decode cJ30_getTreeNode 0 = .ok (.aload_n 0, 1) := dk_42 (dk_at dksJ30_getTreeNode_0 0 rfl rfl)
theorem dJ30_getTreeNode_1 : decode cJ30_getTreeNode 1 = .ok (.getfield 9, 3) := dk_180 0 9 (dk_at dksJ30_getTreeNode_0 1 rfl rfl)
theorem dJ30_getTreeNode_4 : decode cJ30_getTreeNode 4 = .ok (.ifnull 10, 3) := dk_198 0 10 (dk_at dksJ30_getTreeNode_0 4 rfl rfl)
theorem dJ30_getTreeNode_7 : decode cJ30_getTreeNode 7 = .ok (.aload_n 0, 1) := dk_42 (dk_at dksJ30_getTreeNode_0 7 rfl rfl)
theorem dJ30_getTreeNode_8 : decode cJ30_getTreeNode 8 = .ok (.invokevirtual 67, 3) := dk_182 0 67 (dk_at dksJ30_getTreeNode_0 8 rfl rfl)
theorem dJ30_getTreeNode_11 : decode cJ30_getTreeNode 11 = .ok (.goto 4, 3) := dk_167 0 4 (dk_at dksJ30_getTreeNode_0 11 rfl rfl)
theorem dJ30_getTreeNode_14 : decode cJ30_getTreeNode 14 = .ok (.aload_n 0, 1) := dk_42 (dk_at dksJ30_getTreeNode_0 14 rfl rfl)
theorem dJ30_getTreeNode_15 : decode cJ30_getTreeNode 15 = .ok (.iload_n 1, 1) := dk_27 (dk_at dksJ30_getTreeNode_0 15 rfl rfl)
theorem dJ30_getTreeNode_16 : decode cJ30_getTreeNode 16 = .ok (.aload_n 2, 1) := dk_44 (dk_at dksJ30_getTreeNode_0 16 rfl rfl)
theorem dJ30_getTreeNode_17 : decode cJ30_getTreeNode 17 = .ok (.aconst_null, 1) := dk_1 (dk_at dksJ30_getTreeNode_0 17 rfl rfl)
theorem dJ30_getTreeNode_18 : decode cJ30_getTreeNode 18 = .ok (.invokevirtual 63, 3) := dk_182 0 63 (dk_at dksJ30_getTreeNode_0 18 rfl rfl)
theorem dJ30_getTreeNode_21 : decode cJ30_getTreeNode 21 = .ok (.areturn, 1) := dk_176 (dk_at dksJ30_getTreeNode_0 21 rfl rfl)
abbrev cJ30_root : ByteArray := prog_104_method_2_code
def yJ30_root : MethodName := ⟨RJ30, "root", "()Ljava/util/HashMap$TreeNode;"⟩
def dkwJ30_root_0 : List UInt8 := [42, 76, 43, 180, 0, 9, 89, 77, 199, 0, 5, 43, 176, 44, 76, 167, 255, 243]
abbrev dktJ30_root_0 : List UInt8 := dkwJ30_root_0 ++ []
theorem dksJ30_root_0 : cJ30_root.data.toList.drop 0 = dktJ30_root_0 := by decide +kernel
theorem dJ30_root_0 : decode cJ30_root 0 = .ok (.aload_n 0, 1) := dk_42 (dk_at dksJ30_root_0 0 rfl rfl)
theorem dJ30_root_1 : decode cJ30_root 1 = .ok (.astore_n 1, 1) := dk_76 (dk_at dksJ30_root_0 1 rfl rfl)
theorem dJ30_root_2 : decode cJ30_root 2 = .ok (.aload_n 1, 1) := dk_43 (dk_at dksJ30_root_0 2 rfl rfl)
theorem dJ30_root_3 : decode cJ30_root 3 = .ok (.getfield 9, 3) := dk_180 0 9 (dk_at dksJ30_root_0 3 rfl rfl)
theorem dJ30_root_6 : decode cJ30_root 6 = .ok (.dup, 1) := dk_89 (dk_at dksJ30_root_0 6 rfl rfl)
theorem dJ30_root_7 : decode cJ30_root 7 = .ok (.astore_n 2, 1) := dk_77 (dk_at dksJ30_root_0 7 rfl rfl)
theorem dJ30_root_8 : decode cJ30_root 8 = .ok (.ifnonnull 5, 3) := dk_199 0 5 (dk_at dksJ30_root_0 8 rfl rfl)
theorem dJ30_root_11 : decode cJ30_root 11 = .ok (.aload_n 1, 1) := dk_43 (dk_at dksJ30_root_0 11 rfl rfl)
theorem dJ30_root_12 : decode cJ30_root 12 = .ok (.areturn, 1) := dk_176 (dk_at dksJ30_root_0 12 rfl rfl)
theorem dJ30_root_13 : decode cJ30_root 13 = .ok (.aload_n 2, 1) := dk_44 (dk_at dksJ30_root_0 13 rfl rfl)
theorem dJ30_root_14 : decode cJ30_root 14 = .ok (.astore_n 1, 1) := dk_76 (dk_at dksJ30_root_0 14 rfl rfl)
theorem dJ30_root_15 : decode cJ30_root 15 = .ok (.goto (-13), 3) := dk_167 255 243 (dk_at dksJ30_root_0 15 rfl rfl)
abbrev cJ30_find : ByteArray := prog_104_method_4_code
def yJ30_find : MethodName := ⟨RJ30, "find", "(ILjava/lang/Object;Ljava/lang/Class;)Ljava/util/HashMap$TreeNode;"⟩
def dkwJ30_find_7 : List UInt8 := [58, 4, 25, 4, 199, 255, 92, 1, 176]
abbrev dktJ30_find_7 : List UInt8 := dkwJ30_find_7 ++ []
def dkwJ30_find_6 : List UInt8 := [58, 4, 167, 0, 24, 25, 9, 27, 44, 45, 182, 0, 63, 89, 58, 10, 198, 0, 6, 25, 10, 176, 25, 8]
abbrev dktJ30_find_6 : List UInt8 := dkwJ30_find_6 ++ dktJ30_find_7
def dkwJ30_find_5 : List UInt8 := [44, 25, 7, 184, 0, 59, 89, 54, 6, 153, 0, 20, 21, 6, 156, 0, 8, 25, 8, 167, 0, 5, 25, 9]
abbrev dktJ30_find_5 : List UInt8 := dkwJ30_find_5 ++ dktJ30_find_6
def dkwJ30_find_4 : List UInt8 := [199, 0, 10, 25, 8, 58, 4, 167, 0, 67, 45, 199, 0, 12, 44, 184, 0, 55, 89, 78, 198, 0, 33, 45]
abbrev dktJ30_find_4 : List UInt8 := dkwJ30_find_4 ++ dktJ30_find_5
def dkwJ30_find_3 : List UInt8 := [182, 0, 49, 153, 0, 6, 25, 4, 176, 25, 8, 199, 0, 10, 25, 9, 58, 4, 167, 0, 79, 25, 9]
abbrev dktJ30_find_3 : List UInt8 := dkwJ30_find_3 ++ dktJ30_find_4
def dkwJ30_find_2 : List UInt8 := [167, 0, 119, 25, 4, 180, 0, 45, 89, 58, 7, 44, 165, 0, 16, 44, 198, 0, 15, 44, 25, 7]
abbrev dktJ30_find_2 : List UInt8 := dkwJ30_find_2 ++ dktJ30_find_3
def dkwJ30_find_1 : List UInt8 := [54, 5, 27, 164, 0, 10, 25, 8, 58, 4, 167, 0, 132, 21, 5, 27, 162, 0, 10, 25, 9, 58, 4]
abbrev dktJ30_find_1 : List UInt8 := dkwJ30_find_1 ++ dktJ30_find_2
def dkwJ30_find_0 : List UInt8 := [42, 58, 4, 25, 4, 180, 0, 39, 58, 8, 25, 4, 180, 0, 42, 58, 9, 25, 4, 180, 0, 15, 89]
abbrev dktJ30_find_0 : List UInt8 := dkwJ30_find_0 ++ dktJ30_find_1
theorem dksJ30_find_0 : cJ30_find.data.toList.drop 0 = dktJ30_find_0 := by decide +kernel
theorem dksJ30_find_1 : cJ30_find.data.toList.drop 23 = dktJ30_find_1 := dk_seg dksJ30_find_0 23 rfl rfl
theorem dksJ30_find_2 : cJ30_find.data.toList.drop 46 = dktJ30_find_2 := dk_seg dksJ30_find_1 23 rfl rfl
theorem dksJ30_find_3 : cJ30_find.data.toList.drop 68 = dktJ30_find_3 := dk_seg dksJ30_find_2 22 rfl rfl
theorem dksJ30_find_4 : cJ30_find.data.toList.drop 91 = dktJ30_find_4 := dk_seg dksJ30_find_3 23 rfl rfl
theorem dksJ30_find_5 : cJ30_find.data.toList.drop 115 = dktJ30_find_5 := dk_seg dksJ30_find_4 24 rfl rfl
theorem dksJ30_find_6 : cJ30_find.data.toList.drop 139 = dktJ30_find_6 := dk_seg dksJ30_find_5 24 rfl rfl
theorem dksJ30_find_7 : cJ30_find.data.toList.drop 163 = dktJ30_find_7 := dk_seg dksJ30_find_6 24 rfl rfl
theorem dJ30_find_0 : decode cJ30_find 0 = .ok (.aload_n 0, 1) := dk_42 (dk_at dksJ30_find_0 0 rfl rfl)
theorem dJ30_find_1 : decode cJ30_find 1 = .ok (.astore 4, 2) := dk_58 4 (dk_at dksJ30_find_0 1 rfl rfl)
theorem dJ30_find_3 : decode cJ30_find 3 = .ok (.aload 4, 2) := dk_25 4 (dk_at dksJ30_find_0 3 rfl rfl)
theorem dJ30_find_5 : decode cJ30_find 5 = .ok (.getfield 39, 3) := dk_180 0 39 (dk_at dksJ30_find_0 5 rfl rfl)
theorem dJ30_find_8 : decode cJ30_find 8 = .ok (.astore 8, 2) := dk_58 8 (dk_at dksJ30_find_0 8 rfl rfl)
theorem dJ30_find_10 : decode cJ30_find 10 = .ok (.aload 4, 2) := dk_25 4 (dk_at dksJ30_find_0 10 rfl rfl)
theorem dJ30_find_12 : decode cJ30_find 12 = .ok (.getfield 42, 3) := dk_180 0 42 (dk_at dksJ30_find_0 12 rfl rfl)
theorem dJ30_find_15 : decode cJ30_find 15 = .ok (.astore 9, 2) := dk_58 9 (dk_at dksJ30_find_0 15 rfl rfl)
theorem dJ30_find_17 : decode cJ30_find 17 = .ok (.aload 4, 2) := dk_25 4 (dk_at dksJ30_find_0 17 rfl rfl)
theorem dJ30_find_19 : decode cJ30_find 19 = .ok (.getfield 15, 3) := dk_180 0 15 (dk_at dksJ30_find_0 19 rfl rfl)
theorem dJ30_find_22 : decode cJ30_find 22 = .ok (.dup, 1) := dk_89 (dk_at dksJ30_find_0 22 rfl rfl)
theorem dJ30_find_23 : decode cJ30_find 23 = .ok (.istore 5, 2) := dk_54 5 (dk_at dksJ30_find_1 0 rfl rfl)
theorem dJ30_find_25 : decode cJ30_find 25 = .ok (.iload_n 1, 1) := dk_27 (dk_at dksJ30_find_1 2 rfl rfl)
theorem dJ30_find_26 : decode cJ30_find 26 = .ok (.if_icmp .le 10, 3) := dk_164 0 10 (dk_at dksJ30_find_1 3 rfl rfl)
theorem dJ30_find_29 : decode cJ30_find 29 = .ok (.aload 8, 2) := dk_25 8 (dk_at dksJ30_find_1 6 rfl rfl)
theorem dJ30_find_31 : decode cJ30_find 31 = .ok (.astore 4, 2) := dk_58 4 (dk_at dksJ30_find_1 8 rfl rfl)
theorem dJ30_find_33 : decode cJ30_find 33 = .ok (.goto 132, 3) := dk_167 0 132 (dk_at dksJ30_find_1 10 rfl rfl)
theorem dJ30_find_36 : decode cJ30_find 36 = .ok (.iload 5, 2) := dk_21 5 (dk_at dksJ30_find_1 13 rfl rfl)
theorem dJ30_find_38 : decode cJ30_find 38 = .ok (.iload_n 1, 1) := dk_27 (dk_at dksJ30_find_1 15 rfl rfl)
theorem dJ30_find_39 : decode cJ30_find 39 = .ok (.if_icmp .ge 10, 3) := dk_162 0 10 (dk_at dksJ30_find_1 16 rfl rfl)
theorem dJ30_find_42 : decode cJ30_find 42 = .ok (.aload 9, 2) := dk_25 9 (dk_at dksJ30_find_1 19 rfl rfl)
theorem dJ30_find_44 : decode cJ30_find 44 = .ok (.astore 4, 2) := dk_58 4 (dk_at dksJ30_find_1 21 rfl rfl)
theorem dJ30_find_46 : decode cJ30_find 46 = .ok (.goto 119, 3) := dk_167 0 119 (dk_at dksJ30_find_2 0 rfl rfl)
theorem dJ30_find_49 : decode cJ30_find 49 = .ok (.aload 4, 2) := dk_25 4 (dk_at dksJ30_find_2 3 rfl rfl)
theorem dJ30_find_51 : decode cJ30_find 51 = .ok (.getfield 45, 3) := dk_180 0 45 (dk_at dksJ30_find_2 5 rfl rfl)
theorem dJ30_find_54 : decode cJ30_find 54 = .ok (.dup, 1) := dk_89 (dk_at dksJ30_find_2 8 rfl rfl)
theorem dJ30_find_55 : decode cJ30_find 55 = .ok (.astore 7, 2) := dk_58 7 (dk_at dksJ30_find_2 9 rfl rfl)
theorem dJ30_find_57 : decode cJ30_find 57 = .ok (.aload_n 2, 1) := dk_44 (dk_at dksJ30_find_2 11 rfl rfl)
theorem dJ30_find_58 : decode cJ30_find 58 = .ok (.if_acmp .eq 16, 3) := dk_165 0 16 (dk_at dksJ30_find_2 12 rfl rfl)
theorem dJ30_find_61 : decode cJ30_find 61 = .ok (.aload_n 2, 1) := dk_44 (dk_at dksJ30_find_2 15 rfl rfl)
theorem dJ30_find_62 : decode cJ30_find 62 = .ok (.ifnull 15, 3) := dk_198 0 15 (dk_at dksJ30_find_2 16 rfl rfl)
theorem dJ30_find_65 : decode cJ30_find 65 = .ok (.aload_n 2, 1) := dk_44 (dk_at dksJ30_find_2 19 rfl rfl)
theorem dJ30_find_66 : decode cJ30_find 66 = .ok (.aload 7, 2) := dk_25 7 (dk_at dksJ30_find_2 20 rfl rfl)
theorem dJ30_find_68 : decode cJ30_find 68 = .ok (.invokevirtual 49, 3) := dk_182 0 49 (dk_at dksJ30_find_3 0 rfl rfl)
theorem dJ30_find_71 : decode cJ30_find 71 = .ok (.ifCond .eq 6, 3) := dk_153 0 6 (dk_at dksJ30_find_3 3 rfl rfl)
theorem dJ30_find_74 : decode cJ30_find 74 = .ok (.aload 4, 2) := dk_25 4 (dk_at dksJ30_find_3 6 rfl rfl)
theorem dJ30_find_76 : decode cJ30_find 76 = .ok (.areturn, 1) := dk_176 (dk_at dksJ30_find_3 8 rfl rfl)
theorem dJ30_find_77 : decode cJ30_find 77 = .ok (.aload 8, 2) := dk_25 8 (dk_at dksJ30_find_3 9 rfl rfl)
theorem dJ30_find_79 : decode cJ30_find 79 = .ok (.ifnonnull 10, 3) := dk_199 0 10 (dk_at dksJ30_find_3 11 rfl rfl)
theorem dJ30_find_82 : decode cJ30_find 82 = .ok (.aload 9, 2) := dk_25 9 (dk_at dksJ30_find_3 14 rfl rfl)
theorem dJ30_find_84 : decode cJ30_find 84 = .ok (.astore 4, 2) := dk_58 4 (dk_at dksJ30_find_3 16 rfl rfl)
theorem dJ30_find_86 : decode cJ30_find 86 = .ok (.goto 79, 3) := dk_167 0 79 (dk_at dksJ30_find_3 18 rfl rfl)
theorem dJ30_find_89 : decode cJ30_find 89 = .ok (.aload 9, 2) := dk_25 9 (dk_at dksJ30_find_3 21 rfl rfl)
theorem dJ30_find_91 : decode cJ30_find 91 = .ok (.ifnonnull 10, 3) := dk_199 0 10 (dk_at dksJ30_find_4 0 rfl rfl)
theorem dJ30_find_94 : decode cJ30_find 94 = .ok (.aload 8, 2) := dk_25 8 (dk_at dksJ30_find_4 3 rfl rfl)
theorem dJ30_find_96 : decode cJ30_find 96 = .ok (.astore 4, 2) := dk_58 4 (dk_at dksJ30_find_4 5 rfl rfl)
theorem dJ30_find_98 : decode cJ30_find 98 = .ok (.goto 67, 3) := dk_167 0 67 (dk_at dksJ30_find_4 7 rfl rfl)
theorem dJ30_find_101 : decode cJ30_find 101 = .ok (.aload_n 3, 1) := dk_45 (dk_at dksJ30_find_4 10 rfl rfl)
theorem dJ30_find_102 : decode cJ30_find 102 = .ok (.ifnonnull 12, 3) := dk_199 0 12 (dk_at dksJ30_find_4 11 rfl rfl)
theorem dJ30_find_105 : decode cJ30_find 105 = .ok (.aload_n 2, 1) := dk_44 (dk_at dksJ30_find_4 14 rfl rfl)
theorem dJ30_find_106 : decode cJ30_find 106 = .ok (.invokestatic 55, 3) := dk_184 0 55 (dk_at dksJ30_find_4 15 rfl rfl)
theorem dJ30_find_109 : decode cJ30_find 109 = .ok (.dup, 1) := dk_89 (dk_at dksJ30_find_4 18 rfl rfl)
theorem dJ30_find_110 : decode cJ30_find 110 = .ok (.astore_n 3, 1) := dk_78 (dk_at dksJ30_find_4 19 rfl rfl)
theorem dJ30_find_111 : decode cJ30_find 111 = .ok (.ifnull 33, 3) := dk_198 0 33 (dk_at dksJ30_find_4 20 rfl rfl)
theorem dJ30_find_114 : decode cJ30_find 114 = .ok (.aload_n 3, 1) := dk_45 (dk_at dksJ30_find_4 23 rfl rfl)
theorem dJ30_find_115 : decode cJ30_find 115 = .ok (.aload_n 2, 1) := dk_44 (dk_at dksJ30_find_5 0 rfl rfl)
theorem dJ30_find_116 : decode cJ30_find 116 = .ok (.aload 7, 2) := dk_25 7 (dk_at dksJ30_find_5 1 rfl rfl)
theorem dJ30_find_118 : decode cJ30_find 118 = .ok (.invokestatic 59, 3) := dk_184 0 59 (dk_at dksJ30_find_5 3 rfl rfl)
theorem dJ30_find_121 : decode cJ30_find 121 = .ok (.dup, 1) := dk_89 (dk_at dksJ30_find_5 6 rfl rfl)
theorem dJ30_find_122 : decode cJ30_find 122 = .ok (.istore 6, 2) := dk_54 6 (dk_at dksJ30_find_5 7 rfl rfl)
theorem dJ30_find_124 : decode cJ30_find 124 = .ok (.ifCond .eq 20, 3) := dk_153 0 20 (dk_at dksJ30_find_5 9 rfl rfl)
theorem dJ30_find_127 : decode cJ30_find 127 = .ok (.iload 6, 2) := dk_21 6 (dk_at dksJ30_find_5 12 rfl rfl)
theorem dJ30_find_129 : decode cJ30_find 129 = .ok (.ifCond .ge 8, 3) := dk_156 0 8 (dk_at dksJ30_find_5 14 rfl rfl)
theorem dJ30_find_132 : decode cJ30_find 132 = .ok (.aload 8, 2) := dk_25 8 (dk_at dksJ30_find_5 17 rfl rfl)
theorem dJ30_find_134 : decode cJ30_find 134 = .ok (.goto 5, 3) := dk_167 0 5 (dk_at dksJ30_find_5 19 rfl rfl)
theorem dJ30_find_137 : decode cJ30_find 137 = .ok (.aload 9, 2) := dk_25 9 (dk_at dksJ30_find_5 22 rfl rfl)
theorem dJ30_find_139 : decode cJ30_find 139 = .ok (.astore 4, 2) := dk_58 4 (dk_at dksJ30_find_6 0 rfl rfl)
theorem dJ30_find_141 : decode cJ30_find 141 = .ok (.goto 24, 3) := dk_167 0 24 (dk_at dksJ30_find_6 2 rfl rfl)
theorem dJ30_find_144 : decode cJ30_find 144 = .ok (.aload 9, 2) := dk_25 9 (dk_at dksJ30_find_6 5 rfl rfl)
theorem dJ30_find_146 : decode cJ30_find 146 = .ok (.iload_n 1, 1) := dk_27 (dk_at dksJ30_find_6 7 rfl rfl)
theorem dJ30_find_147 : decode cJ30_find 147 = .ok (.aload_n 2, 1) := dk_44 (dk_at dksJ30_find_6 8 rfl rfl)
theorem dJ30_find_148 : decode cJ30_find 148 = .ok (.aload_n 3, 1) := dk_45 (dk_at dksJ30_find_6 9 rfl rfl)
theorem dJ30_find_149 : decode cJ30_find 149 = .ok (.invokevirtual 63, 3) := dk_182 0 63 (dk_at dksJ30_find_6 10 rfl rfl)
theorem dJ30_find_152 : decode cJ30_find 152 = .ok (.dup, 1) := dk_89 (dk_at dksJ30_find_6 13 rfl rfl)
theorem dJ30_find_153 : decode cJ30_find 153 = .ok (.astore 10, 2) := dk_58 10 (dk_at dksJ30_find_6 14 rfl rfl)
theorem dJ30_find_155 : decode cJ30_find 155 = .ok (.ifnull 6, 3) := dk_198 0 6 (dk_at dksJ30_find_6 16 rfl rfl)
theorem dJ30_find_158 : decode cJ30_find 158 = .ok (.aload 10, 2) := dk_25 10 (dk_at dksJ30_find_6 19 rfl rfl)
theorem dJ30_find_160 : decode cJ30_find 160 = .ok (.areturn, 1) := dk_176 (dk_at dksJ30_find_6 21 rfl rfl)
theorem dJ30_find_161 : decode cJ30_find 161 = .ok (.aload 8, 2) := dk_25 8 (dk_at dksJ30_find_6 22 rfl rfl)
theorem dJ30_find_163 : decode cJ30_find 163 = .ok (.astore 4, 2) := dk_58 4 (dk_at dksJ30_find_7 0 rfl rfl)
theorem dJ30_find_165 : decode cJ30_find 165 = .ok (.aload 4, 2) := dk_25 4 (dk_at dksJ30_find_7 2 rfl rfl)
theorem dJ30_find_167 : decode cJ30_find 167 = .ok (.ifnonnull (-164), 3) := dk_199 255 92 (dk_at dksJ30_find_7 4 rfl rfl)
theorem dJ30_find_170 : decode cJ30_find 170 = .ok (.aconst_null, 1) := dk_1 (dk_at dksJ30_find_7 7 rfl rfl)
theorem dJ30_find_171 : decode cJ30_find 171 = .ok (.areturn, 1) := dk_176 (dk_at dksJ30_find_7 8 rfl rfl)
abbrev cJ30_split : ByteArray := prog_104_method_11_code
def yJ30_split : MethodName := ⟨RJ30, "split", "(Ljava/util/HashMap;[Ljava/util/HashMap$Node;II)V"⟩
def dkwJ30_split_9 : List UInt8 := [198, 0, 9, 25, 8, 44, 182, 0, 126, 177]
abbrev dktJ30_split_9 : List UInt8 := dkwJ30_split_9 ++ []
def dkwJ30_split_8 : List UInt8 := [21, 4, 96, 25, 8, 43, 182, 0, 119, 83, 167, 0, 22, 44, 29, 21, 4, 96, 25, 8, 83, 25, 6]
abbrev dktJ30_split_8 : List UInt8 := dkwJ30_split_8 ++ dktJ30_split_9
def dkwJ30_split_7 : List UInt8 := [198, 0, 9, 25, 6, 44, 182, 0, 126, 25, 8, 198, 0, 44, 21, 11, 16, 6, 163, 0, 18, 44, 29]
abbrev dktJ30_split_7 : List UInt8 := dkwJ30_split_7 ++ dktJ30_split_8
def dkwJ30_split_6 : List UInt8 := [163, 0, 15, 44, 29, 25, 6, 43, 182, 0, 119, 83, 167, 0, 19, 44, 29, 25, 6, 83, 25, 8]
abbrev dktJ30_split_6 : List UInt8 := dkwJ30_split_6 ++ dktJ30_split_7
def dkwJ30_split_5 : List UInt8 := [25, 12, 58, 9, 132, 11, 1, 25, 13, 58, 12, 167, 255, 153, 25, 6, 198, 0, 38, 21, 10, 16, 6]
abbrev dktJ30_split_5 : List UInt8 := dkwJ30_split_5 ++ dktJ30_split_6
def dkwJ30_split_4 : List UInt8 := [25, 9, 90, 181, 0, 19, 199, 0, 10, 25, 12, 58, 8, 167, 0, 10, 25, 9, 25, 12, 181, 0, 22]
abbrev dktJ30_split_4 : List UInt8 := dkwJ30_split_4 ++ dktJ30_split_5
def dkwJ30_split_3 : List UInt8 := [58, 6, 167, 0, 10, 25, 7, 25, 12, 181, 0, 22, 25, 12, 58, 7, 132, 10, 1, 167, 0, 35, 25, 12]
abbrev dktJ30_split_3 : List UInt8 := dkwJ30_split_3 ++ dktJ30_split_4
def dkwJ30_split_2 : List UInt8 := [25, 12, 180, 0, 15, 21, 4, 126, 154, 0, 38, 25, 12, 25, 7, 90, 181, 0, 19, 199, 0, 10, 25, 12]
abbrev dktJ30_split_2 : List UInt8 := dkwJ30_split_2 ++ dktJ30_split_3
def dkwJ30_split_1 : List UInt8 := [58, 12, 25, 12, 198, 0, 104, 25, 12, 180, 0, 22, 192, 0, 10, 58, 13, 25, 12, 1, 181, 0, 22]
abbrev dktJ30_split_1 : List UInt8 := dkwJ30_split_1 ++ dktJ30_split_2
def dkwJ30_split_0 : List UInt8 := [42, 58, 5, 1, 58, 6, 1, 58, 7, 1, 58, 8, 1, 58, 9, 3, 54, 10, 3, 54, 11, 25, 5]
abbrev dktJ30_split_0 : List UInt8 := dkwJ30_split_0 ++ dktJ30_split_1
theorem dksJ30_split_0 : cJ30_split.data.toList.drop 0 = dktJ30_split_0 := by decide +kernel
theorem dksJ30_split_1 : cJ30_split.data.toList.drop 23 = dktJ30_split_1 := dk_seg dksJ30_split_0 23 rfl rfl
theorem dksJ30_split_2 : cJ30_split.data.toList.drop 46 = dktJ30_split_2 := dk_seg dksJ30_split_1 23 rfl rfl
theorem dksJ30_split_3 : cJ30_split.data.toList.drop 70 = dktJ30_split_3 := dk_seg dksJ30_split_2 24 rfl rfl
theorem dksJ30_split_4 : cJ30_split.data.toList.drop 94 = dktJ30_split_4 := dk_seg dksJ30_split_3 24 rfl rfl
theorem dksJ30_split_5 : cJ30_split.data.toList.drop 117 = dktJ30_split_5 := dk_seg dksJ30_split_4 23 rfl rfl
theorem dksJ30_split_6 : cJ30_split.data.toList.drop 140 = dktJ30_split_6 := dk_seg dksJ30_split_5 23 rfl rfl
theorem dksJ30_split_7 : cJ30_split.data.toList.drop 162 = dktJ30_split_7 := dk_seg dksJ30_split_6 22 rfl rfl
theorem dksJ30_split_8 : cJ30_split.data.toList.drop 185 = dktJ30_split_8 := dk_seg dksJ30_split_7 23 rfl rfl
theorem dksJ30_split_9 : cJ30_split.data.toList.drop 208 = dktJ30_split_9 := dk_seg dksJ30_split_8 23 rfl rfl
theorem dJ30_split_0 : decode cJ30_split 0 = .ok (.aload_n 0, 1) := dk_42 (dk_at dksJ30_split_0 0 rfl rfl)
theorem dJ30_split_1 : decode cJ30_split 1 = .ok (.astore 5, 2) := dk_58 5 (dk_at dksJ30_split_0 1 rfl rfl)
theorem dJ30_split_3 : decode cJ30_split 3 = .ok (.aconst_null, 1) := dk_1 (dk_at dksJ30_split_0 3 rfl rfl)
theorem dJ30_split_4 : decode cJ30_split 4 = .ok (.astore 6, 2) := dk_58 6 (dk_at dksJ30_split_0 4 rfl rfl)
theorem dJ30_split_6 : decode cJ30_split 6 = .ok (.aconst_null, 1) := dk_1 (dk_at dksJ30_split_0 6 rfl rfl)
theorem dJ30_split_7 : decode cJ30_split 7 = .ok (.astore 7, 2) := dk_58 7 (dk_at dksJ30_split_0 7 rfl rfl)
theorem dJ30_split_9 : decode cJ30_split 9 = .ok (.aconst_null, 1) := dk_1 (dk_at dksJ30_split_0 9 rfl rfl)
theorem dJ30_split_10 : decode cJ30_split 10 = .ok (.astore 8, 2) := dk_58 8 (dk_at dksJ30_split_0 10 rfl rfl)
theorem dJ30_split_12 : decode cJ30_split 12 = .ok (.aconst_null, 1) := dk_1 (dk_at dksJ30_split_0 12 rfl rfl)
theorem dJ30_split_13 : decode cJ30_split 13 = .ok (.astore 9, 2) := dk_58 9 (dk_at dksJ30_split_0 13 rfl rfl)
theorem dJ30_split_15 : decode cJ30_split 15 = .ok (.iconst 0, 1) := dk_3 (dk_at dksJ30_split_0 15 rfl rfl)
theorem dJ30_split_16 : decode cJ30_split 16 = .ok (.istore 10, 2) := dk_54 10 (dk_at dksJ30_split_0 16 rfl rfl)
theorem dJ30_split_18 : decode cJ30_split 18 = .ok (.iconst 0, 1) := dk_3 (dk_at dksJ30_split_0 18 rfl rfl)
theorem dJ30_split_19 : decode cJ30_split 19 = .ok (.istore 11, 2) := dk_54 11 (dk_at dksJ30_split_0 19 rfl rfl)
theorem dJ30_split_21 : decode cJ30_split 21 = .ok (.aload 5, 2) := dk_25 5 (dk_at dksJ30_split_0 21 rfl rfl)
theorem dJ30_split_23 : decode cJ30_split 23 = .ok (.astore 12, 2) := dk_58 12 (dk_at dksJ30_split_1 0 rfl rfl)
theorem dJ30_split_25 : decode cJ30_split 25 = .ok (.aload 12, 2) := dk_25 12 (dk_at dksJ30_split_1 2 rfl rfl)
theorem dJ30_split_27 : decode cJ30_split 27 = .ok (.ifnull 104, 3) := dk_198 0 104 (dk_at dksJ30_split_1 4 rfl rfl)
theorem dJ30_split_30 : decode cJ30_split 30 = .ok (.aload 12, 2) := dk_25 12 (dk_at dksJ30_split_1 7 rfl rfl)
theorem dJ30_split_32 : decode cJ30_split 32 = .ok (.getfield 22, 3) := dk_180 0 22 (dk_at dksJ30_split_1 9 rfl rfl)
theorem dJ30_split_35 : decode cJ30_split 35 = .ok (.checkcast 10, 3) := dk_192 0 10 (dk_at dksJ30_split_1 12 rfl rfl)
theorem dJ30_split_38 : decode cJ30_split 38 = .ok (.astore 13, 2) := dk_58 13 (dk_at dksJ30_split_1 15 rfl rfl)
theorem dJ30_split_40 : decode cJ30_split 40 = .ok (.aload 12, 2) := dk_25 12 (dk_at dksJ30_split_1 17 rfl rfl)
theorem dJ30_split_42 : decode cJ30_split 42 = .ok (.aconst_null, 1) := dk_1 (dk_at dksJ30_split_1 19 rfl rfl)
theorem dJ30_split_43 : decode cJ30_split 43 = .ok (.putfield 22, 3) := dk_181 0 22 (dk_at dksJ30_split_1 20 rfl rfl)
theorem dJ30_split_46 : decode cJ30_split 46 = .ok (.aload 12, 2) := dk_25 12 (dk_at dksJ30_split_2 0 rfl rfl)
theorem dJ30_split_48 : decode cJ30_split 48 = .ok (.getfield 15, 3) := dk_180 0 15 (dk_at dksJ30_split_2 2 rfl rfl)
theorem dJ30_split_51 : decode cJ30_split 51 = .ok (.iload 4, 2) := dk_21 4 (dk_at dksJ30_split_2 5 rfl rfl)
theorem dJ30_split_53 : decode cJ30_split 53 = .ok (.iand, 1) := dk_126 (dk_at dksJ30_split_2 7 rfl rfl)
theorem dJ30_split_54 : decode cJ30_split 54 = .ok (.ifCond .ne 38, 3) := dk_154 0 38 (dk_at dksJ30_split_2 8 rfl rfl)
theorem dJ30_split_57 : decode cJ30_split 57 = .ok (.aload 12, 2) := dk_25 12 (dk_at dksJ30_split_2 11 rfl rfl)
theorem dJ30_split_59 : decode cJ30_split 59 = .ok (.aload 7, 2) := dk_25 7 (dk_at dksJ30_split_2 13 rfl rfl)
theorem dJ30_split_61 : decode cJ30_split 61 = .ok (.dup_x1, 1) := dk_90 (dk_at dksJ30_split_2 15 rfl rfl)
theorem dJ30_split_62 : decode cJ30_split 62 = .ok (.putfield 19, 3) := dk_181 0 19 (dk_at dksJ30_split_2 16 rfl rfl)
theorem dJ30_split_65 : decode cJ30_split 65 = .ok (.ifnonnull 10, 3) := dk_199 0 10 (dk_at dksJ30_split_2 19 rfl rfl)
theorem dJ30_split_68 : decode cJ30_split 68 = .ok (.aload 12, 2) := dk_25 12 (dk_at dksJ30_split_2 22 rfl rfl)
theorem dJ30_split_70 : decode cJ30_split 70 = .ok (.astore 6, 2) := dk_58 6 (dk_at dksJ30_split_3 0 rfl rfl)
theorem dJ30_split_72 : decode cJ30_split 72 = .ok (.goto 10, 3) := dk_167 0 10 (dk_at dksJ30_split_3 2 rfl rfl)
theorem dJ30_split_75 : decode cJ30_split 75 = .ok (.aload 7, 2) := dk_25 7 (dk_at dksJ30_split_3 5 rfl rfl)
theorem dJ30_split_77 : decode cJ30_split 77 = .ok (.aload 12, 2) := dk_25 12 (dk_at dksJ30_split_3 7 rfl rfl)
theorem dJ30_split_79 : decode cJ30_split 79 = .ok (.putfield 22, 3) := dk_181 0 22 (dk_at dksJ30_split_3 9 rfl rfl)
theorem dJ30_split_82 : decode cJ30_split 82 = .ok (.aload 12, 2) := dk_25 12 (dk_at dksJ30_split_3 12 rfl rfl)
theorem dJ30_split_84 : decode cJ30_split 84 = .ok (.astore 7, 2) := dk_58 7 (dk_at dksJ30_split_3 14 rfl rfl)
theorem dJ30_split_86 : decode cJ30_split 86 = .ok (.iinc 10 1, 3) := dk_132 10 1 (dk_at dksJ30_split_3 16 rfl rfl)
theorem dJ30_split_89 : decode cJ30_split 89 = .ok (.goto 35, 3) := dk_167 0 35 (dk_at dksJ30_split_3 19 rfl rfl)
theorem dJ30_split_92 : decode cJ30_split 92 = .ok (.aload 12, 2) := dk_25 12 (dk_at dksJ30_split_3 22 rfl rfl)
theorem dJ30_split_94 : decode cJ30_split 94 = .ok (.aload 9, 2) := dk_25 9 (dk_at dksJ30_split_4 0 rfl rfl)
theorem dJ30_split_96 : decode cJ30_split 96 = .ok (.dup_x1, 1) := dk_90 (dk_at dksJ30_split_4 2 rfl rfl)
theorem dJ30_split_97 : decode cJ30_split 97 = .ok (.putfield 19, 3) := dk_181 0 19 (dk_at dksJ30_split_4 3 rfl rfl)
theorem dJ30_split_100 : decode cJ30_split 100 = .ok (.ifnonnull 10, 3) := dk_199 0 10 (dk_at dksJ30_split_4 6 rfl rfl)
theorem dJ30_split_103 : decode cJ30_split 103 = .ok (.aload 12, 2) := dk_25 12 (dk_at dksJ30_split_4 9 rfl rfl)
theorem dJ30_split_105 : decode cJ30_split 105 = .ok (.astore 8, 2) := dk_58 8 (dk_at dksJ30_split_4 11 rfl rfl)
theorem dJ30_split_107 : decode cJ30_split 107 = .ok (.goto 10, 3) := dk_167 0 10 (dk_at dksJ30_split_4 13 rfl rfl)
theorem dJ30_split_110 : decode cJ30_split 110 = .ok (.aload 9, 2) := dk_25 9 (dk_at dksJ30_split_4 16 rfl rfl)
theorem dJ30_split_112 : decode cJ30_split 112 = .ok (.aload 12, 2) := dk_25 12 (dk_at dksJ30_split_4 18 rfl rfl)
theorem dJ30_split_114 : decode cJ30_split 114 = .ok (.putfield 22, 3) := dk_181 0 22 (dk_at dksJ30_split_4 20 rfl rfl)
theorem dJ30_split_117 : decode cJ30_split 117 = .ok (.aload 12, 2) := dk_25 12 (dk_at dksJ30_split_5 0 rfl rfl)
theorem dJ30_split_119 : decode cJ30_split 119 = .ok (.astore 9, 2) := dk_58 9 (dk_at dksJ30_split_5 2 rfl rfl)
theorem dJ30_split_121 : decode cJ30_split 121 = .ok (.iinc 11 1, 3) := dk_132 11 1 (dk_at dksJ30_split_5 4 rfl rfl)
theorem dJ30_split_124 : decode cJ30_split 124 = .ok (.aload 13, 2) := dk_25 13 (dk_at dksJ30_split_5 7 rfl rfl)
theorem dJ30_split_126 : decode cJ30_split 126 = .ok (.astore 12, 2) := dk_58 12 (dk_at dksJ30_split_5 9 rfl rfl)
theorem dJ30_split_128 : decode cJ30_split 128 = .ok (.goto (-103), 3) := dk_167 255 153 (dk_at dksJ30_split_5 11 rfl rfl)
theorem dJ30_split_131 : decode cJ30_split 131 = .ok (.aload 6, 2) := dk_25 6 (dk_at dksJ30_split_5 14 rfl rfl)
theorem dJ30_split_133 : decode cJ30_split 133 = .ok (.ifnull 38, 3) := dk_198 0 38 (dk_at dksJ30_split_5 16 rfl rfl)
theorem dJ30_split_136 : decode cJ30_split 136 = .ok (.iload 10, 2) := dk_21 10 (dk_at dksJ30_split_5 19 rfl rfl)
theorem dJ30_split_138 : decode cJ30_split 138 = .ok (.bipush 6, 2) := dk_16 6 (dk_at dksJ30_split_5 21 rfl rfl)
theorem dJ30_split_140 : decode cJ30_split 140 = .ok (.if_icmp .gt 15, 3) := dk_163 0 15 (dk_at dksJ30_split_6 0 rfl rfl)
theorem dJ30_split_143 : decode cJ30_split 143 = .ok (.aload_n 2, 1) := dk_44 (dk_at dksJ30_split_6 3 rfl rfl)
theorem dJ30_split_144 : decode cJ30_split 144 = .ok (.iload_n 3, 1) := dk_29 (dk_at dksJ30_split_6 4 rfl rfl)
theorem dJ30_split_145 : decode cJ30_split 145 = .ok (.aload 6, 2) := dk_25 6 (dk_at dksJ30_split_6 5 rfl rfl)
theorem dJ30_split_147 : decode cJ30_split 147 = .ok (.aload_n 1, 1) := dk_43 (dk_at dksJ30_split_6 7 rfl rfl)
theorem dJ30_split_148 : decode cJ30_split 148 = .ok (.invokevirtual 119, 3) := dk_182 0 119 (dk_at dksJ30_split_6 8 rfl rfl)
theorem dJ30_split_151 : decode cJ30_split 151 = .ok (.aastore, 1) := dk_83 (dk_at dksJ30_split_6 11 rfl rfl)
theorem dJ30_split_152 : decode cJ30_split 152 = .ok (.goto 19, 3) := dk_167 0 19 (dk_at dksJ30_split_6 12 rfl rfl)
theorem dJ30_split_155 : decode cJ30_split 155 = .ok (.aload_n 2, 1) := dk_44 (dk_at dksJ30_split_6 15 rfl rfl)
theorem dJ30_split_156 : decode cJ30_split 156 = .ok (.iload_n 3, 1) := dk_29 (dk_at dksJ30_split_6 16 rfl rfl)
theorem dJ30_split_157 : decode cJ30_split 157 = .ok (.aload 6, 2) := dk_25 6 (dk_at dksJ30_split_6 17 rfl rfl)
theorem dJ30_split_159 : decode cJ30_split 159 = .ok (.aastore, 1) := dk_83 (dk_at dksJ30_split_6 19 rfl rfl)
theorem dJ30_split_160 : decode cJ30_split 160 = .ok (.aload 8, 2) := dk_25 8 (dk_at dksJ30_split_6 20 rfl rfl)
theorem dJ30_split_162 : decode cJ30_split 162 = .ok (.ifnull 9, 3) := dk_198 0 9 (dk_at dksJ30_split_7 0 rfl rfl)
theorem dJ30_split_165 : decode cJ30_split 165 = .ok (.aload 6, 2) := dk_25 6 (dk_at dksJ30_split_7 3 rfl rfl)
theorem dJ30_split_167 : decode cJ30_split 167 = .ok (.aload_n 2, 1) := dk_44 (dk_at dksJ30_split_7 5 rfl rfl)
theorem dJ30_split_168 : decode cJ30_split 168 = .ok (.invokevirtual 126, 3) := dk_182 0 126 (dk_at dksJ30_split_7 6 rfl rfl)
theorem dJ30_split_171 : decode cJ30_split 171 = .ok (.aload 8, 2) := dk_25 8 (dk_at dksJ30_split_7 9 rfl rfl)
theorem dJ30_split_173 : decode cJ30_split 173 = .ok (.ifnull 44, 3) := dk_198 0 44 (dk_at dksJ30_split_7 11 rfl rfl)
theorem dJ30_split_176 : decode cJ30_split 176 = .ok (.iload 11, 2) := dk_21 11 (dk_at dksJ30_split_7 14 rfl rfl)
theorem dJ30_split_178 : decode cJ30_split 178 = .ok (.bipush 6, 2) := dk_16 6 (dk_at dksJ30_split_7 16 rfl rfl)
theorem dJ30_split_180 : decode cJ30_split 180 = .ok (.if_icmp .gt 18, 3) := dk_163 0 18 (dk_at dksJ30_split_7 18 rfl rfl)
theorem dJ30_split_183 : decode cJ30_split 183 = .ok (.aload_n 2, 1) := dk_44 (dk_at dksJ30_split_7 21 rfl rfl)
theorem dJ30_split_184 : decode cJ30_split 184 = .ok (.iload_n 3, 1) := dk_29 (dk_at dksJ30_split_7 22 rfl rfl)
theorem dJ30_split_185 : decode cJ30_split 185 = .ok (.iload 4, 2) := dk_21 4 (dk_at dksJ30_split_8 0 rfl rfl)
theorem dJ30_split_187 : decode cJ30_split 187 = .ok (.iadd, 1) := dk_96 (dk_at dksJ30_split_8 2 rfl rfl)
theorem dJ30_split_188 : decode cJ30_split 188 = .ok (.aload 8, 2) := dk_25 8 (dk_at dksJ30_split_8 3 rfl rfl)
theorem dJ30_split_190 : decode cJ30_split 190 = .ok (.aload_n 1, 1) := dk_43 (dk_at dksJ30_split_8 5 rfl rfl)
theorem dJ30_split_191 : decode cJ30_split 191 = .ok (.invokevirtual 119, 3) := dk_182 0 119 (dk_at dksJ30_split_8 6 rfl rfl)
theorem dJ30_split_194 : decode cJ30_split 194 = .ok (.aastore, 1) := dk_83 (dk_at dksJ30_split_8 9 rfl rfl)
theorem dJ30_split_195 : decode cJ30_split 195 = .ok (.goto 22, 3) := dk_167 0 22 (dk_at dksJ30_split_8 10 rfl rfl)
theorem dJ30_split_198 : decode cJ30_split 198 = .ok (.aload_n 2, 1) := dk_44 (dk_at dksJ30_split_8 13 rfl rfl)
theorem dJ30_split_199 : decode cJ30_split 199 = .ok (.iload_n 3, 1) := dk_29 (dk_at dksJ30_split_8 14 rfl rfl)
theorem dJ30_split_200 : decode cJ30_split 200 = .ok (.iload 4, 2) := dk_21 4 (dk_at dksJ30_split_8 15 rfl rfl)
theorem dJ30_split_202 : decode cJ30_split 202 = .ok (.iadd, 1) := dk_96 (dk_at dksJ30_split_8 17 rfl rfl)
theorem dJ30_split_203 : decode cJ30_split 203 = .ok (.aload 8, 2) := dk_25 8 (dk_at dksJ30_split_8 18 rfl rfl)
theorem dJ30_split_205 : decode cJ30_split 205 = .ok (.aastore, 1) := dk_83 (dk_at dksJ30_split_8 20 rfl rfl)
theorem dJ30_split_206 : decode cJ30_split 206 = .ok (.aload 6, 2) := dk_25 6 (dk_at dksJ30_split_8 21 rfl rfl)
theorem dJ30_split_208 : decode cJ30_split 208 = .ok (.ifnull 9, 3) := dk_198 0 9 (dk_at dksJ30_split_9 0 rfl rfl)
theorem dJ30_split_211 : decode cJ30_split 211 = .ok (.aload 8, 2) := dk_25 8 (dk_at dksJ30_split_9 3 rfl rfl)
theorem dJ30_split_213 : decode cJ30_split 213 = .ok (.aload_n 2, 1) := dk_44 (dk_at dksJ30_split_9 5 rfl rfl)
theorem dJ30_split_214 : decode cJ30_split 214 = .ok (.invokevirtual 126, 3) := dk_182 0 126 (dk_at dksJ30_split_9 6 rfl rfl)
theorem dJ30_split_217 : decode cJ30_split 217 = .ok (.return_, 1) := dk_177 (dk_at dksJ30_split_9 9 rfl rfl)
abbrev cJ30_untreeify : ByteArray := prog_104_method_8_code
def yJ30_untreeify : MethodName := ⟨RJ30, "untreeify", "(Ljava/util/HashMap;)Ljava/util/HashMap$Node;"⟩
def dkwJ30_untreeify_2 : List UInt8 := [58, 4, 167, 255, 216, 44, 176]
abbrev dktJ30_untreeify_2 : List UInt8 := dkwJ30_untreeify_2 ++ []
def dkwJ30_untreeify_1 : List UInt8 := [199, 0, 9, 25, 5, 77, 167, 0, 9, 45, 25, 5, 181, 0, 112, 25, 5, 78, 25, 4, 180, 0, 112]
abbrev dktJ30_untreeify_1 : List UInt8 := dkwJ30_untreeify_1 ++ dktJ30_untreeify_2
def dkwJ30_untreeify_0 : List UInt8 := [1, 77, 1, 78, 42, 58, 4, 25, 4, 198, 0, 41, 43, 25, 4, 1, 182, 0, 108, 58, 5, 45]
abbrev dktJ30_untreeify_0 : List UInt8 := dkwJ30_untreeify_0 ++ dktJ30_untreeify_1
theorem dksJ30_untreeify_0 : cJ30_untreeify.data.toList.drop 0 = dktJ30_untreeify_0 := by decide +kernel
theorem dksJ30_untreeify_1 : cJ30_untreeify.data.toList.drop 22 = dktJ30_untreeify_1 := dk_seg dksJ30_untreeify_0 22 rfl rfl
theorem dksJ30_untreeify_2 : cJ30_untreeify.data.toList.drop 45 = dktJ30_untreeify_2 := dk_seg dksJ30_untreeify_1 23 rfl rfl
theorem dJ30_untreeify_0 : decode cJ30_untreeify 0 = .ok (.aconst_null, 1) := dk_1 (dk_at dksJ30_untreeify_0 0 rfl rfl)
theorem dJ30_untreeify_1 : decode cJ30_untreeify 1 = .ok (.astore_n 2, 1) := dk_77 (dk_at dksJ30_untreeify_0 1 rfl rfl)
theorem dJ30_untreeify_2 : decode cJ30_untreeify 2 = .ok (.aconst_null, 1) := dk_1 (dk_at dksJ30_untreeify_0 2 rfl rfl)
theorem dJ30_untreeify_3 : decode cJ30_untreeify 3 = .ok (.astore_n 3, 1) := dk_78 (dk_at dksJ30_untreeify_0 3 rfl rfl)
theorem dJ30_untreeify_4 : decode cJ30_untreeify 4 = .ok (.aload_n 0, 1) := dk_42 (dk_at dksJ30_untreeify_0 4 rfl rfl)
theorem dJ30_untreeify_5 : decode cJ30_untreeify 5 = .ok (.astore 4, 2) := dk_58 4 (dk_at dksJ30_untreeify_0 5 rfl rfl)
theorem dJ30_untreeify_7 : decode cJ30_untreeify 7 = .ok (.aload 4, 2) := dk_25 4 (dk_at dksJ30_untreeify_0 7 rfl rfl)
theorem dJ30_untreeify_9 : decode cJ30_untreeify 9 = .ok (.ifnull 41, 3) := dk_198 0 41 (dk_at dksJ30_untreeify_0 9 rfl rfl)
theorem dJ30_untreeify_12 : decode cJ30_untreeify 12 = .ok (.aload_n 1, 1) := dk_43 (dk_at dksJ30_untreeify_0 12 rfl rfl)
theorem dJ30_untreeify_13 : decode cJ30_untreeify 13 = .ok (.aload 4, 2) := dk_25 4 (dk_at dksJ30_untreeify_0 13 rfl rfl)
theorem dJ30_untreeify_15 : decode cJ30_untreeify 15 = .ok (.aconst_null, 1) := dk_1 (dk_at dksJ30_untreeify_0 15 rfl rfl)
theorem dJ30_untreeify_16 : decode cJ30_untreeify 16 = .ok (.invokevirtual 108, 3) := dk_182 0 108 (dk_at dksJ30_untreeify_0 16 rfl rfl)
theorem dJ30_untreeify_19 : decode cJ30_untreeify 19 = .ok (.astore 5, 2) := dk_58 5 (dk_at dksJ30_untreeify_0 19 rfl rfl)
theorem dJ30_untreeify_21 : decode cJ30_untreeify 21 = .ok (.aload_n 3, 1) := dk_45 (dk_at dksJ30_untreeify_0 21 rfl rfl)
theorem dJ30_untreeify_22 : decode cJ30_untreeify 22 = .ok (.ifnonnull 9, 3) := dk_199 0 9 (dk_at dksJ30_untreeify_1 0 rfl rfl)
theorem dJ30_untreeify_25 : decode cJ30_untreeify 25 = .ok (.aload 5, 2) := dk_25 5 (dk_at dksJ30_untreeify_1 3 rfl rfl)
theorem dJ30_untreeify_27 : decode cJ30_untreeify 27 = .ok (.astore_n 2, 1) := dk_77 (dk_at dksJ30_untreeify_1 5 rfl rfl)
theorem dJ30_untreeify_28 : decode cJ30_untreeify 28 = .ok (.goto 9, 3) := dk_167 0 9 (dk_at dksJ30_untreeify_1 6 rfl rfl)
theorem dJ30_untreeify_31 : decode cJ30_untreeify 31 = .ok (.aload_n 3, 1) := dk_45 (dk_at dksJ30_untreeify_1 9 rfl rfl)
theorem dJ30_untreeify_32 : decode cJ30_untreeify 32 = .ok (.aload 5, 2) := dk_25 5 (dk_at dksJ30_untreeify_1 10 rfl rfl)
theorem dJ30_untreeify_34 : decode cJ30_untreeify 34 = .ok (.putfield 112, 3) := dk_181 0 112 (dk_at dksJ30_untreeify_1 12 rfl rfl)
theorem dJ30_untreeify_37 : decode cJ30_untreeify 37 = .ok (.aload 5, 2) := dk_25 5 (dk_at dksJ30_untreeify_1 15 rfl rfl)
theorem dJ30_untreeify_39 : decode cJ30_untreeify 39 = .ok (.astore_n 3, 1) := dk_78 (dk_at dksJ30_untreeify_1 17 rfl rfl)
theorem dJ30_untreeify_40 : decode cJ30_untreeify 40 = .ok (.aload 4, 2) := dk_25 4 (dk_at dksJ30_untreeify_1 18 rfl rfl)
theorem dJ30_untreeify_42 : decode cJ30_untreeify 42 = .ok (.getfield 112, 3) := dk_180 0 112 (dk_at dksJ30_untreeify_1 20 rfl rfl)
theorem dJ30_untreeify_45 : decode cJ30_untreeify 45 = .ok (.astore 4, 2) := dk_58 4 (dk_at dksJ30_untreeify_2 0 rfl rfl)
theorem dJ30_untreeify_47 : decode cJ30_untreeify 47 = .ok (.goto (-40), 3) := dk_167 255 216 (dk_at dksJ30_untreeify_2 2 rfl rfl)
theorem dJ30_untreeify_50 : decode cJ30_untreeify 50 = .ok (.aload_n 2, 1) := dk_44 (dk_at dksJ30_untreeify_2 5 rfl rfl)
theorem dJ30_untreeify_51 : decode cJ30_untreeify 51 = .ok (.areturn, 1) := dk_176 (dk_at dksJ30_untreeify_2 6 rfl rfl)
abbrev cJ30_treeify : ByteArray := prog_104_method_7_code
def yJ30_treeify : MethodName := ⟨RJ30, "treeify", "([Ljava/util/HashMap$Node;)V"⟩
def dkwJ30_treeify_9 : List UInt8 := [25, 4, 78, 167, 255, 48, 43, 44, 184, 0, 104, 177]
abbrev dktJ30_treeify_9 : List UInt8 := dkwJ30_treeify_9 ++ []
def dkwJ30_treeify_8 : List UInt8 := [181, 0, 39, 167, 0, 9, 25, 12, 45, 181, 0, 42, 44, 45, 184, 0, 100, 77, 167, 0, 6, 167, 255, 114]
abbrev dktJ30_treeify_8 : List UInt8 := dkwJ30_treeify_8 ++ dktJ30_treeify_9
def dkwJ30_treeify_7 : List UInt8 := [180, 0, 42, 89, 58, 8, 199, 0, 38, 45, 25, 12, 181, 0, 9, 21, 9, 157, 0, 12, 25, 12, 45]
abbrev dktJ30_treeify_7 : List UInt8 := dkwJ30_treeify_7 ++ dktJ30_treeify_8
def dkwJ30_treeify_6 : List UInt8 := [184, 0, 96, 54, 9, 25, 8, 58, 12, 21, 9, 157, 0, 11, 25, 8, 180, 0, 39, 167, 0, 8, 25, 8]
abbrev dktJ30_treeify_6 : List UInt8 := dkwJ30_treeify_6 ++ dktJ30_treeify_7
def dkwJ30_treeify_5 : List UInt8 := [198, 0, 18, 25, 7, 25, 5, 25, 11, 184, 0, 59, 89, 54, 9, 154, 0, 12, 25, 5, 25, 11]
abbrev dktJ30_treeify_5 : List UInt8 := dkwJ30_treeify_5 ++ dktJ30_treeify_6
def dkwJ30_treeify_4 : List UInt8 := [162, 0, 9, 4, 54, 9, 167, 0, 43, 25, 7, 199, 0, 14, 25, 5, 184, 0, 55, 89, 58, 7]
abbrev dktJ30_treeify_4 : List UInt8 := dkwJ30_treeify_4 ++ dktJ30_treeify_5
def dkwJ30_treeify_3 : List UInt8 := [25, 8, 180, 0, 15, 89, 54, 10, 21, 6, 164, 0, 9, 2, 54, 9, 167, 0, 56, 21, 10, 21, 6]
abbrev dktJ30_treeify_3 : List UInt8 := dkwJ30_treeify_3 ++ dktJ30_treeify_4
def dkwJ30_treeify_2 : List UInt8 := [180, 0, 45, 58, 5, 45, 180, 0, 15, 54, 6, 1, 58, 7, 44, 58, 8, 25, 8, 180, 0, 45, 58, 11]
abbrev dktJ30_treeify_2 : List UInt8 := dkwJ30_treeify_2 ++ dktJ30_treeify_3
def dkwJ30_treeify_1 : List UInt8 := [181, 0, 39, 44, 199, 0, 18, 45, 1, 181, 0, 9, 45, 3, 181, 0, 93, 45, 77, 167, 0, 166, 45]
abbrev dktJ30_treeify_1 : List UInt8 := dkwJ30_treeify_1 ++ dktJ30_treeify_2
def dkwJ30_treeify_0 : List UInt8 := [1, 77, 42, 78, 45, 198, 0, 210, 45, 180, 0, 22, 192, 0, 10, 58, 4, 45, 45, 1, 90, 181, 0, 42]
abbrev dktJ30_treeify_0 : List UInt8 := dkwJ30_treeify_0 ++ dktJ30_treeify_1
theorem dksJ30_treeify_0 : cJ30_treeify.data.toList.drop 0 = dktJ30_treeify_0 := by decide +kernel
theorem dksJ30_treeify_1 : cJ30_treeify.data.toList.drop 24 = dktJ30_treeify_1 := dk_seg dksJ30_treeify_0 24 rfl rfl
theorem dksJ30_treeify_2 : cJ30_treeify.data.toList.drop 47 = dktJ30_treeify_2 := dk_seg dksJ30_treeify_1 23 rfl rfl
theorem dksJ30_treeify_3 : cJ30_treeify.data.toList.drop 71 = dktJ30_treeify_3 := dk_seg dksJ30_treeify_2 24 rfl rfl
theorem dksJ30_treeify_4 : cJ30_treeify.data.toList.drop 94 = dktJ30_treeify_4 := dk_seg dksJ30_treeify_3 23 rfl rfl
theorem dksJ30_treeify_5 : cJ30_treeify.data.toList.drop 116 = dktJ30_treeify_5 := dk_seg dksJ30_treeify_4 22 rfl rfl
theorem dksJ30_treeify_6 : cJ30_treeify.data.toList.drop 138 = dktJ30_treeify_6 := dk_seg dksJ30_treeify_5 22 rfl rfl
theorem dksJ30_treeify_7 : cJ30_treeify.data.toList.drop 162 = dktJ30_treeify_7 := dk_seg dksJ30_treeify_6 24 rfl rfl
theorem dksJ30_treeify_8 : cJ30_treeify.data.toList.drop 185 = dktJ30_treeify_8 := dk_seg dksJ30_treeify_7 23 rfl rfl
theorem dksJ30_treeify_9 : cJ30_treeify.data.toList.drop 209 = dktJ30_treeify_9 := dk_seg dksJ30_treeify_8 24 rfl rfl
theorem dJ30_treeify_0 : decode cJ30_treeify 0 = .ok (.aconst_null, 1) := dk_1 (dk_at dksJ30_treeify_0 0 rfl rfl)
theorem dJ30_treeify_1 : decode cJ30_treeify 1 = .ok (.astore_n 2, 1) := dk_77 (dk_at dksJ30_treeify_0 1 rfl rfl)
theorem dJ30_treeify_2 : decode cJ30_treeify 2 = .ok (.aload_n 0, 1) := dk_42 (dk_at dksJ30_treeify_0 2 rfl rfl)
theorem dJ30_treeify_3 : decode cJ30_treeify 3 = .ok (.astore_n 3, 1) := dk_78 (dk_at dksJ30_treeify_0 3 rfl rfl)
theorem dJ30_treeify_4 : decode cJ30_treeify 4 = .ok (.aload_n 3, 1) := dk_45 (dk_at dksJ30_treeify_0 4 rfl rfl)
theorem dJ30_treeify_5 : decode cJ30_treeify 5 = .ok (.ifnull 210, 3) := dk_198 0 210 (dk_at dksJ30_treeify_0 5 rfl rfl)
theorem dJ30_treeify_8 : decode cJ30_treeify 8 = .ok (.aload_n 3, 1) := dk_45 (dk_at dksJ30_treeify_0 8 rfl rfl)
theorem dJ30_treeify_9 : decode cJ30_treeify 9 = .ok (.getfield 22, 3) := dk_180 0 22 (dk_at dksJ30_treeify_0 9 rfl rfl)
theorem dJ30_treeify_12 : decode cJ30_treeify 12 = .ok (.checkcast 10, 3) := dk_192 0 10 (dk_at dksJ30_treeify_0 12 rfl rfl)
theorem dJ30_treeify_15 : decode cJ30_treeify 15 = .ok (.astore 4, 2) := dk_58 4 (dk_at dksJ30_treeify_0 15 rfl rfl)
theorem dJ30_treeify_17 : decode cJ30_treeify 17 = .ok (.aload_n 3, 1) := dk_45 (dk_at dksJ30_treeify_0 17 rfl rfl)
theorem dJ30_treeify_18 : decode cJ30_treeify 18 = .ok (.aload_n 3, 1) := dk_45 (dk_at dksJ30_treeify_0 18 rfl rfl)
theorem dJ30_treeify_19 : decode cJ30_treeify 19 = .ok (.aconst_null, 1) := dk_1 (dk_at dksJ30_treeify_0 19 rfl rfl)
theorem dJ30_treeify_20 : decode cJ30_treeify 20 = .ok (.dup_x1, 1) := dk_90 (dk_at dksJ30_treeify_0 20 rfl rfl)
theorem dJ30_treeify_21 : decode cJ30_treeify 21 = .ok (.putfield 42, 3) := dk_181 0 42 (dk_at dksJ30_treeify_0 21 rfl rfl)
theorem dJ30_treeify_24 : decode cJ30_treeify 24 = .ok (.putfield 39, 3) := dk_181 0 39 (dk_at dksJ30_treeify_1 0 rfl rfl)
theorem dJ30_treeify_27 : decode cJ30_treeify 27 = .ok (.aload_n 2, 1) := dk_44 (dk_at dksJ30_treeify_1 3 rfl rfl)
theorem dJ30_treeify_28 : decode cJ30_treeify 28 = .ok (.ifnonnull 18, 3) := dk_199 0 18 (dk_at dksJ30_treeify_1 4 rfl rfl)
theorem dJ30_treeify_31 : decode cJ30_treeify 31 = .ok (.aload_n 3, 1) := dk_45 (dk_at dksJ30_treeify_1 7 rfl rfl)
theorem dJ30_treeify_32 : decode cJ30_treeify 32 = .ok (.aconst_null, 1) := dk_1 (dk_at dksJ30_treeify_1 8 rfl rfl)
theorem dJ30_treeify_33 : decode cJ30_treeify 33 = .ok (.putfield 9, 3) := dk_181 0 9 (dk_at dksJ30_treeify_1 9 rfl rfl)
theorem dJ30_treeify_36 : decode cJ30_treeify 36 = .ok (.aload_n 3, 1) := dk_45 (dk_at dksJ30_treeify_1 12 rfl rfl)
theorem dJ30_treeify_37 : decode cJ30_treeify 37 = .ok (.iconst 0, 1) := dk_3 (dk_at dksJ30_treeify_1 13 rfl rfl)
theorem dJ30_treeify_38 : decode cJ30_treeify 38 = .ok (.putfield 93, 3) := dk_181 0 93 (dk_at dksJ30_treeify_1 14 rfl rfl)
theorem dJ30_treeify_41 : decode cJ30_treeify 41 = .ok (.aload_n 3, 1) := dk_45 (dk_at dksJ30_treeify_1 17 rfl rfl)
theorem dJ30_treeify_42 : decode cJ30_treeify 42 = .ok (.astore_n 2, 1) := dk_77 (dk_at dksJ30_treeify_1 18 rfl rfl)
theorem dJ30_treeify_43 : decode cJ30_treeify 43 = .ok (.goto 166, 3) := dk_167 0 166 (dk_at dksJ30_treeify_1 19 rfl rfl)
theorem dJ30_treeify_46 : decode cJ30_treeify 46 = .ok (.aload_n 3, 1) := dk_45 (dk_at dksJ30_treeify_1 22 rfl rfl)
theorem dJ30_treeify_47 : decode cJ30_treeify 47 = .ok (.getfield 45, 3) := dk_180 0 45 (dk_at dksJ30_treeify_2 0 rfl rfl)
theorem dJ30_treeify_50 : decode cJ30_treeify 50 = .ok (.astore 5, 2) := dk_58 5 (dk_at dksJ30_treeify_2 3 rfl rfl)
theorem dJ30_treeify_52 : decode cJ30_treeify 52 = .ok (.aload_n 3, 1) := dk_45 (dk_at dksJ30_treeify_2 5 rfl rfl)
theorem dJ30_treeify_53 : decode cJ30_treeify 53 = .ok (.getfield 15, 3) := dk_180 0 15 (dk_at dksJ30_treeify_2 6 rfl rfl)
theorem dJ30_treeify_56 : decode cJ30_treeify 56 = .ok (.istore 6, 2) := dk_54 6 (dk_at dksJ30_treeify_2 9 rfl rfl)
theorem dJ30_treeify_58 : decode cJ30_treeify 58 = .ok (.aconst_null, 1) := dk_1 (dk_at dksJ30_treeify_2 11 rfl rfl)
theorem dJ30_treeify_59 : decode cJ30_treeify 59 = .ok (.astore 7, 2) := dk_58 7 (dk_at dksJ30_treeify_2 12 rfl rfl)
theorem dJ30_treeify_61 : decode cJ30_treeify 61 = .ok (.aload_n 2, 1) := dk_44 (dk_at dksJ30_treeify_2 14 rfl rfl)
theorem dJ30_treeify_62 : decode cJ30_treeify 62 = .ok (.astore 8, 2) := dk_58 8 (dk_at dksJ30_treeify_2 15 rfl rfl)
theorem dJ30_treeify_64 : decode cJ30_treeify 64 = .ok (.aload 8, 2) := dk_25 8 (dk_at dksJ30_treeify_2 17 rfl rfl)
theorem dJ30_treeify_66 : decode cJ30_treeify 66 = .ok (.getfield 45, 3) := dk_180 0 45 (dk_at dksJ30_treeify_2 19 rfl rfl)
theorem dJ30_treeify_69 : decode cJ30_treeify 69 = .ok (.astore 11, 2) := dk_58 11 (dk_at dksJ30_treeify_2 22 rfl rfl)
theorem dJ30_treeify_71 : decode cJ30_treeify 71 = .ok (.aload 8, 2) := dk_25 8 (dk_at dksJ30_treeify_3 0 rfl rfl)
theorem dJ30_treeify_73 : decode cJ30_treeify 73 = .ok (.getfield 15, 3) := dk_180 0 15 (dk_at dksJ30_treeify_3 2 rfl rfl)
theorem dJ30_treeify_76 : decode cJ30_treeify 76 = .ok (.dup, 1) := dk_89 (dk_at dksJ30_treeify_3 5 rfl rfl)
theorem dJ30_treeify_77 : decode cJ30_treeify 77 = .ok (.istore 10, 2) := dk_54 10 (dk_at dksJ30_treeify_3 6 rfl rfl)
theorem dJ30_treeify_79 : decode cJ30_treeify 79 = .ok (.iload 6, 2) := dk_21 6 (dk_at dksJ30_treeify_3 8 rfl rfl)
theorem dJ30_treeify_81 : decode cJ30_treeify 81 = .ok (.if_icmp .le 9, 3) := dk_164 0 9 (dk_at dksJ30_treeify_3 10 rfl rfl)
theorem dJ30_treeify_84 : decode cJ30_treeify 84 = .ok (.iconst (-1), 1) := dk_2 (dk_at dksJ30_treeify_3 13 rfl rfl)
theorem dJ30_treeify_85 : decode cJ30_treeify 85 = .ok (.istore 9, 2) := dk_54 9 (dk_at dksJ30_treeify_3 14 rfl rfl)
theorem dJ30_treeify_87 : decode cJ30_treeify 87 = .ok (.goto 56, 3) := dk_167 0 56 (dk_at dksJ30_treeify_3 16 rfl rfl)
theorem dJ30_treeify_90 : decode cJ30_treeify 90 = .ok (.iload 10, 2) := dk_21 10 (dk_at dksJ30_treeify_3 19 rfl rfl)
theorem dJ30_treeify_92 : decode cJ30_treeify 92 = .ok (.iload 6, 2) := dk_21 6 (dk_at dksJ30_treeify_3 21 rfl rfl)
theorem dJ30_treeify_94 : decode cJ30_treeify 94 = .ok (.if_icmp .ge 9, 3) := dk_162 0 9 (dk_at dksJ30_treeify_4 0 rfl rfl)
theorem dJ30_treeify_97 : decode cJ30_treeify 97 = .ok (.iconst 1, 1) := dk_4 (dk_at dksJ30_treeify_4 3 rfl rfl)
theorem dJ30_treeify_98 : decode cJ30_treeify 98 = .ok (.istore 9, 2) := dk_54 9 (dk_at dksJ30_treeify_4 4 rfl rfl)
theorem dJ30_treeify_100 : decode cJ30_treeify 100 = .ok (.goto 43, 3) := dk_167 0 43 (dk_at dksJ30_treeify_4 6 rfl rfl)
theorem dJ30_treeify_103 : decode cJ30_treeify 103 = .ok (.aload 7, 2) := dk_25 7 (dk_at dksJ30_treeify_4 9 rfl rfl)
theorem dJ30_treeify_105 : decode cJ30_treeify 105 = .ok (.ifnonnull 14, 3) := dk_199 0 14 (dk_at dksJ30_treeify_4 11 rfl rfl)
theorem dJ30_treeify_108 : decode cJ30_treeify 108 = .ok (.aload 5, 2) := dk_25 5 (dk_at dksJ30_treeify_4 14 rfl rfl)
theorem dJ30_treeify_110 : decode cJ30_treeify 110 = .ok (.invokestatic 55, 3) := dk_184 0 55 (dk_at dksJ30_treeify_4 16 rfl rfl)
theorem dJ30_treeify_113 : decode cJ30_treeify 113 = .ok (.dup, 1) := dk_89 (dk_at dksJ30_treeify_4 19 rfl rfl)
theorem dJ30_treeify_114 : decode cJ30_treeify 114 = .ok (.astore 7, 2) := dk_58 7 (dk_at dksJ30_treeify_4 20 rfl rfl)
theorem dJ30_treeify_116 : decode cJ30_treeify 116 = .ok (.ifnull 18, 3) := dk_198 0 18 (dk_at dksJ30_treeify_5 0 rfl rfl)
theorem dJ30_treeify_119 : decode cJ30_treeify 119 = .ok (.aload 7, 2) := dk_25 7 (dk_at dksJ30_treeify_5 3 rfl rfl)
theorem dJ30_treeify_121 : decode cJ30_treeify 121 = .ok (.aload 5, 2) := dk_25 5 (dk_at dksJ30_treeify_5 5 rfl rfl)
theorem dJ30_treeify_123 : decode cJ30_treeify 123 = .ok (.aload 11, 2) := dk_25 11 (dk_at dksJ30_treeify_5 7 rfl rfl)
theorem dJ30_treeify_125 : decode cJ30_treeify 125 = .ok (.invokestatic 59, 3) := dk_184 0 59 (dk_at dksJ30_treeify_5 9 rfl rfl)
theorem dJ30_treeify_128 : decode cJ30_treeify 128 = .ok (.dup, 1) := dk_89 (dk_at dksJ30_treeify_5 12 rfl rfl)
theorem dJ30_treeify_129 : decode cJ30_treeify 129 = .ok (.istore 9, 2) := dk_54 9 (dk_at dksJ30_treeify_5 13 rfl rfl)
theorem dJ30_treeify_131 : decode cJ30_treeify 131 = .ok (.ifCond .ne 12, 3) := dk_154 0 12 (dk_at dksJ30_treeify_5 15 rfl rfl)
theorem dJ30_treeify_134 : decode cJ30_treeify 134 = .ok (.aload 5, 2) := dk_25 5 (dk_at dksJ30_treeify_5 18 rfl rfl)
theorem dJ30_treeify_136 : decode cJ30_treeify 136 = .ok (.aload 11, 2) := dk_25 11 (dk_at dksJ30_treeify_5 20 rfl rfl)
theorem dJ30_treeify_138 : decode cJ30_treeify 138 = .ok (.invokestatic 96, 3) := dk_184 0 96 (dk_at dksJ30_treeify_6 0 rfl rfl)
theorem dJ30_treeify_141 : decode cJ30_treeify 141 = .ok (.istore 9, 2) := dk_54 9 (dk_at dksJ30_treeify_6 3 rfl rfl)
theorem dJ30_treeify_143 : decode cJ30_treeify 143 = .ok (.aload 8, 2) := dk_25 8 (dk_at dksJ30_treeify_6 5 rfl rfl)
theorem dJ30_treeify_145 : decode cJ30_treeify 145 = .ok (.astore 12, 2) := dk_58 12 (dk_at dksJ30_treeify_6 7 rfl rfl)
theorem dJ30_treeify_147 : decode cJ30_treeify 147 = .ok (.iload 9, 2) := dk_21 9 (dk_at dksJ30_treeify_6 9 rfl rfl)
theorem dJ30_treeify_149 : decode cJ30_treeify 149 = .ok (.ifCond .gt 11, 3) := dk_157 0 11 (dk_at dksJ30_treeify_6 11 rfl rfl)
theorem dJ30_treeify_152 : decode cJ30_treeify 152 = .ok (.aload 8, 2) := dk_25 8 (dk_at dksJ30_treeify_6 14 rfl rfl)
theorem dJ30_treeify_154 : decode cJ30_treeify 154 = .ok (.getfield 39, 3) := dk_180 0 39 (dk_at dksJ30_treeify_6 16 rfl rfl)
theorem dJ30_treeify_157 : decode cJ30_treeify 157 = .ok (.goto 8, 3) := dk_167 0 8 (dk_at dksJ30_treeify_6 19 rfl rfl)
theorem dJ30_treeify_160 : decode cJ30_treeify 160 = .ok (.aload 8, 2) := dk_25 8 (dk_at dksJ30_treeify_6 22 rfl rfl)
theorem dJ30_treeify_162 : decode cJ30_treeify 162 = .ok (.getfield 42, 3) := dk_180 0 42 (dk_at dksJ30_treeify_7 0 rfl rfl)
theorem dJ30_treeify_165 : decode cJ30_treeify 165 = .ok (.dup, 1) := dk_89 (dk_at dksJ30_treeify_7 3 rfl rfl)
theorem dJ30_treeify_166 : decode cJ30_treeify 166 = .ok (.astore 8, 2) := dk_58 8 (dk_at dksJ30_treeify_7 4 rfl rfl)
theorem dJ30_treeify_168 : decode cJ30_treeify 168 = .ok (.ifnonnull 38, 3) := dk_199 0 38 (dk_at dksJ30_treeify_7 6 rfl rfl)
theorem dJ30_treeify_171 : decode cJ30_treeify 171 = .ok (.aload_n 3, 1) := dk_45 (dk_at dksJ30_treeify_7 9 rfl rfl)
theorem dJ30_treeify_172 : decode cJ30_treeify 172 = .ok (.aload 12, 2) := dk_25 12 (dk_at dksJ30_treeify_7 10 rfl rfl)
theorem dJ30_treeify_174 : decode cJ30_treeify 174 = .ok (.putfield 9, 3) := dk_181 0 9 (dk_at dksJ30_treeify_7 12 rfl rfl)
theorem dJ30_treeify_177 : decode cJ30_treeify 177 = .ok (.iload 9, 2) := dk_21 9 (dk_at dksJ30_treeify_7 15 rfl rfl)
theorem dJ30_treeify_179 : decode cJ30_treeify 179 = .ok (.ifCond .gt 12, 3) := dk_157 0 12 (dk_at dksJ30_treeify_7 17 rfl rfl)
theorem dJ30_treeify_182 : decode cJ30_treeify 182 = .ok (.aload 12, 2) := dk_25 12 (dk_at dksJ30_treeify_7 20 rfl rfl)
theorem dJ30_treeify_184 : decode cJ30_treeify 184 = .ok (.aload_n 3, 1) := dk_45 (dk_at dksJ30_treeify_7 22 rfl rfl)
theorem dJ30_treeify_185 : decode cJ30_treeify 185 = .ok (.putfield 39, 3) := dk_181 0 39 (dk_at dksJ30_treeify_8 0 rfl rfl)
theorem dJ30_treeify_188 : decode cJ30_treeify 188 = .ok (.goto 9, 3) := dk_167 0 9 (dk_at dksJ30_treeify_8 3 rfl rfl)
theorem dJ30_treeify_191 : decode cJ30_treeify 191 = .ok (.aload 12, 2) := dk_25 12 (dk_at dksJ30_treeify_8 6 rfl rfl)
theorem dJ30_treeify_193 : decode cJ30_treeify 193 = .ok (.aload_n 3, 1) := dk_45 (dk_at dksJ30_treeify_8 8 rfl rfl)
theorem dJ30_treeify_194 : decode cJ30_treeify 194 = .ok (.putfield 42, 3) := dk_181 0 42 (dk_at dksJ30_treeify_8 9 rfl rfl)
theorem dJ30_treeify_197 : decode cJ30_treeify 197 = .ok (.aload_n 2, 1) := dk_44 (dk_at dksJ30_treeify_8 12 rfl rfl)
theorem dJ30_treeify_198 : decode cJ30_treeify 198 = .ok (.aload_n 3, 1) := dk_45 (dk_at dksJ30_treeify_8 13 rfl rfl)
theorem dJ30_treeify_199 : decode cJ30_treeify 199 = .ok (.invokestatic 100, 3) := dk_184 0 100 (dk_at dksJ30_treeify_8 14 rfl rfl)
theorem dJ30_treeify_202 : decode cJ30_treeify 202 = .ok (.astore_n 2, 1) := dk_77 (dk_at dksJ30_treeify_8 17 rfl rfl)
theorem dJ30_treeify_203 : decode cJ30_treeify 203 = .ok (.goto 6, 3) := dk_167 0 6 (dk_at dksJ30_treeify_8 18 rfl rfl)
theorem dJ30_treeify_206 : decode cJ30_treeify 206 = .ok (.goto (-142), 3) := dk_167 255 114 (dk_at dksJ30_treeify_8 21 rfl rfl)
theorem dJ30_treeify_209 : decode cJ30_treeify 209 = .ok (.aload 4, 2) := dk_25 4 (dk_at dksJ30_treeify_9 0 rfl rfl)
theorem dJ30_treeify_211 : decode cJ30_treeify 211 = .ok (.astore_n 3, 1) := dk_78 (dk_at dksJ30_treeify_9 2 rfl rfl)
theorem dJ30_treeify_212 : decode cJ30_treeify 212 = .ok (.goto (-208), 3) := dk_167 255 48 (dk_at dksJ30_treeify_9 3 rfl rfl)
theorem dJ30_treeify_215 : decode cJ30_treeify 215 = .ok (.aload_n 1, 1) := dk_43 (dk_at dksJ30_treeify_9 6 rfl rfl)
theorem dJ30_treeify_216 : decode cJ30_treeify 216 = .ok (.aload_n 2, 1) := dk_44 (dk_at dksJ30_treeify_9 7 rfl rfl)
theorem dJ30_treeify_217 : decode cJ30_treeify 217 = .ok (.invokestatic 104, 3) := dk_184 0 104 (dk_at dksJ30_treeify_9 8 rfl rfl)
theorem dJ30_treeify_220 : decode cJ30_treeify 220 = .ok (.return_, 1) := dk_177 (dk_at dksJ30_treeify_9 11 rfl rfl)
abbrev cJ30_balanceInsertion : ByteArray := prog_104_method_14_code
def yJ30_balanceInsertion : MethodName := ⟨RJ30, "balanceInsertion", "(Ljava/util/HashMap$TreeNode;Ljava/util/HashMap$TreeNode;)Ljava/util/HashMap$TreeNode;"⟩
def dkwJ30_balanceInsertion_10 : List UInt8 := [198, 255, 33, 45, 4, 181, 0, 93, 42, 45, 184, 0, 130, 75, 167, 255, 19]
abbrev dktJ30_balanceInsertion_10 : List UInt8 := dkwJ30_balanceInsertion_10 ++ []
def dkwJ30_balanceInsertion_9 : List UInt8 := [199, 0, 7, 1, 167, 0, 7, 44, 180, 0, 9, 78, 44, 198, 255, 42, 44, 3, 181, 0, 93, 45]
abbrev dktJ30_balanceInsertion_9 : List UInt8 := dkwJ30_balanceInsertion_9 ++ dktJ30_balanceInsertion_10
def dkwJ30_balanceInsertion_8 : List UInt8 := [43, 44, 180, 0, 39, 166, 0, 29, 42, 44, 89, 76, 184, 0, 133, 75, 43, 180, 0, 9, 89, 77]
abbrev dktJ30_balanceInsertion_8 : List UInt8 := dkwJ30_balanceInsertion_8 ++ dktJ30_balanceInsertion_9
def dkwJ30_balanceInsertion_7 : List UInt8 := [153, 0, 24, 25, 4, 3, 181, 0, 93, 44, 3, 181, 0, 93, 45, 4, 181, 0, 93, 45, 76, 167, 255, 80]
abbrev dktJ30_balanceInsertion_7 : List UInt8 := dkwJ30_balanceInsertion_7 ++ dktJ30_balanceInsertion_8
def dkwJ30_balanceInsertion_6 : List UInt8 := [181, 0, 93, 42, 45, 184, 0, 133, 75, 167, 255, 114, 25, 4, 198, 0, 32, 25, 4, 180, 0, 93]
abbrev dktJ30_balanceInsertion_6 : List UInt8 := dkwJ30_balanceInsertion_6 ++ dktJ30_balanceInsertion_7
def dkwJ30_balanceInsertion_5 : List UInt8 := [167, 0, 7, 44, 180, 0, 9, 78, 44, 198, 255, 137, 44, 3, 181, 0, 93, 45, 198, 255, 128, 45, 4]
abbrev dktJ30_balanceInsertion_5 : List UInt8 := dkwJ30_balanceInsertion_5 ++ dktJ30_balanceInsertion_6
def dkwJ30_balanceInsertion_4 : List UInt8 := [180, 0, 42, 166, 0, 29, 42, 44, 89, 76, 184, 0, 130, 75, 43, 180, 0, 9, 89, 77, 199, 0, 7, 1]
abbrev dktJ30_balanceInsertion_4 : List UInt8 := dkwJ30_balanceInsertion_4 ++ dktJ30_balanceInsertion_5
def dkwJ30_balanceInsertion_3 : List UInt8 := [25, 5, 3, 181, 0, 93, 44, 3, 181, 0, 93, 45, 4, 181, 0, 93, 45, 76, 167, 255, 175, 43, 44]
abbrev dktJ30_balanceInsertion_3 : List UInt8 := dkwJ30_balanceInsertion_3 ++ dktJ30_balanceInsertion_4
def dkwJ30_balanceInsertion_2 : List UInt8 := [58, 4, 166, 0, 103, 45, 180, 0, 42, 89, 58, 5, 198, 0, 32, 25, 5, 180, 0, 93, 153, 0, 24]
abbrev dktJ30_balanceInsertion_2 : List UInt8 := dkwJ30_balanceInsertion_2 ++ dktJ30_balanceInsertion_3
def dkwJ30_balanceInsertion_1 : List UInt8 := [180, 0, 93, 153, 0, 12, 44, 180, 0, 9, 89, 78, 199, 0, 5, 42, 176, 44, 45, 180, 0, 39, 89]
abbrev dktJ30_balanceInsertion_1 : List UInt8 := dkwJ30_balanceInsertion_1 ++ dktJ30_balanceInsertion_2
def dkwJ30_balanceInsertion_0 : List UInt8 := [43, 4, 181, 0, 93, 43, 180, 0, 9, 89, 77, 199, 0, 10, 43, 3, 181, 0, 93, 43, 176, 44]
abbrev dktJ30_balanceInsertion_0 : List UInt8 := dkwJ30_balanceInsertion_0 ++ dktJ30_balanceInsertion_1
theorem dksJ30_balanceInsertion_0 : cJ30_balanceInsertion.data.toList.drop 0 = dktJ30_balanceInsertion_0 := by decide +kernel
theorem dksJ30_balanceInsertion_1 : cJ30_balanceInsertion.data.toList.drop 22 = dktJ30_balanceInsertion_1 := dk_seg dksJ30_balanceInsertion_0 22 rfl rfl
theorem dksJ30_balanceInsertion_2 : cJ30_balanceInsertion.data.toList.drop 45 = dktJ30_balanceInsertion_2 := dk_seg dksJ30_balanceInsertion_1 23 rfl rfl
theorem dksJ30_balanceInsertion_3 : cJ30_balanceInsertion.data.toList.drop 68 = dktJ30_balanceInsertion_3 := dk_seg dksJ30_balanceInsertion_2 23 rfl rfl
theorem dksJ30_balanceInsertion_4 : cJ30_balanceInsertion.data.toList.drop 91 = dktJ30_balanceInsertion_4 := dk_seg dksJ30_balanceInsertion_3 23 rfl rfl
theorem dksJ30_balanceInsertion_5 : cJ30_balanceInsertion.data.toList.drop 115 = dktJ30_balanceInsertion_5 := dk_seg dksJ30_balanceInsertion_4 24 rfl rfl
theorem dksJ30_balanceInsertion_6 : cJ30_balanceInsertion.data.toList.drop 138 = dktJ30_balanceInsertion_6 := dk_seg dksJ30_balanceInsertion_5 23 rfl rfl
theorem dksJ30_balanceInsertion_7 : cJ30_balanceInsertion.data.toList.drop 160 = dktJ30_balanceInsertion_7 := dk_seg dksJ30_balanceInsertion_6 22 rfl rfl
theorem dksJ30_balanceInsertion_8 : cJ30_balanceInsertion.data.toList.drop 184 = dktJ30_balanceInsertion_8 := dk_seg dksJ30_balanceInsertion_7 24 rfl rfl
theorem dksJ30_balanceInsertion_9 : cJ30_balanceInsertion.data.toList.drop 206 = dktJ30_balanceInsertion_9 := dk_seg dksJ30_balanceInsertion_8 22 rfl rfl
theorem dksJ30_balanceInsertion_10 : cJ30_balanceInsertion.data.toList.drop 228 = dktJ30_balanceInsertion_10 := dk_seg dksJ30_balanceInsertion_9 22 rfl rfl
theorem dJ30_balanceInsertion_0 : decode cJ30_balanceInsertion 0 = .ok (.aload_n 1, 1) := dk_43 (dk_at dksJ30_balanceInsertion_0 0 rfl rfl)
theorem dJ30_balanceInsertion_1 : decode cJ30_balanceInsertion 1 = .ok (.iconst 1, 1) := dk_4 (dk_at dksJ30_balanceInsertion_0 1 rfl rfl)
theorem dJ30_balanceInsertion_2 : decode cJ30_balanceInsertion 2 = .ok (.putfield 93, 3) := dk_181 0 93 (dk_at dksJ30_balanceInsertion_0 2 rfl rfl)
theorem dJ30_balanceInsertion_5 : decode cJ30_balanceInsertion 5 = .ok (.aload_n 1, 1) := dk_43 (dk_at dksJ30_balanceInsertion_0 5 rfl rfl)
theorem dJ30_balanceInsertion_6 : decode cJ30_balanceInsertion 6 = .ok (.getfield 9, 3) := dk_180 0 9 (dk_at dksJ30_balanceInsertion_0 6 rfl rfl)
theorem dJ30_balanceInsertion_9 : decode cJ30_balanceInsertion 9 = .ok (.dup, 1) := dk_89 (dk_at dksJ30_balanceInsertion_0 9 rfl rfl)
theorem dJ30_balanceInsertion_10 : decode cJ30_balanceInsertion 10 = .ok (.astore_n 2, 1) := dk_77 (dk_at dksJ30_balanceInsertion_0 10 rfl rfl)
theorem dJ30_balanceInsertion_11 : decode cJ30_balanceInsertion 11 = .ok (.ifnonnull 10, 3) := dk_199 0 10 (dk_at dksJ30_balanceInsertion_0 11 rfl rfl)
theorem dJ30_balanceInsertion_14 : decode cJ30_balanceInsertion 14 = .ok (.aload_n 1, 1) := dk_43 (dk_at dksJ30_balanceInsertion_0 14 rfl rfl)
theorem dJ30_balanceInsertion_15 : decode cJ30_balanceInsertion 15 = .ok (.iconst 0, 1) := dk_3 (dk_at dksJ30_balanceInsertion_0 15 rfl rfl)
theorem dJ30_balanceInsertion_16 : decode cJ30_balanceInsertion 16 = .ok (.putfield 93, 3) := dk_181 0 93 (dk_at dksJ30_balanceInsertion_0 16 rfl rfl)
theorem dJ30_balanceInsertion_19 : decode cJ30_balanceInsertion 19 = .ok (.aload_n 1, 1) := dk_43 (dk_at dksJ30_balanceInsertion_0 19 rfl rfl)
theorem dJ30_balanceInsertion_20 : decode cJ30_balanceInsertion 20 = .ok (.areturn, 1) := dk_176 (dk_at dksJ30_balanceInsertion_0 20 rfl rfl)
theorem dJ30_balanceInsertion_21 : decode cJ30_balanceInsertion 21 = .ok (.aload_n 2, 1) := dk_44 (dk_at dksJ30_balanceInsertion_0 21 rfl rfl)
theorem dJ30_balanceInsertion_22 : decode cJ30_balanceInsertion 22 = .ok (.getfield 93, 3) := dk_180 0 93 (dk_at dksJ30_balanceInsertion_1 0 rfl rfl)
theorem dJ30_balanceInsertion_25 : decode cJ30_balanceInsertion 25 = .ok (.ifCond .eq 12, 3) := dk_153 0 12 (dk_at dksJ30_balanceInsertion_1 3 rfl rfl)
theorem dJ30_balanceInsertion_28 : decode cJ30_balanceInsertion 28 = .ok (.aload_n 2, 1) := dk_44 (dk_at dksJ30_balanceInsertion_1 6 rfl rfl)
theorem dJ30_balanceInsertion_29 : decode cJ30_balanceInsertion 29 = .ok (.getfield 9, 3) := dk_180 0 9 (dk_at dksJ30_balanceInsertion_1 7 rfl rfl)
theorem dJ30_balanceInsertion_32 : decode cJ30_balanceInsertion 32 = .ok (.dup, 1) := dk_89 (dk_at dksJ30_balanceInsertion_1 10 rfl rfl)
theorem dJ30_balanceInsertion_33 : decode cJ30_balanceInsertion 33 = .ok (.astore_n 3, 1) := dk_78 (dk_at dksJ30_balanceInsertion_1 11 rfl rfl)
theorem dJ30_balanceInsertion_34 : decode cJ30_balanceInsertion 34 = .ok (.ifnonnull 5, 3) := dk_199 0 5 (dk_at dksJ30_balanceInsertion_1 12 rfl rfl)
theorem dJ30_balanceInsertion_37 : decode cJ30_balanceInsertion 37 = .ok (.aload_n 0, 1) := dk_42 (dk_at dksJ30_balanceInsertion_1 15 rfl rfl)
theorem dJ30_balanceInsertion_38 : decode cJ30_balanceInsertion 38 = .ok (.areturn, 1) := dk_176 (dk_at dksJ30_balanceInsertion_1 16 rfl rfl)
theorem dJ30_balanceInsertion_39 : decode cJ30_balanceInsertion 39 = .ok (.aload_n 2, 1) := dk_44 (dk_at dksJ30_balanceInsertion_1 17 rfl rfl)
theorem dJ30_balanceInsertion_40 : decode cJ30_balanceInsertion 40 = .ok (.aload_n 3, 1) := dk_45 (dk_at dksJ30_balanceInsertion_1 18 rfl rfl)
theorem dJ30_balanceInsertion_41 : decode cJ30_balanceInsertion 41 = .ok (.getfield 39, 3) := dk_180 0 39 (dk_at dksJ30_balanceInsertion_1 19 rfl rfl)
theorem dJ30_balanceInsertion_44 : decode cJ30_balanceInsertion 44 = .ok (.dup, 1) := dk_89 (dk_at dksJ30_balanceInsertion_1 22 rfl rfl)
theorem dJ30_balanceInsertion_45 : decode cJ30_balanceInsertion 45 = .ok (.astore 4, 2) := dk_58 4 (dk_at dksJ30_balanceInsertion_2 0 rfl rfl)
theorem dJ30_balanceInsertion_47 : decode cJ30_balanceInsertion 47 = .ok (.if_acmp .ne 103, 3) := dk_166 0 103 (dk_at dksJ30_balanceInsertion_2 2 rfl rfl)
theorem dJ30_balanceInsertion_50 : decode cJ30_balanceInsertion 50 = .ok (.aload_n 3, 1) := dk_45 (dk_at dksJ30_balanceInsertion_2 5 rfl rfl)
theorem dJ30_balanceInsertion_51 : decode cJ30_balanceInsertion 51 = .ok (.getfield 42, 3) := dk_180 0 42 (dk_at dksJ30_balanceInsertion_2 6 rfl rfl)
theorem dJ30_balanceInsertion_54 : decode cJ30_balanceInsertion 54 = .ok (.dup, 1) := dk_89 (dk_at dksJ30_balanceInsertion_2 9 rfl rfl)
theorem dJ30_balanceInsertion_55 : decode cJ30_balanceInsertion 55 = .ok (.astore 5, 2) := dk_58 5 (dk_at dksJ30_balanceInsertion_2 10 rfl rfl)
theorem dJ30_balanceInsertion_57 : decode cJ30_balanceInsertion 57 = .ok (.ifnull 32, 3) := dk_198 0 32 (dk_at dksJ30_balanceInsertion_2 12 rfl rfl)
theorem dJ30_balanceInsertion_60 : decode cJ30_balanceInsertion 60 = .ok (.aload 5, 2) := dk_25 5 (dk_at dksJ30_balanceInsertion_2 15 rfl rfl)
theorem dJ30_balanceInsertion_62 : decode cJ30_balanceInsertion 62 = .ok (.getfield 93, 3) := dk_180 0 93 (dk_at dksJ30_balanceInsertion_2 17 rfl rfl)
theorem dJ30_balanceInsertion_65 : decode cJ30_balanceInsertion 65 = .ok (.ifCond .eq 24, 3) := dk_153 0 24 (dk_at dksJ30_balanceInsertion_2 20 rfl rfl)
theorem dJ30_balanceInsertion_68 : decode cJ30_balanceInsertion 68 = .ok (.aload 5, 2) := dk_25 5 (dk_at dksJ30_balanceInsertion_3 0 rfl rfl)
theorem dJ30_balanceInsertion_70 : decode cJ30_balanceInsertion 70 = .ok (.iconst 0, 1) := dk_3 (dk_at dksJ30_balanceInsertion_3 2 rfl rfl)
theorem dJ30_balanceInsertion_71 : decode cJ30_balanceInsertion 71 = .ok (.putfield 93, 3) := dk_181 0 93 (dk_at dksJ30_balanceInsertion_3 3 rfl rfl)
theorem dJ30_balanceInsertion_74 : decode cJ30_balanceInsertion 74 = .ok (.aload_n 2, 1) := dk_44 (dk_at dksJ30_balanceInsertion_3 6 rfl rfl)
theorem dJ30_balanceInsertion_75 : decode cJ30_balanceInsertion 75 = .ok (.iconst 0, 1) := dk_3 (dk_at dksJ30_balanceInsertion_3 7 rfl rfl)
theorem dJ30_balanceInsertion_76 : decode cJ30_balanceInsertion 76 = .ok (.putfield 93, 3) := dk_181 0 93 (dk_at dksJ30_balanceInsertion_3 8 rfl rfl)
theorem dJ30_balanceInsertion_79 : decode cJ30_balanceInsertion 79 = .ok (.aload_n 3, 1) := dk_45 (dk_at dksJ30_balanceInsertion_3 11 rfl rfl)
theorem dJ30_balanceInsertion_80 : decode cJ30_balanceInsertion 80 = .ok (.iconst 1, 1) := dk_4 (dk_at dksJ30_balanceInsertion_3 12 rfl rfl)
theorem dJ30_balanceInsertion_81 : decode cJ30_balanceInsertion 81 = .ok (.putfield 93, 3) := dk_181 0 93 (dk_at dksJ30_balanceInsertion_3 13 rfl rfl)
theorem dJ30_balanceInsertion_84 : decode cJ30_balanceInsertion 84 = .ok (.aload_n 3, 1) := dk_45 (dk_at dksJ30_balanceInsertion_3 16 rfl rfl)
theorem dJ30_balanceInsertion_85 : decode cJ30_balanceInsertion 85 = .ok (.astore_n 1, 1) := dk_76 (dk_at dksJ30_balanceInsertion_3 17 rfl rfl)
theorem dJ30_balanceInsertion_86 : decode cJ30_balanceInsertion 86 = .ok (.goto (-81), 3) := dk_167 255 175 (dk_at dksJ30_balanceInsertion_3 18 rfl rfl)
theorem dJ30_balanceInsertion_89 : decode cJ30_balanceInsertion 89 = .ok (.aload_n 1, 1) := dk_43 (dk_at dksJ30_balanceInsertion_3 21 rfl rfl)
theorem dJ30_balanceInsertion_90 : decode cJ30_balanceInsertion 90 = .ok (.aload_n 2, 1) := dk_44 (dk_at dksJ30_balanceInsertion_3 22 rfl rfl)
theorem dJ30_balanceInsertion_91 : decode cJ30_balanceInsertion 91 = .ok (.getfield 42, 3) := dk_180 0 42 (dk_at dksJ30_balanceInsertion_4 0 rfl rfl)
theorem dJ30_balanceInsertion_94 : decode cJ30_balanceInsertion 94 = .ok (.if_acmp .ne 29, 3) := dk_166 0 29 (dk_at dksJ30_balanceInsertion_4 3 rfl rfl)
theorem dJ30_balanceInsertion_97 : decode cJ30_balanceInsertion 97 = .ok (.aload_n 0, 1) := dk_42 (dk_at dksJ30_balanceInsertion_4 6 rfl rfl)
theorem dJ30_balanceInsertion_98 : decode cJ30_balanceInsertion 98 = .ok (.aload_n 2, 1) := dk_44 (dk_at dksJ30_balanceInsertion_4 7 rfl rfl)
theorem dJ30_balanceInsertion_99 : decode cJ30_balanceInsertion 99 = .ok (.dup, 1) := dk_89 (dk_at dksJ30_balanceInsertion_4 8 rfl rfl)
theorem dJ30_balanceInsertion_100 : decode cJ30_balanceInsertion 100 = .ok (.astore_n 1, 1) := dk_76 (dk_at dksJ30_balanceInsertion_4 9 rfl rfl)
theorem dJ30_balanceInsertion_101 : decode cJ30_balanceInsertion 101 = .ok (.invokestatic 130, 3) := dk_184 0 130 (dk_at dksJ30_balanceInsertion_4 10 rfl rfl)
theorem dJ30_balanceInsertion_104 : decode cJ30_balanceInsertion 104 = .ok (.astore_n 0, 1) := dk_75 (dk_at dksJ30_balanceInsertion_4 13 rfl rfl)
theorem dJ30_balanceInsertion_105 : decode cJ30_balanceInsertion 105 = .ok (.aload_n 1, 1) := dk_43 (dk_at dksJ30_balanceInsertion_4 14 rfl rfl)
theorem dJ30_balanceInsertion_106 : decode cJ30_balanceInsertion 106 = .ok (.getfield 9, 3) := dk_180 0 9 (dk_at dksJ30_balanceInsertion_4 15 rfl rfl)
theorem dJ30_balanceInsertion_109 : decode cJ30_balanceInsertion 109 = .ok (.dup, 1) := dk_89 (dk_at dksJ30_balanceInsertion_4 18 rfl rfl)
theorem dJ30_balanceInsertion_110 : decode cJ30_balanceInsertion 110 = .ok (.astore_n 2, 1) := dk_77 (dk_at dksJ30_balanceInsertion_4 19 rfl rfl)
theorem dJ30_balanceInsertion_111 : decode cJ30_balanceInsertion 111 = .ok (.ifnonnull 7, 3) := dk_199 0 7 (dk_at dksJ30_balanceInsertion_4 20 rfl rfl)
theorem dJ30_balanceInsertion_114 : decode cJ30_balanceInsertion 114 = .ok (.aconst_null, 1) := dk_1 (dk_at dksJ30_balanceInsertion_4 23 rfl rfl)
theorem dJ30_balanceInsertion_115 : decode cJ30_balanceInsertion 115 = .ok (.goto 7, 3) := dk_167 0 7 (dk_at dksJ30_balanceInsertion_5 0 rfl rfl)
theorem dJ30_balanceInsertion_118 : decode cJ30_balanceInsertion 118 = .ok (.aload_n 2, 1) := dk_44 (dk_at dksJ30_balanceInsertion_5 3 rfl rfl)
theorem dJ30_balanceInsertion_119 : decode cJ30_balanceInsertion 119 = .ok (.getfield 9, 3) := dk_180 0 9 (dk_at dksJ30_balanceInsertion_5 4 rfl rfl)
theorem dJ30_balanceInsertion_122 : decode cJ30_balanceInsertion 122 = .ok (.astore_n 3, 1) := dk_78 (dk_at dksJ30_balanceInsertion_5 7 rfl rfl)
theorem dJ30_balanceInsertion_123 : decode cJ30_balanceInsertion 123 = .ok (.aload_n 2, 1) := dk_44 (dk_at dksJ30_balanceInsertion_5 8 rfl rfl)
theorem dJ30_balanceInsertion_124 : decode cJ30_balanceInsertion 124 = .ok (.ifnull (-119), 3) := dk_198 255 137 (dk_at dksJ30_balanceInsertion_5 9 rfl rfl)
theorem dJ30_balanceInsertion_127 : decode cJ30_balanceInsertion 127 = .ok (.aload_n 2, 1) := dk_44 (dk_at dksJ30_balanceInsertion_5 12 rfl rfl)
theorem dJ30_balanceInsertion_128 : decode cJ30_balanceInsertion 128 = .ok (.iconst 0, 1) := dk_3 (dk_at dksJ30_balanceInsertion_5 13 rfl rfl)
theorem dJ30_balanceInsertion_129 : decode cJ30_balanceInsertion 129 = .ok (.putfield 93, 3) := dk_181 0 93 (dk_at dksJ30_balanceInsertion_5 14 rfl rfl)
theorem dJ30_balanceInsertion_132 : decode cJ30_balanceInsertion 132 = .ok (.aload_n 3, 1) := dk_45 (dk_at dksJ30_balanceInsertion_5 17 rfl rfl)
theorem dJ30_balanceInsertion_133 : decode cJ30_balanceInsertion 133 = .ok (.ifnull (-128), 3) := dk_198 255 128 (dk_at dksJ30_balanceInsertion_5 18 rfl rfl)
theorem dJ30_balanceInsertion_136 : decode cJ30_balanceInsertion 136 = .ok (.aload_n 3, 1) := dk_45 (dk_at dksJ30_balanceInsertion_5 21 rfl rfl)
theorem dJ30_balanceInsertion_137 : decode cJ30_balanceInsertion 137 = .ok (.iconst 1, 1) := dk_4 (dk_at dksJ30_balanceInsertion_5 22 rfl rfl)
theorem dJ30_balanceInsertion_138 : decode cJ30_balanceInsertion 138 = .ok (.putfield 93, 3) := dk_181 0 93 (dk_at dksJ30_balanceInsertion_6 0 rfl rfl)
theorem dJ30_balanceInsertion_141 : decode cJ30_balanceInsertion 141 = .ok (.aload_n 0, 1) := dk_42 (dk_at dksJ30_balanceInsertion_6 3 rfl rfl)
theorem dJ30_balanceInsertion_142 : decode cJ30_balanceInsertion 142 = .ok (.aload_n 3, 1) := dk_45 (dk_at dksJ30_balanceInsertion_6 4 rfl rfl)
theorem dJ30_balanceInsertion_143 : decode cJ30_balanceInsertion 143 = .ok (.invokestatic 133, 3) := dk_184 0 133 (dk_at dksJ30_balanceInsertion_6 5 rfl rfl)
theorem dJ30_balanceInsertion_146 : decode cJ30_balanceInsertion 146 = .ok (.astore_n 0, 1) := dk_75 (dk_at dksJ30_balanceInsertion_6 8 rfl rfl)
theorem dJ30_balanceInsertion_147 : decode cJ30_balanceInsertion 147 = .ok (.goto (-142), 3) := dk_167 255 114 (dk_at dksJ30_balanceInsertion_6 9 rfl rfl)
theorem dJ30_balanceInsertion_150 : decode cJ30_balanceInsertion 150 = .ok (.aload 4, 2) := dk_25 4 (dk_at dksJ30_balanceInsertion_6 12 rfl rfl)
theorem dJ30_balanceInsertion_152 : decode cJ30_balanceInsertion 152 = .ok (.ifnull 32, 3) := dk_198 0 32 (dk_at dksJ30_balanceInsertion_6 14 rfl rfl)
theorem dJ30_balanceInsertion_155 : decode cJ30_balanceInsertion 155 = .ok (.aload 4, 2) := dk_25 4 (dk_at dksJ30_balanceInsertion_6 17 rfl rfl)
theorem dJ30_balanceInsertion_157 : decode cJ30_balanceInsertion 157 = .ok (.getfield 93, 3) := dk_180 0 93 (dk_at dksJ30_balanceInsertion_6 19 rfl rfl)
theorem dJ30_balanceInsertion_160 : decode cJ30_balanceInsertion 160 = .ok (.ifCond .eq 24, 3) := dk_153 0 24 (dk_at dksJ30_balanceInsertion_7 0 rfl rfl)
theorem dJ30_balanceInsertion_163 : decode cJ30_balanceInsertion 163 = .ok (.aload 4, 2) := dk_25 4 (dk_at dksJ30_balanceInsertion_7 3 rfl rfl)
theorem dJ30_balanceInsertion_165 : decode cJ30_balanceInsertion 165 = .ok (.iconst 0, 1) := dk_3 (dk_at dksJ30_balanceInsertion_7 5 rfl rfl)
theorem dJ30_balanceInsertion_166 : decode cJ30_balanceInsertion 166 = .ok (.putfield 93, 3) := dk_181 0 93 (dk_at dksJ30_balanceInsertion_7 6 rfl rfl)
theorem dJ30_balanceInsertion_169 : decode cJ30_balanceInsertion 169 = .ok (.aload_n 2, 1) := dk_44 (dk_at dksJ30_balanceInsertion_7 9 rfl rfl)
theorem dJ30_balanceInsertion_170 : decode cJ30_balanceInsertion 170 = .ok (.iconst 0, 1) := dk_3 (dk_at dksJ30_balanceInsertion_7 10 rfl rfl)
theorem dJ30_balanceInsertion_171 : decode cJ30_balanceInsertion 171 = .ok (.putfield 93, 3) := dk_181 0 93 (dk_at dksJ30_balanceInsertion_7 11 rfl rfl)
theorem dJ30_balanceInsertion_174 : decode cJ30_balanceInsertion 174 = .ok (.aload_n 3, 1) := dk_45 (dk_at dksJ30_balanceInsertion_7 14 rfl rfl)
theorem dJ30_balanceInsertion_175 : decode cJ30_balanceInsertion 175 = .ok (.iconst 1, 1) := dk_4 (dk_at dksJ30_balanceInsertion_7 15 rfl rfl)
theorem dJ30_balanceInsertion_176 : decode cJ30_balanceInsertion 176 = .ok (.putfield 93, 3) := dk_181 0 93 (dk_at dksJ30_balanceInsertion_7 16 rfl rfl)
theorem dJ30_balanceInsertion_179 : decode cJ30_balanceInsertion 179 = .ok (.aload_n 3, 1) := dk_45 (dk_at dksJ30_balanceInsertion_7 19 rfl rfl)
theorem dJ30_balanceInsertion_180 : decode cJ30_balanceInsertion 180 = .ok (.astore_n 1, 1) := dk_76 (dk_at dksJ30_balanceInsertion_7 20 rfl rfl)
theorem dJ30_balanceInsertion_181 : decode cJ30_balanceInsertion 181 = .ok (.goto (-176), 3) := dk_167 255 80 (dk_at dksJ30_balanceInsertion_7 21 rfl rfl)
theorem dJ30_balanceInsertion_184 : decode cJ30_balanceInsertion 184 = .ok (.aload_n 1, 1) := dk_43 (dk_at dksJ30_balanceInsertion_8 0 rfl rfl)
theorem dJ30_balanceInsertion_185 : decode cJ30_balanceInsertion 185 = .ok (.aload_n 2, 1) := dk_44 (dk_at dksJ30_balanceInsertion_8 1 rfl rfl)
theorem dJ30_balanceInsertion_186 : decode cJ30_balanceInsertion 186 = .ok (.getfield 39, 3) := dk_180 0 39 (dk_at dksJ30_balanceInsertion_8 2 rfl rfl)
theorem dJ30_balanceInsertion_189 : decode cJ30_balanceInsertion 189 = .ok (.if_acmp .ne 29, 3) := dk_166 0 29 (dk_at dksJ30_balanceInsertion_8 5 rfl rfl)
theorem dJ30_balanceInsertion_192 : decode cJ30_balanceInsertion 192 = .ok (.aload_n 0, 1) := dk_42 (dk_at dksJ30_balanceInsertion_8 8 rfl rfl)
theorem dJ30_balanceInsertion_193 : decode cJ30_balanceInsertion 193 = .ok (.aload_n 2, 1) := dk_44 (dk_at dksJ30_balanceInsertion_8 9 rfl rfl)
theorem dJ30_balanceInsertion_194 : decode cJ30_balanceInsertion 194 = .ok (.dup, 1) := dk_89 (dk_at dksJ30_balanceInsertion_8 10 rfl rfl)
theorem dJ30_balanceInsertion_195 : decode cJ30_balanceInsertion 195 = .ok (.astore_n 1, 1) := dk_76 (dk_at dksJ30_balanceInsertion_8 11 rfl rfl)
theorem dJ30_balanceInsertion_196 : decode cJ30_balanceInsertion 196 = .ok (.invokestatic 133, 3) := dk_184 0 133 (dk_at dksJ30_balanceInsertion_8 12 rfl rfl)
theorem dJ30_balanceInsertion_199 : decode cJ30_balanceInsertion 199 = .ok (.astore_n 0, 1) := dk_75 (dk_at dksJ30_balanceInsertion_8 15 rfl rfl)
theorem dJ30_balanceInsertion_200 : decode cJ30_balanceInsertion 200 = .ok (.aload_n 1, 1) := dk_43 (dk_at dksJ30_balanceInsertion_8 16 rfl rfl)
theorem dJ30_balanceInsertion_201 : decode cJ30_balanceInsertion 201 = .ok (.getfield 9, 3) := dk_180 0 9 (dk_at dksJ30_balanceInsertion_8 17 rfl rfl)
theorem dJ30_balanceInsertion_204 : decode cJ30_balanceInsertion 204 = .ok (.dup, 1) := dk_89 (dk_at dksJ30_balanceInsertion_8 20 rfl rfl)
theorem dJ30_balanceInsertion_205 : decode cJ30_balanceInsertion 205 = .ok (.astore_n 2, 1) := dk_77 (dk_at dksJ30_balanceInsertion_8 21 rfl rfl)
theorem dJ30_balanceInsertion_206 : decode cJ30_balanceInsertion 206 = .ok (.ifnonnull 7, 3) := dk_199 0 7 (dk_at dksJ30_balanceInsertion_9 0 rfl rfl)
theorem dJ30_balanceInsertion_209 : decode cJ30_balanceInsertion 209 = .ok (.aconst_null, 1) := dk_1 (dk_at dksJ30_balanceInsertion_9 3 rfl rfl)
theorem dJ30_balanceInsertion_210 : decode cJ30_balanceInsertion 210 = .ok (.goto 7, 3) := dk_167 0 7 (dk_at dksJ30_balanceInsertion_9 4 rfl rfl)
theorem dJ30_balanceInsertion_213 : decode cJ30_balanceInsertion 213 = .ok (.aload_n 2, 1) := dk_44 (dk_at dksJ30_balanceInsertion_9 7 rfl rfl)
theorem dJ30_balanceInsertion_214 : decode cJ30_balanceInsertion 214 = .ok (.getfield 9, 3) := dk_180 0 9 (dk_at dksJ30_balanceInsertion_9 8 rfl rfl)
theorem dJ30_balanceInsertion_217 : decode cJ30_balanceInsertion 217 = .ok (.astore_n 3, 1) := dk_78 (dk_at dksJ30_balanceInsertion_9 11 rfl rfl)
theorem dJ30_balanceInsertion_218 : decode cJ30_balanceInsertion 218 = .ok (.aload_n 2, 1) := dk_44 (dk_at dksJ30_balanceInsertion_9 12 rfl rfl)
theorem dJ30_balanceInsertion_219 : decode cJ30_balanceInsertion 219 = .ok (.ifnull (-214), 3) := dk_198 255 42 (dk_at dksJ30_balanceInsertion_9 13 rfl rfl)
theorem dJ30_balanceInsertion_222 : decode cJ30_balanceInsertion 222 = .ok (.aload_n 2, 1) := dk_44 (dk_at dksJ30_balanceInsertion_9 16 rfl rfl)
theorem dJ30_balanceInsertion_223 : decode cJ30_balanceInsertion 223 = .ok (.iconst 0, 1) := dk_3 (dk_at dksJ30_balanceInsertion_9 17 rfl rfl)
theorem dJ30_balanceInsertion_224 : decode cJ30_balanceInsertion 224 = .ok (.putfield 93, 3) := dk_181 0 93 (dk_at dksJ30_balanceInsertion_9 18 rfl rfl)
theorem dJ30_balanceInsertion_227 : decode cJ30_balanceInsertion 227 = .ok (.aload_n 3, 1) := dk_45 (dk_at dksJ30_balanceInsertion_9 21 rfl rfl)
theorem dJ30_balanceInsertion_228 : decode cJ30_balanceInsertion 228 = .ok (.ifnull (-223), 3) := dk_198 255 33 (dk_at dksJ30_balanceInsertion_10 0 rfl rfl)
theorem dJ30_balanceInsertion_231 : decode cJ30_balanceInsertion 231 = .ok (.aload_n 3, 1) := dk_45 (dk_at dksJ30_balanceInsertion_10 3 rfl rfl)
theorem dJ30_balanceInsertion_232 : decode cJ30_balanceInsertion 232 = .ok (.iconst 1, 1) := dk_4 (dk_at dksJ30_balanceInsertion_10 4 rfl rfl)
theorem dJ30_balanceInsertion_233 : decode cJ30_balanceInsertion 233 = .ok (.putfield 93, 3) := dk_181 0 93 (dk_at dksJ30_balanceInsertion_10 5 rfl rfl)
theorem dJ30_balanceInsertion_236 : decode cJ30_balanceInsertion 236 = .ok (.aload_n 0, 1) := dk_42 (dk_at dksJ30_balanceInsertion_10 8 rfl rfl)
theorem dJ30_balanceInsertion_237 : decode cJ30_balanceInsertion 237 = .ok (.aload_n 3, 1) := dk_45 (dk_at dksJ30_balanceInsertion_10 9 rfl rfl)
theorem dJ30_balanceInsertion_238 : decode cJ30_balanceInsertion 238 = .ok (.invokestatic 130, 3) := dk_184 0 130 (dk_at dksJ30_balanceInsertion_10 10 rfl rfl)
theorem dJ30_balanceInsertion_241 : decode cJ30_balanceInsertion 241 = .ok (.astore_n 0, 1) := dk_75 (dk_at dksJ30_balanceInsertion_10 13 rfl rfl)
theorem dJ30_balanceInsertion_242 : decode cJ30_balanceInsertion 242 = .ok (.goto (-237), 3) := dk_167 255 19 (dk_at dksJ30_balanceInsertion_10 14 rfl rfl)
abbrev cJ30_rotateLeft : ByteArray := prog_104_method_12_code
def yJ30_rotateLeft : MethodName := ⟨RJ30, "rotateLeft", "(Ljava/util/HashMap$TreeNode;Ljava/util/HashMap$TreeNode;)Ljava/util/HashMap$TreeNode;"⟩
def dkwJ30_rotateLeft_3 : List UInt8 := [181, 0, 39, 167, 0, 8, 45, 44, 181, 0, 42, 44, 43, 181, 0, 39, 43, 44, 181, 0, 9, 42, 176]
abbrev dktJ30_rotateLeft_3 : List UInt8 := dkwJ30_rotateLeft_3 ++ []
def dkwJ30_rotateLeft_2 : List UInt8 := [199, 0, 13, 44, 89, 75, 3, 181, 0, 93, 167, 0, 24, 45, 180, 0, 39, 43, 166, 0, 11, 45, 44]
abbrev dktJ30_rotateLeft_2 : List UInt8 := dkwJ30_rotateLeft_2 ++ dktJ30_rotateLeft_3
def dkwJ30_rotateLeft_1 : List UInt8 := [58, 4, 198, 0, 9, 25, 4, 43, 181, 0, 9, 44, 43, 180, 0, 9, 90, 181, 0, 9, 89, 78]
abbrev dktJ30_rotateLeft_1 : List UInt8 := dkwJ30_rotateLeft_1 ++ dktJ30_rotateLeft_2
def dkwJ30_rotateLeft_0 : List UInt8 := [43, 198, 0, 88, 43, 180, 0, 42, 89, 77, 198, 0, 79, 43, 44, 180, 0, 39, 90, 181, 0, 42, 89]
abbrev dktJ30_rotateLeft_0 : List UInt8 := dkwJ30_rotateLeft_0 ++ dktJ30_rotateLeft_1
theorem dksJ30_rotateLeft_0 : cJ30_rotateLeft.data.toList.drop 0 = dktJ30_rotateLeft_0 := by decide +kernel
theorem dksJ30_rotateLeft_1 : cJ30_rotateLeft.data.toList.drop 23 = dktJ30_rotateLeft_1 := dk_seg dksJ30_rotateLeft_0 23 rfl rfl
theorem dksJ30_rotateLeft_2 : cJ30_rotateLeft.data.toList.drop 45 = dktJ30_rotateLeft_2 := dk_seg dksJ30_rotateLeft_1 22 rfl rfl
theorem dksJ30_rotateLeft_3 : cJ30_rotateLeft.data.toList.drop 68 = dktJ30_rotateLeft_3 := dk_seg dksJ30_rotateLeft_2 23 rfl rfl
theorem dJ30_rotateLeft_0 : decode cJ30_rotateLeft 0 = .ok (.aload_n 1, 1) := dk_43 (dk_at dksJ30_rotateLeft_0 0 rfl rfl)
theorem dJ30_rotateLeft_1 : decode cJ30_rotateLeft 1 = .ok (.ifnull 88, 3) := dk_198 0 88 (dk_at dksJ30_rotateLeft_0 1 rfl rfl)
theorem dJ30_rotateLeft_4 : decode cJ30_rotateLeft 4 = .ok (.aload_n 1, 1) := dk_43 (dk_at dksJ30_rotateLeft_0 4 rfl rfl)
theorem dJ30_rotateLeft_5 : decode cJ30_rotateLeft 5 = .ok (.getfield 42, 3) := dk_180 0 42 (dk_at dksJ30_rotateLeft_0 5 rfl rfl)
theorem dJ30_rotateLeft_8 : decode cJ30_rotateLeft 8 = .ok (.dup, 1) := dk_89 (dk_at dksJ30_rotateLeft_0 8 rfl rfl)
theorem dJ30_rotateLeft_9 : decode cJ30_rotateLeft 9 = .ok (.astore_n 2, 1) := dk_77 (dk_at dksJ30_rotateLeft_0 9 rfl rfl)
theorem dJ30_rotateLeft_10 : decode cJ30_rotateLeft 10 = .ok (.ifnull 79, 3) := dk_198 0 79 (dk_at dksJ30_rotateLeft_0 10 rfl rfl)
theorem dJ30_rotateLeft_13 : decode cJ30_rotateLeft 13 = .ok (.aload_n 1, 1) := dk_43 (dk_at dksJ30_rotateLeft_0 13 rfl rfl)
theorem dJ30_rotateLeft_14 : decode cJ30_rotateLeft 14 = .ok (.aload_n 2, 1) := dk_44 (dk_at dksJ30_rotateLeft_0 14 rfl rfl)
theorem dJ30_rotateLeft_15 : decode cJ30_rotateLeft 15 = .ok (.getfield 39, 3) := dk_180 0 39 (dk_at dksJ30_rotateLeft_0 15 rfl rfl)
theorem dJ30_rotateLeft_18 : decode cJ30_rotateLeft 18 = .ok (.dup_x1, 1) := dk_90 (dk_at dksJ30_rotateLeft_0 18 rfl rfl)
theorem dJ30_rotateLeft_19 : decode cJ30_rotateLeft 19 = .ok (.putfield 42, 3) := dk_181 0 42 (dk_at dksJ30_rotateLeft_0 19 rfl rfl)
theorem dJ30_rotateLeft_22 : decode cJ30_rotateLeft 22 = .ok (.dup, 1) := dk_89 (dk_at dksJ30_rotateLeft_0 22 rfl rfl)
theorem dJ30_rotateLeft_23 : decode cJ30_rotateLeft 23 = .ok (.astore 4, 2) := dk_58 4 (dk_at dksJ30_rotateLeft_1 0 rfl rfl)
theorem dJ30_rotateLeft_25 : decode cJ30_rotateLeft 25 = .ok (.ifnull 9, 3) := dk_198 0 9 (dk_at dksJ30_rotateLeft_1 2 rfl rfl)
theorem dJ30_rotateLeft_28 : decode cJ30_rotateLeft 28 = .ok (.aload 4, 2) := dk_25 4 (dk_at dksJ30_rotateLeft_1 5 rfl rfl)
theorem dJ30_rotateLeft_30 : decode cJ30_rotateLeft 30 = .ok (.aload_n 1, 1) := dk_43 (dk_at dksJ30_rotateLeft_1 7 rfl rfl)
theorem dJ30_rotateLeft_31 : decode cJ30_rotateLeft 31 = .ok (.putfield 9, 3) := dk_181 0 9 (dk_at dksJ30_rotateLeft_1 8 rfl rfl)
theorem dJ30_rotateLeft_34 : decode cJ30_rotateLeft 34 = .ok (.aload_n 2, 1) := dk_44 (dk_at dksJ30_rotateLeft_1 11 rfl rfl)
theorem dJ30_rotateLeft_35 : decode cJ30_rotateLeft 35 = .ok (.aload_n 1, 1) := dk_43 (dk_at dksJ30_rotateLeft_1 12 rfl rfl)
theorem dJ30_rotateLeft_36 : decode cJ30_rotateLeft 36 = .ok (.getfield 9, 3) := dk_180 0 9 (dk_at dksJ30_rotateLeft_1 13 rfl rfl)
theorem dJ30_rotateLeft_39 : decode cJ30_rotateLeft 39 = .ok (.dup_x1, 1) := dk_90 (dk_at dksJ30_rotateLeft_1 16 rfl rfl)
theorem dJ30_rotateLeft_40 : decode cJ30_rotateLeft 40 = .ok (.putfield 9, 3) := dk_181 0 9 (dk_at dksJ30_rotateLeft_1 17 rfl rfl)
theorem dJ30_rotateLeft_43 : decode cJ30_rotateLeft 43 = .ok (.dup, 1) := dk_89 (dk_at dksJ30_rotateLeft_1 20 rfl rfl)
theorem dJ30_rotateLeft_44 : decode cJ30_rotateLeft 44 = .ok (.astore_n 3, 1) := dk_78 (dk_at dksJ30_rotateLeft_1 21 rfl rfl)
theorem dJ30_rotateLeft_45 : decode cJ30_rotateLeft 45 = .ok (.ifnonnull 13, 3) := dk_199 0 13 (dk_at dksJ30_rotateLeft_2 0 rfl rfl)
theorem dJ30_rotateLeft_48 : decode cJ30_rotateLeft 48 = .ok (.aload_n 2, 1) := dk_44 (dk_at dksJ30_rotateLeft_2 3 rfl rfl)
theorem dJ30_rotateLeft_49 : decode cJ30_rotateLeft 49 = .ok (.dup, 1) := dk_89 (dk_at dksJ30_rotateLeft_2 4 rfl rfl)
theorem dJ30_rotateLeft_50 : decode cJ30_rotateLeft 50 = .ok (.astore_n 0, 1) := dk_75 (dk_at dksJ30_rotateLeft_2 5 rfl rfl)
theorem dJ30_rotateLeft_51 : decode cJ30_rotateLeft 51 = .ok (.iconst 0, 1) := dk_3 (dk_at dksJ30_rotateLeft_2 6 rfl rfl)
theorem dJ30_rotateLeft_52 : decode cJ30_rotateLeft 52 = .ok (.putfield 93, 3) := dk_181 0 93 (dk_at dksJ30_rotateLeft_2 7 rfl rfl)
theorem dJ30_rotateLeft_55 : decode cJ30_rotateLeft 55 = .ok (.goto 24, 3) := dk_167 0 24 (dk_at dksJ30_rotateLeft_2 10 rfl rfl)
theorem dJ30_rotateLeft_58 : decode cJ30_rotateLeft 58 = .ok (.aload_n 3, 1) := dk_45 (dk_at dksJ30_rotateLeft_2 13 rfl rfl)
theorem dJ30_rotateLeft_59 : decode cJ30_rotateLeft 59 = .ok (.getfield 39, 3) := dk_180 0 39 (dk_at dksJ30_rotateLeft_2 14 rfl rfl)
theorem dJ30_rotateLeft_62 : decode cJ30_rotateLeft 62 = .ok (.aload_n 1, 1) := dk_43 (dk_at dksJ30_rotateLeft_2 17 rfl rfl)
theorem dJ30_rotateLeft_63 : decode cJ30_rotateLeft 63 = .ok (.if_acmp .ne 11, 3) := dk_166 0 11 (dk_at dksJ30_rotateLeft_2 18 rfl rfl)
theorem dJ30_rotateLeft_66 : decode cJ30_rotateLeft 66 = .ok (.aload_n 3, 1) := dk_45 (dk_at dksJ30_rotateLeft_2 21 rfl rfl)
theorem dJ30_rotateLeft_67 : decode cJ30_rotateLeft 67 = .ok (.aload_n 2, 1) := dk_44 (dk_at dksJ30_rotateLeft_2 22 rfl rfl)
theorem dJ30_rotateLeft_68 : decode cJ30_rotateLeft 68 = .ok (.putfield 39, 3) := dk_181 0 39 (dk_at dksJ30_rotateLeft_3 0 rfl rfl)
theorem dJ30_rotateLeft_71 : decode cJ30_rotateLeft 71 = .ok (.goto 8, 3) := dk_167 0 8 (dk_at dksJ30_rotateLeft_3 3 rfl rfl)
theorem dJ30_rotateLeft_74 : decode cJ30_rotateLeft 74 = .ok (.aload_n 3, 1) := dk_45 (dk_at dksJ30_rotateLeft_3 6 rfl rfl)
theorem dJ30_rotateLeft_75 : decode cJ30_rotateLeft 75 = .ok (.aload_n 2, 1) := dk_44 (dk_at dksJ30_rotateLeft_3 7 rfl rfl)
theorem dJ30_rotateLeft_76 : decode cJ30_rotateLeft 76 = .ok (.putfield 42, 3) := dk_181 0 42 (dk_at dksJ30_rotateLeft_3 8 rfl rfl)
theorem dJ30_rotateLeft_79 : decode cJ30_rotateLeft 79 = .ok (.aload_n 2, 1) := dk_44 (dk_at dksJ30_rotateLeft_3 11 rfl rfl)
theorem dJ30_rotateLeft_80 : decode cJ30_rotateLeft 80 = .ok (.aload_n 1, 1) := dk_43 (dk_at dksJ30_rotateLeft_3 12 rfl rfl)
theorem dJ30_rotateLeft_81 : decode cJ30_rotateLeft 81 = .ok (.putfield 39, 3) := dk_181 0 39 (dk_at dksJ30_rotateLeft_3 13 rfl rfl)
theorem dJ30_rotateLeft_84 : decode cJ30_rotateLeft 84 = .ok (.aload_n 1, 1) := dk_43 (dk_at dksJ30_rotateLeft_3 16 rfl rfl)
theorem dJ30_rotateLeft_85 : decode cJ30_rotateLeft 85 = .ok (.aload_n 2, 1) := dk_44 (dk_at dksJ30_rotateLeft_3 17 rfl rfl)
theorem dJ30_rotateLeft_86 : decode cJ30_rotateLeft 86 = .ok (.putfield 9, 3) := dk_181 0 9 (dk_at dksJ30_rotateLeft_3 18 rfl rfl)
theorem dJ30_rotateLeft_89 : decode cJ30_rotateLeft 89 = .ok (.aload_n 0, 1) := dk_42 (dk_at dksJ30_rotateLeft_3 21 rfl rfl)
theorem dJ30_rotateLeft_90 : decode cJ30_rotateLeft 90 = .ok (.areturn, 1) := dk_176 (dk_at dksJ30_rotateLeft_3 22 rfl rfl)
abbrev cJ30_rotateRight : ByteArray := prog_104_method_13_code
def yJ30_rotateRight : MethodName := ⟨RJ30, "rotateRight", "(Ljava/util/HashMap$TreeNode;Ljava/util/HashMap$TreeNode;)Ljava/util/HashMap$TreeNode;"⟩
def dkwJ30_rotateRight_3 : List UInt8 := [181, 0, 42, 167, 0, 8, 45, 44, 181, 0, 39, 44, 43, 181, 0, 42, 43, 44, 181, 0, 9, 42, 176]
abbrev dktJ30_rotateRight_3 : List UInt8 := dkwJ30_rotateRight_3 ++ []
def dkwJ30_rotateRight_2 : List UInt8 := [199, 0, 13, 44, 89, 75, 3, 181, 0, 93, 167, 0, 24, 45, 180, 0, 42, 43, 166, 0, 11, 45, 44]
abbrev dktJ30_rotateRight_2 : List UInt8 := dkwJ30_rotateRight_2 ++ dktJ30_rotateRight_3
def dkwJ30_rotateRight_1 : List UInt8 := [58, 4, 198, 0, 9, 25, 4, 43, 181, 0, 9, 44, 43, 180, 0, 9, 90, 181, 0, 9, 89, 78]
abbrev dktJ30_rotateRight_1 : List UInt8 := dkwJ30_rotateRight_1 ++ dktJ30_rotateRight_2
def dkwJ30_rotateRight_0 : List UInt8 := [43, 198, 0, 88, 43, 180, 0, 39, 89, 77, 198, 0, 79, 43, 44, 180, 0, 42, 90, 181, 0, 39, 89]
abbrev dktJ30_rotateRight_0 : List UInt8 := dkwJ30_rotateRight_0 ++ dktJ30_rotateRight_1
theorem dksJ30_rotateRight_0 : cJ30_rotateRight.data.toList.drop 0 = dktJ30_rotateRight_0 := by decide +kernel
theorem dksJ30_rotateRight_1 : cJ30_rotateRight.data.toList.drop 23 = dktJ30_rotateRight_1 := dk_seg dksJ30_rotateRight_0 23 rfl rfl
theorem dksJ30_rotateRight_2 : cJ30_rotateRight.data.toList.drop 45 = dktJ30_rotateRight_2 := dk_seg dksJ30_rotateRight_1 22 rfl rfl
theorem dksJ30_rotateRight_3 : cJ30_rotateRight.data.toList.drop 68 = dktJ30_rotateRight_3 := dk_seg dksJ30_rotateRight_2 23 rfl rfl
theorem dJ30_rotateRight_0 : decode cJ30_rotateRight 0 = .ok (.aload_n 1, 1) := dk_43 (dk_at dksJ30_rotateRight_0 0 rfl rfl)
theorem dJ30_rotateRight_1 : decode cJ30_rotateRight 1 = .ok (.ifnull 88, 3) := dk_198 0 88 (dk_at dksJ30_rotateRight_0 1 rfl rfl)
theorem dJ30_rotateRight_4 : decode cJ30_rotateRight 4 = .ok (.aload_n 1, 1) := dk_43 (dk_at dksJ30_rotateRight_0 4 rfl rfl)
theorem dJ30_rotateRight_5 : decode cJ30_rotateRight 5 = .ok (.getfield 39, 3) := dk_180 0 39 (dk_at dksJ30_rotateRight_0 5 rfl rfl)
theorem dJ30_rotateRight_8 : decode cJ30_rotateRight 8 = .ok (.dup, 1) := dk_89 (dk_at dksJ30_rotateRight_0 8 rfl rfl)
theorem dJ30_rotateRight_9 : decode cJ30_rotateRight 9 = .ok (.astore_n 2, 1) := dk_77 (dk_at dksJ30_rotateRight_0 9 rfl rfl)
theorem dJ30_rotateRight_10 : decode cJ30_rotateRight 10 = .ok (.ifnull 79, 3) := dk_198 0 79 (dk_at dksJ30_rotateRight_0 10 rfl rfl)
theorem dJ30_rotateRight_13 : decode cJ30_rotateRight 13 = .ok (.aload_n 1, 1) := dk_43 (dk_at dksJ30_rotateRight_0 13 rfl rfl)
theorem dJ30_rotateRight_14 : decode cJ30_rotateRight 14 = .ok (.aload_n 2, 1) := dk_44 (dk_at dksJ30_rotateRight_0 14 rfl rfl)
theorem dJ30_rotateRight_15 : decode cJ30_rotateRight 15 = .ok (.getfield 42, 3) := dk_180 0 42 (dk_at dksJ30_rotateRight_0 15 rfl rfl)
theorem dJ30_rotateRight_18 : decode cJ30_rotateRight 18 = .ok (.dup_x1, 1) := dk_90 (dk_at dksJ30_rotateRight_0 18 rfl rfl)
theorem dJ30_rotateRight_19 : decode cJ30_rotateRight 19 = .ok (.putfield 39, 3) := dk_181 0 39 (dk_at dksJ30_rotateRight_0 19 rfl rfl)
theorem dJ30_rotateRight_22 : decode cJ30_rotateRight 22 = .ok (.dup, 1) := dk_89 (dk_at dksJ30_rotateRight_0 22 rfl rfl)
theorem dJ30_rotateRight_23 : decode cJ30_rotateRight 23 = .ok (.astore 4, 2) := dk_58 4 (dk_at dksJ30_rotateRight_1 0 rfl rfl)
theorem dJ30_rotateRight_25 : decode cJ30_rotateRight 25 = .ok (.ifnull 9, 3) := dk_198 0 9 (dk_at dksJ30_rotateRight_1 2 rfl rfl)
theorem dJ30_rotateRight_28 : decode cJ30_rotateRight 28 = .ok (.aload 4, 2) := dk_25 4 (dk_at dksJ30_rotateRight_1 5 rfl rfl)
theorem dJ30_rotateRight_30 : decode cJ30_rotateRight 30 = .ok (.aload_n 1, 1) := dk_43 (dk_at dksJ30_rotateRight_1 7 rfl rfl)
theorem dJ30_rotateRight_31 : decode cJ30_rotateRight 31 = .ok (.putfield 9, 3) := dk_181 0 9 (dk_at dksJ30_rotateRight_1 8 rfl rfl)
theorem dJ30_rotateRight_34 : decode cJ30_rotateRight 34 = .ok (.aload_n 2, 1) := dk_44 (dk_at dksJ30_rotateRight_1 11 rfl rfl)
theorem dJ30_rotateRight_35 : decode cJ30_rotateRight 35 = .ok (.aload_n 1, 1) := dk_43 (dk_at dksJ30_rotateRight_1 12 rfl rfl)
theorem dJ30_rotateRight_36 : decode cJ30_rotateRight 36 = .ok (.getfield 9, 3) := dk_180 0 9 (dk_at dksJ30_rotateRight_1 13 rfl rfl)
theorem dJ30_rotateRight_39 : decode cJ30_rotateRight 39 = .ok (.dup_x1, 1) := dk_90 (dk_at dksJ30_rotateRight_1 16 rfl rfl)
theorem dJ30_rotateRight_40 : decode cJ30_rotateRight 40 = .ok (.putfield 9, 3) := dk_181 0 9 (dk_at dksJ30_rotateRight_1 17 rfl rfl)
theorem dJ30_rotateRight_43 : decode cJ30_rotateRight 43 = .ok (.dup, 1) := dk_89 (dk_at dksJ30_rotateRight_1 20 rfl rfl)
theorem dJ30_rotateRight_44 : decode cJ30_rotateRight 44 = .ok (.astore_n 3, 1) := dk_78 (dk_at dksJ30_rotateRight_1 21 rfl rfl)
theorem dJ30_rotateRight_45 : decode cJ30_rotateRight 45 = .ok (.ifnonnull 13, 3) := dk_199 0 13 (dk_at dksJ30_rotateRight_2 0 rfl rfl)
theorem dJ30_rotateRight_48 : decode cJ30_rotateRight 48 = .ok (.aload_n 2, 1) := dk_44 (dk_at dksJ30_rotateRight_2 3 rfl rfl)
theorem dJ30_rotateRight_49 : decode cJ30_rotateRight 49 = .ok (.dup, 1) := dk_89 (dk_at dksJ30_rotateRight_2 4 rfl rfl)
theorem dJ30_rotateRight_50 : decode cJ30_rotateRight 50 = .ok (.astore_n 0, 1) := dk_75 (dk_at dksJ30_rotateRight_2 5 rfl rfl)
theorem dJ30_rotateRight_51 : decode cJ30_rotateRight 51 = .ok (.iconst 0, 1) := dk_3 (dk_at dksJ30_rotateRight_2 6 rfl rfl)
theorem dJ30_rotateRight_52 : decode cJ30_rotateRight 52 = .ok (.putfield 93, 3) := dk_181 0 93 (dk_at dksJ30_rotateRight_2 7 rfl rfl)
theorem dJ30_rotateRight_55 : decode cJ30_rotateRight 55 = .ok (.goto 24, 3) := dk_167 0 24 (dk_at dksJ30_rotateRight_2 10 rfl rfl)
theorem dJ30_rotateRight_58 : decode cJ30_rotateRight 58 = .ok (.aload_n 3, 1) := dk_45 (dk_at dksJ30_rotateRight_2 13 rfl rfl)
theorem dJ30_rotateRight_59 : decode cJ30_rotateRight 59 = .ok (.getfield 42, 3) := dk_180 0 42 (dk_at dksJ30_rotateRight_2 14 rfl rfl)
theorem dJ30_rotateRight_62 : decode cJ30_rotateRight 62 = .ok (.aload_n 1, 1) := dk_43 (dk_at dksJ30_rotateRight_2 17 rfl rfl)
theorem dJ30_rotateRight_63 : decode cJ30_rotateRight 63 = .ok (.if_acmp .ne 11, 3) := dk_166 0 11 (dk_at dksJ30_rotateRight_2 18 rfl rfl)
theorem dJ30_rotateRight_66 : decode cJ30_rotateRight 66 = .ok (.aload_n 3, 1) := dk_45 (dk_at dksJ30_rotateRight_2 21 rfl rfl)
theorem dJ30_rotateRight_67 : decode cJ30_rotateRight 67 = .ok (.aload_n 2, 1) := dk_44 (dk_at dksJ30_rotateRight_2 22 rfl rfl)
theorem dJ30_rotateRight_68 : decode cJ30_rotateRight 68 = .ok (.putfield 42, 3) := dk_181 0 42 (dk_at dksJ30_rotateRight_3 0 rfl rfl)
theorem dJ30_rotateRight_71 : decode cJ30_rotateRight 71 = .ok (.goto 8, 3) := dk_167 0 8 (dk_at dksJ30_rotateRight_3 3 rfl rfl)
theorem dJ30_rotateRight_74 : decode cJ30_rotateRight 74 = .ok (.aload_n 3, 1) := dk_45 (dk_at dksJ30_rotateRight_3 6 rfl rfl)
theorem dJ30_rotateRight_75 : decode cJ30_rotateRight 75 = .ok (.aload_n 2, 1) := dk_44 (dk_at dksJ30_rotateRight_3 7 rfl rfl)
theorem dJ30_rotateRight_76 : decode cJ30_rotateRight 76 = .ok (.putfield 39, 3) := dk_181 0 39 (dk_at dksJ30_rotateRight_3 8 rfl rfl)
theorem dJ30_rotateRight_79 : decode cJ30_rotateRight 79 = .ok (.aload_n 2, 1) := dk_44 (dk_at dksJ30_rotateRight_3 11 rfl rfl)
theorem dJ30_rotateRight_80 : decode cJ30_rotateRight 80 = .ok (.aload_n 1, 1) := dk_43 (dk_at dksJ30_rotateRight_3 12 rfl rfl)
theorem dJ30_rotateRight_81 : decode cJ30_rotateRight 81 = .ok (.putfield 42, 3) := dk_181 0 42 (dk_at dksJ30_rotateRight_3 13 rfl rfl)
theorem dJ30_rotateRight_84 : decode cJ30_rotateRight 84 = .ok (.aload_n 1, 1) := dk_43 (dk_at dksJ30_rotateRight_3 16 rfl rfl)
theorem dJ30_rotateRight_85 : decode cJ30_rotateRight 85 = .ok (.aload_n 2, 1) := dk_44 (dk_at dksJ30_rotateRight_3 17 rfl rfl)
theorem dJ30_rotateRight_86 : decode cJ30_rotateRight 86 = .ok (.putfield 9, 3) := dk_181 0 9 (dk_at dksJ30_rotateRight_3 18 rfl rfl)
theorem dJ30_rotateRight_89 : decode cJ30_rotateRight 89 = .ok (.aload_n 0, 1) := dk_42 (dk_at dksJ30_rotateRight_3 21 rfl rfl)
theorem dJ30_rotateRight_90 : decode cJ30_rotateRight 90 = .ok (.areturn, 1) := dk_176 (dk_at dksJ30_rotateRight_3 22 rfl rfl)
abbrev cJ30_moveRootToFront : ByteArray := prog_104_method_3_code
def yJ30_moveRootToFront : MethodName := ⟨RJ30, "moveRootToFront", "([Ljava/util/HashMap$Node;Ljava/util/HashMap$TreeNode;)V"⟩
def dkwJ30_moveRootToFront_5 : List UInt8 := [89, 183, 0, 36, 191, 177]
abbrev dktJ30_moveRootToFront_5 : List UInt8 := dkwJ30_moveRootToFront_5 ++ []
def dkwJ30_moveRootToFront_4 : List UInt8 := [181, 0, 22, 43, 1, 181, 0, 19, 178, 0, 26, 154, 0, 18, 43, 184, 0, 30, 154, 0, 11, 187, 0, 34]
abbrev dktJ30_moveRootToFront_4 : List UInt8 := dkwJ30_moveRootToFront_4 ++ dktJ30_moveRootToFront_5
def dkwJ30_moveRootToFront_3 : List UInt8 := [198, 0, 10, 25, 6, 25, 5, 181, 0, 22, 25, 4, 198, 0, 9, 25, 4, 43, 181, 0, 19, 43, 25, 4]
abbrev dktJ30_moveRootToFront_3 : List UInt8 := dkwJ30_moveRootToFront_3 ++ dktJ30_moveRootToFront_4
def dkwJ30_moveRootToFront_2 : List UInt8 := [43, 180, 0, 22, 89, 58, 5, 198, 0, 13, 25, 5, 192, 0, 10, 25, 6, 181, 0, 19, 25, 6]
abbrev dktJ30_moveRootToFront_2 : List UInt8 := dkwJ30_moveRootToFront_2 ++ dktJ30_moveRootToFront_3
def dkwJ30_moveRootToFront_1 : List UInt8 := [42, 29, 50, 192, 0, 10, 58, 4, 43, 25, 4, 165, 0, 67, 42, 29, 43, 83, 43, 180, 0, 19, 58, 6]
abbrev dktJ30_moveRootToFront_1 : List UInt8 := dkwJ30_moveRootToFront_1 ++ dktJ30_moveRootToFront_2
def dkwJ30_moveRootToFront_0 : List UInt8 := [43, 198, 0, 122, 42, 198, 0, 118, 42, 190, 89, 61, 158, 0, 111, 28, 4, 100, 43, 180, 0, 15, 126, 62]
abbrev dktJ30_moveRootToFront_0 : List UInt8 := dkwJ30_moveRootToFront_0 ++ dktJ30_moveRootToFront_1
theorem dksJ30_moveRootToFront_0 : cJ30_moveRootToFront.data.toList.drop 0 = dktJ30_moveRootToFront_0 := by decide +kernel
theorem dksJ30_moveRootToFront_1 : cJ30_moveRootToFront.data.toList.drop 24 = dktJ30_moveRootToFront_1 := dk_seg dksJ30_moveRootToFront_0 24 rfl rfl
theorem dksJ30_moveRootToFront_2 : cJ30_moveRootToFront.data.toList.drop 48 = dktJ30_moveRootToFront_2 := dk_seg dksJ30_moveRootToFront_1 24 rfl rfl
theorem dksJ30_moveRootToFront_3 : cJ30_moveRootToFront.data.toList.drop 70 = dktJ30_moveRootToFront_3 := dk_seg dksJ30_moveRootToFront_2 22 rfl rfl
theorem dksJ30_moveRootToFront_4 : cJ30_moveRootToFront.data.toList.drop 94 = dktJ30_moveRootToFront_4 := dk_seg dksJ30_moveRootToFront_3 24 rfl rfl
theorem dksJ30_moveRootToFront_5 : cJ30_moveRootToFront.data.toList.drop 118 = dktJ30_moveRootToFront_5 := dk_seg dksJ30_moveRootToFront_4 24 rfl rfl
theorem dJ30_moveRootToFront_0 : decode cJ30_moveRootToFront 0 = .ok (.aload_n 1, 1) := dk_43 (dk_at dksJ30_moveRootToFront_0 0 rfl rfl)
theorem dJ30_moveRootToFront_1 : decode cJ30_moveRootToFront 1 = .ok (.ifnull 122, 3) := dk_198 0 122 (dk_at dksJ30_moveRootToFront_0 1 rfl rfl)
theorem dJ30_moveRootToFront_4 : decode cJ30_moveRootToFront 4 = .ok (.aload_n 0, 1) := dk_42 (dk_at dksJ30_moveRootToFront_0 4 rfl rfl)
theorem dJ30_moveRootToFront_5 : decode cJ30_moveRootToFront 5 = .ok (.ifnull 118, 3) := dk_198 0 118 (dk_at dksJ30_moveRootToFront_0 5 rfl rfl)
theorem dJ30_moveRootToFront_8 : decode cJ30_moveRootToFront 8 = .ok (.aload_n 0, 1) := dk_42 (dk_at dksJ30_moveRootToFront_0 8 rfl rfl)
theorem dJ30_moveRootToFront_9 : decode cJ30_moveRootToFront 9 = .ok (.arraylength, 1) := dk_190 (dk_at dksJ30_moveRootToFront_0 9 rfl rfl)
theorem dJ30_moveRootToFront_10 : decode cJ30_moveRootToFront 10 = .ok (.dup, 1) := dk_89 (dk_at dksJ30_moveRootToFront_0 10 rfl rfl)
theorem dJ30_moveRootToFront_11 : decode cJ30_moveRootToFront 11 = .ok (.istore_n 2, 1) := dk_61 (dk_at dksJ30_moveRootToFront_0 11 rfl rfl)
theorem dJ30_moveRootToFront_12 : decode cJ30_moveRootToFront 12 = .ok (.ifCond .le 111, 3) := dk_158 0 111 (dk_at dksJ30_moveRootToFront_0 12 rfl rfl)
theorem dJ30_moveRootToFront_15 : decode cJ30_moveRootToFront 15 = .ok (.iload_n 2, 1) := dk_28 (dk_at dksJ30_moveRootToFront_0 15 rfl rfl)
theorem dJ30_moveRootToFront_16 : decode cJ30_moveRootToFront 16 = .ok (.iconst 1, 1) := dk_4 (dk_at dksJ30_moveRootToFront_0 16 rfl rfl)
theorem dJ30_moveRootToFront_17 : decode cJ30_moveRootToFront 17 = .ok (.isub, 1) := dk_100 (dk_at dksJ30_moveRootToFront_0 17 rfl rfl)
theorem dJ30_moveRootToFront_18 : decode cJ30_moveRootToFront 18 = .ok (.aload_n 1, 1) := dk_43 (dk_at dksJ30_moveRootToFront_0 18 rfl rfl)
theorem dJ30_moveRootToFront_19 : decode cJ30_moveRootToFront 19 = .ok (.getfield 15, 3) := dk_180 0 15 (dk_at dksJ30_moveRootToFront_0 19 rfl rfl)
theorem dJ30_moveRootToFront_22 : decode cJ30_moveRootToFront 22 = .ok (.iand, 1) := dk_126 (dk_at dksJ30_moveRootToFront_0 22 rfl rfl)
theorem dJ30_moveRootToFront_23 : decode cJ30_moveRootToFront 23 = .ok (.istore_n 3, 1) := dk_62 (dk_at dksJ30_moveRootToFront_0 23 rfl rfl)
theorem dJ30_moveRootToFront_24 : decode cJ30_moveRootToFront 24 = .ok (.aload_n 0, 1) := dk_42 (dk_at dksJ30_moveRootToFront_1 0 rfl rfl)
theorem dJ30_moveRootToFront_25 : decode cJ30_moveRootToFront 25 = .ok (.iload_n 3, 1) := dk_29 (dk_at dksJ30_moveRootToFront_1 1 rfl rfl)
theorem dJ30_moveRootToFront_26 : decode cJ30_moveRootToFront 26 = .ok (.aaload, 1) := dk_50 (dk_at dksJ30_moveRootToFront_1 2 rfl rfl)
theorem dJ30_moveRootToFront_27 : decode cJ30_moveRootToFront 27 = .ok (.checkcast 10, 3) := dk_192 0 10 (dk_at dksJ30_moveRootToFront_1 3 rfl rfl)
theorem dJ30_moveRootToFront_30 : decode cJ30_moveRootToFront 30 = .ok (.astore 4, 2) := dk_58 4 (dk_at dksJ30_moveRootToFront_1 6 rfl rfl)
theorem dJ30_moveRootToFront_32 : decode cJ30_moveRootToFront 32 = .ok (.aload_n 1, 1) := dk_43 (dk_at dksJ30_moveRootToFront_1 8 rfl rfl)
theorem dJ30_moveRootToFront_33 : decode cJ30_moveRootToFront 33 = .ok (.aload 4, 2) := dk_25 4 (dk_at dksJ30_moveRootToFront_1 9 rfl rfl)
theorem dJ30_moveRootToFront_35 : decode cJ30_moveRootToFront 35 = .ok (.if_acmp .eq 67, 3) := dk_165 0 67 (dk_at dksJ30_moveRootToFront_1 11 rfl rfl)
theorem dJ30_moveRootToFront_38 : decode cJ30_moveRootToFront 38 = .ok (.aload_n 0, 1) := dk_42 (dk_at dksJ30_moveRootToFront_1 14 rfl rfl)
theorem dJ30_moveRootToFront_39 : decode cJ30_moveRootToFront 39 = .ok (.iload_n 3, 1) := dk_29 (dk_at dksJ30_moveRootToFront_1 15 rfl rfl)
theorem dJ30_moveRootToFront_40 : decode cJ30_moveRootToFront 40 = .ok (.aload_n 1, 1) := dk_43 (dk_at dksJ30_moveRootToFront_1 16 rfl rfl)
theorem dJ30_moveRootToFront_41 : decode cJ30_moveRootToFront 41 = .ok (.aastore, 1) := dk_83 (dk_at dksJ30_moveRootToFront_1 17 rfl rfl)
theorem dJ30_moveRootToFront_42 : decode cJ30_moveRootToFront 42 = .ok (.aload_n 1, 1) := dk_43 (dk_at dksJ30_moveRootToFront_1 18 rfl rfl)
theorem dJ30_moveRootToFront_43 : decode cJ30_moveRootToFront 43 = .ok (.getfield 19, 3) := dk_180 0 19 (dk_at dksJ30_moveRootToFront_1 19 rfl rfl)
theorem dJ30_moveRootToFront_46 : decode cJ30_moveRootToFront 46 = .ok (.astore 6, 2) := dk_58 6 (dk_at dksJ30_moveRootToFront_1 22 rfl rfl)
theorem dJ30_moveRootToFront_48 : decode cJ30_moveRootToFront 48 = .ok (.aload_n 1, 1) := dk_43 (dk_at dksJ30_moveRootToFront_2 0 rfl rfl)
theorem dJ30_moveRootToFront_49 : decode cJ30_moveRootToFront 49 = .ok (.getfield 22, 3) := dk_180 0 22 (dk_at dksJ30_moveRootToFront_2 1 rfl rfl)
theorem dJ30_moveRootToFront_52 : decode cJ30_moveRootToFront 52 = .ok (.dup, 1) := dk_89 (dk_at dksJ30_moveRootToFront_2 4 rfl rfl)
theorem dJ30_moveRootToFront_53 : decode cJ30_moveRootToFront 53 = .ok (.astore 5, 2) := dk_58 5 (dk_at dksJ30_moveRootToFront_2 5 rfl rfl)
theorem dJ30_moveRootToFront_55 : decode cJ30_moveRootToFront 55 = .ok (.ifnull 13, 3) := dk_198 0 13 (dk_at dksJ30_moveRootToFront_2 7 rfl rfl)
theorem dJ30_moveRootToFront_58 : decode cJ30_moveRootToFront 58 = .ok (.aload 5, 2) := dk_25 5 (dk_at dksJ30_moveRootToFront_2 10 rfl rfl)
theorem dJ30_moveRootToFront_60 : decode cJ30_moveRootToFront 60 = .ok (.checkcast 10, 3) := dk_192 0 10 (dk_at dksJ30_moveRootToFront_2 12 rfl rfl)
theorem dJ30_moveRootToFront_63 : decode cJ30_moveRootToFront 63 = .ok (.aload 6, 2) := dk_25 6 (dk_at dksJ30_moveRootToFront_2 15 rfl rfl)
theorem dJ30_moveRootToFront_65 : decode cJ30_moveRootToFront 65 = .ok (.putfield 19, 3) := dk_181 0 19 (dk_at dksJ30_moveRootToFront_2 17 rfl rfl)
theorem dJ30_moveRootToFront_68 : decode cJ30_moveRootToFront 68 = .ok (.aload 6, 2) := dk_25 6 (dk_at dksJ30_moveRootToFront_2 20 rfl rfl)
theorem dJ30_moveRootToFront_70 : decode cJ30_moveRootToFront 70 = .ok (.ifnull 10, 3) := dk_198 0 10 (dk_at dksJ30_moveRootToFront_3 0 rfl rfl)
theorem dJ30_moveRootToFront_73 : decode cJ30_moveRootToFront 73 = .ok (.aload 6, 2) := dk_25 6 (dk_at dksJ30_moveRootToFront_3 3 rfl rfl)
theorem dJ30_moveRootToFront_75 : decode cJ30_moveRootToFront 75 = .ok (.aload 5, 2) := dk_25 5 (dk_at dksJ30_moveRootToFront_3 5 rfl rfl)
theorem dJ30_moveRootToFront_77 : decode cJ30_moveRootToFront 77 = .ok (.putfield 22, 3) := dk_181 0 22 (dk_at dksJ30_moveRootToFront_3 7 rfl rfl)
theorem dJ30_moveRootToFront_80 : decode cJ30_moveRootToFront 80 = .ok (.aload 4, 2) := dk_25 4 (dk_at dksJ30_moveRootToFront_3 10 rfl rfl)
theorem dJ30_moveRootToFront_82 : decode cJ30_moveRootToFront 82 = .ok (.ifnull 9, 3) := dk_198 0 9 (dk_at dksJ30_moveRootToFront_3 12 rfl rfl)
theorem dJ30_moveRootToFront_85 : decode cJ30_moveRootToFront 85 = .ok (.aload 4, 2) := dk_25 4 (dk_at dksJ30_moveRootToFront_3 15 rfl rfl)
theorem dJ30_moveRootToFront_87 : decode cJ30_moveRootToFront 87 = .ok (.aload_n 1, 1) := dk_43 (dk_at dksJ30_moveRootToFront_3 17 rfl rfl)
theorem dJ30_moveRootToFront_88 : decode cJ30_moveRootToFront 88 = .ok (.putfield 19, 3) := dk_181 0 19 (dk_at dksJ30_moveRootToFront_3 18 rfl rfl)
theorem dJ30_moveRootToFront_91 : decode cJ30_moveRootToFront 91 = .ok (.aload_n 1, 1) := dk_43 (dk_at dksJ30_moveRootToFront_3 21 rfl rfl)
theorem dJ30_moveRootToFront_92 : decode cJ30_moveRootToFront 92 = .ok (.aload 4, 2) := dk_25 4 (dk_at dksJ30_moveRootToFront_3 22 rfl rfl)
theorem dJ30_moveRootToFront_94 : decode cJ30_moveRootToFront 94 = .ok (.putfield 22, 3) := dk_181 0 22 (dk_at dksJ30_moveRootToFront_4 0 rfl rfl)
theorem dJ30_moveRootToFront_97 : decode cJ30_moveRootToFront 97 = .ok (.aload_n 1, 1) := dk_43 (dk_at dksJ30_moveRootToFront_4 3 rfl rfl)
theorem dJ30_moveRootToFront_98 : decode cJ30_moveRootToFront 98 = .ok (.aconst_null, 1) := dk_1 (dk_at dksJ30_moveRootToFront_4 4 rfl rfl)
theorem dJ30_moveRootToFront_99 : decode cJ30_moveRootToFront 99 = .ok (.putfield 19, 3) := dk_181 0 19 (dk_at dksJ30_moveRootToFront_4 5 rfl rfl)
theorem dJ30_moveRootToFront_102 : decode cJ30_moveRootToFront 102 = .ok (.getstatic 26, 3) := dk_178 0 26 (dk_at dksJ30_moveRootToFront_4 8 rfl rfl)
theorem dJ30_moveRootToFront_105 : decode cJ30_moveRootToFront 105 = .ok (.ifCond .ne 18, 3) := dk_154 0 18 (dk_at dksJ30_moveRootToFront_4 11 rfl rfl)
theorem dJ30_moveRootToFront_108 : decode cJ30_moveRootToFront 108 = .ok (.aload_n 1, 1) := dk_43 (dk_at dksJ30_moveRootToFront_4 14 rfl rfl)
theorem dJ30_moveRootToFront_109 : decode cJ30_moveRootToFront 109 = .ok (.invokestatic 30, 3) := dk_184 0 30 (dk_at dksJ30_moveRootToFront_4 15 rfl rfl)
theorem dJ30_moveRootToFront_112 : decode cJ30_moveRootToFront 112 = .ok (.ifCond .ne 11, 3) := dk_154 0 11 (dk_at dksJ30_moveRootToFront_4 18 rfl rfl)
theorem dJ30_moveRootToFront_115 : decode cJ30_moveRootToFront 115 = .ok (.new 34, 3) := dk_187 0 34 (dk_at dksJ30_moveRootToFront_4 21 rfl rfl)
theorem dJ30_moveRootToFront_118 : decode cJ30_moveRootToFront 118 = .ok (.dup, 1) := dk_89 (dk_at dksJ30_moveRootToFront_5 0 rfl rfl)
theorem dJ30_moveRootToFront_119 : decode cJ30_moveRootToFront 119 = .ok (.invokespecial 36, 3) := dk_183 0 36 (dk_at dksJ30_moveRootToFront_5 1 rfl rfl)
theorem dJ30_moveRootToFront_122 : decode cJ30_moveRootToFront 122 = .ok (.athrow, 1) := dk_191 (dk_at dksJ30_moveRootToFront_5 4 rfl rfl)
theorem dJ30_moveRootToFront_123 : decode cJ30_moveRootToFront 123 = .ok (.return_, 1) := dk_177 (dk_at dksJ30_moveRootToFront_5 5 rfl rfl)
abbrev cJ30_putTreeVal : ByteArray := prog_104_method_9_code
def yJ30_putTreeVal : MethodName := ⟨RJ30, "putTreeVal", "(Ljava/util/HashMap;[Ljava/util/HashMap$Node;ILjava/lang/Object;Ljava/lang/Object;)Ljava/util/HashMap$TreeNode;"⟩
def dkwJ30_putTreeVal_13 : List UInt8 := [184, 0, 100, 184, 0, 104, 1, 176, 167, 254, 228]
abbrev dktJ30_putTreeVal_13 : List UInt8 := dkwJ30_putTreeVal_13 ++ []
def dkwJ30_putTreeVal_12 : List UInt8 := [181, 0, 9, 25, 14, 198, 0, 13, 25, 14, 192, 0, 10, 25, 15, 181, 0, 19, 44, 25, 8, 25, 15]
abbrev dktJ30_putTreeVal_12 : List UInt8 := dkwJ30_putTreeVal_12 ++ dktJ30_putTreeVal_13
def dkwJ30_putTreeVal_11 : List UInt8 := [25, 15, 181, 0, 42, 25, 13, 25, 15, 181, 0, 22, 25, 15, 25, 15, 25, 13, 90, 181, 0, 19]
abbrev dktJ30_putTreeVal_11 : List UInt8 := dkwJ30_putTreeVal_11 ++ dktJ30_putTreeVal_12
def dkwJ30_putTreeVal_10 : List UInt8 := [25, 14, 182, 0, 115, 58, 15, 21, 10, 157, 0, 13, 25, 13, 25, 15, 181, 0, 39, 167, 0, 10, 25, 13]
abbrev dktJ30_putTreeVal_10 : List UInt8 := dkwJ30_putTreeVal_10 ++ dktJ30_putTreeVal_11
def dkwJ30_putTreeVal_9 : List UInt8 := [25, 9, 180, 0, 42, 89, 58, 9, 199, 0, 93, 25, 13, 180, 0, 22, 58, 14, 43, 29, 25, 4, 25, 5]
abbrev dktJ30_putTreeVal_9 : List UInt8 := dkwJ30_putTreeVal_9 ++ dktJ30_putTreeVal_10
def dkwJ30_putTreeVal_8 : List UInt8 := [25, 12, 184, 0, 96, 54, 10, 25, 9, 58, 13, 21, 10, 157, 0, 11, 25, 9, 180, 0, 39, 167, 0, 8]
abbrev dktJ30_putTreeVal_8 : List UInt8 := dkwJ30_putTreeVal_8 ++ dktJ30_putTreeVal_9
def dkwJ30_putTreeVal_7 : List UInt8 := [198, 0, 22, 25, 14, 29, 25, 4, 25, 6, 182, 0, 63, 89, 58, 13, 198, 0, 6, 25, 13, 176, 25, 4]
abbrev dktJ30_putTreeVal_7 : List UInt8 := dkwJ30_putTreeVal_7 ++ dktJ30_putTreeVal_8
def dkwJ30_putTreeVal_6 : List UInt8 := [29, 25, 4, 25, 6, 182, 0, 63, 89, 58, 13, 199, 0, 30, 25, 9, 180, 0, 42, 89, 58, 14]
abbrev dktJ30_putTreeVal_6 : List UInt8 := dkwJ30_putTreeVal_6 ++ dktJ30_putTreeVal_7
def dkwJ30_putTreeVal_5 : List UInt8 := [154, 0, 77, 21, 7, 154, 0, 63, 4, 54, 7, 25, 9, 180, 0, 39, 89, 58, 14, 198, 0, 19, 25, 14]
abbrev dktJ30_putTreeVal_5 : List UInt8 := dkwJ30_putTreeVal_5 ++ dktJ30_putTreeVal_6
def dkwJ30_putTreeVal_4 : List UInt8 := [25, 4, 184, 0, 55, 89, 58, 6, 198, 0, 18, 25, 6, 25, 4, 25, 12, 184, 0, 59, 89, 54, 10]
abbrev dktJ30_putTreeVal_4 : List UInt8 := dkwJ30_putTreeVal_4 ++ dktJ30_putTreeVal_5
def dkwJ30_putTreeVal_3 : List UInt8 := [25, 4, 198, 0, 16, 25, 4, 25, 12, 182, 0, 49, 153, 0, 6, 25, 9, 176, 25, 6, 199, 0, 14]
abbrev dktJ30_putTreeVal_3 : List UInt8 := dkwJ30_putTreeVal_3 ++ dktJ30_putTreeVal_4
def dkwJ30_putTreeVal_2 : List UInt8 := [29, 162, 0, 9, 4, 54, 10, 167, 0, 139, 25, 9, 180, 0, 45, 89, 58, 12, 25, 4, 165, 0, 18]
abbrev dktJ30_putTreeVal_2 : List UInt8 := dkwJ30_putTreeVal_2 ++ dktJ30_putTreeVal_3
def dkwJ30_putTreeVal_1 : List UInt8 := [25, 8, 58, 9, 25, 9, 180, 0, 15, 89, 54, 11, 29, 164, 0, 9, 2, 54, 10, 167, 0, 151, 21, 11]
abbrev dktJ30_putTreeVal_1 : List UInt8 := dkwJ30_putTreeVal_1 ++ dktJ30_putTreeVal_2
def dkwJ30_putTreeVal_0 : List UInt8 := [1, 58, 6, 3, 54, 7, 42, 180, 0, 9, 198, 0, 10, 42, 182, 0, 67, 167, 0, 4, 42, 58, 8]
abbrev dktJ30_putTreeVal_0 : List UInt8 := dkwJ30_putTreeVal_0 ++ dktJ30_putTreeVal_1
theorem dksJ30_putTreeVal_0 : cJ30_putTreeVal.data.toList.drop 0 = dktJ30_putTreeVal_0 := by decide +kernel
theorem dksJ30_putTreeVal_1 : cJ30_putTreeVal.data.toList.drop 23 = dktJ30_putTreeVal_1 := dk_seg dksJ30_putTreeVal_0 23 rfl rfl
theorem dksJ30_putTreeVal_2 : cJ30_putTreeVal.data.toList.drop 47 = dktJ30_putTreeVal_2 := dk_seg dksJ30_putTreeVal_1 24 rfl rfl
theorem dksJ30_putTreeVal_3 : cJ30_putTreeVal.data.toList.drop 70 = dktJ30_putTreeVal_3 := dk_seg dksJ30_putTreeVal_2 23 rfl rfl
theorem dksJ30_putTreeVal_4 : cJ30_putTreeVal.data.toList.drop 93 = dktJ30_putTreeVal_4 := dk_seg dksJ30_putTreeVal_3 23 rfl rfl
theorem dksJ30_putTreeVal_5 : cJ30_putTreeVal.data.toList.drop 116 = dktJ30_putTreeVal_5 := dk_seg dksJ30_putTreeVal_4 23 rfl rfl
theorem dksJ30_putTreeVal_6 : cJ30_putTreeVal.data.toList.drop 140 = dktJ30_putTreeVal_6 := dk_seg dksJ30_putTreeVal_5 24 rfl rfl
theorem dksJ30_putTreeVal_7 : cJ30_putTreeVal.data.toList.drop 162 = dktJ30_putTreeVal_7 := dk_seg dksJ30_putTreeVal_6 22 rfl rfl
theorem dksJ30_putTreeVal_8 : cJ30_putTreeVal.data.toList.drop 186 = dktJ30_putTreeVal_8 := dk_seg dksJ30_putTreeVal_7 24 rfl rfl
theorem dksJ30_putTreeVal_9 : cJ30_putTreeVal.data.toList.drop 210 = dktJ30_putTreeVal_9 := dk_seg dksJ30_putTreeVal_8 24 rfl rfl
theorem dksJ30_putTreeVal_10 : cJ30_putTreeVal.data.toList.drop 234 = dktJ30_putTreeVal_10 := dk_seg dksJ30_putTreeVal_9 24 rfl rfl
theorem dksJ30_putTreeVal_11 : cJ30_putTreeVal.data.toList.drop 258 = dktJ30_putTreeVal_11 := dk_seg dksJ30_putTreeVal_10 24 rfl rfl
theorem dksJ30_putTreeVal_12 : cJ30_putTreeVal.data.toList.drop 280 = dktJ30_putTreeVal_12 := dk_seg dksJ30_putTreeVal_11 22 rfl rfl
theorem dksJ30_putTreeVal_13 : cJ30_putTreeVal.data.toList.drop 303 = dktJ30_putTreeVal_13 := dk_seg dksJ30_putTreeVal_12 23 rfl rfl
theorem dJ30_putTreeVal_0 : decode cJ30_putTreeVal 0 = .ok (.aconst_null, 1) := dk_1 (dk_at dksJ30_putTreeVal_0 0 rfl rfl)
theorem dJ30_putTreeVal_1 : decode cJ30_putTreeVal 1 = .ok (.astore 6, 2) := dk_58 6 (dk_at dksJ30_putTreeVal_0 1 rfl rfl)
theorem dJ30_putTreeVal_3 : decode cJ30_putTreeVal 3 = .ok (.iconst 0, 1) := dk_3 (dk_at dksJ30_putTreeVal_0 3 rfl rfl)
theorem dJ30_putTreeVal_4 : decode cJ30_putTreeVal 4 = .ok (.istore 7, 2) := dk_54 7 (dk_at dksJ30_putTreeVal_0 4 rfl rfl)
theorem dJ30_putTreeVal_6 : decode cJ30_putTreeVal 6 = .ok (.aload_n 0, 1) := dk_42 (dk_at dksJ30_putTreeVal_0 6 rfl rfl)
theorem dJ30_putTreeVal_7 : decode cJ30_putTreeVal 7 = .ok (.getfield 9, 3) := dk_180 0 9 (dk_at dksJ30_putTreeVal_0 7 rfl rfl)
theorem dJ30_putTreeVal_10 : decode cJ30_putTreeVal 10 = .ok (.ifnull 10, 3) := dk_198 0 10 (dk_at dksJ30_putTreeVal_0 10 rfl rfl)
theorem dJ30_putTreeVal_13 : decode cJ30_putTreeVal 13 = .ok (.aload_n 0, 1) := dk_42 (dk_at dksJ30_putTreeVal_0 13 rfl rfl)
theorem dJ30_putTreeVal_14 : decode cJ30_putTreeVal 14 = .ok (.invokevirtual 67, 3) := dk_182 0 67 (dk_at dksJ30_putTreeVal_0 14 rfl rfl)
theorem dJ30_putTreeVal_17 : decode cJ30_putTreeVal 17 = .ok (.goto 4, 3) := dk_167 0 4 (dk_at dksJ30_putTreeVal_0 17 rfl rfl)
theorem dJ30_putTreeVal_20 : decode cJ30_putTreeVal 20 = .ok (.aload_n 0, 1) := dk_42 (dk_at dksJ30_putTreeVal_0 20 rfl rfl)
theorem dJ30_putTreeVal_21 : decode cJ30_putTreeVal 21 = .ok (.astore 8, 2) := dk_58 8 (dk_at dksJ30_putTreeVal_0 21 rfl rfl)
theorem dJ30_putTreeVal_23 : decode cJ30_putTreeVal 23 = .ok (.aload 8, 2) := dk_25 8 (dk_at dksJ30_putTreeVal_1 0 rfl rfl)
theorem dJ30_putTreeVal_25 : decode cJ30_putTreeVal 25 = .ok (.astore 9, 2) := dk_58 9 (dk_at dksJ30_putTreeVal_1 2 rfl rfl)
theorem dJ30_putTreeVal_27 : decode cJ30_putTreeVal 27 = .ok (.aload 9, 2) := dk_25 9 (dk_at dksJ30_putTreeVal_1 4 rfl rfl)
theorem dJ30_putTreeVal_29 : decode cJ30_putTreeVal 29 = .ok (.getfield 15, 3) := dk_180 0 15 (dk_at dksJ30_putTreeVal_1 6 rfl rfl)
theorem dJ30_putTreeVal_32 : decode cJ30_putTreeVal 32 = .ok (.dup, 1) := dk_89 (dk_at dksJ30_putTreeVal_1 9 rfl rfl)
theorem dJ30_putTreeVal_33 : decode cJ30_putTreeVal 33 = .ok (.istore 11, 2) := dk_54 11 (dk_at dksJ30_putTreeVal_1 10 rfl rfl)
theorem dJ30_putTreeVal_35 : decode cJ30_putTreeVal 35 = .ok (.iload_n 3, 1) := dk_29 (dk_at dksJ30_putTreeVal_1 12 rfl rfl)
theorem dJ30_putTreeVal_36 : decode cJ30_putTreeVal 36 = .ok (.if_icmp .le 9, 3) := dk_164 0 9 (dk_at dksJ30_putTreeVal_1 13 rfl rfl)
theorem dJ30_putTreeVal_39 : decode cJ30_putTreeVal 39 = .ok (.iconst (-1), 1) := dk_2 (dk_at dksJ30_putTreeVal_1 16 rfl rfl)
theorem dJ30_putTreeVal_40 : decode cJ30_putTreeVal 40 = .ok (.istore 10, 2) := dk_54 10 (dk_at dksJ30_putTreeVal_1 17 rfl rfl)
theorem dJ30_putTreeVal_42 : decode cJ30_putTreeVal 42 = .ok (.goto 151, 3) := dk_167 0 151 (dk_at dksJ30_putTreeVal_1 19 rfl rfl)
theorem dJ30_putTreeVal_45 : decode cJ30_putTreeVal 45 = .ok (.iload 11, 2) := dk_21 11 (dk_at dksJ30_putTreeVal_1 22 rfl rfl)
theorem dJ30_putTreeVal_47 : decode cJ30_putTreeVal 47 = .ok (.iload_n 3, 1) := dk_29 (dk_at dksJ30_putTreeVal_2 0 rfl rfl)
theorem dJ30_putTreeVal_48 : decode cJ30_putTreeVal 48 = .ok (.if_icmp .ge 9, 3) := dk_162 0 9 (dk_at dksJ30_putTreeVal_2 1 rfl rfl)
theorem dJ30_putTreeVal_51 : decode cJ30_putTreeVal 51 = .ok (.iconst 1, 1) := dk_4 (dk_at dksJ30_putTreeVal_2 4 rfl rfl)
theorem dJ30_putTreeVal_52 : decode cJ30_putTreeVal 52 = .ok (.istore 10, 2) := dk_54 10 (dk_at dksJ30_putTreeVal_2 5 rfl rfl)
theorem dJ30_putTreeVal_54 : decode cJ30_putTreeVal 54 = .ok (.goto 139, 3) := dk_167 0 139 (dk_at dksJ30_putTreeVal_2 7 rfl rfl)
theorem dJ30_putTreeVal_57 : decode cJ30_putTreeVal 57 = .ok (.aload 9, 2) := dk_25 9 (dk_at dksJ30_putTreeVal_2 10 rfl rfl)
theorem dJ30_putTreeVal_59 : decode cJ30_putTreeVal 59 = .ok (.getfield 45, 3) := dk_180 0 45 (dk_at dksJ30_putTreeVal_2 12 rfl rfl)
theorem dJ30_putTreeVal_62 : decode cJ30_putTreeVal 62 = .ok (.dup, 1) := dk_89 (dk_at dksJ30_putTreeVal_2 15 rfl rfl)
theorem dJ30_putTreeVal_63 : decode cJ30_putTreeVal 63 = .ok (.astore 12, 2) := dk_58 12 (dk_at dksJ30_putTreeVal_2 16 rfl rfl)
theorem dJ30_putTreeVal_65 : decode cJ30_putTreeVal 65 = .ok (.aload 4, 2) := dk_25 4 (dk_at dksJ30_putTreeVal_2 18 rfl rfl)
theorem dJ30_putTreeVal_67 : decode cJ30_putTreeVal 67 = .ok (.if_acmp .eq 18, 3) := dk_165 0 18 (dk_at dksJ30_putTreeVal_2 20 rfl rfl)
theorem dJ30_putTreeVal_70 : decode cJ30_putTreeVal 70 = .ok (.aload 4, 2) := dk_25 4 (dk_at dksJ30_putTreeVal_3 0 rfl rfl)
theorem dJ30_putTreeVal_72 : decode cJ30_putTreeVal 72 = .ok (.ifnull 16, 3) := dk_198 0 16 (dk_at dksJ30_putTreeVal_3 2 rfl rfl)
theorem dJ30_putTreeVal_75 : decode cJ30_putTreeVal 75 = .ok (.aload 4, 2) := dk_25 4 (dk_at dksJ30_putTreeVal_3 5 rfl rfl)
theorem dJ30_putTreeVal_77 : decode cJ30_putTreeVal 77 = .ok (.aload 12, 2) := dk_25 12 (dk_at dksJ30_putTreeVal_3 7 rfl rfl)
theorem dJ30_putTreeVal_79 : decode cJ30_putTreeVal 79 = .ok (.invokevirtual 49, 3) := dk_182 0 49 (dk_at dksJ30_putTreeVal_3 9 rfl rfl)
theorem dJ30_putTreeVal_82 : decode cJ30_putTreeVal 82 = .ok (.ifCond .eq 6, 3) := dk_153 0 6 (dk_at dksJ30_putTreeVal_3 12 rfl rfl)
theorem dJ30_putTreeVal_85 : decode cJ30_putTreeVal 85 = .ok (.aload 9, 2) := dk_25 9 (dk_at dksJ30_putTreeVal_3 15 rfl rfl)
theorem dJ30_putTreeVal_87 : decode cJ30_putTreeVal 87 = .ok (.areturn, 1) := dk_176 (dk_at dksJ30_putTreeVal_3 17 rfl rfl)
theorem dJ30_putTreeVal_88 : decode cJ30_putTreeVal 88 = .ok (.aload 6, 2) := dk_25 6 (dk_at dksJ30_putTreeVal_3 18 rfl rfl)
theorem dJ30_putTreeVal_90 : decode cJ30_putTreeVal 90 = .ok (.ifnonnull 14, 3) := dk_199 0 14 (dk_at dksJ30_putTreeVal_3 20 rfl rfl)
theorem dJ30_putTreeVal_93 : decode cJ30_putTreeVal 93 = .ok (.aload 4, 2) := dk_25 4 (dk_at dksJ30_putTreeVal_4 0 rfl rfl)
theorem dJ30_putTreeVal_95 : decode cJ30_putTreeVal 95 = .ok (.invokestatic 55, 3) := dk_184 0 55 (dk_at dksJ30_putTreeVal_4 2 rfl rfl)
theorem dJ30_putTreeVal_98 : decode cJ30_putTreeVal 98 = .ok (.dup, 1) := dk_89 (dk_at dksJ30_putTreeVal_4 5 rfl rfl)
theorem dJ30_putTreeVal_99 : decode cJ30_putTreeVal 99 = .ok (.astore 6, 2) := dk_58 6 (dk_at dksJ30_putTreeVal_4 6 rfl rfl)
theorem dJ30_putTreeVal_101 : decode cJ30_putTreeVal 101 = .ok (.ifnull 18, 3) := dk_198 0 18 (dk_at dksJ30_putTreeVal_4 8 rfl rfl)
theorem dJ30_putTreeVal_104 : decode cJ30_putTreeVal 104 = .ok (.aload 6, 2) := dk_25 6 (dk_at dksJ30_putTreeVal_4 11 rfl rfl)
theorem dJ30_putTreeVal_106 : decode cJ30_putTreeVal 106 = .ok (.aload 4, 2) := dk_25 4 (dk_at dksJ30_putTreeVal_4 13 rfl rfl)
theorem dJ30_putTreeVal_108 : decode cJ30_putTreeVal 108 = .ok (.aload 12, 2) := dk_25 12 (dk_at dksJ30_putTreeVal_4 15 rfl rfl)
theorem dJ30_putTreeVal_110 : decode cJ30_putTreeVal 110 = .ok (.invokestatic 59, 3) := dk_184 0 59 (dk_at dksJ30_putTreeVal_4 17 rfl rfl)
theorem dJ30_putTreeVal_113 : decode cJ30_putTreeVal 113 = .ok (.dup, 1) := dk_89 (dk_at dksJ30_putTreeVal_4 20 rfl rfl)
theorem dJ30_putTreeVal_114 : decode cJ30_putTreeVal 114 = .ok (.istore 10, 2) := dk_54 10 (dk_at dksJ30_putTreeVal_4 21 rfl rfl)
theorem dJ30_putTreeVal_116 : decode cJ30_putTreeVal 116 = .ok (.ifCond .ne 77, 3) := dk_154 0 77 (dk_at dksJ30_putTreeVal_5 0 rfl rfl)
theorem dJ30_putTreeVal_119 : decode cJ30_putTreeVal 119 = .ok (.iload 7, 2) := dk_21 7 (dk_at dksJ30_putTreeVal_5 3 rfl rfl)
theorem dJ30_putTreeVal_121 : decode cJ30_putTreeVal 121 = .ok (.ifCond .ne 63, 3) := dk_154 0 63 (dk_at dksJ30_putTreeVal_5 5 rfl rfl)
theorem dJ30_putTreeVal_124 : decode cJ30_putTreeVal 124 = .ok (.iconst 1, 1) := dk_4 (dk_at dksJ30_putTreeVal_5 8 rfl rfl)
theorem dJ30_putTreeVal_125 : decode cJ30_putTreeVal 125 = .ok (.istore 7, 2) := dk_54 7 (dk_at dksJ30_putTreeVal_5 9 rfl rfl)
theorem dJ30_putTreeVal_127 : decode cJ30_putTreeVal 127 = .ok (.aload 9, 2) := dk_25 9 (dk_at dksJ30_putTreeVal_5 11 rfl rfl)
theorem dJ30_putTreeVal_129 : decode cJ30_putTreeVal 129 = .ok (.getfield 39, 3) := dk_180 0 39 (dk_at dksJ30_putTreeVal_5 13 rfl rfl)
theorem dJ30_putTreeVal_132 : decode cJ30_putTreeVal 132 = .ok (.dup, 1) := dk_89 (dk_at dksJ30_putTreeVal_5 16 rfl rfl)
theorem dJ30_putTreeVal_133 : decode cJ30_putTreeVal 133 = .ok (.astore 14, 2) := dk_58 14 (dk_at dksJ30_putTreeVal_5 17 rfl rfl)
theorem dJ30_putTreeVal_135 : decode cJ30_putTreeVal 135 = .ok (.ifnull 19, 3) := dk_198 0 19 (dk_at dksJ30_putTreeVal_5 19 rfl rfl)
theorem dJ30_putTreeVal_138 : decode cJ30_putTreeVal 138 = .ok (.aload 14, 2) := dk_25 14 (dk_at dksJ30_putTreeVal_5 22 rfl rfl)
theorem dJ30_putTreeVal_140 : decode cJ30_putTreeVal 140 = .ok (.iload_n 3, 1) := dk_29 (dk_at dksJ30_putTreeVal_6 0 rfl rfl)
theorem dJ30_putTreeVal_141 : decode cJ30_putTreeVal 141 = .ok (.aload 4, 2) := dk_25 4 (dk_at dksJ30_putTreeVal_6 1 rfl rfl)
theorem dJ30_putTreeVal_143 : decode cJ30_putTreeVal 143 = .ok (.aload 6, 2) := dk_25 6 (dk_at dksJ30_putTreeVal_6 3 rfl rfl)
theorem dJ30_putTreeVal_145 : decode cJ30_putTreeVal 145 = .ok (.invokevirtual 63, 3) := dk_182 0 63 (dk_at dksJ30_putTreeVal_6 5 rfl rfl)
theorem dJ30_putTreeVal_148 : decode cJ30_putTreeVal 148 = .ok (.dup, 1) := dk_89 (dk_at dksJ30_putTreeVal_6 8 rfl rfl)
theorem dJ30_putTreeVal_149 : decode cJ30_putTreeVal 149 = .ok (.astore 13, 2) := dk_58 13 (dk_at dksJ30_putTreeVal_6 9 rfl rfl)
theorem dJ30_putTreeVal_151 : decode cJ30_putTreeVal 151 = .ok (.ifnonnull 30, 3) := dk_199 0 30 (dk_at dksJ30_putTreeVal_6 11 rfl rfl)
theorem dJ30_putTreeVal_154 : decode cJ30_putTreeVal 154 = .ok (.aload 9, 2) := dk_25 9 (dk_at dksJ30_putTreeVal_6 14 rfl rfl)
theorem dJ30_putTreeVal_156 : decode cJ30_putTreeVal 156 = .ok (.getfield 42, 3) := dk_180 0 42 (dk_at dksJ30_putTreeVal_6 16 rfl rfl)
theorem dJ30_putTreeVal_159 : decode cJ30_putTreeVal 159 = .ok (.dup, 1) := dk_89 (dk_at dksJ30_putTreeVal_6 19 rfl rfl)
theorem dJ30_putTreeVal_160 : decode cJ30_putTreeVal 160 = .ok (.astore 14, 2) := dk_58 14 (dk_at dksJ30_putTreeVal_6 20 rfl rfl)
theorem dJ30_putTreeVal_162 : decode cJ30_putTreeVal 162 = .ok (.ifnull 22, 3) := dk_198 0 22 (dk_at dksJ30_putTreeVal_7 0 rfl rfl)
theorem dJ30_putTreeVal_165 : decode cJ30_putTreeVal 165 = .ok (.aload 14, 2) := dk_25 14 (dk_at dksJ30_putTreeVal_7 3 rfl rfl)
theorem dJ30_putTreeVal_167 : decode cJ30_putTreeVal 167 = .ok (.iload_n 3, 1) := dk_29 (dk_at dksJ30_putTreeVal_7 5 rfl rfl)
theorem dJ30_putTreeVal_168 : decode cJ30_putTreeVal 168 = .ok (.aload 4, 2) := dk_25 4 (dk_at dksJ30_putTreeVal_7 6 rfl rfl)
theorem dJ30_putTreeVal_170 : decode cJ30_putTreeVal 170 = .ok (.aload 6, 2) := dk_25 6 (dk_at dksJ30_putTreeVal_7 8 rfl rfl)
theorem dJ30_putTreeVal_172 : decode cJ30_putTreeVal 172 = .ok (.invokevirtual 63, 3) := dk_182 0 63 (dk_at dksJ30_putTreeVal_7 10 rfl rfl)
theorem dJ30_putTreeVal_175 : decode cJ30_putTreeVal 175 = .ok (.dup, 1) := dk_89 (dk_at dksJ30_putTreeVal_7 13 rfl rfl)
theorem dJ30_putTreeVal_176 : decode cJ30_putTreeVal 176 = .ok (.astore 13, 2) := dk_58 13 (dk_at dksJ30_putTreeVal_7 14 rfl rfl)
theorem dJ30_putTreeVal_178 : decode cJ30_putTreeVal 178 = .ok (.ifnull 6, 3) := dk_198 0 6 (dk_at dksJ30_putTreeVal_7 16 rfl rfl)
theorem dJ30_putTreeVal_181 : decode cJ30_putTreeVal 181 = .ok (.aload 13, 2) := dk_25 13 (dk_at dksJ30_putTreeVal_7 19 rfl rfl)
theorem dJ30_putTreeVal_183 : decode cJ30_putTreeVal 183 = .ok (.areturn, 1) := dk_176 (dk_at dksJ30_putTreeVal_7 21 rfl rfl)
theorem dJ30_putTreeVal_184 : decode cJ30_putTreeVal 184 = .ok (.aload 4, 2) := dk_25 4 (dk_at dksJ30_putTreeVal_7 22 rfl rfl)
theorem dJ30_putTreeVal_186 : decode cJ30_putTreeVal 186 = .ok (.aload 12, 2) := dk_25 12 (dk_at dksJ30_putTreeVal_8 0 rfl rfl)
theorem dJ30_putTreeVal_188 : decode cJ30_putTreeVal 188 = .ok (.invokestatic 96, 3) := dk_184 0 96 (dk_at dksJ30_putTreeVal_8 2 rfl rfl)
theorem dJ30_putTreeVal_191 : decode cJ30_putTreeVal 191 = .ok (.istore 10, 2) := dk_54 10 (dk_at dksJ30_putTreeVal_8 5 rfl rfl)
theorem dJ30_putTreeVal_193 : decode cJ30_putTreeVal 193 = .ok (.aload 9, 2) := dk_25 9 (dk_at dksJ30_putTreeVal_8 7 rfl rfl)
theorem dJ30_putTreeVal_195 : decode cJ30_putTreeVal 195 = .ok (.astore 13, 2) := dk_58 13 (dk_at dksJ30_putTreeVal_8 9 rfl rfl)
theorem dJ30_putTreeVal_197 : decode cJ30_putTreeVal 197 = .ok (.iload 10, 2) := dk_21 10 (dk_at dksJ30_putTreeVal_8 11 rfl rfl)
theorem dJ30_putTreeVal_199 : decode cJ30_putTreeVal 199 = .ok (.ifCond .gt 11, 3) := dk_157 0 11 (dk_at dksJ30_putTreeVal_8 13 rfl rfl)
theorem dJ30_putTreeVal_202 : decode cJ30_putTreeVal 202 = .ok (.aload 9, 2) := dk_25 9 (dk_at dksJ30_putTreeVal_8 16 rfl rfl)
theorem dJ30_putTreeVal_204 : decode cJ30_putTreeVal 204 = .ok (.getfield 39, 3) := dk_180 0 39 (dk_at dksJ30_putTreeVal_8 18 rfl rfl)
theorem dJ30_putTreeVal_207 : decode cJ30_putTreeVal 207 = .ok (.goto 8, 3) := dk_167 0 8 (dk_at dksJ30_putTreeVal_8 21 rfl rfl)
theorem dJ30_putTreeVal_210 : decode cJ30_putTreeVal 210 = .ok (.aload 9, 2) := dk_25 9 (dk_at dksJ30_putTreeVal_9 0 rfl rfl)
theorem dJ30_putTreeVal_212 : decode cJ30_putTreeVal 212 = .ok (.getfield 42, 3) := dk_180 0 42 (dk_at dksJ30_putTreeVal_9 2 rfl rfl)
theorem dJ30_putTreeVal_215 : decode cJ30_putTreeVal 215 = .ok (.dup, 1) := dk_89 (dk_at dksJ30_putTreeVal_9 5 rfl rfl)
theorem dJ30_putTreeVal_216 : decode cJ30_putTreeVal 216 = .ok (.astore 9, 2) := dk_58 9 (dk_at dksJ30_putTreeVal_9 6 rfl rfl)
theorem dJ30_putTreeVal_218 : decode cJ30_putTreeVal 218 = .ok (.ifnonnull 93, 3) := dk_199 0 93 (dk_at dksJ30_putTreeVal_9 8 rfl rfl)
theorem dJ30_putTreeVal_221 : decode cJ30_putTreeVal 221 = .ok (.aload 13, 2) := dk_25 13 (dk_at dksJ30_putTreeVal_9 11 rfl rfl)
theorem dJ30_putTreeVal_223 : decode cJ30_putTreeVal 223 = .ok (.getfield 22, 3) := dk_180 0 22 (dk_at dksJ30_putTreeVal_9 13 rfl rfl)
theorem dJ30_putTreeVal_226 : decode cJ30_putTreeVal 226 = .ok (.astore 14, 2) := dk_58 14 (dk_at dksJ30_putTreeVal_9 16 rfl rfl)
theorem dJ30_putTreeVal_228 : decode cJ30_putTreeVal 228 = .ok (.aload_n 1, 1) := dk_43 (dk_at dksJ30_putTreeVal_9 18 rfl rfl)
theorem dJ30_putTreeVal_229 : decode cJ30_putTreeVal 229 = .ok (.iload_n 3, 1) := dk_29 (dk_at dksJ30_putTreeVal_9 19 rfl rfl)
theorem dJ30_putTreeVal_230 : decode cJ30_putTreeVal 230 = .ok (.aload 4, 2) := dk_25 4 (dk_at dksJ30_putTreeVal_9 20 rfl rfl)
theorem dJ30_putTreeVal_232 : decode cJ30_putTreeVal 232 = .ok (.aload 5, 2) := dk_25 5 (dk_at dksJ30_putTreeVal_9 22 rfl rfl)
theorem dJ30_putTreeVal_234 : decode cJ30_putTreeVal 234 = .ok (.aload 14, 2) := dk_25 14 (dk_at dksJ30_putTreeVal_10 0 rfl rfl)
theorem dJ30_putTreeVal_236 : decode cJ30_putTreeVal 236 = .ok (.invokevirtual 115, 3) := dk_182 0 115 (dk_at dksJ30_putTreeVal_10 2 rfl rfl)
theorem dJ30_putTreeVal_239 : decode cJ30_putTreeVal 239 = .ok (.astore 15, 2) := dk_58 15 (dk_at dksJ30_putTreeVal_10 5 rfl rfl)
theorem dJ30_putTreeVal_241 : decode cJ30_putTreeVal 241 = .ok (.iload 10, 2) := dk_21 10 (dk_at dksJ30_putTreeVal_10 7 rfl rfl)
theorem dJ30_putTreeVal_243 : decode cJ30_putTreeVal 243 = .ok (.ifCond .gt 13, 3) := dk_157 0 13 (dk_at dksJ30_putTreeVal_10 9 rfl rfl)
theorem dJ30_putTreeVal_246 : decode cJ30_putTreeVal 246 = .ok (.aload 13, 2) := dk_25 13 (dk_at dksJ30_putTreeVal_10 12 rfl rfl)
theorem dJ30_putTreeVal_248 : decode cJ30_putTreeVal 248 = .ok (.aload 15, 2) := dk_25 15 (dk_at dksJ30_putTreeVal_10 14 rfl rfl)
theorem dJ30_putTreeVal_250 : decode cJ30_putTreeVal 250 = .ok (.putfield 39, 3) := dk_181 0 39 (dk_at dksJ30_putTreeVal_10 16 rfl rfl)
theorem dJ30_putTreeVal_253 : decode cJ30_putTreeVal 253 = .ok (.goto 10, 3) := dk_167 0 10 (dk_at dksJ30_putTreeVal_10 19 rfl rfl)
theorem dJ30_putTreeVal_256 : decode cJ30_putTreeVal 256 = .ok (.aload 13, 2) := dk_25 13 (dk_at dksJ30_putTreeVal_10 22 rfl rfl)
theorem dJ30_putTreeVal_258 : decode cJ30_putTreeVal 258 = .ok (.aload 15, 2) := dk_25 15 (dk_at dksJ30_putTreeVal_11 0 rfl rfl)
theorem dJ30_putTreeVal_260 : decode cJ30_putTreeVal 260 = .ok (.putfield 42, 3) := dk_181 0 42 (dk_at dksJ30_putTreeVal_11 2 rfl rfl)
theorem dJ30_putTreeVal_263 : decode cJ30_putTreeVal 263 = .ok (.aload 13, 2) := dk_25 13 (dk_at dksJ30_putTreeVal_11 5 rfl rfl)
theorem dJ30_putTreeVal_265 : decode cJ30_putTreeVal 265 = .ok (.aload 15, 2) := dk_25 15 (dk_at dksJ30_putTreeVal_11 7 rfl rfl)
theorem dJ30_putTreeVal_267 : decode cJ30_putTreeVal 267 = .ok (.putfield 22, 3) := dk_181 0 22 (dk_at dksJ30_putTreeVal_11 9 rfl rfl)
theorem dJ30_putTreeVal_270 : decode cJ30_putTreeVal 270 = .ok (.aload 15, 2) := dk_25 15 (dk_at dksJ30_putTreeVal_11 12 rfl rfl)
theorem dJ30_putTreeVal_272 : decode cJ30_putTreeVal 272 = .ok (.aload 15, 2) := dk_25 15 (dk_at dksJ30_putTreeVal_11 14 rfl rfl)
theorem dJ30_putTreeVal_274 : decode cJ30_putTreeVal 274 = .ok (.aload 13, 2) := dk_25 13 (dk_at dksJ30_putTreeVal_11 16 rfl rfl)
theorem dJ30_putTreeVal_276 : decode cJ30_putTreeVal 276 = .ok (.dup_x1, 1) := dk_90 (dk_at dksJ30_putTreeVal_11 18 rfl rfl)
theorem dJ30_putTreeVal_277 : decode cJ30_putTreeVal 277 = .ok (.putfield 19, 3) := dk_181 0 19 (dk_at dksJ30_putTreeVal_11 19 rfl rfl)
theorem dJ30_putTreeVal_280 : decode cJ30_putTreeVal 280 = .ok (.putfield 9, 3) := dk_181 0 9 (dk_at dksJ30_putTreeVal_12 0 rfl rfl)
theorem dJ30_putTreeVal_283 : decode cJ30_putTreeVal 283 = .ok (.aload 14, 2) := dk_25 14 (dk_at dksJ30_putTreeVal_12 3 rfl rfl)
theorem dJ30_putTreeVal_285 : decode cJ30_putTreeVal 285 = .ok (.ifnull 13, 3) := dk_198 0 13 (dk_at dksJ30_putTreeVal_12 5 rfl rfl)
theorem dJ30_putTreeVal_288 : decode cJ30_putTreeVal 288 = .ok (.aload 14, 2) := dk_25 14 (dk_at dksJ30_putTreeVal_12 8 rfl rfl)
theorem dJ30_putTreeVal_290 : decode cJ30_putTreeVal 290 = .ok (.checkcast 10, 3) := dk_192 0 10 (dk_at dksJ30_putTreeVal_12 10 rfl rfl)
theorem dJ30_putTreeVal_293 : decode cJ30_putTreeVal 293 = .ok (.aload 15, 2) := dk_25 15 (dk_at dksJ30_putTreeVal_12 13 rfl rfl)
theorem dJ30_putTreeVal_295 : decode cJ30_putTreeVal 295 = .ok (.putfield 19, 3) := dk_181 0 19 (dk_at dksJ30_putTreeVal_12 15 rfl rfl)
theorem dJ30_putTreeVal_298 : decode cJ30_putTreeVal 298 = .ok (.aload_n 2, 1) := dk_44 (dk_at dksJ30_putTreeVal_12 18 rfl rfl)
theorem dJ30_putTreeVal_299 : decode cJ30_putTreeVal 299 = .ok (.aload 8, 2) := dk_25 8 (dk_at dksJ30_putTreeVal_12 19 rfl rfl)
theorem dJ30_putTreeVal_301 : decode cJ30_putTreeVal 301 = .ok (.aload 15, 2) := dk_25 15 (dk_at dksJ30_putTreeVal_12 21 rfl rfl)
theorem dJ30_putTreeVal_303 : decode cJ30_putTreeVal 303 = .ok (.invokestatic 100, 3) := dk_184 0 100 (dk_at dksJ30_putTreeVal_13 0 rfl rfl)
theorem dJ30_putTreeVal_306 : decode cJ30_putTreeVal 306 = .ok (.invokestatic 104, 3) := dk_184 0 104 (dk_at dksJ30_putTreeVal_13 3 rfl rfl)
theorem dJ30_putTreeVal_309 : decode cJ30_putTreeVal 309 = .ok (.aconst_null, 1) := dk_1 (dk_at dksJ30_putTreeVal_13 6 rfl rfl)
theorem dJ30_putTreeVal_310 : decode cJ30_putTreeVal 310 = .ok (.areturn, 1) := dk_176 (dk_at dksJ30_putTreeVal_13 7 rfl rfl)
theorem dJ30_putTreeVal_311 : decode cJ30_putTreeVal 311 = .ok (.goto (-284), 3) := dk_167 254 228 (dk_at dksJ30_putTreeVal_13 8 rfl rfl)
abbrev cJ30_init : ByteArray := prog_104_method_1_code
def yJ30_init : MethodName := ⟨RJ30, "<init>", "(ILjava/lang/Object;Ljava/lang/Object;Ljava/util/HashMap$Node;)V"⟩
def dkwJ30_init_0 : List UInt8 := [42, 27, 44, 45, 25, 4, 183, 0, 3, 177]
abbrev dktJ30_init_0 : List UInt8 := dkwJ30_init_0 ++ []
theorem dksJ30_init_0 : cJ30_init.data.toList.drop 0 = dktJ30_init_0 := by decide +kernel
theorem dJ30_init_0 : decode cJ30_init 0 = .ok (.aload_n 0, 1) := dk_42 (dk_at dksJ30_init_0 0 rfl rfl)
theorem dJ30_init_1 : decode cJ30_init 1 = .ok (.iload_n 1, 1) := dk_27 (dk_at dksJ30_init_0 1 rfl rfl)
theorem dJ30_init_2 : decode cJ30_init 2 = .ok (.aload_n 2, 1) := dk_44 (dk_at dksJ30_init_0 2 rfl rfl)
theorem dJ30_init_3 : decode cJ30_init 3 = .ok (.aload_n 3, 1) := dk_45 (dk_at dksJ30_init_0 3 rfl rfl)
theorem dJ30_init_4 : decode cJ30_init 4 = .ok (.aload 4, 2) := dk_25 4 (dk_at dksJ30_init_0 4 rfl rfl)
theorem dJ30_init_6 : decode cJ30_init 6 = .ok (.invokespecial 3, 3) := dk_183 0 3 (dk_at dksJ30_init_0 6 rfl rfl)
theorem dJ30_init_9 : decode cJ30_init 9 = .ok (.return_, 1) := dk_177 (dk_at dksJ30_init_0 9 rfl rfl)

abbrev cJ31_init : ByteArray := prog_99_method_1_code
def yJ31_init : MethodName := ⟨RJ31, "<init>", "(Ljava/util/ArrayList;)V"⟩
def dkwJ31_init_1 : List UInt8 := [181, 0, 22, 177]
abbrev dktJ31_init_1 : List UInt8 := dkwJ31_init_1 ++ []
def dkwJ31_init_0 : List UInt8 := [42, 43, 181, 0, 1, 42, 183, 0, 7, 42, 2, 181, 0, 13, 42, 42, 180, 0, 1, 180, 0, 17]
abbrev dktJ31_init_0 : List UInt8 := dkwJ31_init_0 ++ dktJ31_init_1
theorem dksJ31_init_0 : cJ31_init.data.toList.drop 0 = dktJ31_init_0 := by decide +kernel
theorem dksJ31_init_1 : cJ31_init.data.toList.drop 22 = dktJ31_init_1 := dk_seg dksJ31_init_0 22 rfl rfl
theorem dJ31_init_0 : decode cJ31_init 0 = .ok (.aload_n 0, 1) := dk_42 (dk_at dksJ31_init_0 0 rfl rfl)
theorem dJ31_init_1 : decode cJ31_init 1 = .ok (.aload_n 1, 1) := dk_43 (dk_at dksJ31_init_0 1 rfl rfl)
theorem dJ31_init_2 : decode cJ31_init 2 = .ok (.putfield 1, 3) := dk_181 0 1 (dk_at dksJ31_init_0 2 rfl rfl)
theorem dJ31_init_5 : decode cJ31_init 5 = .ok (.aload_n 0, 1) := dk_42 (dk_at dksJ31_init_0 5 rfl rfl)
theorem dJ31_init_6 : decode cJ31_init 6 = .ok (.invokespecial 7, 3) := dk_183 0 7 (dk_at dksJ31_init_0 6 rfl rfl)
theorem dJ31_init_9 : decode cJ31_init 9 = .ok (.aload_n 0, 1) := dk_42 (dk_at dksJ31_init_0 9 rfl rfl)
theorem dJ31_init_10 : decode cJ31_init 10 = .ok (.iconst (-1), 1) := dk_2 (dk_at dksJ31_init_0 10 rfl rfl)
theorem dJ31_init_11 : decode cJ31_init 11 = .ok (.putfield 13, 3) := dk_181 0 13 (dk_at dksJ31_init_0 11 rfl rfl)
theorem dJ31_init_14 : decode cJ31_init 14 = .ok (.aload_n 0, 1) := dk_42 (dk_at dksJ31_init_0 14 rfl rfl)
theorem dJ31_init_15 : decode cJ31_init 15 = .ok (.aload_n 0, 1) := dk_42 (dk_at dksJ31_init_0 15 rfl rfl)
theorem dJ31_init_16 : decode cJ31_init 16 = .ok (.getfield 1, 3) := dk_180 0 1 (dk_at dksJ31_init_0 16 rfl rfl)
theorem dJ31_init_19 : decode cJ31_init 19 = .ok (.getfield 17, 3) := dk_180 0 17 (dk_at dksJ31_init_0 19 rfl rfl)
theorem dJ31_init_22 : decode cJ31_init 22 = .ok (.putfield 22, 3) := dk_181 0 22 (dk_at dksJ31_init_1 0 rfl rfl)
theorem dJ31_init_25 : decode cJ31_init 25 = .ok (.return_, 1) := dk_177 (dk_at dksJ31_init_1 3 rfl rfl)
abbrev cJ31_hasNext : ByteArray := prog_99_method_2_code
def yJ31_hasNext : MethodName := ⟨RJ31, "hasNext", "()Z"⟩
def dkwJ31_hasNext_0 : List UInt8 := [42, 180, 0, 25, 42, 180, 0, 1, 180, 0, 28, 159, 0, 7, 4, 167, 0, 4, 3, 172]
abbrev dktJ31_hasNext_0 : List UInt8 := dkwJ31_hasNext_0 ++ []
theorem dksJ31_hasNext_0 : cJ31_hasNext.data.toList.drop 0 = dktJ31_hasNext_0 := by decide +kernel
theorem dJ31_hasNext_0 : decode cJ31_hasNext 0 = .ok (.aload_n 0, 1) := dk_42 (dk_at dksJ31_hasNext_0 0 rfl rfl)
theorem dJ31_hasNext_1 : decode cJ31_hasNext 1 = .ok (.getfield 25, 3) := dk_180 0 25 (dk_at dksJ31_hasNext_0 1 rfl rfl)
theorem dJ31_hasNext_4 : decode cJ31_hasNext 4 = .ok (.aload_n 0, 1) := dk_42 (dk_at dksJ31_hasNext_0 4 rfl rfl)
theorem dJ31_hasNext_5 : decode cJ31_hasNext 5 = .ok (.getfield 1, 3) := dk_180 0 1 (dk_at dksJ31_hasNext_0 5 rfl rfl)
theorem dJ31_hasNext_8 : decode cJ31_hasNext 8 = .ok (.getfield 28, 3) := dk_180 0 28 (dk_at dksJ31_hasNext_0 8 rfl rfl)
theorem dJ31_hasNext_11 : decode cJ31_hasNext 11 = .ok (.if_icmp .eq 7, 3) := dk_159 0 7 (dk_at dksJ31_hasNext_0 11 rfl rfl)
theorem dJ31_hasNext_14 : decode cJ31_hasNext 14 = .ok (.iconst 1, 1) := dk_4 (dk_at dksJ31_hasNext_0 14 rfl rfl)
theorem dJ31_hasNext_15 : decode cJ31_hasNext 15 = .ok (.goto 4, 3) := dk_167 0 4 (dk_at dksJ31_hasNext_0 15 rfl rfl)
theorem dJ31_hasNext_18 : decode cJ31_hasNext 18 = .ok (.iconst 0, 1) := dk_3 (dk_at dksJ31_hasNext_0 18 rfl rfl)
theorem dJ31_hasNext_19 : decode cJ31_hasNext 19 = .ok (.ireturn, 1) := dk_172 (dk_at dksJ31_hasNext_0 19 rfl rfl)
abbrev cJ31_next : ByteArray := prog_99_method_3_code
def yJ31_next : MethodName := ⟨RJ31, "next", "()Ljava/lang/Object;"⟩
def dkwJ31_next_2 : List UInt8 := [183, 0, 43, 191, 42, 27, 4, 96, 181, 0, 25, 44, 42, 27, 90, 181, 0, 13, 50, 176]
abbrev dktJ31_next_2 : List UInt8 := dkwJ31_next_2 ++ []
def dkwJ31_next_1 : List UInt8 := [183, 0, 36, 191, 42, 180, 0, 1, 180, 0, 37, 77, 27, 44, 190, 161, 0, 11, 187, 0, 41, 89]
abbrev dktJ31_next_1 : List UInt8 := dkwJ31_next_1 ++ dktJ31_next_2
def dkwJ31_next_0 : List UInt8 := [42, 182, 0, 31, 42, 180, 0, 25, 60, 27, 42, 180, 0, 1, 180, 0, 28, 161, 0, 11, 187, 0, 34, 89]
abbrev dktJ31_next_0 : List UInt8 := dkwJ31_next_0 ++ dktJ31_next_1
theorem dksJ31_next_0 : cJ31_next.data.toList.drop 0 = dktJ31_next_0 := by decide +kernel
theorem dksJ31_next_1 : cJ31_next.data.toList.drop 24 = dktJ31_next_1 := dk_seg dksJ31_next_0 24 rfl rfl
theorem dksJ31_next_2 : cJ31_next.data.toList.drop 46 = dktJ31_next_2 := dk_seg dksJ31_next_1 22 rfl rfl
theorem dJ31_next_0 : decode cJ31_next 0 = .ok (.aload_n 0, 1) := dk_42 (dk_at dksJ31_next_0 0 rfl rfl)
theorem dJ31_next_1 : decode cJ31_next 1 = .ok (.invokevirtual 31, 3) := dk_182 0 31 (dk_at dksJ31_next_0 1 rfl rfl)
theorem dJ31_next_4 : decode cJ31_next 4 = .ok (.aload_n 0, 1) := dk_42 (dk_at dksJ31_next_0 4 rfl rfl)
theorem dJ31_next_5 : decode cJ31_next 5 = .ok (.getfield 25, 3) := dk_180 0 25 (dk_at dksJ31_next_0 5 rfl rfl)
theorem dJ31_next_8 : decode cJ31_next 8 = .ok (.istore_n 1, 1) := dk_60 (dk_at dksJ31_next_0 8 rfl rfl)
theorem dJ31_next_9 : decode cJ31_next 9 = .ok (.iload_n 1, 1) := dk_27 (dk_at dksJ31_next_0 9 rfl rfl)
theorem dJ31_next_10 : decode cJ31_next 10 = .ok (.aload_n 0, 1) := dk_42 (dk_at dksJ31_next_0 10 rfl rfl)
theorem dJ31_next_11 : decode cJ31_next 11 = .ok (.getfield 1, 3) := dk_180 0 1 (dk_at dksJ31_next_0 11 rfl rfl)
theorem dJ31_next_14 : decode cJ31_next 14 = .ok (.getfield 28, 3) := dk_180 0 28 (dk_at dksJ31_next_0 14 rfl rfl)
theorem dJ31_next_17 : decode cJ31_next 17 = .ok (.if_icmp .lt 11, 3) := dk_161 0 11 (dk_at dksJ31_next_0 17 rfl rfl)
theorem dJ31_next_20 : decode cJ31_next 20 = .ok (.new 34, 3) := dk_187 0 34 (dk_at dksJ31_next_0 20 rfl rfl)
theorem dJ31_next_23 : decode cJ31_next 23 = .ok (.dup, 1) := dk_89 (dk_at dksJ31_next_0 23 rfl rfl)
theorem dJ31_next_24 : decode cJ31_next 24 = .ok (.invokespecial 36, 3) := dk_183 0 36 (dk_at dksJ31_next_1 0 rfl rfl)
theorem dJ31_next_27 : decode cJ31_next 27 = .ok (.athrow, 1) := dk_191 (dk_at dksJ31_next_1 3 rfl rfl)
theorem dJ31_next_28 : decode cJ31_next 28 = .ok (.aload_n 0, 1) := dk_42 (dk_at dksJ31_next_1 4 rfl rfl)
theorem dJ31_next_29 : decode cJ31_next 29 = .ok (.getfield 1, 3) := dk_180 0 1 (dk_at dksJ31_next_1 5 rfl rfl)
theorem dJ31_next_32 : decode cJ31_next 32 = .ok (.getfield 37, 3) := dk_180 0 37 (dk_at dksJ31_next_1 8 rfl rfl)
theorem dJ31_next_35 : decode cJ31_next 35 = .ok (.astore_n 2, 1) := dk_77 (dk_at dksJ31_next_1 11 rfl rfl)
theorem dJ31_next_36 : decode cJ31_next 36 = .ok (.iload_n 1, 1) := dk_27 (dk_at dksJ31_next_1 12 rfl rfl)
theorem dJ31_next_37 : decode cJ31_next 37 = .ok (.aload_n 2, 1) := dk_44 (dk_at dksJ31_next_1 13 rfl rfl)
theorem dJ31_next_38 : decode cJ31_next 38 = .ok (.arraylength, 1) := dk_190 (dk_at dksJ31_next_1 14 rfl rfl)
theorem dJ31_next_39 : decode cJ31_next 39 = .ok (.if_icmp .lt 11, 3) := dk_161 0 11 (dk_at dksJ31_next_1 15 rfl rfl)
theorem dJ31_next_42 : decode cJ31_next 42 = .ok (.new 41, 3) := dk_187 0 41 (dk_at dksJ31_next_1 18 rfl rfl)
theorem dJ31_next_45 : decode cJ31_next 45 = .ok (.dup, 1) := dk_89 (dk_at dksJ31_next_1 21 rfl rfl)
theorem dJ31_next_46 : decode cJ31_next 46 = .ok (.invokespecial 43, 3) := dk_183 0 43 (dk_at dksJ31_next_2 0 rfl rfl)
theorem dJ31_next_49 : decode cJ31_next 49 = .ok (.athrow, 1) := dk_191 (dk_at dksJ31_next_2 3 rfl rfl)
theorem dJ31_next_50 : decode cJ31_next 50 = .ok (.aload_n 0, 1) := dk_42 (dk_at dksJ31_next_2 4 rfl rfl)
theorem dJ31_next_51 : decode cJ31_next 51 = .ok (.iload_n 1, 1) := dk_27 (dk_at dksJ31_next_2 5 rfl rfl)
theorem dJ31_next_52 : decode cJ31_next 52 = .ok (.iconst 1, 1) := dk_4 (dk_at dksJ31_next_2 6 rfl rfl)
theorem dJ31_next_53 : decode cJ31_next 53 = .ok (.iadd, 1) := dk_96 (dk_at dksJ31_next_2 7 rfl rfl)
theorem dJ31_next_54 : decode cJ31_next 54 = .ok (.putfield 25, 3) := dk_181 0 25 (dk_at dksJ31_next_2 8 rfl rfl)
theorem dJ31_next_57 : decode cJ31_next 57 = .ok (.aload_n 2, 1) := dk_44 (dk_at dksJ31_next_2 11 rfl rfl)
theorem dJ31_next_58 : decode cJ31_next 58 = .ok (.aload_n 0, 1) := dk_42 (dk_at dksJ31_next_2 12 rfl rfl)
theorem dJ31_next_59 : decode cJ31_next 59 = .ok (.iload_n 1, 1) := dk_27 (dk_at dksJ31_next_2 13 rfl rfl)
theorem dJ31_next_60 : decode cJ31_next 60 = .ok (.dup_x1, 1) := dk_90 (dk_at dksJ31_next_2 14 rfl rfl)
theorem dJ31_next_61 : decode cJ31_next 61 = .ok (.putfield 13, 3) := dk_181 0 13 (dk_at dksJ31_next_2 15 rfl rfl)
theorem dJ31_next_64 : decode cJ31_next 64 = .ok (.aaload, 1) := dk_50 (dk_at dksJ31_next_2 18 rfl rfl)
theorem dJ31_next_65 : decode cJ31_next 65 = .ok (.areturn, 1) := dk_176 (dk_at dksJ31_next_2 19 rfl rfl)
abbrev cJ31_checkForComodification : ByteArray := prog_99_method_6_code
def yJ31_checkForComodification : MethodName := ⟨RJ31, "checkForComodification", "()V"⟩
def dkwJ31_checkForComodification_0 : List UInt8 := [42, 180, 0, 1, 180, 0, 17, 42, 180, 0, 22, 159, 0, 11, 187, 0, 41, 89, 183, 0, 43, 191, 177]
abbrev dktJ31_checkForComodification_0 : List UInt8 := dkwJ31_checkForComodification_0 ++ []
theorem dksJ31_checkForComodification_0 : cJ31_checkForComodification.data.toList.drop 0 = dktJ31_checkForComodification_0 := by decide +kernel
theorem dJ31_checkForComodification_0 : decode cJ31_checkForComodification 0 = .ok (.aload_n 0, 1) := dk_42 (dk_at dksJ31_checkForComodification_0 0 rfl rfl)
theorem dJ31_checkForComodification_1 : decode cJ31_checkForComodification 1 = .ok (.getfield 1, 3) := dk_180 0 1 (dk_at dksJ31_checkForComodification_0 1 rfl rfl)
theorem dJ31_checkForComodification_4 : decode cJ31_checkForComodification 4 = .ok (.getfield 17, 3) := dk_180 0 17 (dk_at dksJ31_checkForComodification_0 4 rfl rfl)
theorem dJ31_checkForComodification_7 : decode cJ31_checkForComodification 7 = .ok (.aload_n 0, 1) := dk_42 (dk_at dksJ31_checkForComodification_0 7 rfl rfl)
theorem dJ31_checkForComodification_8 : decode cJ31_checkForComodification 8 = .ok (.getfield 22, 3) := dk_180 0 22 (dk_at dksJ31_checkForComodification_0 8 rfl rfl)
theorem dJ31_checkForComodification_11 : decode cJ31_checkForComodification 11 = .ok (.if_icmp .eq 11, 3) := dk_159 0 11 (dk_at dksJ31_checkForComodification_0 11 rfl rfl)
theorem dJ31_checkForComodification_14 : decode cJ31_checkForComodification 14 = .ok (.new 41, 3) := dk_187 0 41 (dk_at dksJ31_checkForComodification_0 14 rfl rfl)
theorem dJ31_checkForComodification_17 : decode cJ31_checkForComodification 17 = .ok (.dup, 1) := dk_89 (dk_at dksJ31_checkForComodification_0 17 rfl rfl)
theorem dJ31_checkForComodification_18 : decode cJ31_checkForComodification 18 = .ok (.invokespecial 43, 3) := dk_183 0 43 (dk_at dksJ31_checkForComodification_0 18 rfl rfl)
theorem dJ31_checkForComodification_21 : decode cJ31_checkForComodification 21 = .ok (.athrow, 1) := dk_191 (dk_at dksJ31_checkForComodification_0 21 rfl rfl)
theorem dJ31_checkForComodification_22 : decode cJ31_checkForComodification 22 = .ok (.return_, 1) := dk_177 (dk_at dksJ31_checkForComodification_0 22 rfl rfl)

abbrev cJ33_init : ByteArray := object_method_1_code
def yJ33_init : MethodName := ⟨RJ33, "<init>", "()V"⟩
theorem dJ33_init_0 : decode cJ33_init 0 = .ok (.return_, 1) := by decide +kernel
abbrev cJ33_equals : ByteArray := object_method_4_code
def yJ33_equals : MethodName := ⟨RJ33, "equals", "(Ljava/lang/Object;)Z"⟩
def dkwJ33_equals_0 : List UInt8 := [42, 43, 166, 0, 7, 4, 167, 0, 4, 3, 172]
abbrev dktJ33_equals_0 : List UInt8 := dkwJ33_equals_0 ++ []
theorem dksJ33_equals_0 : cJ33_equals.data.toList.drop 0 = dktJ33_equals_0 := by decide +kernel
theorem dJ33_equals_0 : decode cJ33_equals 0 = .ok (.aload_n 0, 1) := dk_42 (dk_at dksJ33_equals_0 0 rfl rfl)
theorem dJ33_equals_1 : decode cJ33_equals 1 = .ok (.aload_n 1, 1) := dk_43 (dk_at dksJ33_equals_0 1 rfl rfl)
theorem dJ33_equals_2 : decode cJ33_equals 2 = .ok (.if_acmp .ne 7, 3) := dk_166 0 7 (dk_at dksJ33_equals_0 2 rfl rfl)
theorem dJ33_equals_5 : decode cJ33_equals 5 = .ok (.iconst 1, 1) := dk_4 (dk_at dksJ33_equals_0 5 rfl rfl)
theorem dJ33_equals_6 : decode cJ33_equals 6 = .ok (.goto 4, 3) := dk_167 0 4 (dk_at dksJ33_equals_0 6 rfl rfl)
theorem dJ33_equals_9 : decode cJ33_equals 9 = .ok (.iconst 0, 1) := dk_3 (dk_at dksJ33_equals_0 9 rfl rfl)
theorem dJ33_equals_10 : decode cJ33_equals 10 = .ok (.ireturn, 1) := dk_172 (dk_at dksJ33_equals_0 10 rfl rfl)

abbrev cJ4_min : ByteArray := prog_82_method_69_code
def yJ4_min : MethodName := ⟨RJ4, "min", "(II)I"⟩
def dkwJ4_min_0 : List UInt8 := [26, 27, 163, 0, 7, 26, 167, 0, 4, 27, 172]
abbrev dktJ4_min_0 : List UInt8 := dkwJ4_min_0 ++ []
theorem dksJ4_min_0 : cJ4_min.data.toList.drop 0 = dktJ4_min_0 := by decide +kernel
theorem dJ4_min_0 : decode cJ4_min 0 = .ok (.iload_n 0, 1) := dk_26 (dk_at dksJ4_min_0 0 rfl rfl)
theorem dJ4_min_1 : decode cJ4_min 1 = .ok (.iload_n 1, 1) := dk_27 (dk_at dksJ4_min_0 1 rfl rfl)
theorem dJ4_min_2 : decode cJ4_min 2 = .ok (.if_icmp .gt 7, 3) := dk_163 0 7 (dk_at dksJ4_min_0 2 rfl rfl)
theorem dJ4_min_5 : decode cJ4_min 5 = .ok (.iload_n 0, 1) := dk_26 (dk_at dksJ4_min_0 5 rfl rfl)
theorem dJ4_min_6 : decode cJ4_min 6 = .ok (.goto 4, 3) := dk_167 0 4 (dk_at dksJ4_min_0 6 rfl rfl)
theorem dJ4_min_9 : decode cJ4_min 9 = .ok (.iload_n 1, 1) := dk_27 (dk_at dksJ4_min_0 9 rfl rfl)
theorem dJ4_min_10 : decode cJ4_min 10 = .ok (.ireturn, 1) := dk_172 (dk_at dksJ4_min_0 10 rfl rfl)
abbrev cJ4_max : ByteArray := prog_82_method_65_code
def yJ4_max : MethodName := ⟨RJ4, "max", "(II)I"⟩
def dkwJ4_max_0 : List UInt8 := [26, 27, 161, 0, 7, 26, 167, 0, 4, 27, 172]
abbrev dktJ4_max_0 : List UInt8 := dkwJ4_max_0 ++ []
theorem dksJ4_max_0 : cJ4_max.data.toList.drop 0 = dktJ4_max_0 := by decide +kernel
theorem dJ4_max_0 : decode cJ4_max 0 = .ok (.iload_n 0, 1) := dk_26 (dk_at dksJ4_max_0 0 rfl rfl)
theorem dJ4_max_1 : decode cJ4_max 1 = .ok (.iload_n 1, 1) := dk_27 (dk_at dksJ4_max_0 1 rfl rfl)
theorem dJ4_max_2 : decode cJ4_max 2 = .ok (.if_icmp .lt 7, 3) := dk_161 0 7 (dk_at dksJ4_max_0 2 rfl rfl)
theorem dJ4_max_5 : decode cJ4_max 5 = .ok (.iload_n 0, 1) := dk_26 (dk_at dksJ4_max_0 5 rfl rfl)
theorem dJ4_max_6 : decode cJ4_max 6 = .ok (.goto 4, 3) := dk_167 0 4 (dk_at dksJ4_max_0 6 rfl rfl)
theorem dJ4_max_9 : decode cJ4_max 9 = .ok (.iload_n 1, 1) := dk_27 (dk_at dksJ4_max_0 9 rfl rfl)
theorem dJ4_max_10 : decode cJ4_max 10 = .ok (.ireturn, 1) := dk_172 (dk_at dksJ4_max_0 10 rfl rfl)
abbrev cJ4_min_2 : ByteArray := prog_82_method_70_code
def yJ4_min_2 : MethodName := ⟨RJ4, "min", "(JJ)J"⟩
def dkwJ4_min_2_0 : List UInt8 := [30, 32, 148, 157, 0, 7, 30, 167, 0, 4, 32, 173]
abbrev dktJ4_min_2_0 : List UInt8 := dkwJ4_min_2_0 ++ []
theorem dksJ4_min_2_0 : cJ4_min_2.data.toList.drop 0 = dktJ4_min_2_0 := by decide +kernel
theorem dJ4_min_2_0 : decode cJ4_min_2 0 = .ok (.lload_n 0, 1) := dk_30 (dk_at dksJ4_min_2_0 0 rfl rfl)
theorem dJ4_min_2_1 : decode cJ4_min_2 1 = .ok (.lload_n 2, 1) := dk_32 (dk_at dksJ4_min_2_0 1 rfl rfl)
theorem dJ4_min_2_2 : decode cJ4_min_2 2 = .ok (.lcmp, 1) := dk_148 (dk_at dksJ4_min_2_0 2 rfl rfl)
theorem dJ4_min_2_3 : decode cJ4_min_2 3 = .ok (.ifCond .gt 7, 3) := dk_157 0 7 (dk_at dksJ4_min_2_0 3 rfl rfl)
theorem dJ4_min_2_6 : decode cJ4_min_2 6 = .ok (.lload_n 0, 1) := dk_30 (dk_at dksJ4_min_2_0 6 rfl rfl)
theorem dJ4_min_2_7 : decode cJ4_min_2 7 = .ok (.goto 4, 3) := dk_167 0 4 (dk_at dksJ4_min_2_0 7 rfl rfl)
theorem dJ4_min_2_10 : decode cJ4_min_2 10 = .ok (.lload_n 2, 1) := dk_32 (dk_at dksJ4_min_2_0 10 rfl rfl)
theorem dJ4_min_2_11 : decode cJ4_min_2 11 = .ok (.lreturn, 1) := dk_173 (dk_at dksJ4_min_2_0 11 rfl rfl)
abbrev cJ4_floorDiv : ByteArray := prog_82_method_49_code
def yJ4_floorDiv : MethodName := ⟨RJ4, "floorDiv", "(JJ)J"⟩
def dkwJ4_floorDiv_1 : List UInt8 := [10, 101, 173, 22, 4, 173]
abbrev dktJ4_floorDiv_1 : List UInt8 := dkwJ4_floorDiv_1 ++ []
def dkwJ4_floorDiv_0 : List UInt8 := [30, 32, 109, 55, 4, 30, 32, 131, 9, 148, 156, 0, 17, 22, 4, 32, 105, 30, 148, 153, 0, 8, 22, 4]
abbrev dktJ4_floorDiv_0 : List UInt8 := dkwJ4_floorDiv_0 ++ dktJ4_floorDiv_1
theorem dksJ4_floorDiv_0 : cJ4_floorDiv.data.toList.drop 0 = dktJ4_floorDiv_0 := by decide +kernel
theorem dksJ4_floorDiv_1 : cJ4_floorDiv.data.toList.drop 24 = dktJ4_floorDiv_1 := dk_seg dksJ4_floorDiv_0 24 rfl rfl
theorem dJ4_floorDiv_0 : decode cJ4_floorDiv 0 = .ok (.lload_n 0, 1) := dk_30 (dk_at dksJ4_floorDiv_0 0 rfl rfl)
theorem dJ4_floorDiv_1 : decode cJ4_floorDiv 1 = .ok (.lload_n 2, 1) := dk_32 (dk_at dksJ4_floorDiv_0 1 rfl rfl)
theorem dJ4_floorDiv_2 : decode cJ4_floorDiv 2 = .ok (.ldiv, 1) := dk_109 (dk_at dksJ4_floorDiv_0 2 rfl rfl)
theorem dJ4_floorDiv_3 : decode cJ4_floorDiv 3 = .ok (.lstore 4, 2) := dk_55 4 (dk_at dksJ4_floorDiv_0 3 rfl rfl)
theorem dJ4_floorDiv_5 : decode cJ4_floorDiv 5 = .ok (.lload_n 0, 1) := dk_30 (dk_at dksJ4_floorDiv_0 5 rfl rfl)
theorem dJ4_floorDiv_6 : decode cJ4_floorDiv 6 = .ok (.lload_n 2, 1) := dk_32 (dk_at dksJ4_floorDiv_0 6 rfl rfl)
theorem dJ4_floorDiv_7 : decode cJ4_floorDiv 7 = .ok (.lxor, 1) := dk_131 (dk_at dksJ4_floorDiv_0 7 rfl rfl)
theorem dJ4_floorDiv_8 : decode cJ4_floorDiv 8 = .ok (.lconst 0, 1) := dk_9 (dk_at dksJ4_floorDiv_0 8 rfl rfl)
theorem dJ4_floorDiv_9 : decode cJ4_floorDiv 9 = .ok (.lcmp, 1) := dk_148 (dk_at dksJ4_floorDiv_0 9 rfl rfl)
theorem dJ4_floorDiv_10 : decode cJ4_floorDiv 10 = .ok (.ifCond .ge 17, 3) := dk_156 0 17 (dk_at dksJ4_floorDiv_0 10 rfl rfl)
theorem dJ4_floorDiv_13 : decode cJ4_floorDiv 13 = .ok (.lload 4, 2) := dk_22 4 (dk_at dksJ4_floorDiv_0 13 rfl rfl)
theorem dJ4_floorDiv_15 : decode cJ4_floorDiv 15 = .ok (.lload_n 2, 1) := dk_32 (dk_at dksJ4_floorDiv_0 15 rfl rfl)
theorem dJ4_floorDiv_16 : decode cJ4_floorDiv 16 = .ok (.lmul, 1) := dk_105 (dk_at dksJ4_floorDiv_0 16 rfl rfl)
theorem dJ4_floorDiv_17 : decode cJ4_floorDiv 17 = .ok (.lload_n 0, 1) := dk_30 (dk_at dksJ4_floorDiv_0 17 rfl rfl)
theorem dJ4_floorDiv_18 : decode cJ4_floorDiv 18 = .ok (.lcmp, 1) := dk_148 (dk_at dksJ4_floorDiv_0 18 rfl rfl)
theorem dJ4_floorDiv_19 : decode cJ4_floorDiv 19 = .ok (.ifCond .eq 8, 3) := dk_153 0 8 (dk_at dksJ4_floorDiv_0 19 rfl rfl)
theorem dJ4_floorDiv_22 : decode cJ4_floorDiv 22 = .ok (.lload 4, 2) := dk_22 4 (dk_at dksJ4_floorDiv_0 22 rfl rfl)
theorem dJ4_floorDiv_24 : decode cJ4_floorDiv 24 = .ok (.lconst 1, 1) := dk_10 (dk_at dksJ4_floorDiv_1 0 rfl rfl)
theorem dJ4_floorDiv_25 : decode cJ4_floorDiv 25 = .ok (.lsub, 1) := dk_101 (dk_at dksJ4_floorDiv_1 1 rfl rfl)
theorem dJ4_floorDiv_26 : decode cJ4_floorDiv 26 = .ok (.lreturn, 1) := dk_173 (dk_at dksJ4_floorDiv_1 2 rfl rfl)
theorem dJ4_floorDiv_27 : decode cJ4_floorDiv 27 = .ok (.lload 4, 2) := dk_22 4 (dk_at dksJ4_floorDiv_1 3 rfl rfl)
theorem dJ4_floorDiv_29 : decode cJ4_floorDiv 29 = .ok (.lreturn, 1) := dk_173 (dk_at dksJ4_floorDiv_1 5 rfl rfl)

abbrev cJ5_init : ByteArray := prog_95_method_1_code
def yJ5_init : MethodName := ⟨RJ5, "<init>", "()V"⟩
theorem dJ5_init_0 : decode cJ5_init 0 = .ok (.aload_n 0, 1) := by decide +kernel
theorem dJ5_init_1 : decode cJ5_init 1 = .ok (.invokespecial 1, 3) := by decide +kernel
theorem dJ5_init_4 : decode cJ5_init 4 = .ok (.return_, 1) := by decide +kernel

abbrev cJ6_init : ByteArray := prog_96_method_1_code
def yJ6_init : MethodName := ⟨RJ6, "<init>", "()V"⟩
def dkwJ6_init_0 : List UInt8 := [42, 183, 0, 1, 42, 3, 181, 0, 7, 177]
abbrev dktJ6_init_0 : List UInt8 := dkwJ6_init_0 ++ []
theorem dksJ6_init_0 : cJ6_init.data.toList.drop 0 = dktJ6_init_0 := by decide +kernel
theorem dJ6_init_0 : decode cJ6_init 0 = .ok (.aload_n 0, 1) := dk_42 (dk_at dksJ6_init_0 0 rfl rfl)
theorem dJ6_init_1 : decode cJ6_init 1 = .ok (.invokespecial 1, 3) := dk_183 0 1 (dk_at dksJ6_init_0 1 rfl rfl)
theorem dJ6_init_4 : decode cJ6_init 4 = .ok (.aload_n 0, 1) := dk_42 (dk_at dksJ6_init_0 4 rfl rfl)
theorem dJ6_init_5 : decode cJ6_init 5 = .ok (.iconst 0, 1) := dk_3 (dk_at dksJ6_init_0 5 rfl rfl)
theorem dJ6_init_6 : decode cJ6_init 6 = .ok (.putfield 7, 3) := dk_181 0 7 (dk_at dksJ6_init_0 6 rfl rfl)
theorem dJ6_init_9 : decode cJ6_init 9 = .ok (.return_, 1) := dk_177 (dk_at dksJ6_init_0 9 rfl rfl)

abbrev cJ7_init : ByteArray := prog_98_method_2_code
def yJ7_init : MethodName := ⟨RJ7, "<init>", "()V"⟩
def dkwJ7_init_0 : List UInt8 := [42, 183, 0, 1, 42, 178, 0, 39, 181, 0, 9, 177]
abbrev dktJ7_init_0 : List UInt8 := dkwJ7_init_0 ++ []
theorem dksJ7_init_0 : cJ7_init.data.toList.drop 0 = dktJ7_init_0 := by decide +kernel
theorem dJ7_init_0 : decode cJ7_init 0 = .ok (.aload_n 0, 1) := dk_42 (dk_at dksJ7_init_0 0 rfl rfl)
theorem dJ7_init_1 : decode cJ7_init 1 = .ok (.invokespecial 1, 3) := dk_183 0 1 (dk_at dksJ7_init_0 1 rfl rfl)
theorem dJ7_init_4 : decode cJ7_init 4 = .ok (.aload_n 0, 1) := dk_42 (dk_at dksJ7_init_0 4 rfl rfl)
theorem dJ7_init_5 : decode cJ7_init 5 = .ok (.getstatic 39, 3) := dk_178 0 39 (dk_at dksJ7_init_0 5 rfl rfl)
theorem dJ7_init_8 : decode cJ7_init 8 = .ok (.putfield 9, 3) := dk_181 0 9 (dk_at dksJ7_init_0 8 rfl rfl)
theorem dJ7_init_11 : decode cJ7_init 11 = .ok (.return_, 1) := dk_177 (dk_at dksJ7_init_0 11 rfl rfl)
abbrev cJ7_size : ByteArray := prog_98_method_8_code
def yJ7_size : MethodName := ⟨RJ7, "size", "()I"⟩
theorem dJ7_size_0 : decode cJ7_size 0 = .ok (.aload_n 0, 1) := by decide +kernel
theorem dJ7_size_1 : decode cJ7_size 1 = .ok (.getfield 48, 3) := by decide +kernel
theorem dJ7_size_4 : decode cJ7_size 4 = .ok (.ireturn, 1) := by decide +kernel
abbrev cJ7_get : ByteArray := prog_98_method_20_code
def yJ7_get : MethodName := ⟨RJ7, "get", "(I)Ljava/lang/Object;"⟩
def dkwJ7_get_0 : List UInt8 := [27, 42, 180, 0, 48, 184, 0, 118, 87, 42, 27, 182, 0, 123, 176]
abbrev dktJ7_get_0 : List UInt8 := dkwJ7_get_0 ++ []
theorem dksJ7_get_0 : cJ7_get.data.toList.drop 0 = dktJ7_get_0 := by decide +kernel
theorem dJ7_get_0 : decode cJ7_get 0 = .ok (.iload_n 1, 1) := dk_27 (dk_at dksJ7_get_0 0 rfl rfl)
theorem dJ7_get_1 : decode cJ7_get 1 = .ok (.aload_n 0, 1) := dk_42 (dk_at dksJ7_get_0 1 rfl rfl)
theorem dJ7_get_2 : decode cJ7_get 2 = .ok (.getfield 48, 3) := dk_180 0 48 (dk_at dksJ7_get_0 2 rfl rfl)
theorem dJ7_get_5 : decode cJ7_get 5 = .ok (.invokestatic 118, 3) := dk_184 0 118 (dk_at dksJ7_get_0 5 rfl rfl)
theorem dJ7_get_8 : decode cJ7_get 8 = .ok (.pop, 1) := dk_87 (dk_at dksJ7_get_0 8 rfl rfl)
theorem dJ7_get_9 : decode cJ7_get 9 = .ok (.aload_n 0, 1) := dk_42 (dk_at dksJ7_get_0 9 rfl rfl)
theorem dJ7_get_10 : decode cJ7_get 10 = .ok (.iload_n 1, 1) := dk_27 (dk_at dksJ7_get_0 10 rfl rfl)
theorem dJ7_get_11 : decode cJ7_get 11 = .ok (.invokevirtual 123, 3) := dk_182 0 123 (dk_at dksJ7_get_0 11 rfl rfl)
theorem dJ7_get_14 : decode cJ7_get 14 = .ok (.areturn, 1) := dk_176 (dk_at dksJ7_get_0 14 rfl rfl)
abbrev cJ7_elementData : ByteArray := prog_98_method_18_code
def yJ7_elementData : MethodName := ⟨RJ7, "elementData", "(I)Ljava/lang/Object;"⟩
def dkwJ7_elementData_0 : List UInt8 := [42, 180, 0, 9, 27, 50, 176]
abbrev dktJ7_elementData_0 : List UInt8 := dkwJ7_elementData_0 ++ []
theorem dksJ7_elementData_0 : cJ7_elementData.data.toList.drop 0 = dktJ7_elementData_0 := by decide +kernel
theorem dJ7_elementData_0 : decode cJ7_elementData 0 = .ok (.aload_n 0, 1) := dk_42 (dk_at dksJ7_elementData_0 0 rfl rfl)
theorem dJ7_elementData_1 : decode cJ7_elementData 1 = .ok (.getfield 9, 3) := dk_180 0 9 (dk_at dksJ7_elementData_0 1 rfl rfl)
theorem dJ7_elementData_4 : decode cJ7_elementData 4 = .ok (.iload_n 1, 1) := dk_27 (dk_at dksJ7_elementData_0 4 rfl rfl)
theorem dJ7_elementData_5 : decode cJ7_elementData 5 = .ok (.aaload, 1) := dk_50 (dk_at dksJ7_elementData_0 5 rfl rfl)
theorem dJ7_elementData_6 : decode cJ7_elementData 6 = .ok (.areturn, 1) := dk_176 (dk_at dksJ7_elementData_0 6 rfl rfl)
abbrev cJ7_isEmpty : ByteArray := prog_98_method_9_code
def yJ7_isEmpty : MethodName := ⟨RJ7, "isEmpty", "()Z"⟩
def dkwJ7_isEmpty_0 : List UInt8 := [42, 180, 0, 48, 154, 0, 7, 4, 167, 0, 4, 3, 172]
abbrev dktJ7_isEmpty_0 : List UInt8 := dkwJ7_isEmpty_0 ++ []
theorem dksJ7_isEmpty_0 : cJ7_isEmpty.data.toList.drop 0 = dktJ7_isEmpty_0 := by decide +kernel
theorem dJ7_isEmpty_0 : decode cJ7_isEmpty 0 = .ok (.aload_n 0, 1) := dk_42 (dk_at dksJ7_isEmpty_0 0 rfl rfl)
theorem dJ7_isEmpty_1 : decode cJ7_isEmpty 1 = .ok (.getfield 48, 3) := dk_180 0 48 (dk_at dksJ7_isEmpty_0 1 rfl rfl)
theorem dJ7_isEmpty_4 : decode cJ7_isEmpty 4 = .ok (.ifCond .ne 7, 3) := dk_154 0 7 (dk_at dksJ7_isEmpty_0 4 rfl rfl)
theorem dJ7_isEmpty_7 : decode cJ7_isEmpty 7 = .ok (.iconst 1, 1) := dk_4 (dk_at dksJ7_isEmpty_0 7 rfl rfl)
theorem dJ7_isEmpty_8 : decode cJ7_isEmpty 8 = .ok (.goto 4, 3) := dk_167 0 4 (dk_at dksJ7_isEmpty_0 8 rfl rfl)
theorem dJ7_isEmpty_11 : decode cJ7_isEmpty 11 = .ok (.iconst 0, 1) := dk_3 (dk_at dksJ7_isEmpty_0 11 rfl rfl)
theorem dJ7_isEmpty_12 : decode cJ7_isEmpty 12 = .ok (.ireturn, 1) := dk_172 (dk_at dksJ7_isEmpty_0 12 rfl rfl)
abbrev cJ7_clear : ByteArray := prog_98_method_40_code
def yJ7_clear : MethodName := ⟨RJ7, "clea\x72", "()V"⟩
def dkwJ7_clear_1 : List UInt8 := [181, 0, 48, 62, 29, 28, 162, 0, 13, 43, 29, 1, 83, 132, 3, 1, 167, 255, 244, 177]
abbrev dktJ7_clear_1 : List UInt8 := dkwJ7_clear_1 ++ []
def dkwJ7_clear_0 : List UInt8 := [42, 89, 180, 0, 63, 4, 96, 181, 0, 63, 42, 180, 0, 9, 76, 42, 180, 0, 48, 61, 42, 3, 90]
abbrev dktJ7_clear_0 : List UInt8 := dkwJ7_clear_0 ++ dktJ7_clear_1
theorem dksJ7_clear_0 : cJ7_clear.data.toList.drop 0 = dktJ7_clear_0 := by decide +kernel
theorem dksJ7_clear_1 : cJ7_clear.data.toList.drop 23 = dktJ7_clear_1 := dk_seg dksJ7_clear_0 23 rfl rfl
theorem dJ7_clear_0 : decode cJ7_clear 0 = .ok (.aload_n 0, 1) := dk_42 (dk_at dksJ7_clear_0 0 rfl rfl)
theorem dJ7_clear_1 : decode cJ7_clear 1 = .ok (.dup, 1) := dk_89 (dk_at dksJ7_clear_0 1 rfl rfl)
theorem dJ7_clear_2 : decode cJ7_clear 2 = .ok (.getfield 63, 3) := dk_180 0 63 (dk_at dksJ7_clear_0 2 rfl rfl)
theorem dJ7_clear_5 : decode cJ7_clear 5 = .ok (.iconst 1, 1) := dk_4 (dk_at dksJ7_clear_0 5 rfl rfl)
theorem dJ7_clear_6 : decode cJ7_clear 6 = .ok (.iadd, 1) := dk_96 (dk_at dksJ7_clear_0 6 rfl rfl)
theorem dJ7_clear_7 : decode cJ7_clear 7 = .ok (.putfield 63, 3) := dk_181 0 63 (dk_at dksJ7_clear_0 7 rfl rfl)
theorem dJ7_clear_10 : decode cJ7_clear 10 = .ok (.aload_n 0, 1) := dk_42 (dk_at dksJ7_clear_0 10 rfl rfl)
theorem dJ7_clear_11 : decode cJ7_clear 11 = .ok (.getfield 9, 3) := dk_180 0 9 (dk_at dksJ7_clear_0 11 rfl rfl)
theorem dJ7_clear_14 : decode cJ7_clear 14 = .ok (.astore_n 1, 1) := dk_76 (dk_at dksJ7_clear_0 14 rfl rfl)
theorem dJ7_clear_15 : decode cJ7_clear 15 = .ok (.aload_n 0, 1) := dk_42 (dk_at dksJ7_clear_0 15 rfl rfl)
theorem dJ7_clear_16 : decode cJ7_clear 16 = .ok (.getfield 48, 3) := dk_180 0 48 (dk_at dksJ7_clear_0 16 rfl rfl)
theorem dJ7_clear_19 : decode cJ7_clear 19 = .ok (.istore_n 2, 1) := dk_61 (dk_at dksJ7_clear_0 19 rfl rfl)
theorem dJ7_clear_20 : decode cJ7_clear 20 = .ok (.aload_n 0, 1) := dk_42 (dk_at dksJ7_clear_0 20 rfl rfl)
theorem dJ7_clear_21 : decode cJ7_clear 21 = .ok (.iconst 0, 1) := dk_3 (dk_at dksJ7_clear_0 21 rfl rfl)
theorem dJ7_clear_22 : decode cJ7_clear 22 = .ok (.dup_x1, 1) := dk_90 (dk_at dksJ7_clear_0 22 rfl rfl)
theorem dJ7_clear_23 : decode cJ7_clear 23 = .ok (.putfield 48, 3) := dk_181 0 48 (dk_at dksJ7_clear_1 0 rfl rfl)
theorem dJ7_clear_26 : decode cJ7_clear 26 = .ok (.istore_n 3, 1) := dk_62 (dk_at dksJ7_clear_1 3 rfl rfl)
theorem dJ7_clear_27 : decode cJ7_clear 27 = .ok (.iload_n 3, 1) := dk_29 (dk_at dksJ7_clear_1 4 rfl rfl)
theorem dJ7_clear_28 : decode cJ7_clear 28 = .ok (.iload_n 2, 1) := dk_28 (dk_at dksJ7_clear_1 5 rfl rfl)
theorem dJ7_clear_29 : decode cJ7_clear 29 = .ok (.if_icmp .ge 13, 3) := dk_162 0 13 (dk_at dksJ7_clear_1 6 rfl rfl)
theorem dJ7_clear_32 : decode cJ7_clear 32 = .ok (.aload_n 1, 1) := dk_43 (dk_at dksJ7_clear_1 9 rfl rfl)
theorem dJ7_clear_33 : decode cJ7_clear 33 = .ok (.iload_n 3, 1) := dk_29 (dk_at dksJ7_clear_1 10 rfl rfl)
theorem dJ7_clear_34 : decode cJ7_clear 34 = .ok (.aconst_null, 1) := dk_1 (dk_at dksJ7_clear_1 11 rfl rfl)
theorem dJ7_clear_35 : decode cJ7_clear 35 = .ok (.aastore, 1) := dk_83 (dk_at dksJ7_clear_1 12 rfl rfl)
theorem dJ7_clear_36 : decode cJ7_clear 36 = .ok (.iinc 3 1, 3) := dk_132 3 1 (dk_at dksJ7_clear_1 13 rfl rfl)
theorem dJ7_clear_39 : decode cJ7_clear 39 = .ok (.goto (-12), 3) := dk_167 255 244 (dk_at dksJ7_clear_1 16 rfl rfl)
theorem dJ7_clear_42 : decode cJ7_clear 42 = .ok (.return_, 1) := dk_177 (dk_at dksJ7_clear_1 19 rfl rfl)
abbrev cJ7_add : ByteArray := prog_98_method_25_code
def yJ7_add : MethodName := ⟨RJ7, "add", "(Ljava/lang/Object;)Z"⟩
def dkwJ7_add_1 : List UInt8 := [172]
abbrev dktJ7_add_1 : List UInt8 := dkwJ7_add_1 ++ []
def dkwJ7_add_0 : List UInt8 := [42, 89, 180, 0, 63, 4, 96, 181, 0, 63, 42, 43, 42, 180, 0, 9, 42, 180, 0, 48, 182, 0, 131, 4]
abbrev dktJ7_add_0 : List UInt8 := dkwJ7_add_0 ++ dktJ7_add_1
theorem dksJ7_add_0 : cJ7_add.data.toList.drop 0 = dktJ7_add_0 := by decide +kernel
theorem dksJ7_add_1 : cJ7_add.data.toList.drop 24 = dktJ7_add_1 := dk_seg dksJ7_add_0 24 rfl rfl
theorem dJ7_add_0 : decode cJ7_add 0 = .ok (.aload_n 0, 1) := dk_42 (dk_at dksJ7_add_0 0 rfl rfl)
theorem dJ7_add_1 : decode cJ7_add 1 = .ok (.dup, 1) := dk_89 (dk_at dksJ7_add_0 1 rfl rfl)
theorem dJ7_add_2 : decode cJ7_add 2 = .ok (.getfield 63, 3) := dk_180 0 63 (dk_at dksJ7_add_0 2 rfl rfl)
theorem dJ7_add_5 : decode cJ7_add 5 = .ok (.iconst 1, 1) := dk_4 (dk_at dksJ7_add_0 5 rfl rfl)
theorem dJ7_add_6 : decode cJ7_add 6 = .ok (.iadd, 1) := dk_96 (dk_at dksJ7_add_0 6 rfl rfl)
theorem dJ7_add_7 : decode cJ7_add 7 = .ok (.putfield 63, 3) := dk_181 0 63 (dk_at dksJ7_add_0 7 rfl rfl)
theorem dJ7_add_10 : decode cJ7_add 10 = .ok (.aload_n 0, 1) := dk_42 (dk_at dksJ7_add_0 10 rfl rfl)
theorem dJ7_add_11 : decode cJ7_add 11 = .ok (.aload_n 1, 1) := dk_43 (dk_at dksJ7_add_0 11 rfl rfl)
theorem dJ7_add_12 : decode cJ7_add 12 = .ok (.aload_n 0, 1) := dk_42 (dk_at dksJ7_add_0 12 rfl rfl)
theorem dJ7_add_13 : decode cJ7_add 13 = .ok (.getfield 9, 3) := dk_180 0 9 (dk_at dksJ7_add_0 13 rfl rfl)
theorem dJ7_add_16 : decode cJ7_add 16 = .ok (.aload_n 0, 1) := dk_42 (dk_at dksJ7_add_0 16 rfl rfl)
theorem dJ7_add_17 : decode cJ7_add 17 = .ok (.getfield 48, 3) := dk_180 0 48 (dk_at dksJ7_add_0 17 rfl rfl)
theorem dJ7_add_20 : decode cJ7_add 20 = .ok (.invokevirtual 131, 3) := dk_182 0 131 (dk_at dksJ7_add_0 20 rfl rfl)
theorem dJ7_add_23 : decode cJ7_add 23 = .ok (.iconst 1, 1) := dk_4 (dk_at dksJ7_add_0 23 rfl rfl)
theorem dJ7_add_24 : decode cJ7_add 24 = .ok (.ireturn, 1) := dk_172 (dk_at dksJ7_add_1 0 rfl rfl)
abbrev cJ7_add_2 : ByteArray := prog_98_method_24_code
def yJ7_add_2 : MethodName := ⟨RJ7, "add", "(Ljava/lang/Object;[Ljava/lang/Object;I)V"⟩
def dkwJ7_add_2_0 : List UInt8 := [29, 44, 190, 160, 0, 8, 42, 182, 0, 129, 77, 44, 29, 43, 83, 42, 29, 4, 96, 181, 0, 48, 177]
abbrev dktJ7_add_2_0 : List UInt8 := dkwJ7_add_2_0 ++ []
theorem dksJ7_add_2_0 : cJ7_add_2.data.toList.drop 0 = dktJ7_add_2_0 := by decide +kernel
theorem dJ7_add_2_0 : decode cJ7_add_2 0 = .ok (.iload_n 3, 1) := dk_29 (dk_at dksJ7_add_2_0 0 rfl rfl)
theorem dJ7_add_2_1 : decode cJ7_add_2 1 = .ok (.aload_n 2, 1) := dk_44 (dk_at dksJ7_add_2_0 1 rfl rfl)
theorem dJ7_add_2_2 : decode cJ7_add_2 2 = .ok (.arraylength, 1) := dk_190 (dk_at dksJ7_add_2_0 2 rfl rfl)
theorem dJ7_add_2_3 : decode cJ7_add_2 3 = .ok (.if_icmp .ne 8, 3) := dk_160 0 8 (dk_at dksJ7_add_2_0 3 rfl rfl)
theorem dJ7_add_2_6 : decode cJ7_add_2 6 = .ok (.aload_n 0, 1) := dk_42 (dk_at dksJ7_add_2_0 6 rfl rfl)
theorem dJ7_add_2_7 : decode cJ7_add_2 7 = .ok (.invokevirtual 129, 3) := dk_182 0 129 (dk_at dksJ7_add_2_0 7 rfl rfl)
theorem dJ7_add_2_10 : decode cJ7_add_2 10 = .ok (.astore_n 2, 1) := dk_77 (dk_at dksJ7_add_2_0 10 rfl rfl)
theorem dJ7_add_2_11 : decode cJ7_add_2 11 = .ok (.aload_n 2, 1) := dk_44 (dk_at dksJ7_add_2_0 11 rfl rfl)
theorem dJ7_add_2_12 : decode cJ7_add_2 12 = .ok (.iload_n 3, 1) := dk_29 (dk_at dksJ7_add_2_0 12 rfl rfl)
theorem dJ7_add_2_13 : decode cJ7_add_2 13 = .ok (.aload_n 1, 1) := dk_43 (dk_at dksJ7_add_2_0 13 rfl rfl)
theorem dJ7_add_2_14 : decode cJ7_add_2 14 = .ok (.aastore, 1) := dk_83 (dk_at dksJ7_add_2_0 14 rfl rfl)
theorem dJ7_add_2_15 : decode cJ7_add_2 15 = .ok (.aload_n 0, 1) := dk_42 (dk_at dksJ7_add_2_0 15 rfl rfl)
theorem dJ7_add_2_16 : decode cJ7_add_2 16 = .ok (.iload_n 3, 1) := dk_29 (dk_at dksJ7_add_2_0 16 rfl rfl)
theorem dJ7_add_2_17 : decode cJ7_add_2 17 = .ok (.iconst 1, 1) := dk_4 (dk_at dksJ7_add_2_0 17 rfl rfl)
theorem dJ7_add_2_18 : decode cJ7_add_2 18 = .ok (.iadd, 1) := dk_96 (dk_at dksJ7_add_2_0 18 rfl rfl)
theorem dJ7_add_2_19 : decode cJ7_add_2 19 = .ok (.putfield 48, 3) := dk_181 0 48 (dk_at dksJ7_add_2_0 19 rfl rfl)
theorem dJ7_add_2_22 : decode cJ7_add_2 22 = .ok (.return_, 1) := dk_177 (dk_at dksJ7_add_2_0 22 rfl rfl)
abbrev cJ7_grow : ByteArray := prog_98_method_7_code
def yJ7_grow : MethodName := ⟨RJ7, "grow", "()[Ljava/lang/Object;"⟩
def dkwJ7_grow_0 : List UInt8 := [42, 42, 180, 0, 48, 4, 96, 182, 0, 69, 176]
abbrev dktJ7_grow_0 : List UInt8 := dkwJ7_grow_0 ++ []
theorem dksJ7_grow_0 : cJ7_grow.data.toList.drop 0 = dktJ7_grow_0 := by decide +kernel
theorem dJ7_grow_0 : decode cJ7_grow 0 = .ok (.aload_n 0, 1) := dk_42 (dk_at dksJ7_grow_0 0 rfl rfl)
theorem dJ7_grow_1 : decode cJ7_grow 1 = .ok (.aload_n 0, 1) := dk_42 (dk_at dksJ7_grow_0 1 rfl rfl)
theorem dJ7_grow_2 : decode cJ7_grow 2 = .ok (.getfield 48, 3) := dk_180 0 48 (dk_at dksJ7_grow_0 2 rfl rfl)
theorem dJ7_grow_5 : decode cJ7_grow 5 = .ok (.iconst 1, 1) := dk_4 (dk_at dksJ7_grow_0 5 rfl rfl)
theorem dJ7_grow_6 : decode cJ7_grow 6 = .ok (.iadd, 1) := dk_96 (dk_at dksJ7_grow_0 6 rfl rfl)
theorem dJ7_grow_7 : decode cJ7_grow 7 = .ok (.invokevirtual 69, 3) := dk_182 0 69 (dk_at dksJ7_grow_0 7 rfl rfl)
theorem dJ7_grow_10 : decode cJ7_grow 10 = .ok (.areturn, 1) := dk_176 (dk_at dksJ7_grow_0 10 rfl rfl)
abbrev cJ7_grow_2 : ByteArray := prog_98_method_6_code
def yJ7_grow_2 : MethodName := ⟨RJ7, "grow", "(I)[Ljava/lang/Object;"⟩
def dkwJ7_grow_2_2 : List UInt8 := [27, 184, 0, 79, 189, 0, 7, 90, 181, 0, 9, 176]
abbrev dktJ7_grow_2_2 : List UInt8 := dkwJ7_grow_2_2 ++ []
def dkwJ7_grow_2_1 : List UInt8 := [28, 4, 122, 184, 0, 73, 62, 42, 42, 180, 0, 9, 29, 184, 0, 66, 90, 181, 0, 9, 176, 42, 16, 10]
abbrev dktJ7_grow_2_1 : List UInt8 := dkwJ7_grow_2_1 ++ dktJ7_grow_2_2
def dkwJ7_grow_2_0 : List UInt8 := [42, 180, 0, 9, 190, 61, 28, 157, 0, 13, 42, 180, 0, 9, 178, 0, 39, 165, 0, 28, 28, 27, 28, 100]
abbrev dktJ7_grow_2_0 : List UInt8 := dkwJ7_grow_2_0 ++ dktJ7_grow_2_1
theorem dksJ7_grow_2_0 : cJ7_grow_2.data.toList.drop 0 = dktJ7_grow_2_0 := by decide +kernel
theorem dksJ7_grow_2_1 : cJ7_grow_2.data.toList.drop 24 = dktJ7_grow_2_1 := dk_seg dksJ7_grow_2_0 24 rfl rfl
theorem dksJ7_grow_2_2 : cJ7_grow_2.data.toList.drop 48 = dktJ7_grow_2_2 := dk_seg dksJ7_grow_2_1 24 rfl rfl
theorem dJ7_grow_2_0 : decode cJ7_grow_2 0 = .ok (.aload_n 0, 1) := dk_42 (dk_at dksJ7_grow_2_0 0 rfl rfl)
theorem dJ7_grow_2_1 : decode cJ7_grow_2 1 = .ok (.getfield 9, 3) := dk_180 0 9 (dk_at dksJ7_grow_2_0 1 rfl rfl)
theorem dJ7_grow_2_4 : decode cJ7_grow_2 4 = .ok (.arraylength, 1) := dk_190 (dk_at dksJ7_grow_2_0 4 rfl rfl)
theorem dJ7_grow_2_5 : decode cJ7_grow_2 5 = .ok (.istore_n 2, 1) := dk_61 (dk_at dksJ7_grow_2_0 5 rfl rfl)
theorem dJ7_grow_2_6 : decode cJ7_grow_2 6 = .ok (.iload_n 2, 1) := dk_28 (dk_at dksJ7_grow_2_0 6 rfl rfl)
theorem dJ7_grow_2_7 : decode cJ7_grow_2 7 = .ok (.ifCond .gt 13, 3) := dk_157 0 13 (dk_at dksJ7_grow_2_0 7 rfl rfl)
theorem dJ7_grow_2_10 : decode cJ7_grow_2 10 = .ok (.aload_n 0, 1) := dk_42 (dk_at dksJ7_grow_2_0 10 rfl rfl)
theorem dJ7_grow_2_11 : decode cJ7_grow_2 11 = .ok (.getfield 9, 3) := dk_180 0 9 (dk_at dksJ7_grow_2_0 11 rfl rfl)
theorem dJ7_grow_2_14 : decode cJ7_grow_2 14 = .ok (.getstatic 39, 3) := dk_178 0 39 (dk_at dksJ7_grow_2_0 14 rfl rfl)
theorem dJ7_grow_2_17 : decode cJ7_grow_2 17 = .ok (.if_acmp .eq 28, 3) := dk_165 0 28 (dk_at dksJ7_grow_2_0 17 rfl rfl)
theorem dJ7_grow_2_20 : decode cJ7_grow_2 20 = .ok (.iload_n 2, 1) := dk_28 (dk_at dksJ7_grow_2_0 20 rfl rfl)
theorem dJ7_grow_2_21 : decode cJ7_grow_2 21 = .ok (.iload_n 1, 1) := dk_27 (dk_at dksJ7_grow_2_0 21 rfl rfl)
theorem dJ7_grow_2_22 : decode cJ7_grow_2 22 = .ok (.iload_n 2, 1) := dk_28 (dk_at dksJ7_grow_2_0 22 rfl rfl)
theorem dJ7_grow_2_23 : decode cJ7_grow_2 23 = .ok (.isub, 1) := dk_100 (dk_at dksJ7_grow_2_0 23 rfl rfl)
theorem dJ7_grow_2_24 : decode cJ7_grow_2 24 = .ok (.iload_n 2, 1) := dk_28 (dk_at dksJ7_grow_2_1 0 rfl rfl)
theorem dJ7_grow_2_25 : decode cJ7_grow_2 25 = .ok (.iconst 1, 1) := dk_4 (dk_at dksJ7_grow_2_1 1 rfl rfl)
theorem dJ7_grow_2_26 : decode cJ7_grow_2 26 = .ok (.ishr, 1) := dk_122 (dk_at dksJ7_grow_2_1 2 rfl rfl)
theorem dJ7_grow_2_27 : decode cJ7_grow_2 27 = .ok (.invokestatic 73, 3) := dk_184 0 73 (dk_at dksJ7_grow_2_1 3 rfl rfl)
theorem dJ7_grow_2_30 : decode cJ7_grow_2 30 = .ok (.istore_n 3, 1) := dk_62 (dk_at dksJ7_grow_2_1 6 rfl rfl)
theorem dJ7_grow_2_31 : decode cJ7_grow_2 31 = .ok (.aload_n 0, 1) := dk_42 (dk_at dksJ7_grow_2_1 7 rfl rfl)
theorem dJ7_grow_2_32 : decode cJ7_grow_2 32 = .ok (.aload_n 0, 1) := dk_42 (dk_at dksJ7_grow_2_1 8 rfl rfl)
theorem dJ7_grow_2_33 : decode cJ7_grow_2 33 = .ok (.getfield 9, 3) := dk_180 0 9 (dk_at dksJ7_grow_2_1 9 rfl rfl)
theorem dJ7_grow_2_36 : decode cJ7_grow_2 36 = .ok (.iload_n 3, 1) := dk_29 (dk_at dksJ7_grow_2_1 12 rfl rfl)
theorem dJ7_grow_2_37 : decode cJ7_grow_2 37 = .ok (.invokestatic 66, 3) := dk_184 0 66 (dk_at dksJ7_grow_2_1 13 rfl rfl)
theorem dJ7_grow_2_40 : decode cJ7_grow_2 40 = .ok (.dup_x1, 1) := dk_90 (dk_at dksJ7_grow_2_1 16 rfl rfl)
theorem dJ7_grow_2_41 : decode cJ7_grow_2 41 = .ok (.putfield 9, 3) := dk_181 0 9 (dk_at dksJ7_grow_2_1 17 rfl rfl)
theorem dJ7_grow_2_44 : decode cJ7_grow_2 44 = .ok (.areturn, 1) := dk_176 (dk_at dksJ7_grow_2_1 20 rfl rfl)
theorem dJ7_grow_2_45 : decode cJ7_grow_2 45 = .ok (.aload_n 0, 1) := dk_42 (dk_at dksJ7_grow_2_1 21 rfl rfl)
theorem dJ7_grow_2_46 : decode cJ7_grow_2 46 = .ok (.bipush 10, 2) := dk_16 10 (dk_at dksJ7_grow_2_1 22 rfl rfl)
theorem dJ7_grow_2_48 : decode cJ7_grow_2 48 = .ok (.iload_n 1, 1) := dk_27 (dk_at dksJ7_grow_2_2 0 rfl rfl)
theorem dJ7_grow_2_49 : decode cJ7_grow_2 49 = .ok (.invokestatic 79, 3) := dk_184 0 79 (dk_at dksJ7_grow_2_2 1 rfl rfl)
theorem dJ7_grow_2_52 : decode cJ7_grow_2 52 = .ok (.anewarray 7, 3) := dk_189 0 7 (dk_at dksJ7_grow_2_2 4 rfl rfl)
theorem dJ7_grow_2_55 : decode cJ7_grow_2 55 = .ok (.dup_x1, 1) := dk_90 (dk_at dksJ7_grow_2_2 7 rfl rfl)
theorem dJ7_grow_2_56 : decode cJ7_grow_2 56 = .ok (.putfield 9, 3) := dk_181 0 9 (dk_at dksJ7_grow_2_2 8 rfl rfl)
theorem dJ7_grow_2_59 : decode cJ7_grow_2 59 = .ok (.areturn, 1) := dk_176 (dk_at dksJ7_grow_2_2 11 rfl rfl)
abbrev cJ7_remove : ByteArray := prog_98_method_38_code
def yJ7_remove : MethodName := ⟨RJ7, "remove", "(Ljava/lang/Object;)Z"⟩
def dkwJ7_remove_3 : List UInt8 := [182, 0, 144, 4, 172]
abbrev dktJ7_remove_3 : List UInt8 := dkwJ7_remove_3 ++ []
def dkwJ7_remove_2 : List UInt8 := [21, 4, 50, 182, 0, 93, 153, 0, 6, 167, 0, 11, 132, 4, 1, 167, 255, 233, 3, 172, 42, 44, 21, 4]
abbrev dktJ7_remove_2 : List UInt8 := dkwJ7_remove_2 ++ dktJ7_remove_3
def dkwJ7_remove_1 : List UInt8 := [21, 4, 50, 199, 0, 6, 167, 0, 37, 132, 4, 1, 167, 255, 237, 21, 4, 29, 162, 0, 23, 43, 44]
abbrev dktJ7_remove_1 : List UInt8 := dkwJ7_remove_1 ++ dktJ7_remove_2
def dkwJ7_remove_0 : List UInt8 := [42, 180, 0, 9, 77, 42, 180, 0, 48, 62, 3, 54, 4, 43, 199, 0, 25, 21, 4, 29, 162, 0, 45, 44]
abbrev dktJ7_remove_0 : List UInt8 := dkwJ7_remove_0 ++ dktJ7_remove_1
theorem dksJ7_remove_0 : cJ7_remove.data.toList.drop 0 = dktJ7_remove_0 := by decide +kernel
theorem dksJ7_remove_1 : cJ7_remove.data.toList.drop 24 = dktJ7_remove_1 := dk_seg dksJ7_remove_0 24 rfl rfl
theorem dksJ7_remove_2 : cJ7_remove.data.toList.drop 47 = dktJ7_remove_2 := dk_seg dksJ7_remove_1 23 rfl rfl
theorem dksJ7_remove_3 : cJ7_remove.data.toList.drop 71 = dktJ7_remove_3 := dk_seg dksJ7_remove_2 24 rfl rfl
theorem dJ7_remove_0 : decode cJ7_remove 0 = .ok (.aload_n 0, 1) := dk_42 (dk_at dksJ7_remove_0 0 rfl rfl)
theorem dJ7_remove_1 : decode cJ7_remove 1 = .ok (.getfield 9, 3) := dk_180 0 9 (dk_at dksJ7_remove_0 1 rfl rfl)
theorem dJ7_remove_4 : decode cJ7_remove 4 = .ok (.astore_n 2, 1) := dk_77 (dk_at dksJ7_remove_0 4 rfl rfl)
theorem dJ7_remove_5 : decode cJ7_remove 5 = .ok (.aload_n 0, 1) := dk_42 (dk_at dksJ7_remove_0 5 rfl rfl)
theorem dJ7_remove_6 : decode cJ7_remove 6 = .ok (.getfield 48, 3) := dk_180 0 48 (dk_at dksJ7_remove_0 6 rfl rfl)
theorem dJ7_remove_9 : decode cJ7_remove 9 = .ok (.istore_n 3, 1) := dk_62 (dk_at dksJ7_remove_0 9 rfl rfl)
theorem dJ7_remove_10 : decode cJ7_remove 10 = .ok (.iconst 0, 1) := dk_3 (dk_at dksJ7_remove_0 10 rfl rfl)
theorem dJ7_remove_11 : decode cJ7_remove 11 = .ok (.istore 4, 2) := dk_54 4 (dk_at dksJ7_remove_0 11 rfl rfl)
theorem dJ7_remove_13 : decode cJ7_remove 13 = .ok (.aload_n 1, 1) := dk_43 (dk_at dksJ7_remove_0 13 rfl rfl)
theorem dJ7_remove_14 : decode cJ7_remove 14 = .ok (.ifnonnull 25, 3) := dk_199 0 25 (dk_at dksJ7_remove_0 14 rfl rfl)
theorem dJ7_remove_17 : decode cJ7_remove 17 = .ok (.iload 4, 2) := dk_21 4 (dk_at dksJ7_remove_0 17 rfl rfl)
theorem dJ7_remove_19 : decode cJ7_remove 19 = .ok (.iload_n 3, 1) := dk_29 (dk_at dksJ7_remove_0 19 rfl rfl)
theorem dJ7_remove_20 : decode cJ7_remove 20 = .ok (.if_icmp .ge 45, 3) := dk_162 0 45 (dk_at dksJ7_remove_0 20 rfl rfl)
theorem dJ7_remove_23 : decode cJ7_remove 23 = .ok (.aload_n 2, 1) := dk_44 (dk_at dksJ7_remove_0 23 rfl rfl)
theorem dJ7_remove_24 : decode cJ7_remove 24 = .ok (.iload 4, 2) := dk_21 4 (dk_at dksJ7_remove_1 0 rfl rfl)
theorem dJ7_remove_26 : decode cJ7_remove 26 = .ok (.aaload, 1) := dk_50 (dk_at dksJ7_remove_1 2 rfl rfl)
theorem dJ7_remove_27 : decode cJ7_remove 27 = .ok (.ifnonnull 6, 3) := dk_199 0 6 (dk_at dksJ7_remove_1 3 rfl rfl)
theorem dJ7_remove_30 : decode cJ7_remove 30 = .ok (.goto 37, 3) := dk_167 0 37 (dk_at dksJ7_remove_1 6 rfl rfl)
theorem dJ7_remove_33 : decode cJ7_remove 33 = .ok (.iinc 4 1, 3) := dk_132 4 1 (dk_at dksJ7_remove_1 9 rfl rfl)
theorem dJ7_remove_36 : decode cJ7_remove 36 = .ok (.goto (-19), 3) := dk_167 255 237 (dk_at dksJ7_remove_1 12 rfl rfl)
theorem dJ7_remove_39 : decode cJ7_remove 39 = .ok (.iload 4, 2) := dk_21 4 (dk_at dksJ7_remove_1 15 rfl rfl)
theorem dJ7_remove_41 : decode cJ7_remove 41 = .ok (.iload_n 3, 1) := dk_29 (dk_at dksJ7_remove_1 17 rfl rfl)
theorem dJ7_remove_42 : decode cJ7_remove 42 = .ok (.if_icmp .ge 23, 3) := dk_162 0 23 (dk_at dksJ7_remove_1 18 rfl rfl)
theorem dJ7_remove_45 : decode cJ7_remove 45 = .ok (.aload_n 1, 1) := dk_43 (dk_at dksJ7_remove_1 21 rfl rfl)
theorem dJ7_remove_46 : decode cJ7_remove 46 = .ok (.aload_n 2, 1) := dk_44 (dk_at dksJ7_remove_1 22 rfl rfl)
theorem dJ7_remove_47 : decode cJ7_remove 47 = .ok (.iload 4, 2) := dk_21 4 (dk_at dksJ7_remove_2 0 rfl rfl)
theorem dJ7_remove_49 : decode cJ7_remove 49 = .ok (.aaload, 1) := dk_50 (dk_at dksJ7_remove_2 2 rfl rfl)
theorem dJ7_remove_50 : decode cJ7_remove 50 = .ok (.invokevirtual 93, 3) := dk_182 0 93 (dk_at dksJ7_remove_2 3 rfl rfl)
theorem dJ7_remove_53 : decode cJ7_remove 53 = .ok (.ifCond .eq 6, 3) := dk_153 0 6 (dk_at dksJ7_remove_2 6 rfl rfl)
theorem dJ7_remove_56 : decode cJ7_remove 56 = .ok (.goto 11, 3) := dk_167 0 11 (dk_at dksJ7_remove_2 9 rfl rfl)
theorem dJ7_remove_59 : decode cJ7_remove 59 = .ok (.iinc 4 1, 3) := dk_132 4 1 (dk_at dksJ7_remove_2 12 rfl rfl)
theorem dJ7_remove_62 : decode cJ7_remove 62 = .ok (.goto (-23), 3) := dk_167 255 233 (dk_at dksJ7_remove_2 15 rfl rfl)
theorem dJ7_remove_65 : decode cJ7_remove 65 = .ok (.iconst 0, 1) := dk_3 (dk_at dksJ7_remove_2 18 rfl rfl)
theorem dJ7_remove_66 : decode cJ7_remove 66 = .ok (.ireturn, 1) := dk_172 (dk_at dksJ7_remove_2 19 rfl rfl)
theorem dJ7_remove_67 : decode cJ7_remove 67 = .ok (.aload_n 0, 1) := dk_42 (dk_at dksJ7_remove_2 20 rfl rfl)
theorem dJ7_remove_68 : decode cJ7_remove 68 = .ok (.aload_n 2, 1) := dk_44 (dk_at dksJ7_remove_2 21 rfl rfl)
theorem dJ7_remove_69 : decode cJ7_remove 69 = .ok (.iload 4, 2) := dk_21 4 (dk_at dksJ7_remove_2 22 rfl rfl)
theorem dJ7_remove_71 : decode cJ7_remove 71 = .ok (.invokevirtual 144, 3) := dk_182 0 144 (dk_at dksJ7_remove_3 0 rfl rfl)
theorem dJ7_remove_74 : decode cJ7_remove 74 = .ok (.iconst 1, 1) := dk_4 (dk_at dksJ7_remove_3 3 rfl rfl)
theorem dJ7_remove_75 : decode cJ7_remove 75 = .ok (.ireturn, 1) := dk_172 (dk_at dksJ7_remove_3 4 rfl rfl)
abbrev cJ7_fastRemove : ByteArray := prog_98_method_39_code
def yJ7_fastRemove : MethodName := ⟨RJ7, "fastRemove", "([Ljava/lang/Object;I)V"⟩
def dkwJ7_fastRemove_1 : List UInt8 := [4, 96, 43, 28, 29, 28, 100, 184, 0, 112, 43, 42, 29, 90, 181, 0, 48, 1, 83, 177]
abbrev dktJ7_fastRemove_1 : List UInt8 := dkwJ7_fastRemove_1 ++ []
def dkwJ7_fastRemove_0 : List UInt8 := [42, 89, 180, 0, 63, 4, 96, 181, 0, 63, 42, 180, 0, 48, 4, 100, 89, 62, 28, 164, 0, 15, 43, 28]
abbrev dktJ7_fastRemove_0 : List UInt8 := dkwJ7_fastRemove_0 ++ dktJ7_fastRemove_1
theorem dksJ7_fastRemove_0 : cJ7_fastRemove.data.toList.drop 0 = dktJ7_fastRemove_0 := by decide +kernel
theorem dksJ7_fastRemove_1 : cJ7_fastRemove.data.toList.drop 24 = dktJ7_fastRemove_1 := dk_seg dksJ7_fastRemove_0 24 rfl rfl
theorem dJ7_fastRemove_0 : decode cJ7_fastRemove 0 = .ok (.aload_n 0, 1) := dk_42 (dk_at dksJ7_fastRemove_0 0 rfl rfl)
theorem dJ7_fastRemove_1 : decode cJ7_fastRemove 1 = .ok (.dup, 1) := dk_89 (dk_at dksJ7_fastRemove_0 1 rfl rfl)
theorem dJ7_fastRemove_2 : decode cJ7_fastRemove 2 = .ok (.getfield 63, 3) := dk_180 0 63 (dk_at dksJ7_fastRemove_0 2 rfl rfl)
theorem dJ7_fastRemove_5 : decode cJ7_fastRemove 5 = .ok (.iconst 1, 1) := dk_4 (dk_at dksJ7_fastRemove_0 5 rfl rfl)
theorem dJ7_fastRemove_6 : decode cJ7_fastRemove 6 = .ok (.iadd, 1) := dk_96 (dk_at dksJ7_fastRemove_0 6 rfl rfl)
theorem dJ7_fastRemove_7 : decode cJ7_fastRemove 7 = .ok (.putfield 63, 3) := dk_181 0 63 (dk_at dksJ7_fastRemove_0 7 rfl rfl)
theorem dJ7_fastRemove_10 : decode cJ7_fastRemove 10 = .ok (.aload_n 0, 1) := dk_42 (dk_at dksJ7_fastRemove_0 10 rfl rfl)
theorem dJ7_fastRemove_11 : decode cJ7_fastRemove 11 = .ok (.getfield 48, 3) := dk_180 0 48 (dk_at dksJ7_fastRemove_0 11 rfl rfl)
theorem dJ7_fastRemove_14 : decode cJ7_fastRemove 14 = .ok (.iconst 1, 1) := dk_4 (dk_at dksJ7_fastRemove_0 14 rfl rfl)
theorem dJ7_fastRemove_15 : decode cJ7_fastRemove 15 = .ok (.isub, 1) := dk_100 (dk_at dksJ7_fastRemove_0 15 rfl rfl)
theorem dJ7_fastRemove_16 : decode cJ7_fastRemove 16 = .ok (.dup, 1) := dk_89 (dk_at dksJ7_fastRemove_0 16 rfl rfl)
theorem dJ7_fastRemove_17 : decode cJ7_fastRemove 17 = .ok (.istore_n 3, 1) := dk_62 (dk_at dksJ7_fastRemove_0 17 rfl rfl)
theorem dJ7_fastRemove_18 : decode cJ7_fastRemove 18 = .ok (.iload_n 2, 1) := dk_28 (dk_at dksJ7_fastRemove_0 18 rfl rfl)
theorem dJ7_fastRemove_19 : decode cJ7_fastRemove 19 = .ok (.if_icmp .le 15, 3) := dk_164 0 15 (dk_at dksJ7_fastRemove_0 19 rfl rfl)
theorem dJ7_fastRemove_22 : decode cJ7_fastRemove 22 = .ok (.aload_n 1, 1) := dk_43 (dk_at dksJ7_fastRemove_0 22 rfl rfl)
theorem dJ7_fastRemove_23 : decode cJ7_fastRemove 23 = .ok (.iload_n 2, 1) := dk_28 (dk_at dksJ7_fastRemove_0 23 rfl rfl)
theorem dJ7_fastRemove_24 : decode cJ7_fastRemove 24 = .ok (.iconst 1, 1) := dk_4 (dk_at dksJ7_fastRemove_1 0 rfl rfl)
theorem dJ7_fastRemove_25 : decode cJ7_fastRemove 25 = .ok (.iadd, 1) := dk_96 (dk_at dksJ7_fastRemove_1 1 rfl rfl)
theorem dJ7_fastRemove_26 : decode cJ7_fastRemove 26 = .ok (.aload_n 1, 1) := dk_43 (dk_at dksJ7_fastRemove_1 2 rfl rfl)
theorem dJ7_fastRemove_27 : decode cJ7_fastRemove 27 = .ok (.iload_n 2, 1) := dk_28 (dk_at dksJ7_fastRemove_1 3 rfl rfl)
theorem dJ7_fastRemove_28 : decode cJ7_fastRemove 28 = .ok (.iload_n 3, 1) := dk_29 (dk_at dksJ7_fastRemove_1 4 rfl rfl)
theorem dJ7_fastRemove_29 : decode cJ7_fastRemove 29 = .ok (.iload_n 2, 1) := dk_28 (dk_at dksJ7_fastRemove_1 5 rfl rfl)
theorem dJ7_fastRemove_30 : decode cJ7_fastRemove 30 = .ok (.isub, 1) := dk_100 (dk_at dksJ7_fastRemove_1 6 rfl rfl)
theorem dJ7_fastRemove_31 : decode cJ7_fastRemove 31 = .ok (.invokestatic 112, 3) := dk_184 0 112 (dk_at dksJ7_fastRemove_1 7 rfl rfl)
theorem dJ7_fastRemove_34 : decode cJ7_fastRemove 34 = .ok (.aload_n 1, 1) := dk_43 (dk_at dksJ7_fastRemove_1 10 rfl rfl)
theorem dJ7_fastRemove_35 : decode cJ7_fastRemove 35 = .ok (.aload_n 0, 1) := dk_42 (dk_at dksJ7_fastRemove_1 11 rfl rfl)
theorem dJ7_fastRemove_36 : decode cJ7_fastRemove 36 = .ok (.iload_n 3, 1) := dk_29 (dk_at dksJ7_fastRemove_1 12 rfl rfl)
theorem dJ7_fastRemove_37 : decode cJ7_fastRemove 37 = .ok (.dup_x1, 1) := dk_90 (dk_at dksJ7_fastRemove_1 13 rfl rfl)
theorem dJ7_fastRemove_38 : decode cJ7_fastRemove 38 = .ok (.putfield 48, 3) := dk_181 0 48 (dk_at dksJ7_fastRemove_1 14 rfl rfl)
theorem dJ7_fastRemove_41 : decode cJ7_fastRemove 41 = .ok (.aconst_null, 1) := dk_1 (dk_at dksJ7_fastRemove_1 17 rfl rfl)
theorem dJ7_fastRemove_42 : decode cJ7_fastRemove 42 = .ok (.aastore, 1) := dk_83 (dk_at dksJ7_fastRemove_1 18 rfl rfl)
theorem dJ7_fastRemove_43 : decode cJ7_fastRemove 43 = .ok (.return_, 1) := dk_177 (dk_at dksJ7_fastRemove_1 19 rfl rfl)
abbrev cJ7_remove_2 : ByteArray := prog_98_method_29_code
def yJ7_remove_2 : MethodName := ⟨RJ7, "remove", "(I)Ljava/lang/Object;"⟩
def dkwJ7_remove_2_1 : List UInt8 := [45, 176]
abbrev dktJ7_remove_2_1 : List UInt8 := dkwJ7_remove_2_1 ++ []
def dkwJ7_remove_2_0 : List UInt8 := [27, 42, 180, 0, 48, 184, 0, 118, 87, 42, 180, 0, 9, 77, 44, 27, 50, 78, 42, 44, 27, 182, 0, 144]
abbrev dktJ7_remove_2_0 : List UInt8 := dkwJ7_remove_2_0 ++ dktJ7_remove_2_1
theorem dksJ7_remove_2_0 : cJ7_remove_2.data.toList.drop 0 = dktJ7_remove_2_0 := by decide +kernel
theorem dksJ7_remove_2_1 : cJ7_remove_2.data.toList.drop 24 = dktJ7_remove_2_1 := dk_seg dksJ7_remove_2_0 24 rfl rfl
theorem dJ7_remove_2_0 : decode cJ7_remove_2 0 = .ok (.iload_n 1, 1) := dk_27 (dk_at dksJ7_remove_2_0 0 rfl rfl)
theorem dJ7_remove_2_1 : decode cJ7_remove_2 1 = .ok (.aload_n 0, 1) := dk_42 (dk_at dksJ7_remove_2_0 1 rfl rfl)
theorem dJ7_remove_2_2 : decode cJ7_remove_2 2 = .ok (.getfield 48, 3) := dk_180 0 48 (dk_at dksJ7_remove_2_0 2 rfl rfl)
theorem dJ7_remove_2_5 : decode cJ7_remove_2 5 = .ok (.invokestatic 118, 3) := dk_184 0 118 (dk_at dksJ7_remove_2_0 5 rfl rfl)
theorem dJ7_remove_2_8 : decode cJ7_remove_2 8 = .ok (.pop, 1) := dk_87 (dk_at dksJ7_remove_2_0 8 rfl rfl)
theorem dJ7_remove_2_9 : decode cJ7_remove_2 9 = .ok (.aload_n 0, 1) := dk_42 (dk_at dksJ7_remove_2_0 9 rfl rfl)
theorem dJ7_remove_2_10 : decode cJ7_remove_2 10 = .ok (.getfield 9, 3) := dk_180 0 9 (dk_at dksJ7_remove_2_0 10 rfl rfl)
theorem dJ7_remove_2_13 : decode cJ7_remove_2 13 = .ok (.astore_n 2, 1) := dk_77 (dk_at dksJ7_remove_2_0 13 rfl rfl)
theorem dJ7_remove_2_14 : decode cJ7_remove_2 14 = .ok (.aload_n 2, 1) := dk_44 (dk_at dksJ7_remove_2_0 14 rfl rfl)
theorem dJ7_remove_2_15 : decode cJ7_remove_2 15 = .ok (.iload_n 1, 1) := dk_27 (dk_at dksJ7_remove_2_0 15 rfl rfl)
theorem dJ7_remove_2_16 : decode cJ7_remove_2 16 = .ok (.aaload, 1) := dk_50 (dk_at dksJ7_remove_2_0 16 rfl rfl)
theorem dJ7_remove_2_17 : decode cJ7_remove_2 17 = .ok (.astore_n 3, 1) := dk_78 (dk_at dksJ7_remove_2_0 17 rfl rfl)
theorem dJ7_remove_2_18 : decode cJ7_remove_2 18 = .ok (.aload_n 0, 1) := dk_42 (dk_at dksJ7_remove_2_0 18 rfl rfl)
theorem dJ7_remove_2_19 : decode cJ7_remove_2 19 = .ok (.aload_n 2, 1) := dk_44 (dk_at dksJ7_remove_2_0 19 rfl rfl)
theorem dJ7_remove_2_20 : decode cJ7_remove_2 20 = .ok (.iload_n 1, 1) := dk_27 (dk_at dksJ7_remove_2_0 20 rfl rfl)
theorem dJ7_remove_2_21 : decode cJ7_remove_2 21 = .ok (.invokevirtual 144, 3) := dk_182 0 144 (dk_at dksJ7_remove_2_0 21 rfl rfl)
theorem dJ7_remove_2_24 : decode cJ7_remove_2 24 = .ok (.aload_n 3, 1) := dk_45 (dk_at dksJ7_remove_2_1 0 rfl rfl)
theorem dJ7_remove_2_25 : decode cJ7_remove_2 25 = .ok (.areturn, 1) := dk_176 (dk_at dksJ7_remove_2_1 1 rfl rfl)
abbrev cJ7_indexOf : ByteArray := prog_98_method_11_code
def yJ7_indexOf : MethodName := ⟨RJ7, "indexOf", "(Ljava/lang/Object;)I"⟩
def dkwJ7_indexOf_0 : List UInt8 := [42, 43, 3, 42, 180, 0, 48, 182, 0, 89, 172]
abbrev dktJ7_indexOf_0 : List UInt8 := dkwJ7_indexOf_0 ++ []
theorem dksJ7_indexOf_0 : cJ7_indexOf.data.toList.drop 0 = dktJ7_indexOf_0 := by decide +kernel
theorem dJ7_indexOf_0 : decode cJ7_indexOf 0 = .ok (.aload_n 0, 1) := dk_42 (dk_at dksJ7_indexOf_0 0 rfl rfl)
theorem dJ7_indexOf_1 : decode cJ7_indexOf 1 = .ok (.aload_n 1, 1) := dk_43 (dk_at dksJ7_indexOf_0 1 rfl rfl)
theorem dJ7_indexOf_2 : decode cJ7_indexOf 2 = .ok (.iconst 0, 1) := dk_3 (dk_at dksJ7_indexOf_0 2 rfl rfl)
theorem dJ7_indexOf_3 : decode cJ7_indexOf 3 = .ok (.aload_n 0, 1) := dk_42 (dk_at dksJ7_indexOf_0 3 rfl rfl)
theorem dJ7_indexOf_4 : decode cJ7_indexOf 4 = .ok (.getfield 48, 3) := dk_180 0 48 (dk_at dksJ7_indexOf_0 4 rfl rfl)
theorem dJ7_indexOf_7 : decode cJ7_indexOf 7 = .ok (.invokevirtual 89, 3) := dk_182 0 89 (dk_at dksJ7_indexOf_0 7 rfl rfl)
theorem dJ7_indexOf_10 : decode cJ7_indexOf 10 = .ok (.ireturn, 1) := dk_172 (dk_at dksJ7_indexOf_0 10 rfl rfl)
abbrev cJ7_indexOfRange : ByteArray := prog_98_method_12_code
def yJ7_indexOfRange : MethodName := ⟨RJ7, "indexOfRange", "(Ljava/lang/Object;II)I"⟩
def dkwJ7_indexOfRange_2 : List UInt8 := [43, 25, 4, 21, 5, 50, 182, 0, 93, 153, 0, 6, 21, 5, 172, 132, 5, 1, 167, 255, 232, 2, 172]
abbrev dktJ7_indexOfRange_2 : List UInt8 := dkwJ7_indexOfRange_2 ++ []
def dkwJ7_indexOfRange_1 : List UInt8 := [199, 0, 6, 21, 5, 172, 132, 5, 1, 167, 255, 236, 167, 0, 33, 28, 54, 5, 21, 5, 29, 162, 0, 24]
abbrev dktJ7_indexOfRange_1 : List UInt8 := dkwJ7_indexOfRange_1 ++ dktJ7_indexOfRange_2
def dkwJ7_indexOfRange_0 : List UInt8 := [42, 180, 0, 9, 58, 4, 43, 199, 0, 32, 28, 54, 5, 21, 5, 29, 162, 0, 20, 25, 4, 21, 5, 50]
abbrev dktJ7_indexOfRange_0 : List UInt8 := dkwJ7_indexOfRange_0 ++ dktJ7_indexOfRange_1
theorem dksJ7_indexOfRange_0 : cJ7_indexOfRange.data.toList.drop 0 = dktJ7_indexOfRange_0 := by decide +kernel
theorem dksJ7_indexOfRange_1 : cJ7_indexOfRange.data.toList.drop 24 = dktJ7_indexOfRange_1 := dk_seg dksJ7_indexOfRange_0 24 rfl rfl
theorem dksJ7_indexOfRange_2 : cJ7_indexOfRange.data.toList.drop 48 = dktJ7_indexOfRange_2 := dk_seg dksJ7_indexOfRange_1 24 rfl rfl
theorem dJ7_indexOfRange_0 : decode cJ7_indexOfRange 0 = .ok (.aload_n 0, 1) := dk_42 (dk_at dksJ7_indexOfRange_0 0 rfl rfl)
theorem dJ7_indexOfRange_1 : decode cJ7_indexOfRange 1 = .ok (.getfield 9, 3) := dk_180 0 9 (dk_at dksJ7_indexOfRange_0 1 rfl rfl)
theorem dJ7_indexOfRange_4 : decode cJ7_indexOfRange 4 = .ok (.astore 4, 2) := dk_58 4 (dk_at dksJ7_indexOfRange_0 4 rfl rfl)
theorem dJ7_indexOfRange_6 : decode cJ7_indexOfRange 6 = .ok (.aload_n 1, 1) := dk_43 (dk_at dksJ7_indexOfRange_0 6 rfl rfl)
theorem dJ7_indexOfRange_7 : decode cJ7_indexOfRange 7 = .ok (.ifnonnull 32, 3) := dk_199 0 32 (dk_at dksJ7_indexOfRange_0 7 rfl rfl)
theorem dJ7_indexOfRange_10 : decode cJ7_indexOfRange 10 = .ok (.iload_n 2, 1) := dk_28 (dk_at dksJ7_indexOfRange_0 10 rfl rfl)
theorem dJ7_indexOfRange_11 : decode cJ7_indexOfRange 11 = .ok (.istore 5, 2) := dk_54 5 (dk_at dksJ7_indexOfRange_0 11 rfl rfl)
theorem dJ7_indexOfRange_13 : decode cJ7_indexOfRange 13 = .ok (.iload 5, 2) := dk_21 5 (dk_at dksJ7_indexOfRange_0 13 rfl rfl)
theorem dJ7_indexOfRange_15 : decode cJ7_indexOfRange 15 = .ok (.iload_n 3, 1) := dk_29 (dk_at dksJ7_indexOfRange_0 15 rfl rfl)
theorem dJ7_indexOfRange_16 : decode cJ7_indexOfRange 16 = .ok (.if_icmp .ge 20, 3) := dk_162 0 20 (dk_at dksJ7_indexOfRange_0 16 rfl rfl)
theorem dJ7_indexOfRange_19 : decode cJ7_indexOfRange 19 = .ok (.aload 4, 2) := dk_25 4 (dk_at dksJ7_indexOfRange_0 19 rfl rfl)
theorem dJ7_indexOfRange_21 : decode cJ7_indexOfRange 21 = .ok (.iload 5, 2) := dk_21 5 (dk_at dksJ7_indexOfRange_0 21 rfl rfl)
theorem dJ7_indexOfRange_23 : decode cJ7_indexOfRange 23 = .ok (.aaload, 1) := dk_50 (dk_at dksJ7_indexOfRange_0 23 rfl rfl)
theorem dJ7_indexOfRange_24 : decode cJ7_indexOfRange 24 = .ok (.ifnonnull 6, 3) := dk_199 0 6 (dk_at dksJ7_indexOfRange_1 0 rfl rfl)
theorem dJ7_indexOfRange_27 : decode cJ7_indexOfRange 27 = .ok (.iload 5, 2) := dk_21 5 (dk_at dksJ7_indexOfRange_1 3 rfl rfl)
theorem dJ7_indexOfRange_29 : decode cJ7_indexOfRange 29 = .ok (.ireturn, 1) := dk_172 (dk_at dksJ7_indexOfRange_1 5 rfl rfl)
theorem dJ7_indexOfRange_30 : decode cJ7_indexOfRange 30 = .ok (.iinc 5 1, 3) := dk_132 5 1 (dk_at dksJ7_indexOfRange_1 6 rfl rfl)
theorem dJ7_indexOfRange_33 : decode cJ7_indexOfRange 33 = .ok (.goto (-20), 3) := dk_167 255 236 (dk_at dksJ7_indexOfRange_1 9 rfl rfl)
theorem dJ7_indexOfRange_36 : decode cJ7_indexOfRange 36 = .ok (.goto 33, 3) := dk_167 0 33 (dk_at dksJ7_indexOfRange_1 12 rfl rfl)
theorem dJ7_indexOfRange_39 : decode cJ7_indexOfRange 39 = .ok (.iload_n 2, 1) := dk_28 (dk_at dksJ7_indexOfRange_1 15 rfl rfl)
theorem dJ7_indexOfRange_40 : decode cJ7_indexOfRange 40 = .ok (.istore 5, 2) := dk_54 5 (dk_at dksJ7_indexOfRange_1 16 rfl rfl)
theorem dJ7_indexOfRange_42 : decode cJ7_indexOfRange 42 = .ok (.iload 5, 2) := dk_21 5 (dk_at dksJ7_indexOfRange_1 18 rfl rfl)
theorem dJ7_indexOfRange_44 : decode cJ7_indexOfRange 44 = .ok (.iload_n 3, 1) := dk_29 (dk_at dksJ7_indexOfRange_1 20 rfl rfl)
theorem dJ7_indexOfRange_45 : decode cJ7_indexOfRange 45 = .ok (.if_icmp .ge 24, 3) := dk_162 0 24 (dk_at dksJ7_indexOfRange_1 21 rfl rfl)
theorem dJ7_indexOfRange_48 : decode cJ7_indexOfRange 48 = .ok (.aload_n 1, 1) := dk_43 (dk_at dksJ7_indexOfRange_2 0 rfl rfl)
theorem dJ7_indexOfRange_49 : decode cJ7_indexOfRange 49 = .ok (.aload 4, 2) := dk_25 4 (dk_at dksJ7_indexOfRange_2 1 rfl rfl)
theorem dJ7_indexOfRange_51 : decode cJ7_indexOfRange 51 = .ok (.iload 5, 2) := dk_21 5 (dk_at dksJ7_indexOfRange_2 3 rfl rfl)
theorem dJ7_indexOfRange_53 : decode cJ7_indexOfRange 53 = .ok (.aaload, 1) := dk_50 (dk_at dksJ7_indexOfRange_2 5 rfl rfl)
theorem dJ7_indexOfRange_54 : decode cJ7_indexOfRange 54 = .ok (.invokevirtual 93, 3) := dk_182 0 93 (dk_at dksJ7_indexOfRange_2 6 rfl rfl)
theorem dJ7_indexOfRange_57 : decode cJ7_indexOfRange 57 = .ok (.ifCond .eq 6, 3) := dk_153 0 6 (dk_at dksJ7_indexOfRange_2 9 rfl rfl)
theorem dJ7_indexOfRange_60 : decode cJ7_indexOfRange 60 = .ok (.iload 5, 2) := dk_21 5 (dk_at dksJ7_indexOfRange_2 12 rfl rfl)
theorem dJ7_indexOfRange_62 : decode cJ7_indexOfRange 62 = .ok (.ireturn, 1) := dk_172 (dk_at dksJ7_indexOfRange_2 14 rfl rfl)
theorem dJ7_indexOfRange_63 : decode cJ7_indexOfRange 63 = .ok (.iinc 5 1, 3) := dk_132 5 1 (dk_at dksJ7_indexOfRange_2 15 rfl rfl)
theorem dJ7_indexOfRange_66 : decode cJ7_indexOfRange 66 = .ok (.goto (-24), 3) := dk_167 255 232 (dk_at dksJ7_indexOfRange_2 18 rfl rfl)
theorem dJ7_indexOfRange_69 : decode cJ7_indexOfRange 69 = .ok (.iconst (-1), 1) := dk_2 (dk_at dksJ7_indexOfRange_2 21 rfl rfl)
theorem dJ7_indexOfRange_70 : decode cJ7_indexOfRange 70 = .ok (.ireturn, 1) := dk_172 (dk_at dksJ7_indexOfRange_2 22 rfl rfl)
abbrev cJ7_set : ByteArray := prog_98_method_23_code
def yJ7_set : MethodName := ⟨RJ7, "set", "(ILjava/lang/Object;)Ljava/lang/Object;"⟩
def dkwJ7_set_0 : List UInt8 := [27, 42, 180, 0, 48, 184, 0, 118, 87, 42, 27, 182, 0, 123, 78, 42, 180, 0, 9, 27, 44, 83, 45, 176]
abbrev dktJ7_set_0 : List UInt8 := dkwJ7_set_0 ++ []
theorem dksJ7_set_0 : cJ7_set.data.toList.drop 0 = dktJ7_set_0 := by decide +kernel
theorem dJ7_set_0 : decode cJ7_set 0 = .ok (.iload_n 1, 1) := dk_27 (dk_at dksJ7_set_0 0 rfl rfl)
theorem dJ7_set_1 : decode cJ7_set 1 = .ok (.aload_n 0, 1) := dk_42 (dk_at dksJ7_set_0 1 rfl rfl)
theorem dJ7_set_2 : decode cJ7_set 2 = .ok (.getfield 48, 3) := dk_180 0 48 (dk_at dksJ7_set_0 2 rfl rfl)
theorem dJ7_set_5 : decode cJ7_set 5 = .ok (.invokestatic 118, 3) := dk_184 0 118 (dk_at dksJ7_set_0 5 rfl rfl)
theorem dJ7_set_8 : decode cJ7_set 8 = .ok (.pop, 1) := dk_87 (dk_at dksJ7_set_0 8 rfl rfl)
theorem dJ7_set_9 : decode cJ7_set 9 = .ok (.aload_n 0, 1) := dk_42 (dk_at dksJ7_set_0 9 rfl rfl)
theorem dJ7_set_10 : decode cJ7_set 10 = .ok (.iload_n 1, 1) := dk_27 (dk_at dksJ7_set_0 10 rfl rfl)
theorem dJ7_set_11 : decode cJ7_set 11 = .ok (.invokevirtual 123, 3) := dk_182 0 123 (dk_at dksJ7_set_0 11 rfl rfl)
theorem dJ7_set_14 : decode cJ7_set 14 = .ok (.astore_n 3, 1) := dk_78 (dk_at dksJ7_set_0 14 rfl rfl)
theorem dJ7_set_15 : decode cJ7_set 15 = .ok (.aload_n 0, 1) := dk_42 (dk_at dksJ7_set_0 15 rfl rfl)
theorem dJ7_set_16 : decode cJ7_set 16 = .ok (.getfield 9, 3) := dk_180 0 9 (dk_at dksJ7_set_0 16 rfl rfl)
theorem dJ7_set_19 : decode cJ7_set 19 = .ok (.iload_n 1, 1) := dk_27 (dk_at dksJ7_set_0 19 rfl rfl)
theorem dJ7_set_20 : decode cJ7_set 20 = .ok (.aload_n 2, 1) := dk_44 (dk_at dksJ7_set_0 20 rfl rfl)
theorem dJ7_set_21 : decode cJ7_set 21 = .ok (.aastore, 1) := dk_83 (dk_at dksJ7_set_0 21 rfl rfl)
theorem dJ7_set_22 : decode cJ7_set 22 = .ok (.aload_n 3, 1) := dk_45 (dk_at dksJ7_set_0 22 rfl rfl)
theorem dJ7_set_23 : decode cJ7_set 23 = .ok (.areturn, 1) := dk_176 (dk_at dksJ7_set_0 23 rfl rfl)
abbrev cJ7_add_3 : ByteArray := prog_98_method_26_code
def yJ7_add_3 : MethodName := ⟨RJ7, "add", "(ILjava/lang/Object;)V"⟩
def dkwJ7_add_3_2 : List UInt8 := [29, 27, 100, 184, 0, 112, 25, 4, 27, 44, 83, 42, 29, 4, 96, 181, 0, 48, 177]
abbrev dktJ7_add_3_2 : List UInt8 := dkwJ7_add_3_2 ++ []
def dkwJ7_add_3_1 : List UInt8 := [180, 0, 9, 89, 58, 4, 190, 160, 0, 9, 42, 182, 0, 129, 58, 4, 25, 4, 27, 25, 4, 27, 4, 96]
abbrev dktJ7_add_3_1 : List UInt8 := dkwJ7_add_3_1 ++ dktJ7_add_3_2
def dkwJ7_add_3_0 : List UInt8 := [42, 27, 182, 0, 135, 42, 89, 180, 0, 63, 4, 96, 181, 0, 63, 42, 180, 0, 48, 89, 62, 42]
abbrev dktJ7_add_3_0 : List UInt8 := dkwJ7_add_3_0 ++ dktJ7_add_3_1
theorem dksJ7_add_3_0 : cJ7_add_3.data.toList.drop 0 = dktJ7_add_3_0 := by decide +kernel
theorem dksJ7_add_3_1 : cJ7_add_3.data.toList.drop 22 = dktJ7_add_3_1 := dk_seg dksJ7_add_3_0 22 rfl rfl
theorem dksJ7_add_3_2 : cJ7_add_3.data.toList.drop 46 = dktJ7_add_3_2 := dk_seg dksJ7_add_3_1 24 rfl rfl
theorem dJ7_add_3_0 : decode cJ7_add_3 0 = .ok (.aload_n 0, 1) := dk_42 (dk_at dksJ7_add_3_0 0 rfl rfl)
theorem dJ7_add_3_1 : decode cJ7_add_3 1 = .ok (.iload_n 1, 1) := dk_27 (dk_at dksJ7_add_3_0 1 rfl rfl)
theorem dJ7_add_3_2 : decode cJ7_add_3 2 = .ok (.invokevirtual 135, 3) := dk_182 0 135 (dk_at dksJ7_add_3_0 2 rfl rfl)
theorem dJ7_add_3_5 : decode cJ7_add_3 5 = .ok (.aload_n 0, 1) := dk_42 (dk_at dksJ7_add_3_0 5 rfl rfl)
theorem dJ7_add_3_6 : decode cJ7_add_3 6 = .ok (.dup, 1) := dk_89 (dk_at dksJ7_add_3_0 6 rfl rfl)
theorem dJ7_add_3_7 : decode cJ7_add_3 7 = .ok (.getfield 63, 3) := dk_180 0 63 (dk_at dksJ7_add_3_0 7 rfl rfl)
theorem dJ7_add_3_10 : decode cJ7_add_3 10 = .ok (.iconst 1, 1) := dk_4 (dk_at dksJ7_add_3_0 10 rfl rfl)
theorem dJ7_add_3_11 : decode cJ7_add_3 11 = .ok (.iadd, 1) := dk_96 (dk_at dksJ7_add_3_0 11 rfl rfl)
theorem dJ7_add_3_12 : decode cJ7_add_3 12 = .ok (.putfield 63, 3) := dk_181 0 63 (dk_at dksJ7_add_3_0 12 rfl rfl)
theorem dJ7_add_3_15 : decode cJ7_add_3 15 = .ok (.aload_n 0, 1) := dk_42 (dk_at dksJ7_add_3_0 15 rfl rfl)
theorem dJ7_add_3_16 : decode cJ7_add_3 16 = .ok (.getfield 48, 3) := dk_180 0 48 (dk_at dksJ7_add_3_0 16 rfl rfl)
theorem dJ7_add_3_19 : decode cJ7_add_3 19 = .ok (.dup, 1) := dk_89 (dk_at dksJ7_add_3_0 19 rfl rfl)
theorem dJ7_add_3_20 : decode cJ7_add_3 20 = .ok (.istore_n 3, 1) := dk_62 (dk_at dksJ7_add_3_0 20 rfl rfl)
theorem dJ7_add_3_21 : decode cJ7_add_3 21 = .ok (.aload_n 0, 1) := dk_42 (dk_at dksJ7_add_3_0 21 rfl rfl)
theorem dJ7_add_3_22 : decode cJ7_add_3 22 = .ok (.getfield 9, 3) := dk_180 0 9 (dk_at dksJ7_add_3_1 0 rfl rfl)
theorem dJ7_add_3_25 : decode cJ7_add_3 25 = .ok (.dup, 1) := dk_89 (dk_at dksJ7_add_3_1 3 rfl rfl)
theorem dJ7_add_3_26 : decode cJ7_add_3 26 = .ok (.astore 4, 2) := dk_58 4 (dk_at dksJ7_add_3_1 4 rfl rfl)
theorem dJ7_add_3_28 : decode cJ7_add_3 28 = .ok (.arraylength, 1) := dk_190 (dk_at dksJ7_add_3_1 6 rfl rfl)
theorem dJ7_add_3_29 : decode cJ7_add_3 29 = .ok (.if_icmp .ne 9, 3) := dk_160 0 9 (dk_at dksJ7_add_3_1 7 rfl rfl)
theorem dJ7_add_3_32 : decode cJ7_add_3 32 = .ok (.aload_n 0, 1) := dk_42 (dk_at dksJ7_add_3_1 10 rfl rfl)
theorem dJ7_add_3_33 : decode cJ7_add_3 33 = .ok (.invokevirtual 129, 3) := dk_182 0 129 (dk_at dksJ7_add_3_1 11 rfl rfl)
theorem dJ7_add_3_36 : decode cJ7_add_3 36 = .ok (.astore 4, 2) := dk_58 4 (dk_at dksJ7_add_3_1 14 rfl rfl)
theorem dJ7_add_3_38 : decode cJ7_add_3 38 = .ok (.aload 4, 2) := dk_25 4 (dk_at dksJ7_add_3_1 16 rfl rfl)
theorem dJ7_add_3_40 : decode cJ7_add_3 40 = .ok (.iload_n 1, 1) := dk_27 (dk_at dksJ7_add_3_1 18 rfl rfl)
theorem dJ7_add_3_41 : decode cJ7_add_3 41 = .ok (.aload 4, 2) := dk_25 4 (dk_at dksJ7_add_3_1 19 rfl rfl)
theorem dJ7_add_3_43 : decode cJ7_add_3 43 = .ok (.iload_n 1, 1) := dk_27 (dk_at dksJ7_add_3_1 21 rfl rfl)
theorem dJ7_add_3_44 : decode cJ7_add_3 44 = .ok (.iconst 1, 1) := dk_4 (dk_at dksJ7_add_3_1 22 rfl rfl)
theorem dJ7_add_3_45 : decode cJ7_add_3 45 = .ok (.iadd, 1) := dk_96 (dk_at dksJ7_add_3_1 23 rfl rfl)
theorem dJ7_add_3_46 : decode cJ7_add_3 46 = .ok (.iload_n 3, 1) := dk_29 (dk_at dksJ7_add_3_2 0 rfl rfl)
theorem dJ7_add_3_47 : decode cJ7_add_3 47 = .ok (.iload_n 1, 1) := dk_27 (dk_at dksJ7_add_3_2 1 rfl rfl)
theorem dJ7_add_3_48 : decode cJ7_add_3 48 = .ok (.isub, 1) := dk_100 (dk_at dksJ7_add_3_2 2 rfl rfl)
theorem dJ7_add_3_49 : decode cJ7_add_3 49 = .ok (.invokestatic 112, 3) := dk_184 0 112 (dk_at dksJ7_add_3_2 3 rfl rfl)
theorem dJ7_add_3_52 : decode cJ7_add_3 52 = .ok (.aload 4, 2) := dk_25 4 (dk_at dksJ7_add_3_2 6 rfl rfl)
theorem dJ7_add_3_54 : decode cJ7_add_3 54 = .ok (.iload_n 1, 1) := dk_27 (dk_at dksJ7_add_3_2 8 rfl rfl)
theorem dJ7_add_3_55 : decode cJ7_add_3 55 = .ok (.aload_n 2, 1) := dk_44 (dk_at dksJ7_add_3_2 9 rfl rfl)
theorem dJ7_add_3_56 : decode cJ7_add_3 56 = .ok (.aastore, 1) := dk_83 (dk_at dksJ7_add_3_2 10 rfl rfl)
theorem dJ7_add_3_57 : decode cJ7_add_3 57 = .ok (.aload_n 0, 1) := dk_42 (dk_at dksJ7_add_3_2 11 rfl rfl)
theorem dJ7_add_3_58 : decode cJ7_add_3 58 = .ok (.iload_n 3, 1) := dk_29 (dk_at dksJ7_add_3_2 12 rfl rfl)
theorem dJ7_add_3_59 : decode cJ7_add_3 59 = .ok (.iconst 1, 1) := dk_4 (dk_at dksJ7_add_3_2 13 rfl rfl)
theorem dJ7_add_3_60 : decode cJ7_add_3 60 = .ok (.iadd, 1) := dk_96 (dk_at dksJ7_add_3_2 14 rfl rfl)
theorem dJ7_add_3_61 : decode cJ7_add_3 61 = .ok (.putfield 48, 3) := dk_181 0 48 (dk_at dksJ7_add_3_2 15 rfl rfl)
theorem dJ7_add_3_64 : decode cJ7_add_3 64 = .ok (.return_, 1) := dk_177 (dk_at dksJ7_add_3_2 18 rfl rfl)
abbrev cJ7_rangeCheckForAdd : ByteArray := prog_98_method_45_code
def yJ7_rangeCheckForAdd : MethodName := ⟨RJ7, "rangeCheckForAdd", "(I)V"⟩
def dkwJ7_rangeCheckForAdd_1 : List UInt8 := [191, 177]
abbrev dktJ7_rangeCheckForAdd_1 : List UInt8 := dkwJ7_rangeCheckForAdd_1 ++ []
def dkwJ7_rangeCheckForAdd_0 : List UInt8 := [27, 42, 180, 0, 48, 163, 0, 7, 27, 156, 0, 16, 187, 0, 187, 89, 42, 27, 182, 0, 198, 183, 0, 193]
abbrev dktJ7_rangeCheckForAdd_0 : List UInt8 := dkwJ7_rangeCheckForAdd_0 ++ dktJ7_rangeCheckForAdd_1
theorem dksJ7_rangeCheckForAdd_0 : cJ7_rangeCheckForAdd.data.toList.drop 0 = dktJ7_rangeCheckForAdd_0 := by decide +kernel
theorem dksJ7_rangeCheckForAdd_1 : cJ7_rangeCheckForAdd.data.toList.drop 24 = dktJ7_rangeCheckForAdd_1 := dk_seg dksJ7_rangeCheckForAdd_0 24 rfl rfl
theorem dJ7_rangeCheckForAdd_0 : decode cJ7_rangeCheckForAdd 0 = .ok (.iload_n 1, 1) := dk_27 (dk_at dksJ7_rangeCheckForAdd_0 0 rfl rfl)
theorem dJ7_rangeCheckForAdd_1 : decode cJ7_rangeCheckForAdd 1 = .ok (.aload_n 0, 1) := dk_42 (dk_at dksJ7_rangeCheckForAdd_0 1 rfl rfl)
theorem dJ7_rangeCheckForAdd_2 : decode cJ7_rangeCheckForAdd 2 = .ok (.getfield 48, 3) := dk_180 0 48 (dk_at dksJ7_rangeCheckForAdd_0 2 rfl rfl)
theorem dJ7_rangeCheckForAdd_5 : decode cJ7_rangeCheckForAdd 5 = .ok (.if_icmp .gt 7, 3) := dk_163 0 7 (dk_at dksJ7_rangeCheckForAdd_0 5 rfl rfl)
theorem dJ7_rangeCheckForAdd_8 : decode cJ7_rangeCheckForAdd 8 = .ok (.iload_n 1, 1) := dk_27 (dk_at dksJ7_rangeCheckForAdd_0 8 rfl rfl)
theorem dJ7_rangeCheckForAdd_9 : decode cJ7_rangeCheckForAdd 9 = .ok (.ifCond .ge 16, 3) := dk_156 0 16 (dk_at dksJ7_rangeCheckForAdd_0 9 rfl rfl)
theorem dJ7_rangeCheckForAdd_12 : decode cJ7_rangeCheckForAdd 12 = .ok (.new 187, 3) := dk_187 0 187 (dk_at dksJ7_rangeCheckForAdd_0 12 rfl rfl)
theorem dJ7_rangeCheckForAdd_15 : decode cJ7_rangeCheckForAdd 15 = .ok (.dup, 1) := dk_89 (dk_at dksJ7_rangeCheckForAdd_0 15 rfl rfl)
theorem dJ7_rangeCheckForAdd_16 : decode cJ7_rangeCheckForAdd 16 = .ok (.aload_n 0, 1) := dk_42 (dk_at dksJ7_rangeCheckForAdd_0 16 rfl rfl)
theorem dJ7_rangeCheckForAdd_17 : decode cJ7_rangeCheckForAdd 17 = .ok (.iload_n 1, 1) := dk_27 (dk_at dksJ7_rangeCheckForAdd_0 17 rfl rfl)
theorem dJ7_rangeCheckForAdd_18 : decode cJ7_rangeCheckForAdd 18 = .ok (.invokevirtual 198, 3) := dk_182 0 198 (dk_at dksJ7_rangeCheckForAdd_0 18 rfl rfl)
theorem dJ7_rangeCheckForAdd_21 : decode cJ7_rangeCheckForAdd 21 = .ok (.invokespecial 193, 3) := dk_183 0 193 (dk_at dksJ7_rangeCheckForAdd_0 21 rfl rfl)
theorem dJ7_rangeCheckForAdd_24 : decode cJ7_rangeCheckForAdd 24 = .ok (.athrow, 1) := dk_191 (dk_at dksJ7_rangeCheckForAdd_1 0 rfl rfl)
theorem dJ7_rangeCheckForAdd_25 : decode cJ7_rangeCheckForAdd 25 = .ok (.return_, 1) := dk_177 (dk_at dksJ7_rangeCheckForAdd_1 1 rfl rfl)
abbrev cJ7_outOfBoundsMsg : ByteArray := prog_98_method_46_code
def yJ7_outOfBoundsMsg : MethodName := ⟨RJ7, "outOfBoundsMsg", "(I)Ljava/lang/String;"⟩
def dkwJ7_outOfBoundsMsg_1 : List UInt8 := [180, 0, 48, 182, 0, 29, 182, 0, 32, 176]
abbrev dktJ7_outOfBoundsMsg_1 : List UInt8 := dkwJ7_outOfBoundsMsg_1 ++ []
def dkwJ7_outOfBoundsMsg_0 : List UInt8 := [187, 0, 20, 89, 183, 0, 22, 18, 201, 182, 0, 25, 27, 182, 0, 29, 18, 203, 182, 0, 25, 42]
abbrev dktJ7_outOfBoundsMsg_0 : List UInt8 := dkwJ7_outOfBoundsMsg_0 ++ dktJ7_outOfBoundsMsg_1
theorem dksJ7_outOfBoundsMsg_0 : cJ7_outOfBoundsMsg.data.toList.drop 0 = dktJ7_outOfBoundsMsg_0 := by decide +kernel
theorem dksJ7_outOfBoundsMsg_1 : cJ7_outOfBoundsMsg.data.toList.drop 22 = dktJ7_outOfBoundsMsg_1 := dk_seg dksJ7_outOfBoundsMsg_0 22 rfl rfl
theorem dJ7_outOfBoundsMsg_0 : decode cJ7_outOfBoundsMsg 0 = .ok (.new 20, 3) := dk_187 0 20 (dk_at dksJ7_outOfBoundsMsg_0 0 rfl rfl)
theorem dJ7_outOfBoundsMsg_3 : decode cJ7_outOfBoundsMsg 3 = .ok (.dup, 1) := dk_89 (dk_at dksJ7_outOfBoundsMsg_0 3 rfl rfl)
theorem dJ7_outOfBoundsMsg_4 : decode cJ7_outOfBoundsMsg 4 = .ok (.invokespecial 22, 3) := dk_183 0 22 (dk_at dksJ7_outOfBoundsMsg_0 4 rfl rfl)
theorem dJ7_outOfBoundsMsg_7 : decode cJ7_outOfBoundsMsg 7 = .ok (.ldc 201, 2) := dk_18 201 (dk_at dksJ7_outOfBoundsMsg_0 7 rfl rfl)
theorem dJ7_outOfBoundsMsg_9 : decode cJ7_outOfBoundsMsg 9 = .ok (.invokevirtual 25, 3) := dk_182 0 25 (dk_at dksJ7_outOfBoundsMsg_0 9 rfl rfl)
theorem dJ7_outOfBoundsMsg_12 : decode cJ7_outOfBoundsMsg 12 = .ok (.iload_n 1, 1) := dk_27 (dk_at dksJ7_outOfBoundsMsg_0 12 rfl rfl)
theorem dJ7_outOfBoundsMsg_13 : decode cJ7_outOfBoundsMsg 13 = .ok (.invokevirtual 29, 3) := dk_182 0 29 (dk_at dksJ7_outOfBoundsMsg_0 13 rfl rfl)
theorem dJ7_outOfBoundsMsg_16 : decode cJ7_outOfBoundsMsg 16 = .ok (.ldc 203, 2) := dk_18 203 (dk_at dksJ7_outOfBoundsMsg_0 16 rfl rfl)
theorem dJ7_outOfBoundsMsg_18 : decode cJ7_outOfBoundsMsg 18 = .ok (.invokevirtual 25, 3) := dk_182 0 25 (dk_at dksJ7_outOfBoundsMsg_0 18 rfl rfl)
theorem dJ7_outOfBoundsMsg_21 : decode cJ7_outOfBoundsMsg 21 = .ok (.aload_n 0, 1) := dk_42 (dk_at dksJ7_outOfBoundsMsg_0 21 rfl rfl)
theorem dJ7_outOfBoundsMsg_22 : decode cJ7_outOfBoundsMsg 22 = .ok (.getfield 48, 3) := dk_180 0 48 (dk_at dksJ7_outOfBoundsMsg_1 0 rfl rfl)
theorem dJ7_outOfBoundsMsg_25 : decode cJ7_outOfBoundsMsg 25 = .ok (.invokevirtual 29, 3) := dk_182 0 29 (dk_at dksJ7_outOfBoundsMsg_1 3 rfl rfl)
theorem dJ7_outOfBoundsMsg_28 : decode cJ7_outOfBoundsMsg 28 = .ok (.invokevirtual 32, 3) := dk_182 0 32 (dk_at dksJ7_outOfBoundsMsg_1 6 rfl rfl)
theorem dJ7_outOfBoundsMsg_31 : decode cJ7_outOfBoundsMsg 31 = .ok (.areturn, 1) := dk_176 (dk_at dksJ7_outOfBoundsMsg_1 9 rfl rfl)
abbrev cJ7_contains : ByteArray := prog_98_method_10_code
def yJ7_contains : MethodName := ⟨RJ7, "contains", "(Ljava/lang/Object;)Z"⟩
def dkwJ7_contains_0 : List UInt8 := [42, 43, 182, 0, 85, 155, 0, 7, 4, 167, 0, 4, 3, 172]
abbrev dktJ7_contains_0 : List UInt8 := dkwJ7_contains_0 ++ []
theorem dksJ7_contains_0 : cJ7_contains.data.toList.drop 0 = dktJ7_contains_0 := by decide +kernel
theorem dJ7_contains_0 : decode cJ7_contains 0 = .ok (.aload_n 0, 1) := dk_42 (dk_at dksJ7_contains_0 0 rfl rfl)
theorem dJ7_contains_1 : decode cJ7_contains 1 = .ok (.aload_n 1, 1) := dk_43 (dk_at dksJ7_contains_0 1 rfl rfl)
theorem dJ7_contains_2 : decode cJ7_contains 2 = .ok (.invokevirtual 85, 3) := dk_182 0 85 (dk_at dksJ7_contains_0 2 rfl rfl)
theorem dJ7_contains_5 : decode cJ7_contains 5 = .ok (.ifCond .lt 7, 3) := dk_155 0 7 (dk_at dksJ7_contains_0 5 rfl rfl)
theorem dJ7_contains_8 : decode cJ7_contains 8 = .ok (.iconst 1, 1) := dk_4 (dk_at dksJ7_contains_0 8 rfl rfl)
theorem dJ7_contains_9 : decode cJ7_contains 9 = .ok (.goto 4, 3) := dk_167 0 4 (dk_at dksJ7_contains_0 9 rfl rfl)
theorem dJ7_contains_12 : decode cJ7_contains 12 = .ok (.iconst 0, 1) := dk_3 (dk_at dksJ7_contains_0 12 rfl rfl)
theorem dJ7_contains_13 : decode cJ7_contains 13 = .ok (.ireturn, 1) := dk_172 (dk_at dksJ7_contains_0 13 rfl rfl)
abbrev cJ7_addAll : ByteArray := prog_98_method_41_code
def yJ7_addAll : MethodName := ⟨RJ7, "addAll", "(Ljava/util/Collection;)Z"⟩
def dkwJ7_addAll_3 : List UInt8 := [181, 0, 48, 4, 172]
abbrev dktJ7_addAll_3 : List UInt8 := dkwJ7_addAll_3 ++ []
def dkwJ7_addAll_2 : List UInt8 := [21, 5, 29, 96, 182, 0, 69, 58, 4, 44, 3, 25, 4, 21, 5, 29, 184, 0, 112, 42, 21, 5, 29, 96]
abbrev dktJ7_addAll_2 : List UInt8 := dkwJ7_addAll_2 ++ dktJ7_addAll_3
def dkwJ7_addAll_1 : List UInt8 := [3, 172, 29, 42, 180, 0, 9, 89, 58, 4, 190, 42, 180, 0, 48, 89, 54, 5, 100, 164, 0, 13, 42]
abbrev dktJ7_addAll_1 : List UInt8 := dkwJ7_addAll_1 ++ dktJ7_addAll_2
def dkwJ7_addAll_0 : List UInt8 := [43, 185, 0, 42, 1, 0, 77, 42, 89, 180, 0, 63, 4, 96, 181, 0, 63, 44, 190, 62, 29, 154, 0, 5]
abbrev dktJ7_addAll_0 : List UInt8 := dkwJ7_addAll_0 ++ dktJ7_addAll_1
theorem dksJ7_addAll_0 : cJ7_addAll.data.toList.drop 0 = dktJ7_addAll_0 := by decide +kernel
theorem dksJ7_addAll_1 : cJ7_addAll.data.toList.drop 24 = dktJ7_addAll_1 := dk_seg dksJ7_addAll_0 24 rfl rfl
theorem dksJ7_addAll_2 : cJ7_addAll.data.toList.drop 47 = dktJ7_addAll_2 := dk_seg dksJ7_addAll_1 23 rfl rfl
theorem dksJ7_addAll_3 : cJ7_addAll.data.toList.drop 71 = dktJ7_addAll_3 := dk_seg dksJ7_addAll_2 24 rfl rfl
theorem dJ7_addAll_0 : decode cJ7_addAll 0 = .ok (.aload_n 1, 1) := dk_43 (dk_at dksJ7_addAll_0 0 rfl rfl)
theorem dJ7_addAll_1 : decode cJ7_addAll 1 = .ok (.invokeinterface 42 1, 5) := by decide +kernel
theorem dJ7_addAll_6 : decode cJ7_addAll 6 = .ok (.astore_n 2, 1) := dk_77 (dk_at dksJ7_addAll_0 6 rfl rfl)
theorem dJ7_addAll_7 : decode cJ7_addAll 7 = .ok (.aload_n 0, 1) := dk_42 (dk_at dksJ7_addAll_0 7 rfl rfl)
theorem dJ7_addAll_8 : decode cJ7_addAll 8 = .ok (.dup, 1) := dk_89 (dk_at dksJ7_addAll_0 8 rfl rfl)
theorem dJ7_addAll_9 : decode cJ7_addAll 9 = .ok (.getfield 63, 3) := dk_180 0 63 (dk_at dksJ7_addAll_0 9 rfl rfl)
theorem dJ7_addAll_12 : decode cJ7_addAll 12 = .ok (.iconst 1, 1) := dk_4 (dk_at dksJ7_addAll_0 12 rfl rfl)
theorem dJ7_addAll_13 : decode cJ7_addAll 13 = .ok (.iadd, 1) := dk_96 (dk_at dksJ7_addAll_0 13 rfl rfl)
theorem dJ7_addAll_14 : decode cJ7_addAll 14 = .ok (.putfield 63, 3) := dk_181 0 63 (dk_at dksJ7_addAll_0 14 rfl rfl)
theorem dJ7_addAll_17 : decode cJ7_addAll 17 = .ok (.aload_n 2, 1) := dk_44 (dk_at dksJ7_addAll_0 17 rfl rfl)
theorem dJ7_addAll_18 : decode cJ7_addAll 18 = .ok (.arraylength, 1) := dk_190 (dk_at dksJ7_addAll_0 18 rfl rfl)
theorem dJ7_addAll_19 : decode cJ7_addAll 19 = .ok (.istore_n 3, 1) := dk_62 (dk_at dksJ7_addAll_0 19 rfl rfl)
theorem dJ7_addAll_20 : decode cJ7_addAll 20 = .ok (.iload_n 3, 1) := dk_29 (dk_at dksJ7_addAll_0 20 rfl rfl)
theorem dJ7_addAll_21 : decode cJ7_addAll 21 = .ok (.ifCond .ne 5, 3) := dk_154 0 5 (dk_at dksJ7_addAll_0 21 rfl rfl)
theorem dJ7_addAll_24 : decode cJ7_addAll 24 = .ok (.iconst 0, 1) := dk_3 (dk_at dksJ7_addAll_1 0 rfl rfl)
theorem dJ7_addAll_25 : decode cJ7_addAll 25 = .ok (.ireturn, 1) := dk_172 (dk_at dksJ7_addAll_1 1 rfl rfl)
theorem dJ7_addAll_26 : decode cJ7_addAll 26 = .ok (.iload_n 3, 1) := dk_29 (dk_at dksJ7_addAll_1 2 rfl rfl)
theorem dJ7_addAll_27 : decode cJ7_addAll 27 = .ok (.aload_n 0, 1) := dk_42 (dk_at dksJ7_addAll_1 3 rfl rfl)
theorem dJ7_addAll_28 : decode cJ7_addAll 28 = .ok (.getfield 9, 3) := dk_180 0 9 (dk_at dksJ7_addAll_1 4 rfl rfl)
theorem dJ7_addAll_31 : decode cJ7_addAll 31 = .ok (.dup, 1) := dk_89 (dk_at dksJ7_addAll_1 7 rfl rfl)
theorem dJ7_addAll_32 : decode cJ7_addAll 32 = .ok (.astore 4, 2) := dk_58 4 (dk_at dksJ7_addAll_1 8 rfl rfl)
theorem dJ7_addAll_34 : decode cJ7_addAll 34 = .ok (.arraylength, 1) := dk_190 (dk_at dksJ7_addAll_1 10 rfl rfl)
theorem dJ7_addAll_35 : decode cJ7_addAll 35 = .ok (.aload_n 0, 1) := dk_42 (dk_at dksJ7_addAll_1 11 rfl rfl)
theorem dJ7_addAll_36 : decode cJ7_addAll 36 = .ok (.getfield 48, 3) := dk_180 0 48 (dk_at dksJ7_addAll_1 12 rfl rfl)
theorem dJ7_addAll_39 : decode cJ7_addAll 39 = .ok (.dup, 1) := dk_89 (dk_at dksJ7_addAll_1 15 rfl rfl)
theorem dJ7_addAll_40 : decode cJ7_addAll 40 = .ok (.istore 5, 2) := dk_54 5 (dk_at dksJ7_addAll_1 16 rfl rfl)
theorem dJ7_addAll_42 : decode cJ7_addAll 42 = .ok (.isub, 1) := dk_100 (dk_at dksJ7_addAll_1 18 rfl rfl)
theorem dJ7_addAll_43 : decode cJ7_addAll 43 = .ok (.if_icmp .le 13, 3) := dk_164 0 13 (dk_at dksJ7_addAll_1 19 rfl rfl)
theorem dJ7_addAll_46 : decode cJ7_addAll 46 = .ok (.aload_n 0, 1) := dk_42 (dk_at dksJ7_addAll_1 22 rfl rfl)
theorem dJ7_addAll_47 : decode cJ7_addAll 47 = .ok (.iload 5, 2) := dk_21 5 (dk_at dksJ7_addAll_2 0 rfl rfl)
theorem dJ7_addAll_49 : decode cJ7_addAll 49 = .ok (.iload_n 3, 1) := dk_29 (dk_at dksJ7_addAll_2 2 rfl rfl)
theorem dJ7_addAll_50 : decode cJ7_addAll 50 = .ok (.iadd, 1) := dk_96 (dk_at dksJ7_addAll_2 3 rfl rfl)
theorem dJ7_addAll_51 : decode cJ7_addAll 51 = .ok (.invokevirtual 69, 3) := dk_182 0 69 (dk_at dksJ7_addAll_2 4 rfl rfl)
theorem dJ7_addAll_54 : decode cJ7_addAll 54 = .ok (.astore 4, 2) := dk_58 4 (dk_at dksJ7_addAll_2 7 rfl rfl)
theorem dJ7_addAll_56 : decode cJ7_addAll 56 = .ok (.aload_n 2, 1) := dk_44 (dk_at dksJ7_addAll_2 9 rfl rfl)
theorem dJ7_addAll_57 : decode cJ7_addAll 57 = .ok (.iconst 0, 1) := dk_3 (dk_at dksJ7_addAll_2 10 rfl rfl)
theorem dJ7_addAll_58 : decode cJ7_addAll 58 = .ok (.aload 4, 2) := dk_25 4 (dk_at dksJ7_addAll_2 11 rfl rfl)
theorem dJ7_addAll_60 : decode cJ7_addAll 60 = .ok (.iload 5, 2) := dk_21 5 (dk_at dksJ7_addAll_2 13 rfl rfl)
theorem dJ7_addAll_62 : decode cJ7_addAll 62 = .ok (.iload_n 3, 1) := dk_29 (dk_at dksJ7_addAll_2 15 rfl rfl)
theorem dJ7_addAll_63 : decode cJ7_addAll 63 = .ok (.invokestatic 112, 3) := dk_184 0 112 (dk_at dksJ7_addAll_2 16 rfl rfl)
theorem dJ7_addAll_66 : decode cJ7_addAll 66 = .ok (.aload_n 0, 1) := dk_42 (dk_at dksJ7_addAll_2 19 rfl rfl)
theorem dJ7_addAll_67 : decode cJ7_addAll 67 = .ok (.iload 5, 2) := dk_21 5 (dk_at dksJ7_addAll_2 20 rfl rfl)
theorem dJ7_addAll_69 : decode cJ7_addAll 69 = .ok (.iload_n 3, 1) := dk_29 (dk_at dksJ7_addAll_2 22 rfl rfl)
theorem dJ7_addAll_70 : decode cJ7_addAll 70 = .ok (.iadd, 1) := dk_96 (dk_at dksJ7_addAll_2 23 rfl rfl)
theorem dJ7_addAll_71 : decode cJ7_addAll 71 = .ok (.putfield 48, 3) := dk_181 0 48 (dk_at dksJ7_addAll_3 0 rfl rfl)
theorem dJ7_addAll_74 : decode cJ7_addAll 74 = .ok (.iconst 1, 1) := dk_4 (dk_at dksJ7_addAll_3 3 rfl rfl)
theorem dJ7_addAll_75 : decode cJ7_addAll 75 = .ok (.ireturn, 1) := dk_172 (dk_at dksJ7_addAll_3 4 rfl rfl)
abbrev cJ7_toArray : ByteArray := prog_98_method_16_code
def yJ7_toArray : MethodName := ⟨RJ7, "toArray", "()[Ljava/lang/Object;"⟩
def dkwJ7_toArray_0 : List UInt8 := [42, 180, 0, 9, 42, 180, 0, 48, 184, 0, 66, 176]
abbrev dktJ7_toArray_0 : List UInt8 := dkwJ7_toArray_0 ++ []
theorem dksJ7_toArray_0 : cJ7_toArray.data.toList.drop 0 = dktJ7_toArray_0 := by decide +kernel
theorem dJ7_toArray_0 : decode cJ7_toArray 0 = .ok (.aload_n 0, 1) := dk_42 (dk_at dksJ7_toArray_0 0 rfl rfl)
theorem dJ7_toArray_1 : decode cJ7_toArray 1 = .ok (.getfield 9, 3) := dk_180 0 9 (dk_at dksJ7_toArray_0 1 rfl rfl)
theorem dJ7_toArray_4 : decode cJ7_toArray 4 = .ok (.aload_n 0, 1) := dk_42 (dk_at dksJ7_toArray_0 4 rfl rfl)
theorem dJ7_toArray_5 : decode cJ7_toArray 5 = .ok (.getfield 48, 3) := dk_180 0 48 (dk_at dksJ7_toArray_0 5 rfl rfl)
theorem dJ7_toArray_8 : decode cJ7_toArray 8 = .ok (.invokestatic 66, 3) := dk_184 0 66 (dk_at dksJ7_toArray_0 8 rfl rfl)
theorem dJ7_toArray_11 : decode cJ7_toArray 11 = .ok (.areturn, 1) := dk_176 (dk_at dksJ7_toArray_0 11 rfl rfl)
abbrev cJ7_iterator : ByteArray := prog_98_method_55_code
def yJ7_iterator : MethodName := ⟨RJ7, "iterato\x72", "()Ljava/util/Iterator;"⟩
def dkwJ7_iterator_0 : List UInt8 := [187, 1, 11, 89, 42, 183, 1, 13, 176]
abbrev dktJ7_iterator_0 : List UInt8 := dkwJ7_iterator_0 ++ []
theorem dksJ7_iterator_0 : cJ7_iterator.data.toList.drop 0 = dktJ7_iterator_0 := by decide +kernel
theorem dJ7_iterator_0 : decode cJ7_iterator 0 = .ok (.new 267, 3) := dk_187 1 11 (dk_at dksJ7_iterator_0 0 rfl rfl)
theorem dJ7_iterator_3 : decode cJ7_iterator 3 = .ok (.dup, 1) := dk_89 (dk_at dksJ7_iterator_0 3 rfl rfl)
theorem dJ7_iterator_4 : decode cJ7_iterator 4 = .ok (.aload_n 0, 1) := dk_42 (dk_at dksJ7_iterator_0 4 rfl rfl)
theorem dJ7_iterator_5 : decode cJ7_iterator 5 = .ok (.invokespecial 269, 3) := dk_183 1 13 (dk_at dksJ7_iterator_0 5 rfl rfl)
theorem dJ7_iterator_8 : decode cJ7_iterator 8 = .ok (.areturn, 1) := dk_176 (dk_at dksJ7_iterator_0 8 rfl rfl)

abbrev cJ8_init : ByteArray := prog_97_method_1_code
def yJ8_init : MethodName := ⟨RJ8, "<init>", "()V"⟩
theorem dJ8_init_0 : decode cJ8_init 0 = .ok (.aload_n 0, 1) := by decide +kernel
theorem dJ8_init_1 : decode cJ8_init 1 = .ok (.invokespecial 1, 3) := by decide +kernel
theorem dJ8_init_4 : decode cJ8_init 4 = .ok (.return_, 1) := by decide +kernel

abbrev cJ9_init : ByteArray := prog_102_method_7_code
def yJ9_init : MethodName := ⟨RJ9, "<init>", "()V"⟩
def dkwJ9_init_0 : List UInt8 := [42, 183, 0, 43, 42, 18, 92, 181, 0, 81, 177]
abbrev dktJ9_init_0 : List UInt8 := dkwJ9_init_0 ++ []
theorem dksJ9_init_0 : cJ9_init.data.toList.drop 0 = dktJ9_init_0 := by decide +kernel
theorem dJ9_init_0 : decode cJ9_init 0 = .ok (.aload_n 0, 1) := dk_42 (dk_at dksJ9_init_0 0 rfl rfl)
theorem dJ9_init_1 : decode cJ9_init 1 = .ok (.invokespecial 43, 3) := dk_183 0 43 (dk_at dksJ9_init_0 1 rfl rfl)
theorem dJ9_init_4 : decode cJ9_init 4 = .ok (.aload_n 0, 1) := dk_42 (dk_at dksJ9_init_0 4 rfl rfl)
theorem dJ9_init_5 : decode cJ9_init 5 = .ok (.ldc 92, 2) := dk_18 92 (dk_at dksJ9_init_0 5 rfl rfl)
theorem dJ9_init_7 : decode cJ9_init 7 = .ok (.putfield 81, 3) := dk_181 0 81 (dk_at dksJ9_init_0 7 rfl rfl)
theorem dJ9_init_10 : decode cJ9_init 10 = .ok (.return_, 1) := dk_177 (dk_at dksJ9_init_0 10 rfl rfl)
abbrev cJ9_get : ByteArray := prog_102_method_12_code
def yJ9_get : MethodName := ⟨RJ9, "get", "(Ljava/lang/Object;)Ljava/lang/Object;"⟩
def dkwJ9_get_0 : List UInt8 := [42, 43, 182, 0, 158, 89, 77, 199, 0, 7, 1, 167, 0, 7, 44, 180, 0, 162, 176]
abbrev dktJ9_get_0 : List UInt8 := dkwJ9_get_0 ++ []
theorem dksJ9_get_0 : cJ9_get.data.toList.drop 0 = dktJ9_get_0 := by decide +kernel
theorem dJ9_get_0 : decode cJ9_get 0 = .ok (.aload_n 0, 1) := dk_42 (dk_at dksJ9_get_0 0 rfl rfl)
theorem dJ9_get_1 : decode cJ9_get 1 = .ok (.aload_n 1, 1) := dk_43 (dk_at dksJ9_get_0 1 rfl rfl)
theorem dJ9_get_2 : decode cJ9_get 2 = .ok (.invokevirtual 158, 3) := dk_182 0 158 (dk_at dksJ9_get_0 2 rfl rfl)
theorem dJ9_get_5 : decode cJ9_get 5 = .ok (.dup, 1) := dk_89 (dk_at dksJ9_get_0 5 rfl rfl)
theorem dJ9_get_6 : decode cJ9_get 6 = .ok (.astore_n 2, 1) := dk_77 (dk_at dksJ9_get_0 6 rfl rfl)
theorem dJ9_get_7 : decode cJ9_get 7 = .ok (.ifnonnull 7, 3) := dk_199 0 7 (dk_at dksJ9_get_0 7 rfl rfl)
theorem dJ9_get_10 : decode cJ9_get 10 = .ok (.aconst_null, 1) := dk_1 (dk_at dksJ9_get_0 10 rfl rfl)
theorem dJ9_get_11 : decode cJ9_get 11 = .ok (.goto 7, 3) := dk_167 0 7 (dk_at dksJ9_get_0 11 rfl rfl)
theorem dJ9_get_14 : decode cJ9_get 14 = .ok (.aload_n 2, 1) := dk_44 (dk_at dksJ9_get_0 14 rfl rfl)
theorem dJ9_get_15 : decode cJ9_get 15 = .ok (.getfield 162, 3) := dk_180 0 162 (dk_at dksJ9_get_0 15 rfl rfl)
theorem dJ9_get_18 : decode cJ9_get 18 = .ok (.areturn, 1) := dk_176 (dk_at dksJ9_get_0 18 rfl rfl)
abbrev cJ9_getNode : ByteArray := prog_102_method_13_code
def yJ9_getNode : MethodName := ⟨RJ9, "getNode", "(Ljava/lang/Object;)Ljava/util/HashMap$Node;"⟩
def dkwJ9_getNode_6 : List UInt8 := [89, 58, 4, 199, 255, 210, 1, 176]
abbrev dktJ9_getNode_6 : List UInt8 := dkwJ9_getNode_6 ++ []
def dkwJ9_getNode_5 : List UInt8 := [165, 0, 16, 43, 198, 0, 15, 43, 25, 7, 182, 0, 173, 153, 0, 6, 25, 4, 176, 25, 4, 180, 0, 177]
abbrev dktJ9_getNode_5 : List UInt8 := dkwJ9_getNode_5 ++ dktJ9_getNode_6
def dkwJ9_getNode_4 : List UInt8 := [43, 182, 0, 182, 176, 25, 4, 180, 0, 168, 21, 6, 160, 0, 31, 25, 4, 180, 0, 170, 89, 58, 7, 43]
abbrev dktJ9_getNode_4 : List UInt8 := dkwJ9_getNode_4 ++ dktJ9_getNode_5
def dkwJ9_getNode_3 : List UInt8 := [176, 45, 180, 0, 177, 89, 58, 4, 198, 0, 70, 45, 193, 0, 180, 153, 0, 14, 45, 192, 0, 180, 21, 6]
abbrev dktJ9_getNode_3 : List UInt8 := dkwJ9_getNode_3 ++ dktJ9_getNode_4
def dkwJ9_getNode_2 : List UInt8 := [180, 0, 170, 89, 58, 7, 43, 165, 0, 16, 43, 198, 0, 14, 43, 25, 7, 182, 0, 173, 153, 0, 5, 45]
abbrev dktJ9_getNode_2 : List UInt8 := dkwJ9_getNode_2 ++ dktJ9_getNode_3
def dkwJ9_getNode_1 : List UInt8 := [184, 0, 149, 89, 54, 6, 126, 50, 89, 78, 198, 0, 115, 45, 180, 0, 168, 21, 6, 160, 0, 29, 45]
abbrev dktJ9_getNode_1 : List UInt8 := dkwJ9_getNode_1 ++ dktJ9_getNode_2
def dkwJ9_getNode_0 : List UInt8 := [42, 180, 0, 105, 89, 77, 198, 0, 142, 44, 190, 89, 54, 5, 158, 0, 134, 44, 21, 5, 4, 100, 43]
abbrev dktJ9_getNode_0 : List UInt8 := dkwJ9_getNode_0 ++ dktJ9_getNode_1
theorem dksJ9_getNode_0 : cJ9_getNode.data.toList.drop 0 = dktJ9_getNode_0 := by decide +kernel
theorem dksJ9_getNode_1 : cJ9_getNode.data.toList.drop 23 = dktJ9_getNode_1 := dk_seg dksJ9_getNode_0 23 rfl rfl
theorem dksJ9_getNode_2 : cJ9_getNode.data.toList.drop 46 = dktJ9_getNode_2 := dk_seg dksJ9_getNode_1 23 rfl rfl
theorem dksJ9_getNode_3 : cJ9_getNode.data.toList.drop 70 = dktJ9_getNode_3 := dk_seg dksJ9_getNode_2 24 rfl rfl
theorem dksJ9_getNode_4 : cJ9_getNode.data.toList.drop 94 = dktJ9_getNode_4 := dk_seg dksJ9_getNode_3 24 rfl rfl
theorem dksJ9_getNode_5 : cJ9_getNode.data.toList.drop 118 = dktJ9_getNode_5 := dk_seg dksJ9_getNode_4 24 rfl rfl
theorem dksJ9_getNode_6 : cJ9_getNode.data.toList.drop 142 = dktJ9_getNode_6 := dk_seg dksJ9_getNode_5 24 rfl rfl
theorem dJ9_getNode_0 : decode cJ9_getNode 0 = .ok (.aload_n 0, 1) := dk_42 (dk_at dksJ9_getNode_0 0 rfl rfl)
theorem dJ9_getNode_1 : decode cJ9_getNode 1 = .ok (.getfield 105, 3) := dk_180 0 105 (dk_at dksJ9_getNode_0 1 rfl rfl)
theorem dJ9_getNode_4 : decode cJ9_getNode 4 = .ok (.dup, 1) := dk_89 (dk_at dksJ9_getNode_0 4 rfl rfl)
theorem dJ9_getNode_5 : decode cJ9_getNode 5 = .ok (.astore_n 2, 1) := dk_77 (dk_at dksJ9_getNode_0 5 rfl rfl)
theorem dJ9_getNode_6 : decode cJ9_getNode 6 = .ok (.ifnull 142, 3) := dk_198 0 142 (dk_at dksJ9_getNode_0 6 rfl rfl)
theorem dJ9_getNode_9 : decode cJ9_getNode 9 = .ok (.aload_n 2, 1) := dk_44 (dk_at dksJ9_getNode_0 9 rfl rfl)
theorem dJ9_getNode_10 : decode cJ9_getNode 10 = .ok (.arraylength, 1) := dk_190 (dk_at dksJ9_getNode_0 10 rfl rfl)
theorem dJ9_getNode_11 : decode cJ9_getNode 11 = .ok (.dup, 1) := dk_89 (dk_at dksJ9_getNode_0 11 rfl rfl)
theorem dJ9_getNode_12 : decode cJ9_getNode 12 = .ok (.istore 5, 2) := dk_54 5 (dk_at dksJ9_getNode_0 12 rfl rfl)
theorem dJ9_getNode_14 : decode cJ9_getNode 14 = .ok (.ifCond .le 134, 3) := dk_158 0 134 (dk_at dksJ9_getNode_0 14 rfl rfl)
theorem dJ9_getNode_17 : decode cJ9_getNode 17 = .ok (.aload_n 2, 1) := dk_44 (dk_at dksJ9_getNode_0 17 rfl rfl)
theorem dJ9_getNode_18 : decode cJ9_getNode 18 = .ok (.iload 5, 2) := dk_21 5 (dk_at dksJ9_getNode_0 18 rfl rfl)
theorem dJ9_getNode_20 : decode cJ9_getNode 20 = .ok (.iconst 1, 1) := dk_4 (dk_at dksJ9_getNode_0 20 rfl rfl)
theorem dJ9_getNode_21 : decode cJ9_getNode 21 = .ok (.isub, 1) := dk_100 (dk_at dksJ9_getNode_0 21 rfl rfl)
theorem dJ9_getNode_22 : decode cJ9_getNode 22 = .ok (.aload_n 1, 1) := dk_43 (dk_at dksJ9_getNode_0 22 rfl rfl)
theorem dJ9_getNode_23 : decode cJ9_getNode 23 = .ok (.invokestatic 149, 3) := dk_184 0 149 (dk_at dksJ9_getNode_1 0 rfl rfl)
theorem dJ9_getNode_26 : decode cJ9_getNode 26 = .ok (.dup, 1) := dk_89 (dk_at dksJ9_getNode_1 3 rfl rfl)
theorem dJ9_getNode_27 : decode cJ9_getNode 27 = .ok (.istore 6, 2) := dk_54 6 (dk_at dksJ9_getNode_1 4 rfl rfl)
theorem dJ9_getNode_29 : decode cJ9_getNode 29 = .ok (.iand, 1) := dk_126 (dk_at dksJ9_getNode_1 6 rfl rfl)
theorem dJ9_getNode_30 : decode cJ9_getNode 30 = .ok (.aaload, 1) := dk_50 (dk_at dksJ9_getNode_1 7 rfl rfl)
theorem dJ9_getNode_31 : decode cJ9_getNode 31 = .ok (.dup, 1) := dk_89 (dk_at dksJ9_getNode_1 8 rfl rfl)
theorem dJ9_getNode_32 : decode cJ9_getNode 32 = .ok (.astore_n 3, 1) := dk_78 (dk_at dksJ9_getNode_1 9 rfl rfl)
theorem dJ9_getNode_33 : decode cJ9_getNode 33 = .ok (.ifnull 115, 3) := dk_198 0 115 (dk_at dksJ9_getNode_1 10 rfl rfl)
theorem dJ9_getNode_36 : decode cJ9_getNode 36 = .ok (.aload_n 3, 1) := dk_45 (dk_at dksJ9_getNode_1 13 rfl rfl)
theorem dJ9_getNode_37 : decode cJ9_getNode 37 = .ok (.getfield 168, 3) := dk_180 0 168 (dk_at dksJ9_getNode_1 14 rfl rfl)
theorem dJ9_getNode_40 : decode cJ9_getNode 40 = .ok (.iload 6, 2) := dk_21 6 (dk_at dksJ9_getNode_1 17 rfl rfl)
theorem dJ9_getNode_42 : decode cJ9_getNode 42 = .ok (.if_icmp .ne 29, 3) := dk_160 0 29 (dk_at dksJ9_getNode_1 19 rfl rfl)
theorem dJ9_getNode_45 : decode cJ9_getNode 45 = .ok (.aload_n 3, 1) := dk_45 (dk_at dksJ9_getNode_1 22 rfl rfl)
theorem dJ9_getNode_46 : decode cJ9_getNode 46 = .ok (.getfield 170, 3) := dk_180 0 170 (dk_at dksJ9_getNode_2 0 rfl rfl)
theorem dJ9_getNode_49 : decode cJ9_getNode 49 = .ok (.dup, 1) := dk_89 (dk_at dksJ9_getNode_2 3 rfl rfl)
theorem dJ9_getNode_50 : decode cJ9_getNode 50 = .ok (.astore 7, 2) := dk_58 7 (dk_at dksJ9_getNode_2 4 rfl rfl)
theorem dJ9_getNode_52 : decode cJ9_getNode 52 = .ok (.aload_n 1, 1) := dk_43 (dk_at dksJ9_getNode_2 6 rfl rfl)
theorem dJ9_getNode_53 : decode cJ9_getNode 53 = .ok (.if_acmp .eq 16, 3) := dk_165 0 16 (dk_at dksJ9_getNode_2 7 rfl rfl)
theorem dJ9_getNode_56 : decode cJ9_getNode 56 = .ok (.aload_n 1, 1) := dk_43 (dk_at dksJ9_getNode_2 10 rfl rfl)
theorem dJ9_getNode_57 : decode cJ9_getNode 57 = .ok (.ifnull 14, 3) := dk_198 0 14 (dk_at dksJ9_getNode_2 11 rfl rfl)
theorem dJ9_getNode_60 : decode cJ9_getNode 60 = .ok (.aload_n 1, 1) := dk_43 (dk_at dksJ9_getNode_2 14 rfl rfl)
theorem dJ9_getNode_61 : decode cJ9_getNode 61 = .ok (.aload 7, 2) := dk_25 7 (dk_at dksJ9_getNode_2 15 rfl rfl)
theorem dJ9_getNode_63 : decode cJ9_getNode 63 = .ok (.invokevirtual 173, 3) := dk_182 0 173 (dk_at dksJ9_getNode_2 17 rfl rfl)
theorem dJ9_getNode_66 : decode cJ9_getNode 66 = .ok (.ifCond .eq 5, 3) := dk_153 0 5 (dk_at dksJ9_getNode_2 20 rfl rfl)
theorem dJ9_getNode_69 : decode cJ9_getNode 69 = .ok (.aload_n 3, 1) := dk_45 (dk_at dksJ9_getNode_2 23 rfl rfl)
theorem dJ9_getNode_70 : decode cJ9_getNode 70 = .ok (.areturn, 1) := dk_176 (dk_at dksJ9_getNode_3 0 rfl rfl)
theorem dJ9_getNode_71 : decode cJ9_getNode 71 = .ok (.aload_n 3, 1) := dk_45 (dk_at dksJ9_getNode_3 1 rfl rfl)
theorem dJ9_getNode_72 : decode cJ9_getNode 72 = .ok (.getfield 177, 3) := dk_180 0 177 (dk_at dksJ9_getNode_3 2 rfl rfl)
theorem dJ9_getNode_75 : decode cJ9_getNode 75 = .ok (.dup, 1) := dk_89 (dk_at dksJ9_getNode_3 5 rfl rfl)
theorem dJ9_getNode_76 : decode cJ9_getNode 76 = .ok (.astore 4, 2) := dk_58 4 (dk_at dksJ9_getNode_3 6 rfl rfl)
theorem dJ9_getNode_78 : decode cJ9_getNode 78 = .ok (.ifnull 70, 3) := dk_198 0 70 (dk_at dksJ9_getNode_3 8 rfl rfl)
theorem dJ9_getNode_81 : decode cJ9_getNode 81 = .ok (.aload_n 3, 1) := dk_45 (dk_at dksJ9_getNode_3 11 rfl rfl)
theorem dJ9_getNode_82 : decode cJ9_getNode 82 = .ok (.instanceof 180, 3) := dk_193 0 180 (dk_at dksJ9_getNode_3 12 rfl rfl)
theorem dJ9_getNode_85 : decode cJ9_getNode 85 = .ok (.ifCond .eq 14, 3) := dk_153 0 14 (dk_at dksJ9_getNode_3 15 rfl rfl)
theorem dJ9_getNode_88 : decode cJ9_getNode 88 = .ok (.aload_n 3, 1) := dk_45 (dk_at dksJ9_getNode_3 18 rfl rfl)
theorem dJ9_getNode_89 : decode cJ9_getNode 89 = .ok (.checkcast 180, 3) := dk_192 0 180 (dk_at dksJ9_getNode_3 19 rfl rfl)
theorem dJ9_getNode_92 : decode cJ9_getNode 92 = .ok (.iload 6, 2) := dk_21 6 (dk_at dksJ9_getNode_3 22 rfl rfl)
theorem dJ9_getNode_94 : decode cJ9_getNode 94 = .ok (.aload_n 1, 1) := dk_43 (dk_at dksJ9_getNode_4 0 rfl rfl)
theorem dJ9_getNode_95 : decode cJ9_getNode 95 = .ok (.invokevirtual 182, 3) := dk_182 0 182 (dk_at dksJ9_getNode_4 1 rfl rfl)
theorem dJ9_getNode_98 : decode cJ9_getNode 98 = .ok (.areturn, 1) := dk_176 (dk_at dksJ9_getNode_4 4 rfl rfl)
theorem dJ9_getNode_99 : decode cJ9_getNode 99 = .ok (.aload 4, 2) := dk_25 4 (dk_at dksJ9_getNode_4 5 rfl rfl)
theorem dJ9_getNode_101 : decode cJ9_getNode 101 = .ok (.getfield 168, 3) := dk_180 0 168 (dk_at dksJ9_getNode_4 7 rfl rfl)
theorem dJ9_getNode_104 : decode cJ9_getNode 104 = .ok (.iload 6, 2) := dk_21 6 (dk_at dksJ9_getNode_4 10 rfl rfl)
theorem dJ9_getNode_106 : decode cJ9_getNode 106 = .ok (.if_icmp .ne 31, 3) := dk_160 0 31 (dk_at dksJ9_getNode_4 12 rfl rfl)
theorem dJ9_getNode_109 : decode cJ9_getNode 109 = .ok (.aload 4, 2) := dk_25 4 (dk_at dksJ9_getNode_4 15 rfl rfl)
theorem dJ9_getNode_111 : decode cJ9_getNode 111 = .ok (.getfield 170, 3) := dk_180 0 170 (dk_at dksJ9_getNode_4 17 rfl rfl)
theorem dJ9_getNode_114 : decode cJ9_getNode 114 = .ok (.dup, 1) := dk_89 (dk_at dksJ9_getNode_4 20 rfl rfl)
theorem dJ9_getNode_115 : decode cJ9_getNode 115 = .ok (.astore 7, 2) := dk_58 7 (dk_at dksJ9_getNode_4 21 rfl rfl)
theorem dJ9_getNode_117 : decode cJ9_getNode 117 = .ok (.aload_n 1, 1) := dk_43 (dk_at dksJ9_getNode_4 23 rfl rfl)
theorem dJ9_getNode_118 : decode cJ9_getNode 118 = .ok (.if_acmp .eq 16, 3) := dk_165 0 16 (dk_at dksJ9_getNode_5 0 rfl rfl)
theorem dJ9_getNode_121 : decode cJ9_getNode 121 = .ok (.aload_n 1, 1) := dk_43 (dk_at dksJ9_getNode_5 3 rfl rfl)
theorem dJ9_getNode_122 : decode cJ9_getNode 122 = .ok (.ifnull 15, 3) := dk_198 0 15 (dk_at dksJ9_getNode_5 4 rfl rfl)
theorem dJ9_getNode_125 : decode cJ9_getNode 125 = .ok (.aload_n 1, 1) := dk_43 (dk_at dksJ9_getNode_5 7 rfl rfl)
theorem dJ9_getNode_126 : decode cJ9_getNode 126 = .ok (.aload 7, 2) := dk_25 7 (dk_at dksJ9_getNode_5 8 rfl rfl)
theorem dJ9_getNode_128 : decode cJ9_getNode 128 = .ok (.invokevirtual 173, 3) := dk_182 0 173 (dk_at dksJ9_getNode_5 10 rfl rfl)
theorem dJ9_getNode_131 : decode cJ9_getNode 131 = .ok (.ifCond .eq 6, 3) := dk_153 0 6 (dk_at dksJ9_getNode_5 13 rfl rfl)
theorem dJ9_getNode_134 : decode cJ9_getNode 134 = .ok (.aload 4, 2) := dk_25 4 (dk_at dksJ9_getNode_5 16 rfl rfl)
theorem dJ9_getNode_136 : decode cJ9_getNode 136 = .ok (.areturn, 1) := dk_176 (dk_at dksJ9_getNode_5 18 rfl rfl)
theorem dJ9_getNode_137 : decode cJ9_getNode 137 = .ok (.aload 4, 2) := dk_25 4 (dk_at dksJ9_getNode_5 19 rfl rfl)
theorem dJ9_getNode_139 : decode cJ9_getNode 139 = .ok (.getfield 177, 3) := dk_180 0 177 (dk_at dksJ9_getNode_5 21 rfl rfl)
theorem dJ9_getNode_142 : decode cJ9_getNode 142 = .ok (.dup, 1) := dk_89 (dk_at dksJ9_getNode_6 0 rfl rfl)
theorem dJ9_getNode_143 : decode cJ9_getNode 143 = .ok (.astore 4, 2) := dk_58 4 (dk_at dksJ9_getNode_6 1 rfl rfl)
theorem dJ9_getNode_145 : decode cJ9_getNode 145 = .ok (.ifnonnull (-46), 3) := dk_199 255 210 (dk_at dksJ9_getNode_6 3 rfl rfl)
theorem dJ9_getNode_148 : decode cJ9_getNode 148 = .ok (.aconst_null, 1) := dk_1 (dk_at dksJ9_getNode_6 6 rfl rfl)
theorem dJ9_getNode_149 : decode cJ9_getNode 149 = .ok (.areturn, 1) := dk_176 (dk_at dksJ9_getNode_6 7 rfl rfl)
abbrev cJ9_hash : ByteArray := prog_102_method_1_code
def yJ9_hash : MethodName := ⟨RJ9, "hash", "(Ljava/lang/Object;)I"⟩
def dkwJ9_hash_0 : List UInt8 := [42, 199, 0, 7, 3, 167, 0, 14, 42, 182, 0, 1, 89, 60, 27, 16, 16, 124, 130, 172]
abbrev dktJ9_hash_0 : List UInt8 := dkwJ9_hash_0 ++ []
theorem dksJ9_hash_0 : cJ9_hash.data.toList.drop 0 = dktJ9_hash_0 := by decide +kernel
theorem dJ9_hash_0 : decode cJ9_hash 0 = .ok (.aload_n 0, 1) := dk_42 (dk_at dksJ9_hash_0 0 rfl rfl)
theorem dJ9_hash_1 : decode cJ9_hash 1 = .ok (.ifnonnull 7, 3) := dk_199 0 7 (dk_at dksJ9_hash_0 1 rfl rfl)
theorem dJ9_hash_4 : decode cJ9_hash 4 = .ok (.iconst 0, 1) := dk_3 (dk_at dksJ9_hash_0 4 rfl rfl)
theorem dJ9_hash_5 : decode cJ9_hash 5 = .ok (.goto 14, 3) := dk_167 0 14 (dk_at dksJ9_hash_0 5 rfl rfl)
theorem dJ9_hash_8 : decode cJ9_hash 8 = .ok (.aload_n 0, 1) := dk_42 (dk_at dksJ9_hash_0 8 rfl rfl)
theorem dJ9_hash_9 : decode cJ9_hash 9 = .ok (.invokevirtual 1, 3) := dk_182 0 1 (dk_at dksJ9_hash_0 9 rfl rfl)
theorem dJ9_hash_12 : decode cJ9_hash 12 = .ok (.dup, 1) := dk_89 (dk_at dksJ9_hash_0 12 rfl rfl)
theorem dJ9_hash_13 : decode cJ9_hash 13 = .ok (.istore_n 1, 1) := dk_60 (dk_at dksJ9_hash_0 13 rfl rfl)
theorem dJ9_hash_14 : decode cJ9_hash 14 = .ok (.iload_n 1, 1) := dk_27 (dk_at dksJ9_hash_0 14 rfl rfl)
theorem dJ9_hash_15 : decode cJ9_hash 15 = .ok (.bipush 16, 2) := dk_16 16 (dk_at dksJ9_hash_0 15 rfl rfl)
theorem dJ9_hash_17 : decode cJ9_hash 17 = .ok (.iushr, 1) := dk_124 (dk_at dksJ9_hash_0 17 rfl rfl)
theorem dJ9_hash_18 : decode cJ9_hash 18 = .ok (.ixor, 1) := dk_130 (dk_at dksJ9_hash_0 18 rfl rfl)
theorem dJ9_hash_19 : decode cJ9_hash 19 = .ok (.ireturn, 1) := dk_172 (dk_at dksJ9_hash_0 19 rfl rfl)
abbrev cJ9_comparableClassFor : ByteArray := prog_102_method_2_code
def yJ9_comparableClassFor : MethodName := ⟨RJ9, "comparableClassFo\x72", "(Ljava/lang/Object;)Ljava/lang/Class;"⟩
def dkwJ9_comparableClassFor_4 : List UInt8 := [4, 160, 0, 12, 45, 3, 50, 43, 166, 0, 5, 43, 176, 132, 7, 1, 167, 255, 186, 1, 176]
abbrev dktJ9_comparableClassFor_4 : List UInt8 := dkwJ9_comparableClassFor_4 ++ []
def dkwJ9_comparableClassFor_3 : List UInt8 := [185, 0, 23, 1, 0, 18, 7, 166, 0, 30, 25, 4, 185, 0, 27, 1, 0, 89, 78, 198, 0, 18, 45, 190]
abbrev dktJ9_comparableClassFor_3 : List UInt8 := dkwJ9_comparableClassFor_3 ++ dktJ9_comparableClassFor_4
def dkwJ9_comparableClassFor_2 : List UInt8 := [25, 5, 21, 7, 50, 58, 8, 25, 8, 193, 0, 21, 153, 0, 48, 25, 8, 192, 0, 21, 89, 58, 4]
abbrev dktJ9_comparableClassFor_2 : List UInt8 := dkwJ9_comparableClassFor_2 ++ dktJ9_comparableClassFor_3
def dkwJ9_comparableClassFor_1 : List UInt8 := [89, 77, 198, 0, 87, 44, 58, 5, 25, 5, 190, 54, 6, 3, 54, 7, 21, 7, 21, 6, 162, 0, 69]
abbrev dktJ9_comparableClassFor_1 : List UInt8 := dkwJ9_comparableClassFor_1 ++ dktJ9_comparableClassFor_2
def dkwJ9_comparableClassFor_0 : List UInt8 := [42, 193, 0, 7, 153, 0, 109, 42, 182, 0, 9, 89, 76, 18, 13, 166, 0, 5, 43, 176, 43, 182, 0, 15]
abbrev dktJ9_comparableClassFor_0 : List UInt8 := dkwJ9_comparableClassFor_0 ++ dktJ9_comparableClassFor_1
theorem dksJ9_comparableClassFor_0 : cJ9_comparableClassFor.data.toList.drop 0 = dktJ9_comparableClassFor_0 := by decide +kernel
theorem dksJ9_comparableClassFor_1 : cJ9_comparableClassFor.data.toList.drop 24 = dktJ9_comparableClassFor_1 := dk_seg dksJ9_comparableClassFor_0 24 rfl rfl
theorem dksJ9_comparableClassFor_2 : cJ9_comparableClassFor.data.toList.drop 47 = dktJ9_comparableClassFor_2 := dk_seg dksJ9_comparableClassFor_1 23 rfl rfl
theorem dksJ9_comparableClassFor_3 : cJ9_comparableClassFor.data.toList.drop 70 = dktJ9_comparableClassFor_3 := dk_seg dksJ9_comparableClassFor_2 23 rfl rfl
theorem dksJ9_comparableClassFor_4 : cJ9_comparableClassFor.data.toList.drop 94 = dktJ9_comparableClassFor_4 := dk_seg dksJ9_comparableClassFor_3 24 rfl rfl
theorem dJ9_comparableClassFor_0 : decode cJ9_comparableClassFor 0 = .ok (.aload_n 0, 1) := dk_42 (dk_at dksJ9_comparableClassFor_0 0 rfl rfl)
theorem dJ9_comparableClassFor_1 : decode cJ9_comparableClassFor 1 = .ok (.instanceof 7, 3) := dk_193 0 7 (dk_at dksJ9_comparableClassFor_0 1 rfl rfl)
theorem dJ9_comparableClassFor_4 : decode cJ9_comparableClassFor 4 = .ok (.ifCond .eq 109, 3) := dk_153 0 109 (dk_at dksJ9_comparableClassFor_0 4 rfl rfl)
theorem dJ9_comparableClassFor_7 : decode cJ9_comparableClassFor 7 = .ok (.aload_n 0, 1) := dk_42 (dk_at dksJ9_comparableClassFor_0 7 rfl rfl)
theorem dJ9_comparableClassFor_8 : decode cJ9_comparableClassFor 8 = .ok (.invokevirtual 9, 3) := dk_182 0 9 (dk_at dksJ9_comparableClassFor_0 8 rfl rfl)
theorem dJ9_comparableClassFor_11 : decode cJ9_comparableClassFor 11 = .ok (.dup, 1) := dk_89 (dk_at dksJ9_comparableClassFor_0 11 rfl rfl)
theorem dJ9_comparableClassFor_12 : decode cJ9_comparableClassFor 12 = .ok (.astore_n 1, 1) := dk_76 (dk_at dksJ9_comparableClassFor_0 12 rfl rfl)
theorem dJ9_comparableClassFor_13 : decode cJ9_comparableClassFor 13 = .ok (.ldc 13, 2) := dk_18 13 (dk_at dksJ9_comparableClassFor_0 13 rfl rfl)
theorem dJ9_comparableClassFor_15 : decode cJ9_comparableClassFor 15 = .ok (.if_acmp .ne 5, 3) := dk_166 0 5 (dk_at dksJ9_comparableClassFor_0 15 rfl rfl)
theorem dJ9_comparableClassFor_18 : decode cJ9_comparableClassFor 18 = .ok (.aload_n 1, 1) := dk_43 (dk_at dksJ9_comparableClassFor_0 18 rfl rfl)
theorem dJ9_comparableClassFor_19 : decode cJ9_comparableClassFor 19 = .ok (.areturn, 1) := dk_176 (dk_at dksJ9_comparableClassFor_0 19 rfl rfl)
theorem dJ9_comparableClassFor_20 : decode cJ9_comparableClassFor 20 = .ok (.aload_n 1, 1) := dk_43 (dk_at dksJ9_comparableClassFor_0 20 rfl rfl)
theorem dJ9_comparableClassFor_21 : decode cJ9_comparableClassFor 21 = .ok (.invokevirtual 15, 3) := dk_182 0 15 (dk_at dksJ9_comparableClassFor_0 21 rfl rfl)
theorem dJ9_comparableClassFor_24 : decode cJ9_comparableClassFor 24 = .ok (.dup, 1) := dk_89 (dk_at dksJ9_comparableClassFor_1 0 rfl rfl)
theorem dJ9_comparableClassFor_25 : decode cJ9_comparableClassFor 25 = .ok (.astore_n 2, 1) := dk_77 (dk_at dksJ9_comparableClassFor_1 1 rfl rfl)
theorem dJ9_comparableClassFor_26 : decode cJ9_comparableClassFor 26 = .ok (.ifnull 87, 3) := dk_198 0 87 (dk_at dksJ9_comparableClassFor_1 2 rfl rfl)
theorem dJ9_comparableClassFor_29 : decode cJ9_comparableClassFor 29 = .ok (.aload_n 2, 1) := dk_44 (dk_at dksJ9_comparableClassFor_1 5 rfl rfl)
theorem dJ9_comparableClassFor_30 : decode cJ9_comparableClassFor 30 = .ok (.astore 5, 2) := dk_58 5 (dk_at dksJ9_comparableClassFor_1 6 rfl rfl)
theorem dJ9_comparableClassFor_32 : decode cJ9_comparableClassFor 32 = .ok (.aload 5, 2) := dk_25 5 (dk_at dksJ9_comparableClassFor_1 8 rfl rfl)
theorem dJ9_comparableClassFor_34 : decode cJ9_comparableClassFor 34 = .ok (.arraylength, 1) := dk_190 (dk_at dksJ9_comparableClassFor_1 10 rfl rfl)
theorem dJ9_comparableClassFor_35 : decode cJ9_comparableClassFor 35 = .ok (.istore 6, 2) := dk_54 6 (dk_at dksJ9_comparableClassFor_1 11 rfl rfl)
theorem dJ9_comparableClassFor_37 : decode cJ9_comparableClassFor 37 = .ok (.iconst 0, 1) := dk_3 (dk_at dksJ9_comparableClassFor_1 13 rfl rfl)
theorem dJ9_comparableClassFor_38 : decode cJ9_comparableClassFor 38 = .ok (.istore 7, 2) := dk_54 7 (dk_at dksJ9_comparableClassFor_1 14 rfl rfl)
theorem dJ9_comparableClassFor_40 : decode cJ9_comparableClassFor 40 = .ok (.iload 7, 2) := dk_21 7 (dk_at dksJ9_comparableClassFor_1 16 rfl rfl)
theorem dJ9_comparableClassFor_42 : decode cJ9_comparableClassFor 42 = .ok (.iload 6, 2) := dk_21 6 (dk_at dksJ9_comparableClassFor_1 18 rfl rfl)
theorem dJ9_comparableClassFor_44 : decode cJ9_comparableClassFor 44 = .ok (.if_icmp .ge 69, 3) := dk_162 0 69 (dk_at dksJ9_comparableClassFor_1 20 rfl rfl)
theorem dJ9_comparableClassFor_47 : decode cJ9_comparableClassFor 47 = .ok (.aload 5, 2) := dk_25 5 (dk_at dksJ9_comparableClassFor_2 0 rfl rfl)
theorem dJ9_comparableClassFor_49 : decode cJ9_comparableClassFor 49 = .ok (.iload 7, 2) := dk_21 7 (dk_at dksJ9_comparableClassFor_2 2 rfl rfl)
theorem dJ9_comparableClassFor_51 : decode cJ9_comparableClassFor 51 = .ok (.aaload, 1) := dk_50 (dk_at dksJ9_comparableClassFor_2 4 rfl rfl)
theorem dJ9_comparableClassFor_52 : decode cJ9_comparableClassFor 52 = .ok (.astore 8, 2) := dk_58 8 (dk_at dksJ9_comparableClassFor_2 5 rfl rfl)
theorem dJ9_comparableClassFor_54 : decode cJ9_comparableClassFor 54 = .ok (.aload 8, 2) := dk_25 8 (dk_at dksJ9_comparableClassFor_2 7 rfl rfl)
theorem dJ9_comparableClassFor_56 : decode cJ9_comparableClassFor 56 = .ok (.instanceof 21, 3) := dk_193 0 21 (dk_at dksJ9_comparableClassFor_2 9 rfl rfl)
theorem dJ9_comparableClassFor_59 : decode cJ9_comparableClassFor 59 = .ok (.ifCond .eq 48, 3) := dk_153 0 48 (dk_at dksJ9_comparableClassFor_2 12 rfl rfl)
theorem dJ9_comparableClassFor_62 : decode cJ9_comparableClassFor 62 = .ok (.aload 8, 2) := dk_25 8 (dk_at dksJ9_comparableClassFor_2 15 rfl rfl)
theorem dJ9_comparableClassFor_64 : decode cJ9_comparableClassFor 64 = .ok (.checkcast 21, 3) := dk_192 0 21 (dk_at dksJ9_comparableClassFor_2 17 rfl rfl)
theorem dJ9_comparableClassFor_67 : decode cJ9_comparableClassFor 67 = .ok (.dup, 1) := dk_89 (dk_at dksJ9_comparableClassFor_2 20 rfl rfl)
theorem dJ9_comparableClassFor_68 : decode cJ9_comparableClassFor 68 = .ok (.astore 4, 2) := dk_58 4 (dk_at dksJ9_comparableClassFor_2 21 rfl rfl)
theorem dJ9_comparableClassFor_70 : decode cJ9_comparableClassFor 70 = .ok (.invokeinterface 23 1, 5) := by decide +kernel
theorem dJ9_comparableClassFor_75 : decode cJ9_comparableClassFor 75 = .ok (.ldc 7, 2) := dk_18 7 (dk_at dksJ9_comparableClassFor_3 5 rfl rfl)
theorem dJ9_comparableClassFor_77 : decode cJ9_comparableClassFor 77 = .ok (.if_acmp .ne 30, 3) := dk_166 0 30 (dk_at dksJ9_comparableClassFor_3 7 rfl rfl)
theorem dJ9_comparableClassFor_80 : decode cJ9_comparableClassFor 80 = .ok (.aload 4, 2) := dk_25 4 (dk_at dksJ9_comparableClassFor_3 10 rfl rfl)
theorem dJ9_comparableClassFor_82 : decode cJ9_comparableClassFor 82 = .ok (.invokeinterface 27 1, 5) := by decide +kernel
theorem dJ9_comparableClassFor_87 : decode cJ9_comparableClassFor 87 = .ok (.dup, 1) := dk_89 (dk_at dksJ9_comparableClassFor_3 17 rfl rfl)
theorem dJ9_comparableClassFor_88 : decode cJ9_comparableClassFor 88 = .ok (.astore_n 3, 1) := dk_78 (dk_at dksJ9_comparableClassFor_3 18 rfl rfl)
theorem dJ9_comparableClassFor_89 : decode cJ9_comparableClassFor 89 = .ok (.ifnull 18, 3) := dk_198 0 18 (dk_at dksJ9_comparableClassFor_3 19 rfl rfl)
theorem dJ9_comparableClassFor_92 : decode cJ9_comparableClassFor 92 = .ok (.aload_n 3, 1) := dk_45 (dk_at dksJ9_comparableClassFor_3 22 rfl rfl)
theorem dJ9_comparableClassFor_93 : decode cJ9_comparableClassFor 93 = .ok (.arraylength, 1) := dk_190 (dk_at dksJ9_comparableClassFor_3 23 rfl rfl)
theorem dJ9_comparableClassFor_94 : decode cJ9_comparableClassFor 94 = .ok (.iconst 1, 1) := dk_4 (dk_at dksJ9_comparableClassFor_4 0 rfl rfl)
theorem dJ9_comparableClassFor_95 : decode cJ9_comparableClassFor 95 = .ok (.if_icmp .ne 12, 3) := dk_160 0 12 (dk_at dksJ9_comparableClassFor_4 1 rfl rfl)
theorem dJ9_comparableClassFor_98 : decode cJ9_comparableClassFor 98 = .ok (.aload_n 3, 1) := dk_45 (dk_at dksJ9_comparableClassFor_4 4 rfl rfl)
theorem dJ9_comparableClassFor_99 : decode cJ9_comparableClassFor 99 = .ok (.iconst 0, 1) := dk_3 (dk_at dksJ9_comparableClassFor_4 5 rfl rfl)
theorem dJ9_comparableClassFor_100 : decode cJ9_comparableClassFor 100 = .ok (.aaload, 1) := dk_50 (dk_at dksJ9_comparableClassFor_4 6 rfl rfl)
theorem dJ9_comparableClassFor_101 : decode cJ9_comparableClassFor 101 = .ok (.aload_n 1, 1) := dk_43 (dk_at dksJ9_comparableClassFor_4 7 rfl rfl)
theorem dJ9_comparableClassFor_102 : decode cJ9_comparableClassFor 102 = .ok (.if_acmp .ne 5, 3) := dk_166 0 5 (dk_at dksJ9_comparableClassFor_4 8 rfl rfl)
theorem dJ9_comparableClassFor_105 : decode cJ9_comparableClassFor 105 = .ok (.aload_n 1, 1) := dk_43 (dk_at dksJ9_comparableClassFor_4 11 rfl rfl)
theorem dJ9_comparableClassFor_106 : decode cJ9_comparableClassFor 106 = .ok (.areturn, 1) := dk_176 (dk_at dksJ9_comparableClassFor_4 12 rfl rfl)
theorem dJ9_comparableClassFor_107 : decode cJ9_comparableClassFor 107 = .ok (.iinc 7 1, 3) := dk_132 7 1 (dk_at dksJ9_comparableClassFor_4 13 rfl rfl)
theorem dJ9_comparableClassFor_110 : decode cJ9_comparableClassFor 110 = .ok (.goto (-70), 3) := dk_167 255 186 (dk_at dksJ9_comparableClassFor_4 16 rfl rfl)
theorem dJ9_comparableClassFor_113 : decode cJ9_comparableClassFor 113 = .ok (.aconst_null, 1) := dk_1 (dk_at dksJ9_comparableClassFor_4 19 rfl rfl)
theorem dJ9_comparableClassFor_114 : decode cJ9_comparableClassFor 114 = .ok (.areturn, 1) := dk_176 (dk_at dksJ9_comparableClassFor_4 20 rfl rfl)
abbrev cJ9_compareComparables : ByteArray := prog_102_method_3_code
def yJ9_compareComparables : MethodName := ⟨RJ9, "compareComparables", "(Ljava/lang/Class;Ljava/lang/Object;Ljava/lang/Object;)I"⟩
def dkwJ9_compareComparables_1 : List UInt8 := [185, 0, 30, 2, 0, 172]
abbrev dktJ9_compareComparables_1 : List UInt8 := dkwJ9_compareComparables_1 ++ []
def dkwJ9_compareComparables_0 : List UInt8 := [44, 198, 0, 11, 44, 182, 0, 9, 42, 165, 0, 7, 3, 167, 0, 13, 43, 192, 0, 7, 44]
abbrev dktJ9_compareComparables_0 : List UInt8 := dkwJ9_compareComparables_0 ++ dktJ9_compareComparables_1
theorem dksJ9_compareComparables_0 : cJ9_compareComparables.data.toList.drop 0 = dktJ9_compareComparables_0 := by decide +kernel
theorem dksJ9_compareComparables_1 : cJ9_compareComparables.data.toList.drop 21 = dktJ9_compareComparables_1 := dk_seg dksJ9_compareComparables_0 21 rfl rfl
theorem dJ9_compareComparables_0 : decode cJ9_compareComparables 0 = .ok (.aload_n 2, 1) := dk_44 (dk_at dksJ9_compareComparables_0 0 rfl rfl)
theorem dJ9_compareComparables_1 : decode cJ9_compareComparables 1 = .ok (.ifnull 11, 3) := dk_198 0 11 (dk_at dksJ9_compareComparables_0 1 rfl rfl)
theorem dJ9_compareComparables_4 : decode cJ9_compareComparables 4 = .ok (.aload_n 2, 1) := dk_44 (dk_at dksJ9_compareComparables_0 4 rfl rfl)
theorem dJ9_compareComparables_5 : decode cJ9_compareComparables 5 = .ok (.invokevirtual 9, 3) := dk_182 0 9 (dk_at dksJ9_compareComparables_0 5 rfl rfl)
theorem dJ9_compareComparables_8 : decode cJ9_compareComparables 8 = .ok (.aload_n 0, 1) := dk_42 (dk_at dksJ9_compareComparables_0 8 rfl rfl)
theorem dJ9_compareComparables_9 : decode cJ9_compareComparables 9 = .ok (.if_acmp .eq 7, 3) := dk_165 0 7 (dk_at dksJ9_compareComparables_0 9 rfl rfl)
theorem dJ9_compareComparables_12 : decode cJ9_compareComparables 12 = .ok (.iconst 0, 1) := dk_3 (dk_at dksJ9_compareComparables_0 12 rfl rfl)
theorem dJ9_compareComparables_13 : decode cJ9_compareComparables 13 = .ok (.goto 13, 3) := dk_167 0 13 (dk_at dksJ9_compareComparables_0 13 rfl rfl)
theorem dJ9_compareComparables_16 : decode cJ9_compareComparables 16 = .ok (.aload_n 1, 1) := dk_43 (dk_at dksJ9_compareComparables_0 16 rfl rfl)
theorem dJ9_compareComparables_17 : decode cJ9_compareComparables 17 = .ok (.checkcast 7, 3) := dk_192 0 7 (dk_at dksJ9_compareComparables_0 17 rfl rfl)
theorem dJ9_compareComparables_20 : decode cJ9_compareComparables 20 = .ok (.aload_n 2, 1) := dk_44 (dk_at dksJ9_compareComparables_0 20 rfl rfl)
theorem dJ9_compareComparables_21 : decode cJ9_compareComparables 21 = .ok (.invokeinterface 30 2, 5) := by decide +kernel
theorem dJ9_compareComparables_26 : decode cJ9_compareComparables 26 = .ok (.ireturn, 1) := dk_172 (dk_at dksJ9_compareComparables_1 5 rfl rfl)
abbrev cJ9_put : ByteArray := prog_102_method_15_code
def yJ9_put : MethodName := ⟨RJ9, "put", "(Ljava/lang/Object;Ljava/lang/Object;)Ljava/lang/Object;"⟩
def dkwJ9_put_0 : List UInt8 := [42, 43, 184, 0, 149, 43, 44, 3, 4, 182, 0, 152, 176]
abbrev dktJ9_put_0 : List UInt8 := dkwJ9_put_0 ++ []
theorem dksJ9_put_0 : cJ9_put.data.toList.drop 0 = dktJ9_put_0 := by decide +kernel
theorem dJ9_put_0 : decode cJ9_put 0 = .ok (.aload_n 0, 1) := dk_42 (dk_at dksJ9_put_0 0 rfl rfl)
theorem dJ9_put_1 : decode cJ9_put 1 = .ok (.aload_n 1, 1) := dk_43 (dk_at dksJ9_put_0 1 rfl rfl)
theorem dJ9_put_2 : decode cJ9_put 2 = .ok (.invokestatic 149, 3) := dk_184 0 149 (dk_at dksJ9_put_0 2 rfl rfl)
theorem dJ9_put_5 : decode cJ9_put 5 = .ok (.aload_n 1, 1) := dk_43 (dk_at dksJ9_put_0 5 rfl rfl)
theorem dJ9_put_6 : decode cJ9_put 6 = .ok (.aload_n 2, 1) := dk_44 (dk_at dksJ9_put_0 6 rfl rfl)
theorem dJ9_put_7 : decode cJ9_put 7 = .ok (.iconst 0, 1) := dk_3 (dk_at dksJ9_put_0 7 rfl rfl)
theorem dJ9_put_8 : decode cJ9_put 8 = .ok (.iconst 1, 1) := dk_4 (dk_at dksJ9_put_0 8 rfl rfl)
theorem dJ9_put_9 : decode cJ9_put 9 = .ok (.invokevirtual 152, 3) := dk_182 0 152 (dk_at dksJ9_put_0 9 rfl rfl)
theorem dJ9_put_12 : decode cJ9_put 12 = .ok (.areturn, 1) := dk_176 (dk_at dksJ9_put_0 12 rfl rfl)
abbrev cJ9_putVal : ByteArray := prog_102_method_16_code
def yJ9_putVal : MethodName := ⟨RJ9, "putVal", "(ILjava/lang/Object;Ljava/lang/Object;ZZ)Ljava/lang/Object;"⟩
def dkwJ9_putVal_12 : List UInt8 := [181, 0, 156, 42, 180, 0, 88, 164, 0, 8, 42, 182, 0, 117, 87, 42, 21, 5, 182, 0, 205, 1, 176]
abbrev dktJ9_putVal_12 : List UInt8 := dkwJ9_putVal_12 ++ []
def dkwJ9_putVal_11 : List UInt8 := [182, 0, 198, 25, 12, 176, 42, 89, 180, 0, 202, 4, 96, 181, 0, 202, 42, 89, 180, 0, 156, 4, 96, 90]
abbrev dktJ9_putVal_11 : List UInt8 := dkwJ9_putVal_11 ++ dktJ9_putVal_12
def dkwJ9_putVal_10 : List UInt8 := [180, 0, 162, 58, 12, 21, 4, 153, 0, 8, 25, 12, 199, 0, 9, 25, 10, 45, 181, 0, 162, 42, 25, 10]
abbrev dktJ9_putVal_10 : List UInt8 := dkwJ9_putVal_10 ++ dktJ9_putVal_11
def dkwJ9_putVal_9 : List UInt8 := [153, 0, 6, 167, 0, 13, 25, 10, 58, 7, 132, 12, 1, 167, 255, 171, 25, 10, 198, 0, 35, 25, 10]
abbrev dktJ9_putVal_9 : List UInt8 := dkwJ9_putVal_9 ++ dktJ9_putVal_10
def dkwJ9_putVal_8 : List UInt8 := [25, 10, 180, 0, 170, 89, 58, 11, 44, 165, 0, 29, 44, 198, 0, 15, 44, 25, 11, 182, 0, 173]
abbrev dktJ9_putVal_8 : List UInt8 := dkwJ9_putVal_8 ++ dktJ9_putVal_9
def dkwJ9_putVal_7 : List UInt8 := [16, 7, 161, 0, 60, 42, 25, 6, 27, 182, 0, 194, 167, 0, 50, 25, 10, 180, 0, 168, 27, 160, 0, 31]
abbrev dktJ9_putVal_7 : List UInt8 := dkwJ9_putVal_7 ++ dktJ9_putVal_8
def dkwJ9_putVal_6 : List UInt8 := [180, 0, 177, 89, 58, 10, 199, 0, 33, 25, 7, 42, 27, 44, 45, 1, 182, 0, 186, 181, 0, 177, 21, 12]
abbrev dktJ9_putVal_6 : List UInt8 := dkwJ9_putVal_6 ++ dktJ9_putVal_7
def dkwJ9_putVal_5 : List UInt8 := [192, 0, 180, 42, 25, 6, 27, 44, 45, 182, 0, 190, 58, 10, 167, 0, 94, 3, 54, 12, 25, 7]
abbrev dktJ9_putVal_5 : List UInt8 := dkwJ9_putVal_5 ++ dktJ9_putVal_6
def dkwJ9_putVal_4 : List UInt8 := [182, 0, 173, 153, 0, 10, 25, 7, 58, 10, 167, 0, 121, 25, 7, 193, 0, 180, 153, 0, 22, 25, 7]
abbrev dktJ9_putVal_4 : List UInt8 := dkwJ9_putVal_4 ++ dktJ9_putVal_5
def dkwJ9_putVal_3 : List UInt8 := [160, 0, 35, 25, 7, 180, 0, 170, 89, 58, 11, 44, 165, 0, 16, 44, 198, 0, 19, 44, 25, 11]
abbrev dktJ9_putVal_3 : List UInt8 := dkwJ9_putVal_3 ++ dktJ9_putVal_4
def dkwJ9_putVal_2 : List UInt8 := [25, 6, 21, 9, 42, 27, 44, 45, 1, 182, 0, 186, 83, 167, 0, 199, 25, 7, 180, 0, 168, 27]
abbrev dktJ9_putVal_2 : List UInt8 := dkwJ9_putVal_2 ++ dktJ9_putVal_3
def dkwJ9_putVal_1 : List UInt8 := [58, 6, 190, 54, 8, 25, 6, 21, 8, 4, 100, 27, 126, 89, 54, 9, 50, 89, 58, 7, 199, 0, 19]
abbrev dktJ9_putVal_1 : List UInt8 := dkwJ9_putVal_1 ++ dktJ9_putVal_2
def dkwJ9_putVal_0 : List UInt8 := [42, 180, 0, 105, 89, 58, 6, 198, 0, 12, 25, 6, 190, 89, 54, 8, 154, 0, 13, 42, 182, 0, 117, 89]
abbrev dktJ9_putVal_0 : List UInt8 := dkwJ9_putVal_0 ++ dktJ9_putVal_1
theorem dksJ9_putVal_0 : cJ9_putVal.data.toList.drop 0 = dktJ9_putVal_0 := by decide +kernel
theorem dksJ9_putVal_1 : cJ9_putVal.data.toList.drop 24 = dktJ9_putVal_1 := dk_seg dksJ9_putVal_0 24 rfl rfl
theorem dksJ9_putVal_2 : cJ9_putVal.data.toList.drop 47 = dktJ9_putVal_2 := dk_seg dksJ9_putVal_1 23 rfl rfl
theorem dksJ9_putVal_3 : cJ9_putVal.data.toList.drop 69 = dktJ9_putVal_3 := dk_seg dksJ9_putVal_2 22 rfl rfl
theorem dksJ9_putVal_4 : cJ9_putVal.data.toList.drop 91 = dktJ9_putVal_4 := dk_seg dksJ9_putVal_3 22 rfl rfl
theorem dksJ9_putVal_5 : cJ9_putVal.data.toList.drop 114 = dktJ9_putVal_5 := dk_seg dksJ9_putVal_4 23 rfl rfl
theorem dksJ9_putVal_6 : cJ9_putVal.data.toList.drop 136 = dktJ9_putVal_6 := dk_seg dksJ9_putVal_5 22 rfl rfl
theorem dksJ9_putVal_7 : cJ9_putVal.data.toList.drop 160 = dktJ9_putVal_7 := dk_seg dksJ9_putVal_6 24 rfl rfl
theorem dksJ9_putVal_8 : cJ9_putVal.data.toList.drop 184 = dktJ9_putVal_8 := dk_seg dksJ9_putVal_7 24 rfl rfl
theorem dksJ9_putVal_9 : cJ9_putVal.data.toList.drop 206 = dktJ9_putVal_9 := dk_seg dksJ9_putVal_8 22 rfl rfl
theorem dksJ9_putVal_10 : cJ9_putVal.data.toList.drop 229 = dktJ9_putVal_10 := dk_seg dksJ9_putVal_9 23 rfl rfl
theorem dksJ9_putVal_11 : cJ9_putVal.data.toList.drop 253 = dktJ9_putVal_11 := dk_seg dksJ9_putVal_10 24 rfl rfl
theorem dksJ9_putVal_12 : cJ9_putVal.data.toList.drop 277 = dktJ9_putVal_12 := dk_seg dksJ9_putVal_11 24 rfl rfl
theorem dJ9_putVal_0 : decode cJ9_putVal 0 = .ok (.aload_n 0, 1) := dk_42 (dk_at dksJ9_putVal_0 0 rfl rfl)
theorem dJ9_putVal_1 : decode cJ9_putVal 1 = .ok (.getfield 105, 3) := dk_180 0 105 (dk_at dksJ9_putVal_0 1 rfl rfl)
theorem dJ9_putVal_4 : decode cJ9_putVal 4 = .ok (.dup, 1) := dk_89 (dk_at dksJ9_putVal_0 4 rfl rfl)
theorem dJ9_putVal_5 : decode cJ9_putVal 5 = .ok (.astore 6, 2) := dk_58 6 (dk_at dksJ9_putVal_0 5 rfl rfl)
theorem dJ9_putVal_7 : decode cJ9_putVal 7 = .ok (.ifnull 12, 3) := dk_198 0 12 (dk_at dksJ9_putVal_0 7 rfl rfl)
theorem dJ9_putVal_10 : decode cJ9_putVal 10 = .ok (.aload 6, 2) := dk_25 6 (dk_at dksJ9_putVal_0 10 rfl rfl)
theorem dJ9_putVal_12 : decode cJ9_putVal 12 = .ok (.arraylength, 1) := dk_190 (dk_at dksJ9_putVal_0 12 rfl rfl)
theorem dJ9_putVal_13 : decode cJ9_putVal 13 = .ok (.dup, 1) := dk_89 (dk_at dksJ9_putVal_0 13 rfl rfl)
theorem dJ9_putVal_14 : decode cJ9_putVal 14 = .ok (.istore 8, 2) := dk_54 8 (dk_at dksJ9_putVal_0 14 rfl rfl)
theorem dJ9_putVal_16 : decode cJ9_putVal 16 = .ok (.ifCond .ne 13, 3) := dk_154 0 13 (dk_at dksJ9_putVal_0 16 rfl rfl)
theorem dJ9_putVal_19 : decode cJ9_putVal 19 = .ok (.aload_n 0, 1) := dk_42 (dk_at dksJ9_putVal_0 19 rfl rfl)
theorem dJ9_putVal_20 : decode cJ9_putVal 20 = .ok (.invokevirtual 117, 3) := dk_182 0 117 (dk_at dksJ9_putVal_0 20 rfl rfl)
theorem dJ9_putVal_23 : decode cJ9_putVal 23 = .ok (.dup, 1) := dk_89 (dk_at dksJ9_putVal_0 23 rfl rfl)
theorem dJ9_putVal_24 : decode cJ9_putVal 24 = .ok (.astore 6, 2) := dk_58 6 (dk_at dksJ9_putVal_1 0 rfl rfl)
theorem dJ9_putVal_26 : decode cJ9_putVal 26 = .ok (.arraylength, 1) := dk_190 (dk_at dksJ9_putVal_1 2 rfl rfl)
theorem dJ9_putVal_27 : decode cJ9_putVal 27 = .ok (.istore 8, 2) := dk_54 8 (dk_at dksJ9_putVal_1 3 rfl rfl)
theorem dJ9_putVal_29 : decode cJ9_putVal 29 = .ok (.aload 6, 2) := dk_25 6 (dk_at dksJ9_putVal_1 5 rfl rfl)
theorem dJ9_putVal_31 : decode cJ9_putVal 31 = .ok (.iload 8, 2) := dk_21 8 (dk_at dksJ9_putVal_1 7 rfl rfl)
theorem dJ9_putVal_33 : decode cJ9_putVal 33 = .ok (.iconst 1, 1) := dk_4 (dk_at dksJ9_putVal_1 9 rfl rfl)
theorem dJ9_putVal_34 : decode cJ9_putVal 34 = .ok (.isub, 1) := dk_100 (dk_at dksJ9_putVal_1 10 rfl rfl)
theorem dJ9_putVal_35 : decode cJ9_putVal 35 = .ok (.iload_n 1, 1) := dk_27 (dk_at dksJ9_putVal_1 11 rfl rfl)
theorem dJ9_putVal_36 : decode cJ9_putVal 36 = .ok (.iand, 1) := dk_126 (dk_at dksJ9_putVal_1 12 rfl rfl)
theorem dJ9_putVal_37 : decode cJ9_putVal 37 = .ok (.dup, 1) := dk_89 (dk_at dksJ9_putVal_1 13 rfl rfl)
theorem dJ9_putVal_38 : decode cJ9_putVal 38 = .ok (.istore 9, 2) := dk_54 9 (dk_at dksJ9_putVal_1 14 rfl rfl)
theorem dJ9_putVal_40 : decode cJ9_putVal 40 = .ok (.aaload, 1) := dk_50 (dk_at dksJ9_putVal_1 16 rfl rfl)
theorem dJ9_putVal_41 : decode cJ9_putVal 41 = .ok (.dup, 1) := dk_89 (dk_at dksJ9_putVal_1 17 rfl rfl)
theorem dJ9_putVal_42 : decode cJ9_putVal 42 = .ok (.astore 7, 2) := dk_58 7 (dk_at dksJ9_putVal_1 18 rfl rfl)
theorem dJ9_putVal_44 : decode cJ9_putVal 44 = .ok (.ifnonnull 19, 3) := dk_199 0 19 (dk_at dksJ9_putVal_1 20 rfl rfl)
theorem dJ9_putVal_47 : decode cJ9_putVal 47 = .ok (.aload 6, 2) := dk_25 6 (dk_at dksJ9_putVal_2 0 rfl rfl)
theorem dJ9_putVal_49 : decode cJ9_putVal 49 = .ok (.iload 9, 2) := dk_21 9 (dk_at dksJ9_putVal_2 2 rfl rfl)
theorem dJ9_putVal_51 : decode cJ9_putVal 51 = .ok (.aload_n 0, 1) := dk_42 (dk_at dksJ9_putVal_2 4 rfl rfl)
theorem dJ9_putVal_52 : decode cJ9_putVal 52 = .ok (.iload_n 1, 1) := dk_27 (dk_at dksJ9_putVal_2 5 rfl rfl)
theorem dJ9_putVal_53 : decode cJ9_putVal 53 = .ok (.aload_n 2, 1) := dk_44 (dk_at dksJ9_putVal_2 6 rfl rfl)
theorem dJ9_putVal_54 : decode cJ9_putVal 54 = .ok (.aload_n 3, 1) := dk_45 (dk_at dksJ9_putVal_2 7 rfl rfl)
theorem dJ9_putVal_55 : decode cJ9_putVal 55 = .ok (.aconst_null, 1) := dk_1 (dk_at dksJ9_putVal_2 8 rfl rfl)
theorem dJ9_putVal_56 : decode cJ9_putVal 56 = .ok (.invokevirtual 186, 3) := dk_182 0 186 (dk_at dksJ9_putVal_2 9 rfl rfl)
theorem dJ9_putVal_59 : decode cJ9_putVal 59 = .ok (.aastore, 1) := dk_83 (dk_at dksJ9_putVal_2 12 rfl rfl)
theorem dJ9_putVal_60 : decode cJ9_putVal 60 = .ok (.goto 199, 3) := dk_167 0 199 (dk_at dksJ9_putVal_2 13 rfl rfl)
theorem dJ9_putVal_63 : decode cJ9_putVal 63 = .ok (.aload 7, 2) := dk_25 7 (dk_at dksJ9_putVal_2 16 rfl rfl)
theorem dJ9_putVal_65 : decode cJ9_putVal 65 = .ok (.getfield 168, 3) := dk_180 0 168 (dk_at dksJ9_putVal_2 18 rfl rfl)
theorem dJ9_putVal_68 : decode cJ9_putVal 68 = .ok (.iload_n 1, 1) := dk_27 (dk_at dksJ9_putVal_2 21 rfl rfl)
theorem dJ9_putVal_69 : decode cJ9_putVal 69 = .ok (.if_icmp .ne 35, 3) := dk_160 0 35 (dk_at dksJ9_putVal_3 0 rfl rfl)
theorem dJ9_putVal_72 : decode cJ9_putVal 72 = .ok (.aload 7, 2) := dk_25 7 (dk_at dksJ9_putVal_3 3 rfl rfl)
theorem dJ9_putVal_74 : decode cJ9_putVal 74 = .ok (.getfield 170, 3) := dk_180 0 170 (dk_at dksJ9_putVal_3 5 rfl rfl)
theorem dJ9_putVal_77 : decode cJ9_putVal 77 = .ok (.dup, 1) := dk_89 (dk_at dksJ9_putVal_3 8 rfl rfl)
theorem dJ9_putVal_78 : decode cJ9_putVal 78 = .ok (.astore 11, 2) := dk_58 11 (dk_at dksJ9_putVal_3 9 rfl rfl)
theorem dJ9_putVal_80 : decode cJ9_putVal 80 = .ok (.aload_n 2, 1) := dk_44 (dk_at dksJ9_putVal_3 11 rfl rfl)
theorem dJ9_putVal_81 : decode cJ9_putVal 81 = .ok (.if_acmp .eq 16, 3) := dk_165 0 16 (dk_at dksJ9_putVal_3 12 rfl rfl)
theorem dJ9_putVal_84 : decode cJ9_putVal 84 = .ok (.aload_n 2, 1) := dk_44 (dk_at dksJ9_putVal_3 15 rfl rfl)
theorem dJ9_putVal_85 : decode cJ9_putVal 85 = .ok (.ifnull 19, 3) := dk_198 0 19 (dk_at dksJ9_putVal_3 16 rfl rfl)
theorem dJ9_putVal_88 : decode cJ9_putVal 88 = .ok (.aload_n 2, 1) := dk_44 (dk_at dksJ9_putVal_3 19 rfl rfl)
theorem dJ9_putVal_89 : decode cJ9_putVal 89 = .ok (.aload 11, 2) := dk_25 11 (dk_at dksJ9_putVal_3 20 rfl rfl)
theorem dJ9_putVal_91 : decode cJ9_putVal 91 = .ok (.invokevirtual 173, 3) := dk_182 0 173 (dk_at dksJ9_putVal_4 0 rfl rfl)
theorem dJ9_putVal_94 : decode cJ9_putVal 94 = .ok (.ifCond .eq 10, 3) := dk_153 0 10 (dk_at dksJ9_putVal_4 3 rfl rfl)
theorem dJ9_putVal_97 : decode cJ9_putVal 97 = .ok (.aload 7, 2) := dk_25 7 (dk_at dksJ9_putVal_4 6 rfl rfl)
theorem dJ9_putVal_99 : decode cJ9_putVal 99 = .ok (.astore 10, 2) := dk_58 10 (dk_at dksJ9_putVal_4 8 rfl rfl)
theorem dJ9_putVal_101 : decode cJ9_putVal 101 = .ok (.goto 121, 3) := dk_167 0 121 (dk_at dksJ9_putVal_4 10 rfl rfl)
theorem dJ9_putVal_104 : decode cJ9_putVal 104 = .ok (.aload 7, 2) := dk_25 7 (dk_at dksJ9_putVal_4 13 rfl rfl)
theorem dJ9_putVal_106 : decode cJ9_putVal 106 = .ok (.instanceof 180, 3) := dk_193 0 180 (dk_at dksJ9_putVal_4 15 rfl rfl)
theorem dJ9_putVal_109 : decode cJ9_putVal 109 = .ok (.ifCond .eq 22, 3) := dk_153 0 22 (dk_at dksJ9_putVal_4 18 rfl rfl)
theorem dJ9_putVal_112 : decode cJ9_putVal 112 = .ok (.aload 7, 2) := dk_25 7 (dk_at dksJ9_putVal_4 21 rfl rfl)
theorem dJ9_putVal_114 : decode cJ9_putVal 114 = .ok (.checkcast 180, 3) := dk_192 0 180 (dk_at dksJ9_putVal_5 0 rfl rfl)
theorem dJ9_putVal_117 : decode cJ9_putVal 117 = .ok (.aload_n 0, 1) := dk_42 (dk_at dksJ9_putVal_5 3 rfl rfl)
theorem dJ9_putVal_118 : decode cJ9_putVal 118 = .ok (.aload 6, 2) := dk_25 6 (dk_at dksJ9_putVal_5 4 rfl rfl)
theorem dJ9_putVal_120 : decode cJ9_putVal 120 = .ok (.iload_n 1, 1) := dk_27 (dk_at dksJ9_putVal_5 6 rfl rfl)
theorem dJ9_putVal_121 : decode cJ9_putVal 121 = .ok (.aload_n 2, 1) := dk_44 (dk_at dksJ9_putVal_5 7 rfl rfl)
theorem dJ9_putVal_122 : decode cJ9_putVal 122 = .ok (.aload_n 3, 1) := dk_45 (dk_at dksJ9_putVal_5 8 rfl rfl)
theorem dJ9_putVal_123 : decode cJ9_putVal 123 = .ok (.invokevirtual 190, 3) := dk_182 0 190 (dk_at dksJ9_putVal_5 9 rfl rfl)
theorem dJ9_putVal_126 : decode cJ9_putVal 126 = .ok (.astore 10, 2) := dk_58 10 (dk_at dksJ9_putVal_5 12 rfl rfl)
theorem dJ9_putVal_128 : decode cJ9_putVal 128 = .ok (.goto 94, 3) := dk_167 0 94 (dk_at dksJ9_putVal_5 14 rfl rfl)
theorem dJ9_putVal_131 : decode cJ9_putVal 131 = .ok (.iconst 0, 1) := dk_3 (dk_at dksJ9_putVal_5 17 rfl rfl)
theorem dJ9_putVal_132 : decode cJ9_putVal 132 = .ok (.istore 12, 2) := dk_54 12 (dk_at dksJ9_putVal_5 18 rfl rfl)
theorem dJ9_putVal_134 : decode cJ9_putVal 134 = .ok (.aload 7, 2) := dk_25 7 (dk_at dksJ9_putVal_5 20 rfl rfl)
theorem dJ9_putVal_136 : decode cJ9_putVal 136 = .ok (.getfield 177, 3) := dk_180 0 177 (dk_at dksJ9_putVal_6 0 rfl rfl)
theorem dJ9_putVal_139 : decode cJ9_putVal 139 = .ok (.dup, 1) := dk_89 (dk_at dksJ9_putVal_6 3 rfl rfl)
theorem dJ9_putVal_140 : decode cJ9_putVal 140 = .ok (.astore 10, 2) := dk_58 10 (dk_at dksJ9_putVal_6 4 rfl rfl)
theorem dJ9_putVal_142 : decode cJ9_putVal 142 = .ok (.ifnonnull 33, 3) := dk_199 0 33 (dk_at dksJ9_putVal_6 6 rfl rfl)
theorem dJ9_putVal_145 : decode cJ9_putVal 145 = .ok (.aload 7, 2) := dk_25 7 (dk_at dksJ9_putVal_6 9 rfl rfl)
theorem dJ9_putVal_147 : decode cJ9_putVal 147 = .ok (.aload_n 0, 1) := dk_42 (dk_at dksJ9_putVal_6 11 rfl rfl)
theorem dJ9_putVal_148 : decode cJ9_putVal 148 = .ok (.iload_n 1, 1) := dk_27 (dk_at dksJ9_putVal_6 12 rfl rfl)
theorem dJ9_putVal_149 : decode cJ9_putVal 149 = .ok (.aload_n 2, 1) := dk_44 (dk_at dksJ9_putVal_6 13 rfl rfl)
theorem dJ9_putVal_150 : decode cJ9_putVal 150 = .ok (.aload_n 3, 1) := dk_45 (dk_at dksJ9_putVal_6 14 rfl rfl)
theorem dJ9_putVal_151 : decode cJ9_putVal 151 = .ok (.aconst_null, 1) := dk_1 (dk_at dksJ9_putVal_6 15 rfl rfl)
theorem dJ9_putVal_152 : decode cJ9_putVal 152 = .ok (.invokevirtual 186, 3) := dk_182 0 186 (dk_at dksJ9_putVal_6 16 rfl rfl)
theorem dJ9_putVal_155 : decode cJ9_putVal 155 = .ok (.putfield 177, 3) := dk_181 0 177 (dk_at dksJ9_putVal_6 19 rfl rfl)
theorem dJ9_putVal_158 : decode cJ9_putVal 158 = .ok (.iload 12, 2) := dk_21 12 (dk_at dksJ9_putVal_6 22 rfl rfl)
theorem dJ9_putVal_160 : decode cJ9_putVal 160 = .ok (.bipush 7, 2) := dk_16 7 (dk_at dksJ9_putVal_7 0 rfl rfl)
theorem dJ9_putVal_162 : decode cJ9_putVal 162 = .ok (.if_icmp .lt 60, 3) := dk_161 0 60 (dk_at dksJ9_putVal_7 2 rfl rfl)
theorem dJ9_putVal_165 : decode cJ9_putVal 165 = .ok (.aload_n 0, 1) := dk_42 (dk_at dksJ9_putVal_7 5 rfl rfl)
theorem dJ9_putVal_166 : decode cJ9_putVal 166 = .ok (.aload 6, 2) := dk_25 6 (dk_at dksJ9_putVal_7 6 rfl rfl)
theorem dJ9_putVal_168 : decode cJ9_putVal 168 = .ok (.iload_n 1, 1) := dk_27 (dk_at dksJ9_putVal_7 8 rfl rfl)
theorem dJ9_putVal_169 : decode cJ9_putVal 169 = .ok (.invokevirtual 194, 3) := dk_182 0 194 (dk_at dksJ9_putVal_7 9 rfl rfl)
theorem dJ9_putVal_172 : decode cJ9_putVal 172 = .ok (.goto 50, 3) := dk_167 0 50 (dk_at dksJ9_putVal_7 12 rfl rfl)
theorem dJ9_putVal_175 : decode cJ9_putVal 175 = .ok (.aload 10, 2) := dk_25 10 (dk_at dksJ9_putVal_7 15 rfl rfl)
theorem dJ9_putVal_177 : decode cJ9_putVal 177 = .ok (.getfield 168, 3) := dk_180 0 168 (dk_at dksJ9_putVal_7 17 rfl rfl)
theorem dJ9_putVal_180 : decode cJ9_putVal 180 = .ok (.iload_n 1, 1) := dk_27 (dk_at dksJ9_putVal_7 20 rfl rfl)
theorem dJ9_putVal_181 : decode cJ9_putVal 181 = .ok (.if_icmp .ne 31, 3) := dk_160 0 31 (dk_at dksJ9_putVal_7 21 rfl rfl)
theorem dJ9_putVal_184 : decode cJ9_putVal 184 = .ok (.aload 10, 2) := dk_25 10 (dk_at dksJ9_putVal_8 0 rfl rfl)
theorem dJ9_putVal_186 : decode cJ9_putVal 186 = .ok (.getfield 170, 3) := dk_180 0 170 (dk_at dksJ9_putVal_8 2 rfl rfl)
theorem dJ9_putVal_189 : decode cJ9_putVal 189 = .ok (.dup, 1) := dk_89 (dk_at dksJ9_putVal_8 5 rfl rfl)
theorem dJ9_putVal_190 : decode cJ9_putVal 190 = .ok (.astore 11, 2) := dk_58 11 (dk_at dksJ9_putVal_8 6 rfl rfl)
theorem dJ9_putVal_192 : decode cJ9_putVal 192 = .ok (.aload_n 2, 1) := dk_44 (dk_at dksJ9_putVal_8 8 rfl rfl)
theorem dJ9_putVal_193 : decode cJ9_putVal 193 = .ok (.if_acmp .eq 29, 3) := dk_165 0 29 (dk_at dksJ9_putVal_8 9 rfl rfl)
theorem dJ9_putVal_196 : decode cJ9_putVal 196 = .ok (.aload_n 2, 1) := dk_44 (dk_at dksJ9_putVal_8 12 rfl rfl)
theorem dJ9_putVal_197 : decode cJ9_putVal 197 = .ok (.ifnull 15, 3) := dk_198 0 15 (dk_at dksJ9_putVal_8 13 rfl rfl)
theorem dJ9_putVal_200 : decode cJ9_putVal 200 = .ok (.aload_n 2, 1) := dk_44 (dk_at dksJ9_putVal_8 16 rfl rfl)
theorem dJ9_putVal_201 : decode cJ9_putVal 201 = .ok (.aload 11, 2) := dk_25 11 (dk_at dksJ9_putVal_8 17 rfl rfl)
theorem dJ9_putVal_203 : decode cJ9_putVal 203 = .ok (.invokevirtual 173, 3) := dk_182 0 173 (dk_at dksJ9_putVal_8 19 rfl rfl)
theorem dJ9_putVal_206 : decode cJ9_putVal 206 = .ok (.ifCond .eq 6, 3) := dk_153 0 6 (dk_at dksJ9_putVal_9 0 rfl rfl)
theorem dJ9_putVal_209 : decode cJ9_putVal 209 = .ok (.goto 13, 3) := dk_167 0 13 (dk_at dksJ9_putVal_9 3 rfl rfl)
theorem dJ9_putVal_212 : decode cJ9_putVal 212 = .ok (.aload 10, 2) := dk_25 10 (dk_at dksJ9_putVal_9 6 rfl rfl)
theorem dJ9_putVal_214 : decode cJ9_putVal 214 = .ok (.astore 7, 2) := dk_58 7 (dk_at dksJ9_putVal_9 8 rfl rfl)
theorem dJ9_putVal_216 : decode cJ9_putVal 216 = .ok (.iinc 12 1, 3) := dk_132 12 1 (dk_at dksJ9_putVal_9 10 rfl rfl)
theorem dJ9_putVal_219 : decode cJ9_putVal 219 = .ok (.goto (-85), 3) := dk_167 255 171 (dk_at dksJ9_putVal_9 13 rfl rfl)
theorem dJ9_putVal_222 : decode cJ9_putVal 222 = .ok (.aload 10, 2) := dk_25 10 (dk_at dksJ9_putVal_9 16 rfl rfl)
theorem dJ9_putVal_224 : decode cJ9_putVal 224 = .ok (.ifnull 35, 3) := dk_198 0 35 (dk_at dksJ9_putVal_9 18 rfl rfl)
theorem dJ9_putVal_227 : decode cJ9_putVal 227 = .ok (.aload 10, 2) := dk_25 10 (dk_at dksJ9_putVal_9 21 rfl rfl)
theorem dJ9_putVal_229 : decode cJ9_putVal 229 = .ok (.getfield 162, 3) := dk_180 0 162 (dk_at dksJ9_putVal_10 0 rfl rfl)
theorem dJ9_putVal_232 : decode cJ9_putVal 232 = .ok (.astore 12, 2) := dk_58 12 (dk_at dksJ9_putVal_10 3 rfl rfl)
theorem dJ9_putVal_234 : decode cJ9_putVal 234 = .ok (.iload 4, 2) := dk_21 4 (dk_at dksJ9_putVal_10 5 rfl rfl)
theorem dJ9_putVal_236 : decode cJ9_putVal 236 = .ok (.ifCond .eq 8, 3) := dk_153 0 8 (dk_at dksJ9_putVal_10 7 rfl rfl)
theorem dJ9_putVal_239 : decode cJ9_putVal 239 = .ok (.aload 12, 2) := dk_25 12 (dk_at dksJ9_putVal_10 10 rfl rfl)
theorem dJ9_putVal_241 : decode cJ9_putVal 241 = .ok (.ifnonnull 9, 3) := dk_199 0 9 (dk_at dksJ9_putVal_10 12 rfl rfl)
theorem dJ9_putVal_244 : decode cJ9_putVal 244 = .ok (.aload 10, 2) := dk_25 10 (dk_at dksJ9_putVal_10 15 rfl rfl)
theorem dJ9_putVal_246 : decode cJ9_putVal 246 = .ok (.aload_n 3, 1) := dk_45 (dk_at dksJ9_putVal_10 17 rfl rfl)
theorem dJ9_putVal_247 : decode cJ9_putVal 247 = .ok (.putfield 162, 3) := dk_181 0 162 (dk_at dksJ9_putVal_10 18 rfl rfl)
theorem dJ9_putVal_250 : decode cJ9_putVal 250 = .ok (.aload_n 0, 1) := dk_42 (dk_at dksJ9_putVal_10 21 rfl rfl)
theorem dJ9_putVal_251 : decode cJ9_putVal 251 = .ok (.aload 10, 2) := dk_25 10 (dk_at dksJ9_putVal_10 22 rfl rfl)
theorem dJ9_putVal_253 : decode cJ9_putVal 253 = .ok (.invokevirtual 198, 3) := dk_182 0 198 (dk_at dksJ9_putVal_11 0 rfl rfl)
theorem dJ9_putVal_256 : decode cJ9_putVal 256 = .ok (.aload 12, 2) := dk_25 12 (dk_at dksJ9_putVal_11 3 rfl rfl)
theorem dJ9_putVal_258 : decode cJ9_putVal 258 = .ok (.areturn, 1) := dk_176 (dk_at dksJ9_putVal_11 5 rfl rfl)
theorem dJ9_putVal_259 : decode cJ9_putVal 259 = .ok (.aload_n 0, 1) := dk_42 (dk_at dksJ9_putVal_11 6 rfl rfl)
theorem dJ9_putVal_260 : decode cJ9_putVal 260 = .ok (.dup, 1) := dk_89 (dk_at dksJ9_putVal_11 7 rfl rfl)
theorem dJ9_putVal_261 : decode cJ9_putVal 261 = .ok (.getfield 202, 3) := dk_180 0 202 (dk_at dksJ9_putVal_11 8 rfl rfl)
theorem dJ9_putVal_264 : decode cJ9_putVal 264 = .ok (.iconst 1, 1) := dk_4 (dk_at dksJ9_putVal_11 11 rfl rfl)
theorem dJ9_putVal_265 : decode cJ9_putVal 265 = .ok (.iadd, 1) := dk_96 (dk_at dksJ9_putVal_11 12 rfl rfl)
theorem dJ9_putVal_266 : decode cJ9_putVal 266 = .ok (.putfield 202, 3) := dk_181 0 202 (dk_at dksJ9_putVal_11 13 rfl rfl)
theorem dJ9_putVal_269 : decode cJ9_putVal 269 = .ok (.aload_n 0, 1) := dk_42 (dk_at dksJ9_putVal_11 16 rfl rfl)
theorem dJ9_putVal_270 : decode cJ9_putVal 270 = .ok (.dup, 1) := dk_89 (dk_at dksJ9_putVal_11 17 rfl rfl)
theorem dJ9_putVal_271 : decode cJ9_putVal 271 = .ok (.getfield 156, 3) := dk_180 0 156 (dk_at dksJ9_putVal_11 18 rfl rfl)
theorem dJ9_putVal_274 : decode cJ9_putVal 274 = .ok (.iconst 1, 1) := dk_4 (dk_at dksJ9_putVal_11 21 rfl rfl)
theorem dJ9_putVal_275 : decode cJ9_putVal 275 = .ok (.iadd, 1) := dk_96 (dk_at dksJ9_putVal_11 22 rfl rfl)
theorem dJ9_putVal_276 : decode cJ9_putVal 276 = .ok (.dup_x1, 1) := dk_90 (dk_at dksJ9_putVal_11 23 rfl rfl)
theorem dJ9_putVal_277 : decode cJ9_putVal 277 = .ok (.putfield 156, 3) := dk_181 0 156 (dk_at dksJ9_putVal_12 0 rfl rfl)
theorem dJ9_putVal_280 : decode cJ9_putVal 280 = .ok (.aload_n 0, 1) := dk_42 (dk_at dksJ9_putVal_12 3 rfl rfl)
theorem dJ9_putVal_281 : decode cJ9_putVal 281 = .ok (.getfield 88, 3) := dk_180 0 88 (dk_at dksJ9_putVal_12 4 rfl rfl)
theorem dJ9_putVal_284 : decode cJ9_putVal 284 = .ok (.if_icmp .le 8, 3) := dk_164 0 8 (dk_at dksJ9_putVal_12 7 rfl rfl)
theorem dJ9_putVal_287 : decode cJ9_putVal 287 = .ok (.aload_n 0, 1) := dk_42 (dk_at dksJ9_putVal_12 10 rfl rfl)
theorem dJ9_putVal_288 : decode cJ9_putVal 288 = .ok (.invokevirtual 117, 3) := dk_182 0 117 (dk_at dksJ9_putVal_12 11 rfl rfl)
theorem dJ9_putVal_291 : decode cJ9_putVal 291 = .ok (.pop, 1) := dk_87 (dk_at dksJ9_putVal_12 14 rfl rfl)
theorem dJ9_putVal_292 : decode cJ9_putVal 292 = .ok (.aload_n 0, 1) := dk_42 (dk_at dksJ9_putVal_12 15 rfl rfl)
theorem dJ9_putVal_293 : decode cJ9_putVal 293 = .ok (.iload 5, 2) := dk_21 5 (dk_at dksJ9_putVal_12 16 rfl rfl)
theorem dJ9_putVal_295 : decode cJ9_putVal 295 = .ok (.invokevirtual 205, 3) := dk_182 0 205 (dk_at dksJ9_putVal_12 18 rfl rfl)
theorem dJ9_putVal_298 : decode cJ9_putVal 298 = .ok (.aconst_null, 1) := dk_1 (dk_at dksJ9_putVal_12 21 rfl rfl)
theorem dJ9_putVal_299 : decode cJ9_putVal 299 = .ok (.areturn, 1) := dk_176 (dk_at dksJ9_putVal_12 22 rfl rfl)
abbrev cJ9_resize : ByteArray := prog_102_method_17_code
def yJ9_resize : MethodName := ⟨RJ9, "resize", "()[Ljava/util/HashMap$Node;"⟩
def dkwJ9_resize_15 : List UInt8 := [25, 6, 176]
abbrev dktJ9_resize_15 : List UInt8 := dkwJ9_resize_15 ++ []
def dkwJ9_resize_14 : List UInt8 := [198, 0, 18, 25, 12, 1, 181, 0, 177, 25, 6, 21, 7, 28, 96, 25, 11, 83, 132, 7, 1, 167, 255, 57]
abbrev dktJ9_resize_14 : List UInt8 := dkwJ9_resize_14 ++ dktJ9_resize_15
def dkwJ9_resize_13 : List UInt8 := [199, 255, 185, 25, 10, 198, 0, 16, 25, 10, 1, 181, 0, 177, 25, 6, 21, 7, 25, 9, 83, 25, 12]
abbrev dktJ9_resize_13 : List UInt8 := dkwJ9_resize_13 ++ dktJ9_resize_14
def dkwJ9_resize_12 : List UInt8 := [25, 8, 58, 11, 167, 0, 10, 25, 12, 25, 8, 181, 0, 177, 25, 8, 58, 12, 25, 13, 89, 58, 8]
abbrev dktJ9_resize_12 : List UInt8 := dkwJ9_resize_12 ++ dktJ9_resize_13
def dkwJ9_resize_11 : List UInt8 := [58, 9, 167, 0, 10, 25, 10, 25, 8, 181, 0, 177, 25, 8, 58, 10, 167, 0, 26, 25, 12, 199, 0, 10]
abbrev dktJ9_resize_11 : List UInt8 := dkwJ9_resize_11 ++ dktJ9_resize_12
def dkwJ9_resize_10 : List UInt8 := [25, 8, 180, 0, 177, 58, 13, 25, 8, 180, 0, 168, 28, 126, 154, 0, 29, 25, 10, 199, 0, 10, 25, 8]
abbrev dktJ9_resize_10 : List UInt8 := dkwJ9_resize_10 ++ dktJ9_resize_11
def dkwJ9_resize_9 : List UInt8 := [42, 25, 6, 21, 7, 28, 182, 0, 211, 167, 0, 127, 1, 58, 9, 1, 58, 10, 1, 58, 11, 1, 58, 12]
abbrev dktJ9_resize_9 : List UInt8 := dkwJ9_resize_9 ++ dktJ9_resize_10
def dkwJ9_resize_8 : List UInt8 := [21, 4, 4, 100, 126, 25, 8, 83, 167, 0, 152, 25, 8, 193, 0, 180, 153, 0, 20, 25, 8, 192, 0, 180]
abbrev dktJ9_resize_8 : List UInt8 := dkwJ9_resize_8 ++ dktJ9_resize_9
def dkwJ9_resize_7 : List UInt8 := [198, 0, 183, 43, 21, 7, 1, 83, 25, 8, 180, 0, 177, 199, 0, 21, 25, 6, 25, 8, 180, 0, 168]
abbrev dktJ9_resize_7 : List UInt8 := dkwJ9_resize_7 ++ dktJ9_resize_8
def dkwJ9_resize_6 : List UInt8 := [181, 0, 105, 43, 198, 0, 208, 3, 54, 7, 21, 7, 28, 162, 0, 199, 43, 21, 7, 50, 89, 58, 8]
abbrev dktJ9_resize_6 : List UInt8 := dkwJ9_resize_6 ++ dktJ9_resize_7
def dkwJ9_resize_5 : List UInt8 := [167, 0, 5, 18, 209, 54, 5, 42, 21, 5, 181, 0, 88, 21, 4, 189, 0, 163, 58, 6, 42, 25, 6]
abbrev dktJ9_resize_5 : List UInt8 := dkwJ9_resize_5 ++ dktJ9_resize_6
def dkwJ9_resize_4 : List UInt8 := [180, 0, 81, 106, 56, 6, 21, 4, 18, 42, 162, 0, 17, 23, 6, 18, 210, 150, 156, 0, 9, 23, 6, 139]
abbrev dktJ9_resize_4 : List UInt8 := dkwJ9_resize_4 ++ dktJ9_resize_5
def dkwJ9_resize_3 : List UInt8 := [54, 4, 167, 0, 11, 16, 16, 54, 4, 16, 12, 54, 5, 21, 5, 154, 0, 38, 21, 4, 134, 42]
abbrev dktJ9_resize_3 : List UInt8 := dkwJ9_resize_3 ++ dktJ9_resize_4
def dkwJ9_resize_2 : List UInt8 := [18, 42, 162, 0, 35, 28, 16, 16, 161, 0, 29, 29, 4, 120, 54, 5, 167, 0, 21, 29, 158, 0, 9, 29]
abbrev dktJ9_resize_2 : List UInt8 := dkwJ9_resize_2 ++ dktJ9_resize_3
def dkwJ9_resize_1 : List UInt8 := [28, 158, 0, 42, 28, 18, 42, 161, 0, 11, 42, 18, 209, 181, 0, 88, 43, 176, 28, 4, 120, 89, 54, 4]
abbrev dktJ9_resize_1 : List UInt8 := dkwJ9_resize_1 ++ dktJ9_resize_2
def dkwJ9_resize_0 : List UInt8 := [42, 180, 0, 105, 76, 43, 199, 0, 7, 3, 167, 0, 5, 43, 190, 61, 42, 180, 0, 88, 62, 3, 54, 5]
abbrev dktJ9_resize_0 : List UInt8 := dkwJ9_resize_0 ++ dktJ9_resize_1
theorem dksJ9_resize_0 : cJ9_resize.data.toList.drop 0 = dktJ9_resize_0 := by decide +kernel
theorem dksJ9_resize_1 : cJ9_resize.data.toList.drop 24 = dktJ9_resize_1 := dk_seg dksJ9_resize_0 24 rfl rfl
theorem dksJ9_resize_2 : cJ9_resize.data.toList.drop 48 = dktJ9_resize_2 := dk_seg dksJ9_resize_1 24 rfl rfl
theorem dksJ9_resize_3 : cJ9_resize.data.toList.drop 72 = dktJ9_resize_3 := dk_seg dksJ9_resize_2 24 rfl rfl
theorem dksJ9_resize_4 : cJ9_resize.data.toList.drop 94 = dktJ9_resize_4 := dk_seg dksJ9_resize_3 22 rfl rfl
theorem dksJ9_resize_5 : cJ9_resize.data.toList.drop 118 = dktJ9_resize_5 := dk_seg dksJ9_resize_4 24 rfl rfl
theorem dksJ9_resize_6 : cJ9_resize.data.toList.drop 141 = dktJ9_resize_6 := dk_seg dksJ9_resize_5 23 rfl rfl
theorem dksJ9_resize_7 : cJ9_resize.data.toList.drop 164 = dktJ9_resize_7 := dk_seg dksJ9_resize_6 23 rfl rfl
theorem dksJ9_resize_8 : cJ9_resize.data.toList.drop 187 = dktJ9_resize_8 := dk_seg dksJ9_resize_7 23 rfl rfl
theorem dksJ9_resize_9 : cJ9_resize.data.toList.drop 211 = dktJ9_resize_9 := dk_seg dksJ9_resize_8 24 rfl rfl
theorem dksJ9_resize_10 : cJ9_resize.data.toList.drop 235 = dktJ9_resize_10 := dk_seg dksJ9_resize_9 24 rfl rfl
theorem dksJ9_resize_11 : cJ9_resize.data.toList.drop 259 = dktJ9_resize_11 := dk_seg dksJ9_resize_10 24 rfl rfl
theorem dksJ9_resize_12 : cJ9_resize.data.toList.drop 283 = dktJ9_resize_12 := dk_seg dksJ9_resize_11 24 rfl rfl
theorem dksJ9_resize_13 : cJ9_resize.data.toList.drop 306 = dktJ9_resize_13 := dk_seg dksJ9_resize_12 23 rfl rfl
theorem dksJ9_resize_14 : cJ9_resize.data.toList.drop 329 = dktJ9_resize_14 := dk_seg dksJ9_resize_13 23 rfl rfl
theorem dksJ9_resize_15 : cJ9_resize.data.toList.drop 353 = dktJ9_resize_15 := dk_seg dksJ9_resize_14 24 rfl rfl
theorem dJ9_resize_0 : decode cJ9_resize 0 = .ok (.aload_n 0, 1) := dk_42 (dk_at dksJ9_resize_0 0 rfl rfl)
theorem dJ9_resize_1 : decode cJ9_resize 1 = .ok (.getfield 105, 3) := dk_180 0 105 (dk_at dksJ9_resize_0 1 rfl rfl)
theorem dJ9_resize_4 : decode cJ9_resize 4 = .ok (.astore_n 1, 1) := dk_76 (dk_at dksJ9_resize_0 4 rfl rfl)
theorem dJ9_resize_5 : decode cJ9_resize 5 = .ok (.aload_n 1, 1) := dk_43 (dk_at dksJ9_resize_0 5 rfl rfl)
theorem dJ9_resize_6 : decode cJ9_resize 6 = .ok (.ifnonnull 7, 3) := dk_199 0 7 (dk_at dksJ9_resize_0 6 rfl rfl)
theorem dJ9_resize_9 : decode cJ9_resize 9 = .ok (.iconst 0, 1) := dk_3 (dk_at dksJ9_resize_0 9 rfl rfl)
theorem dJ9_resize_10 : decode cJ9_resize 10 = .ok (.goto 5, 3) := dk_167 0 5 (dk_at dksJ9_resize_0 10 rfl rfl)
theorem dJ9_resize_13 : decode cJ9_resize 13 = .ok (.aload_n 1, 1) := dk_43 (dk_at dksJ9_resize_0 13 rfl rfl)
theorem dJ9_resize_14 : decode cJ9_resize 14 = .ok (.arraylength, 1) := dk_190 (dk_at dksJ9_resize_0 14 rfl rfl)
theorem dJ9_resize_15 : decode cJ9_resize 15 = .ok (.istore_n 2, 1) := dk_61 (dk_at dksJ9_resize_0 15 rfl rfl)
theorem dJ9_resize_16 : decode cJ9_resize 16 = .ok (.aload_n 0, 1) := dk_42 (dk_at dksJ9_resize_0 16 rfl rfl)
theorem dJ9_resize_17 : decode cJ9_resize 17 = .ok (.getfield 88, 3) := dk_180 0 88 (dk_at dksJ9_resize_0 17 rfl rfl)
theorem dJ9_resize_20 : decode cJ9_resize 20 = .ok (.istore_n 3, 1) := dk_62 (dk_at dksJ9_resize_0 20 rfl rfl)
theorem dJ9_resize_21 : decode cJ9_resize 21 = .ok (.iconst 0, 1) := dk_3 (dk_at dksJ9_resize_0 21 rfl rfl)
theorem dJ9_resize_22 : decode cJ9_resize 22 = .ok (.istore 5, 2) := dk_54 5 (dk_at dksJ9_resize_0 22 rfl rfl)
theorem dJ9_resize_24 : decode cJ9_resize 24 = .ok (.iload_n 2, 1) := dk_28 (dk_at dksJ9_resize_1 0 rfl rfl)
theorem dJ9_resize_25 : decode cJ9_resize 25 = .ok (.ifCond .le 42, 3) := dk_158 0 42 (dk_at dksJ9_resize_1 1 rfl rfl)
theorem dJ9_resize_28 : decode cJ9_resize 28 = .ok (.iload_n 2, 1) := dk_28 (dk_at dksJ9_resize_1 4 rfl rfl)
theorem dJ9_resize_29 : decode cJ9_resize 29 = .ok (.ldc 42, 2) := dk_18 42 (dk_at dksJ9_resize_1 5 rfl rfl)
theorem dJ9_resize_31 : decode cJ9_resize 31 = .ok (.if_icmp .lt 11, 3) := dk_161 0 11 (dk_at dksJ9_resize_1 7 rfl rfl)
theorem dJ9_resize_34 : decode cJ9_resize 34 = .ok (.aload_n 0, 1) := dk_42 (dk_at dksJ9_resize_1 10 rfl rfl)
theorem dJ9_resize_35 : decode cJ9_resize 35 = .ok (.ldc 209, 2) := dk_18 209 (dk_at dksJ9_resize_1 11 rfl rfl)
theorem dJ9_resize_37 : decode cJ9_resize 37 = .ok (.putfield 88, 3) := dk_181 0 88 (dk_at dksJ9_resize_1 13 rfl rfl)
theorem dJ9_resize_40 : decode cJ9_resize 40 = .ok (.aload_n 1, 1) := dk_43 (dk_at dksJ9_resize_1 16 rfl rfl)
theorem dJ9_resize_41 : decode cJ9_resize 41 = .ok (.areturn, 1) := dk_176 (dk_at dksJ9_resize_1 17 rfl rfl)
theorem dJ9_resize_42 : decode cJ9_resize 42 = .ok (.iload_n 2, 1) := dk_28 (dk_at dksJ9_resize_1 18 rfl rfl)
theorem dJ9_resize_43 : decode cJ9_resize 43 = .ok (.iconst 1, 1) := dk_4 (dk_at dksJ9_resize_1 19 rfl rfl)
theorem dJ9_resize_44 : decode cJ9_resize 44 = .ok (.ishl, 1) := dk_120 (dk_at dksJ9_resize_1 20 rfl rfl)
theorem dJ9_resize_45 : decode cJ9_resize 45 = .ok (.dup, 1) := dk_89 (dk_at dksJ9_resize_1 21 rfl rfl)
theorem dJ9_resize_46 : decode cJ9_resize 46 = .ok (.istore 4, 2) := dk_54 4 (dk_at dksJ9_resize_1 22 rfl rfl)
theorem dJ9_resize_48 : decode cJ9_resize 48 = .ok (.ldc 42, 2) := dk_18 42 (dk_at dksJ9_resize_2 0 rfl rfl)
theorem dJ9_resize_50 : decode cJ9_resize 50 = .ok (.if_icmp .ge 35, 3) := dk_162 0 35 (dk_at dksJ9_resize_2 2 rfl rfl)
theorem dJ9_resize_53 : decode cJ9_resize 53 = .ok (.iload_n 2, 1) := dk_28 (dk_at dksJ9_resize_2 5 rfl rfl)
theorem dJ9_resize_54 : decode cJ9_resize 54 = .ok (.bipush 16, 2) := dk_16 16 (dk_at dksJ9_resize_2 6 rfl rfl)
theorem dJ9_resize_56 : decode cJ9_resize 56 = .ok (.if_icmp .lt 29, 3) := dk_161 0 29 (dk_at dksJ9_resize_2 8 rfl rfl)
theorem dJ9_resize_59 : decode cJ9_resize 59 = .ok (.iload_n 3, 1) := dk_29 (dk_at dksJ9_resize_2 11 rfl rfl)
theorem dJ9_resize_60 : decode cJ9_resize 60 = .ok (.iconst 1, 1) := dk_4 (dk_at dksJ9_resize_2 12 rfl rfl)
theorem dJ9_resize_61 : decode cJ9_resize 61 = .ok (.ishl, 1) := dk_120 (dk_at dksJ9_resize_2 13 rfl rfl)
theorem dJ9_resize_62 : decode cJ9_resize 62 = .ok (.istore 5, 2) := dk_54 5 (dk_at dksJ9_resize_2 14 rfl rfl)
theorem dJ9_resize_64 : decode cJ9_resize 64 = .ok (.goto 21, 3) := dk_167 0 21 (dk_at dksJ9_resize_2 16 rfl rfl)
theorem dJ9_resize_67 : decode cJ9_resize 67 = .ok (.iload_n 3, 1) := dk_29 (dk_at dksJ9_resize_2 19 rfl rfl)
theorem dJ9_resize_68 : decode cJ9_resize 68 = .ok (.ifCond .le 9, 3) := dk_158 0 9 (dk_at dksJ9_resize_2 20 rfl rfl)
theorem dJ9_resize_71 : decode cJ9_resize 71 = .ok (.iload_n 3, 1) := dk_29 (dk_at dksJ9_resize_2 23 rfl rfl)
theorem dJ9_resize_72 : decode cJ9_resize 72 = .ok (.istore 4, 2) := dk_54 4 (dk_at dksJ9_resize_3 0 rfl rfl)
theorem dJ9_resize_74 : decode cJ9_resize 74 = .ok (.goto 11, 3) := dk_167 0 11 (dk_at dksJ9_resize_3 2 rfl rfl)
theorem dJ9_resize_77 : decode cJ9_resize 77 = .ok (.bipush 16, 2) := dk_16 16 (dk_at dksJ9_resize_3 5 rfl rfl)
theorem dJ9_resize_79 : decode cJ9_resize 79 = .ok (.istore 4, 2) := dk_54 4 (dk_at dksJ9_resize_3 7 rfl rfl)
theorem dJ9_resize_81 : decode cJ9_resize 81 = .ok (.bipush 12, 2) := dk_16 12 (dk_at dksJ9_resize_3 9 rfl rfl)
theorem dJ9_resize_83 : decode cJ9_resize 83 = .ok (.istore 5, 2) := dk_54 5 (dk_at dksJ9_resize_3 11 rfl rfl)
theorem dJ9_resize_85 : decode cJ9_resize 85 = .ok (.iload 5, 2) := dk_21 5 (dk_at dksJ9_resize_3 13 rfl rfl)
theorem dJ9_resize_87 : decode cJ9_resize 87 = .ok (.ifCond .ne 38, 3) := dk_154 0 38 (dk_at dksJ9_resize_3 15 rfl rfl)
theorem dJ9_resize_90 : decode cJ9_resize 90 = .ok (.iload 4, 2) := dk_21 4 (dk_at dksJ9_resize_3 18 rfl rfl)
theorem dJ9_resize_92 : decode cJ9_resize 92 = .ok (.i2f, 1) := dk_134 (dk_at dksJ9_resize_3 20 rfl rfl)
theorem dJ9_resize_93 : decode cJ9_resize 93 = .ok (.aload_n 0, 1) := dk_42 (dk_at dksJ9_resize_3 21 rfl rfl)
theorem dJ9_resize_94 : decode cJ9_resize 94 = .ok (.getfield 81, 3) := dk_180 0 81 (dk_at dksJ9_resize_4 0 rfl rfl)
theorem dJ9_resize_97 : decode cJ9_resize 97 = .ok (.fmul, 1) := dk_106 (dk_at dksJ9_resize_4 3 rfl rfl)
theorem dJ9_resize_98 : decode cJ9_resize 98 = .ok (.fstore 6, 2) := dk_56 6 (dk_at dksJ9_resize_4 4 rfl rfl)
theorem dJ9_resize_100 : decode cJ9_resize 100 = .ok (.iload 4, 2) := dk_21 4 (dk_at dksJ9_resize_4 6 rfl rfl)
theorem dJ9_resize_102 : decode cJ9_resize 102 = .ok (.ldc 42, 2) := dk_18 42 (dk_at dksJ9_resize_4 8 rfl rfl)
theorem dJ9_resize_104 : decode cJ9_resize 104 = .ok (.if_icmp .ge 17, 3) := dk_162 0 17 (dk_at dksJ9_resize_4 10 rfl rfl)
theorem dJ9_resize_107 : decode cJ9_resize 107 = .ok (.fload 6, 2) := dk_23 6 (dk_at dksJ9_resize_4 13 rfl rfl)
theorem dJ9_resize_109 : decode cJ9_resize 109 = .ok (.ldc 210, 2) := dk_18 210 (dk_at dksJ9_resize_4 15 rfl rfl)
theorem dJ9_resize_111 : decode cJ9_resize 111 = .ok (.fcmp .g, 1) := dk_150 (dk_at dksJ9_resize_4 17 rfl rfl)
theorem dJ9_resize_112 : decode cJ9_resize 112 = .ok (.ifCond .ge 9, 3) := dk_156 0 9 (dk_at dksJ9_resize_4 18 rfl rfl)
theorem dJ9_resize_115 : decode cJ9_resize 115 = .ok (.fload 6, 2) := dk_23 6 (dk_at dksJ9_resize_4 21 rfl rfl)
theorem dJ9_resize_117 : decode cJ9_resize 117 = .ok (.f2i, 1) := dk_139 (dk_at dksJ9_resize_4 23 rfl rfl)
theorem dJ9_resize_118 : decode cJ9_resize 118 = .ok (.goto 5, 3) := dk_167 0 5 (dk_at dksJ9_resize_5 0 rfl rfl)
theorem dJ9_resize_121 : decode cJ9_resize 121 = .ok (.ldc 209, 2) := dk_18 209 (dk_at dksJ9_resize_5 3 rfl rfl)
theorem dJ9_resize_123 : decode cJ9_resize 123 = .ok (.istore 5, 2) := dk_54 5 (dk_at dksJ9_resize_5 5 rfl rfl)
theorem dJ9_resize_125 : decode cJ9_resize 125 = .ok (.aload_n 0, 1) := dk_42 (dk_at dksJ9_resize_5 7 rfl rfl)
theorem dJ9_resize_126 : decode cJ9_resize 126 = .ok (.iload 5, 2) := dk_21 5 (dk_at dksJ9_resize_5 8 rfl rfl)
theorem dJ9_resize_128 : decode cJ9_resize 128 = .ok (.putfield 88, 3) := dk_181 0 88 (dk_at dksJ9_resize_5 10 rfl rfl)
theorem dJ9_resize_131 : decode cJ9_resize 131 = .ok (.iload 4, 2) := dk_21 4 (dk_at dksJ9_resize_5 13 rfl rfl)
theorem dJ9_resize_133 : decode cJ9_resize 133 = .ok (.anewarray 163, 3) := dk_189 0 163 (dk_at dksJ9_resize_5 15 rfl rfl)
theorem dJ9_resize_136 : decode cJ9_resize 136 = .ok (.astore 6, 2) := dk_58 6 (dk_at dksJ9_resize_5 18 rfl rfl)
theorem dJ9_resize_138 : decode cJ9_resize 138 = .ok (.aload_n 0, 1) := dk_42 (dk_at dksJ9_resize_5 20 rfl rfl)
theorem dJ9_resize_139 : decode cJ9_resize 139 = .ok (.aload 6, 2) := dk_25 6 (dk_at dksJ9_resize_5 21 rfl rfl)
theorem dJ9_resize_141 : decode cJ9_resize 141 = .ok (.putfield 105, 3) := dk_181 0 105 (dk_at dksJ9_resize_6 0 rfl rfl)
theorem dJ9_resize_144 : decode cJ9_resize 144 = .ok (.aload_n 1, 1) := dk_43 (dk_at dksJ9_resize_6 3 rfl rfl)
theorem dJ9_resize_145 : decode cJ9_resize 145 = .ok (.ifnull 208, 3) := dk_198 0 208 (dk_at dksJ9_resize_6 4 rfl rfl)
theorem dJ9_resize_148 : decode cJ9_resize 148 = .ok (.iconst 0, 1) := dk_3 (dk_at dksJ9_resize_6 7 rfl rfl)
theorem dJ9_resize_149 : decode cJ9_resize 149 = .ok (.istore 7, 2) := dk_54 7 (dk_at dksJ9_resize_6 8 rfl rfl)
theorem dJ9_resize_151 : decode cJ9_resize 151 = .ok (.iload 7, 2) := dk_21 7 (dk_at dksJ9_resize_6 10 rfl rfl)
theorem dJ9_resize_153 : decode cJ9_resize 153 = .ok (.iload_n 2, 1) := dk_28 (dk_at dksJ9_resize_6 12 rfl rfl)
theorem dJ9_resize_154 : decode cJ9_resize 154 = .ok (.if_icmp .ge 199, 3) := dk_162 0 199 (dk_at dksJ9_resize_6 13 rfl rfl)
theorem dJ9_resize_157 : decode cJ9_resize 157 = .ok (.aload_n 1, 1) := dk_43 (dk_at dksJ9_resize_6 16 rfl rfl)
theorem dJ9_resize_158 : decode cJ9_resize 158 = .ok (.iload 7, 2) := dk_21 7 (dk_at dksJ9_resize_6 17 rfl rfl)
theorem dJ9_resize_160 : decode cJ9_resize 160 = .ok (.aaload, 1) := dk_50 (dk_at dksJ9_resize_6 19 rfl rfl)
theorem dJ9_resize_161 : decode cJ9_resize 161 = .ok (.dup, 1) := dk_89 (dk_at dksJ9_resize_6 20 rfl rfl)
theorem dJ9_resize_162 : decode cJ9_resize 162 = .ok (.astore 8, 2) := dk_58 8 (dk_at dksJ9_resize_6 21 rfl rfl)
theorem dJ9_resize_164 : decode cJ9_resize 164 = .ok (.ifnull 183, 3) := dk_198 0 183 (dk_at dksJ9_resize_7 0 rfl rfl)
theorem dJ9_resize_167 : decode cJ9_resize 167 = .ok (.aload_n 1, 1) := dk_43 (dk_at dksJ9_resize_7 3 rfl rfl)
theorem dJ9_resize_168 : decode cJ9_resize 168 = .ok (.iload 7, 2) := dk_21 7 (dk_at dksJ9_resize_7 4 rfl rfl)
theorem dJ9_resize_170 : decode cJ9_resize 170 = .ok (.aconst_null, 1) := dk_1 (dk_at dksJ9_resize_7 6 rfl rfl)
theorem dJ9_resize_171 : decode cJ9_resize 171 = .ok (.aastore, 1) := dk_83 (dk_at dksJ9_resize_7 7 rfl rfl)
theorem dJ9_resize_172 : decode cJ9_resize 172 = .ok (.aload 8, 2) := dk_25 8 (dk_at dksJ9_resize_7 8 rfl rfl)
theorem dJ9_resize_174 : decode cJ9_resize 174 = .ok (.getfield 177, 3) := dk_180 0 177 (dk_at dksJ9_resize_7 10 rfl rfl)
theorem dJ9_resize_177 : decode cJ9_resize 177 = .ok (.ifnonnull 21, 3) := dk_199 0 21 (dk_at dksJ9_resize_7 13 rfl rfl)
theorem dJ9_resize_180 : decode cJ9_resize 180 = .ok (.aload 6, 2) := dk_25 6 (dk_at dksJ9_resize_7 16 rfl rfl)
theorem dJ9_resize_182 : decode cJ9_resize 182 = .ok (.aload 8, 2) := dk_25 8 (dk_at dksJ9_resize_7 18 rfl rfl)
theorem dJ9_resize_184 : decode cJ9_resize 184 = .ok (.getfield 168, 3) := dk_180 0 168 (dk_at dksJ9_resize_7 20 rfl rfl)
theorem dJ9_resize_187 : decode cJ9_resize 187 = .ok (.iload 4, 2) := dk_21 4 (dk_at dksJ9_resize_8 0 rfl rfl)
theorem dJ9_resize_189 : decode cJ9_resize 189 = .ok (.iconst 1, 1) := dk_4 (dk_at dksJ9_resize_8 2 rfl rfl)
theorem dJ9_resize_190 : decode cJ9_resize 190 = .ok (.isub, 1) := dk_100 (dk_at dksJ9_resize_8 3 rfl rfl)
theorem dJ9_resize_191 : decode cJ9_resize 191 = .ok (.iand, 1) := dk_126 (dk_at dksJ9_resize_8 4 rfl rfl)
theorem dJ9_resize_192 : decode cJ9_resize 192 = .ok (.aload 8, 2) := dk_25 8 (dk_at dksJ9_resize_8 5 rfl rfl)
theorem dJ9_resize_194 : decode cJ9_resize 194 = .ok (.aastore, 1) := dk_83 (dk_at dksJ9_resize_8 7 rfl rfl)
theorem dJ9_resize_195 : decode cJ9_resize 195 = .ok (.goto 152, 3) := dk_167 0 152 (dk_at dksJ9_resize_8 8 rfl rfl)
theorem dJ9_resize_198 : decode cJ9_resize 198 = .ok (.aload 8, 2) := dk_25 8 (dk_at dksJ9_resize_8 11 rfl rfl)
theorem dJ9_resize_200 : decode cJ9_resize 200 = .ok (.instanceof 180, 3) := dk_193 0 180 (dk_at dksJ9_resize_8 13 rfl rfl)
theorem dJ9_resize_203 : decode cJ9_resize 203 = .ok (.ifCond .eq 20, 3) := dk_153 0 20 (dk_at dksJ9_resize_8 16 rfl rfl)
theorem dJ9_resize_206 : decode cJ9_resize 206 = .ok (.aload 8, 2) := dk_25 8 (dk_at dksJ9_resize_8 19 rfl rfl)
theorem dJ9_resize_208 : decode cJ9_resize 208 = .ok (.checkcast 180, 3) := dk_192 0 180 (dk_at dksJ9_resize_8 21 rfl rfl)
theorem dJ9_resize_211 : decode cJ9_resize 211 = .ok (.aload_n 0, 1) := dk_42 (dk_at dksJ9_resize_9 0 rfl rfl)
theorem dJ9_resize_212 : decode cJ9_resize 212 = .ok (.aload 6, 2) := dk_25 6 (dk_at dksJ9_resize_9 1 rfl rfl)
theorem dJ9_resize_214 : decode cJ9_resize 214 = .ok (.iload 7, 2) := dk_21 7 (dk_at dksJ9_resize_9 3 rfl rfl)
theorem dJ9_resize_216 : decode cJ9_resize 216 = .ok (.iload_n 2, 1) := dk_28 (dk_at dksJ9_resize_9 5 rfl rfl)
theorem dJ9_resize_217 : decode cJ9_resize 217 = .ok (.invokevirtual 211, 3) := dk_182 0 211 (dk_at dksJ9_resize_9 6 rfl rfl)
theorem dJ9_resize_220 : decode cJ9_resize 220 = .ok (.goto 127, 3) := dk_167 0 127 (dk_at dksJ9_resize_9 9 rfl rfl)
theorem dJ9_resize_223 : decode cJ9_resize 223 = .ok (.aconst_null, 1) := dk_1 (dk_at dksJ9_resize_9 12 rfl rfl)
theorem dJ9_resize_224 : decode cJ9_resize 224 = .ok (.astore 9, 2) := dk_58 9 (dk_at dksJ9_resize_9 13 rfl rfl)
theorem dJ9_resize_226 : decode cJ9_resize 226 = .ok (.aconst_null, 1) := dk_1 (dk_at dksJ9_resize_9 15 rfl rfl)
theorem dJ9_resize_227 : decode cJ9_resize 227 = .ok (.astore 10, 2) := dk_58 10 (dk_at dksJ9_resize_9 16 rfl rfl)
theorem dJ9_resize_229 : decode cJ9_resize 229 = .ok (.aconst_null, 1) := dk_1 (dk_at dksJ9_resize_9 18 rfl rfl)
theorem dJ9_resize_230 : decode cJ9_resize 230 = .ok (.astore 11, 2) := dk_58 11 (dk_at dksJ9_resize_9 19 rfl rfl)
theorem dJ9_resize_232 : decode cJ9_resize 232 = .ok (.aconst_null, 1) := dk_1 (dk_at dksJ9_resize_9 21 rfl rfl)
theorem dJ9_resize_233 : decode cJ9_resize 233 = .ok (.astore 12, 2) := dk_58 12 (dk_at dksJ9_resize_9 22 rfl rfl)
theorem dJ9_resize_235 : decode cJ9_resize 235 = .ok (.aload 8, 2) := dk_25 8 (dk_at dksJ9_resize_10 0 rfl rfl)
theorem dJ9_resize_237 : decode cJ9_resize 237 = .ok (.getfield 177, 3) := dk_180 0 177 (dk_at dksJ9_resize_10 2 rfl rfl)
theorem dJ9_resize_240 : decode cJ9_resize 240 = .ok (.astore 13, 2) := dk_58 13 (dk_at dksJ9_resize_10 5 rfl rfl)
theorem dJ9_resize_242 : decode cJ9_resize 242 = .ok (.aload 8, 2) := dk_25 8 (dk_at dksJ9_resize_10 7 rfl rfl)
theorem dJ9_resize_244 : decode cJ9_resize 244 = .ok (.getfield 168, 3) := dk_180 0 168 (dk_at dksJ9_resize_10 9 rfl rfl)
theorem dJ9_resize_247 : decode cJ9_resize 247 = .ok (.iload_n 2, 1) := dk_28 (dk_at dksJ9_resize_10 12 rfl rfl)
theorem dJ9_resize_248 : decode cJ9_resize 248 = .ok (.iand, 1) := dk_126 (dk_at dksJ9_resize_10 13 rfl rfl)
theorem dJ9_resize_249 : decode cJ9_resize 249 = .ok (.ifCond .ne 29, 3) := dk_154 0 29 (dk_at dksJ9_resize_10 14 rfl rfl)
theorem dJ9_resize_252 : decode cJ9_resize 252 = .ok (.aload 10, 2) := dk_25 10 (dk_at dksJ9_resize_10 17 rfl rfl)
theorem dJ9_resize_254 : decode cJ9_resize 254 = .ok (.ifnonnull 10, 3) := dk_199 0 10 (dk_at dksJ9_resize_10 19 rfl rfl)
theorem dJ9_resize_257 : decode cJ9_resize 257 = .ok (.aload 8, 2) := dk_25 8 (dk_at dksJ9_resize_10 22 rfl rfl)
theorem dJ9_resize_259 : decode cJ9_resize 259 = .ok (.astore 9, 2) := dk_58 9 (dk_at dksJ9_resize_11 0 rfl rfl)
theorem dJ9_resize_261 : decode cJ9_resize 261 = .ok (.goto 10, 3) := dk_167 0 10 (dk_at dksJ9_resize_11 2 rfl rfl)
theorem dJ9_resize_264 : decode cJ9_resize 264 = .ok (.aload 10, 2) := dk_25 10 (dk_at dksJ9_resize_11 5 rfl rfl)
theorem dJ9_resize_266 : decode cJ9_resize 266 = .ok (.aload 8, 2) := dk_25 8 (dk_at dksJ9_resize_11 7 rfl rfl)
theorem dJ9_resize_268 : decode cJ9_resize 268 = .ok (.putfield 177, 3) := dk_181 0 177 (dk_at dksJ9_resize_11 9 rfl rfl)
theorem dJ9_resize_271 : decode cJ9_resize 271 = .ok (.aload 8, 2) := dk_25 8 (dk_at dksJ9_resize_11 12 rfl rfl)
theorem dJ9_resize_273 : decode cJ9_resize 273 = .ok (.astore 10, 2) := dk_58 10 (dk_at dksJ9_resize_11 14 rfl rfl)
theorem dJ9_resize_275 : decode cJ9_resize 275 = .ok (.goto 26, 3) := dk_167 0 26 (dk_at dksJ9_resize_11 16 rfl rfl)
theorem dJ9_resize_278 : decode cJ9_resize 278 = .ok (.aload 12, 2) := dk_25 12 (dk_at dksJ9_resize_11 19 rfl rfl)
theorem dJ9_resize_280 : decode cJ9_resize 280 = .ok (.ifnonnull 10, 3) := dk_199 0 10 (dk_at dksJ9_resize_11 21 rfl rfl)
theorem dJ9_resize_283 : decode cJ9_resize 283 = .ok (.aload 8, 2) := dk_25 8 (dk_at dksJ9_resize_12 0 rfl rfl)
theorem dJ9_resize_285 : decode cJ9_resize 285 = .ok (.astore 11, 2) := dk_58 11 (dk_at dksJ9_resize_12 2 rfl rfl)
theorem dJ9_resize_287 : decode cJ9_resize 287 = .ok (.goto 10, 3) := dk_167 0 10 (dk_at dksJ9_resize_12 4 rfl rfl)
theorem dJ9_resize_290 : decode cJ9_resize 290 = .ok (.aload 12, 2) := dk_25 12 (dk_at dksJ9_resize_12 7 rfl rfl)
theorem dJ9_resize_292 : decode cJ9_resize 292 = .ok (.aload 8, 2) := dk_25 8 (dk_at dksJ9_resize_12 9 rfl rfl)
theorem dJ9_resize_294 : decode cJ9_resize 294 = .ok (.putfield 177, 3) := dk_181 0 177 (dk_at dksJ9_resize_12 11 rfl rfl)
theorem dJ9_resize_297 : decode cJ9_resize 297 = .ok (.aload 8, 2) := dk_25 8 (dk_at dksJ9_resize_12 14 rfl rfl)
theorem dJ9_resize_299 : decode cJ9_resize 299 = .ok (.astore 12, 2) := dk_58 12 (dk_at dksJ9_resize_12 16 rfl rfl)
theorem dJ9_resize_301 : decode cJ9_resize 301 = .ok (.aload 13, 2) := dk_25 13 (dk_at dksJ9_resize_12 18 rfl rfl)
theorem dJ9_resize_303 : decode cJ9_resize 303 = .ok (.dup, 1) := dk_89 (dk_at dksJ9_resize_12 20 rfl rfl)
theorem dJ9_resize_304 : decode cJ9_resize 304 = .ok (.astore 8, 2) := dk_58 8 (dk_at dksJ9_resize_12 21 rfl rfl)
theorem dJ9_resize_306 : decode cJ9_resize 306 = .ok (.ifnonnull (-71), 3) := dk_199 255 185 (dk_at dksJ9_resize_13 0 rfl rfl)
theorem dJ9_resize_309 : decode cJ9_resize 309 = .ok (.aload 10, 2) := dk_25 10 (dk_at dksJ9_resize_13 3 rfl rfl)
theorem dJ9_resize_311 : decode cJ9_resize 311 = .ok (.ifnull 16, 3) := dk_198 0 16 (dk_at dksJ9_resize_13 5 rfl rfl)
theorem dJ9_resize_314 : decode cJ9_resize 314 = .ok (.aload 10, 2) := dk_25 10 (dk_at dksJ9_resize_13 8 rfl rfl)
theorem dJ9_resize_316 : decode cJ9_resize 316 = .ok (.aconst_null, 1) := dk_1 (dk_at dksJ9_resize_13 10 rfl rfl)
theorem dJ9_resize_317 : decode cJ9_resize 317 = .ok (.putfield 177, 3) := dk_181 0 177 (dk_at dksJ9_resize_13 11 rfl rfl)
theorem dJ9_resize_320 : decode cJ9_resize 320 = .ok (.aload 6, 2) := dk_25 6 (dk_at dksJ9_resize_13 14 rfl rfl)
theorem dJ9_resize_322 : decode cJ9_resize 322 = .ok (.iload 7, 2) := dk_21 7 (dk_at dksJ9_resize_13 16 rfl rfl)
theorem dJ9_resize_324 : decode cJ9_resize 324 = .ok (.aload 9, 2) := dk_25 9 (dk_at dksJ9_resize_13 18 rfl rfl)
theorem dJ9_resize_326 : decode cJ9_resize 326 = .ok (.aastore, 1) := dk_83 (dk_at dksJ9_resize_13 20 rfl rfl)
theorem dJ9_resize_327 : decode cJ9_resize 327 = .ok (.aload 12, 2) := dk_25 12 (dk_at dksJ9_resize_13 21 rfl rfl)
theorem dJ9_resize_329 : decode cJ9_resize 329 = .ok (.ifnull 18, 3) := dk_198 0 18 (dk_at dksJ9_resize_14 0 rfl rfl)
theorem dJ9_resize_332 : decode cJ9_resize 332 = .ok (.aload 12, 2) := dk_25 12 (dk_at dksJ9_resize_14 3 rfl rfl)
theorem dJ9_resize_334 : decode cJ9_resize 334 = .ok (.aconst_null, 1) := dk_1 (dk_at dksJ9_resize_14 5 rfl rfl)
theorem dJ9_resize_335 : decode cJ9_resize 335 = .ok (.putfield 177, 3) := dk_181 0 177 (dk_at dksJ9_resize_14 6 rfl rfl)
theorem dJ9_resize_338 : decode cJ9_resize 338 = .ok (.aload 6, 2) := dk_25 6 (dk_at dksJ9_resize_14 9 rfl rfl)
theorem dJ9_resize_340 : decode cJ9_resize 340 = .ok (.iload 7, 2) := dk_21 7 (dk_at dksJ9_resize_14 11 rfl rfl)
theorem dJ9_resize_342 : decode cJ9_resize 342 = .ok (.iload_n 2, 1) := dk_28 (dk_at dksJ9_resize_14 13 rfl rfl)
theorem dJ9_resize_343 : decode cJ9_resize 343 = .ok (.iadd, 1) := dk_96 (dk_at dksJ9_resize_14 14 rfl rfl)
theorem dJ9_resize_344 : decode cJ9_resize 344 = .ok (.aload 11, 2) := dk_25 11 (dk_at dksJ9_resize_14 15 rfl rfl)
theorem dJ9_resize_346 : decode cJ9_resize 346 = .ok (.aastore, 1) := dk_83 (dk_at dksJ9_resize_14 17 rfl rfl)
theorem dJ9_resize_347 : decode cJ9_resize 347 = .ok (.iinc 7 1, 3) := dk_132 7 1 (dk_at dksJ9_resize_14 18 rfl rfl)
theorem dJ9_resize_350 : decode cJ9_resize 350 = .ok (.goto (-199), 3) := dk_167 255 57 (dk_at dksJ9_resize_14 21 rfl rfl)
theorem dJ9_resize_353 : decode cJ9_resize 353 = .ok (.aload 6, 2) := dk_25 6 (dk_at dksJ9_resize_15 0 rfl rfl)
theorem dJ9_resize_355 : decode cJ9_resize 355 = .ok (.areturn, 1) := dk_176 (dk_at dksJ9_resize_15 2 rfl rfl)
abbrev cJ9_replacementNode : ByteArray := prog_102_method_47_code
def yJ9_replacementNode : MethodName := ⟨RJ9, "replacementNode", "(Ljava/util/HashMap$Node;Ljava/util/HashMap$Node;)Ljava/util/HashMap$Node;"⟩
def dkwJ9_replacementNode_0 : List UInt8 := [187, 0, 163, 89, 43, 180, 0, 168, 43, 180, 0, 170, 43, 180, 0, 162, 44, 183, 1, 119, 176]
abbrev dktJ9_replacementNode_0 : List UInt8 := dkwJ9_replacementNode_0 ++ []
theorem dksJ9_replacementNode_0 : cJ9_replacementNode.data.toList.drop 0 = dktJ9_replacementNode_0 := by decide +kernel
theorem dJ9_replacementNode_0 : decode cJ9_replacementNode 0 = .ok (.new 163, 3) := dk_187 0 163 (dk_at dksJ9_replacementNode_0 0 rfl rfl)
theorem dJ9_replacementNode_3 : decode cJ9_replacementNode 3 = .ok (.dup, 1) := dk_89 (dk_at dksJ9_replacementNode_0 3 rfl rfl)
theorem dJ9_replacementNode_4 : decode cJ9_replacementNode 4 = .ok (.aload_n 1, 1) := dk_43 (dk_at dksJ9_replacementNode_0 4 rfl rfl)
theorem dJ9_replacementNode_5 : decode cJ9_replacementNode 5 = .ok (.getfield 168, 3) := dk_180 0 168 (dk_at dksJ9_replacementNode_0 5 rfl rfl)
theorem dJ9_replacementNode_8 : decode cJ9_replacementNode 8 = .ok (.aload_n 1, 1) := dk_43 (dk_at dksJ9_replacementNode_0 8 rfl rfl)
theorem dJ9_replacementNode_9 : decode cJ9_replacementNode 9 = .ok (.getfield 170, 3) := dk_180 0 170 (dk_at dksJ9_replacementNode_0 9 rfl rfl)
theorem dJ9_replacementNode_12 : decode cJ9_replacementNode 12 = .ok (.aload_n 1, 1) := dk_43 (dk_at dksJ9_replacementNode_0 12 rfl rfl)
theorem dJ9_replacementNode_13 : decode cJ9_replacementNode 13 = .ok (.getfield 162, 3) := dk_180 0 162 (dk_at dksJ9_replacementNode_0 13 rfl rfl)
theorem dJ9_replacementNode_16 : decode cJ9_replacementNode 16 = .ok (.aload_n 2, 1) := dk_44 (dk_at dksJ9_replacementNode_0 16 rfl rfl)
theorem dJ9_replacementNode_17 : decode cJ9_replacementNode 17 = .ok (.invokespecial 375, 3) := dk_183 1 119 (dk_at dksJ9_replacementNode_0 17 rfl rfl)
theorem dJ9_replacementNode_20 : decode cJ9_replacementNode 20 = .ok (.areturn, 1) := dk_176 (dk_at dksJ9_replacementNode_0 20 rfl rfl)
abbrev cJ9_newNode : ByteArray := prog_102_method_46_code
def yJ9_newNode : MethodName := ⟨RJ9, "newNode", "(ILjava/lang/Object;Ljava/lang/Object;Ljava/util/HashMap$Node;)Ljava/util/HashMap$Node;"⟩
def dkwJ9_newNode_0 : List UInt8 := [187, 0, 163, 89, 27, 44, 45, 25, 4, 183, 1, 119, 176]
abbrev dktJ9_newNode_0 : List UInt8 := dkwJ9_newNode_0 ++ []
theorem dksJ9_newNode_0 : cJ9_newNode.data.toList.drop 0 = dktJ9_newNode_0 := by decide +kernel
theorem dJ9_newNode_0 : decode cJ9_newNode 0 = .ok (.new 163, 3) := dk_187 0 163 (dk_at dksJ9_newNode_0 0 rfl rfl)
theorem dJ9_newNode_3 : decode cJ9_newNode 3 = .ok (.dup, 1) := dk_89 (dk_at dksJ9_newNode_0 3 rfl rfl)
theorem dJ9_newNode_4 : decode cJ9_newNode 4 = .ok (.iload_n 1, 1) := dk_27 (dk_at dksJ9_newNode_0 4 rfl rfl)
theorem dJ9_newNode_5 : decode cJ9_newNode 5 = .ok (.aload_n 2, 1) := dk_44 (dk_at dksJ9_newNode_0 5 rfl rfl)
theorem dJ9_newNode_6 : decode cJ9_newNode 6 = .ok (.aload_n 3, 1) := dk_45 (dk_at dksJ9_newNode_0 6 rfl rfl)
theorem dJ9_newNode_7 : decode cJ9_newNode 7 = .ok (.aload 4, 2) := dk_25 4 (dk_at dksJ9_newNode_0 7 rfl rfl)
theorem dJ9_newNode_9 : decode cJ9_newNode 9 = .ok (.invokespecial 375, 3) := dk_183 1 119 (dk_at dksJ9_newNode_0 9 rfl rfl)
theorem dJ9_newNode_12 : decode cJ9_newNode 12 = .ok (.areturn, 1) := dk_176 (dk_at dksJ9_newNode_0 12 rfl rfl)
abbrev cJ9_newTreeNode : ByteArray := prog_102_method_48_code
def yJ9_newTreeNode : MethodName := ⟨RJ9, "newTreeNode", "(ILjava/lang/Object;Ljava/lang/Object;Ljava/util/HashMap$Node;)Ljava/util/HashMap$TreeNode;"⟩
def dkwJ9_newTreeNode_0 : List UInt8 := [187, 0, 180, 89, 27, 44, 45, 25, 4, 183, 1, 122, 176]
abbrev dktJ9_newTreeNode_0 : List UInt8 := dkwJ9_newTreeNode_0 ++ []
theorem dksJ9_newTreeNode_0 : cJ9_newTreeNode.data.toList.drop 0 = dktJ9_newTreeNode_0 := by decide +kernel
theorem dJ9_newTreeNode_0 : decode cJ9_newTreeNode 0 = .ok (.new 180, 3) := dk_187 0 180 (dk_at dksJ9_newTreeNode_0 0 rfl rfl)
theorem dJ9_newTreeNode_3 : decode cJ9_newTreeNode 3 = .ok (.dup, 1) := dk_89 (dk_at dksJ9_newTreeNode_0 3 rfl rfl)
theorem dJ9_newTreeNode_4 : decode cJ9_newTreeNode 4 = .ok (.iload_n 1, 1) := dk_27 (dk_at dksJ9_newTreeNode_0 4 rfl rfl)
theorem dJ9_newTreeNode_5 : decode cJ9_newTreeNode 5 = .ok (.aload_n 2, 1) := dk_44 (dk_at dksJ9_newTreeNode_0 5 rfl rfl)
theorem dJ9_newTreeNode_6 : decode cJ9_newTreeNode 6 = .ok (.aload_n 3, 1) := dk_45 (dk_at dksJ9_newTreeNode_0 6 rfl rfl)
theorem dJ9_newTreeNode_7 : decode cJ9_newTreeNode 7 = .ok (.aload 4, 2) := dk_25 4 (dk_at dksJ9_newTreeNode_0 7 rfl rfl)
theorem dJ9_newTreeNode_9 : decode cJ9_newTreeNode 9 = .ok (.invokespecial 378, 3) := dk_183 1 122 (dk_at dksJ9_newTreeNode_0 9 rfl rfl)
theorem dJ9_newTreeNode_12 : decode cJ9_newTreeNode 12 = .ok (.areturn, 1) := dk_176 (dk_at dksJ9_newTreeNode_0 12 rfl rfl)
abbrev cJ9_treeifyBin : ByteArray := prog_102_method_18_code
def yJ9_treeifyBin : MethodName := ⟨RJ9, "treeifyBin", "([Ljava/util/HashMap$Node;I)V"⟩
def dkwJ9_treeifyBin_4 : List UInt8 := [21, 4, 25, 6, 91, 83, 198, 0, 9, 25, 6, 43, 182, 0, 224, 177]
abbrev dktJ9_treeifyBin_4 : List UInt8 := dkwJ9_treeifyBin_4 ++ []
def dkwJ9_treeifyBin_3 : List UInt8 := [25, 7, 25, 8, 181, 0, 223, 25, 8, 58, 7, 25, 5, 180, 0, 177, 89, 58, 5, 199, 255, 209, 43]
abbrev dktJ9_treeifyBin_3 : List UInt8 := dkwJ9_treeifyBin_3 ++ dktJ9_treeifyBin_4
def dkwJ9_treeifyBin_2 : List UInt8 := [182, 0, 215, 58, 8, 25, 7, 199, 0, 10, 25, 8, 58, 6, 167, 0, 17, 25, 8, 25, 7, 181, 0, 219]
abbrev dktJ9_treeifyBin_2 : List UInt8 := dkwJ9_treeifyBin_2 ++ dktJ9_treeifyBin_3
def dkwJ9_treeifyBin_1 : List UInt8 := [100, 28, 126, 89, 54, 4, 50, 89, 58, 5, 198, 0, 75, 1, 58, 6, 1, 58, 7, 42, 25, 5, 1]
abbrev dktJ9_treeifyBin_1 : List UInt8 := dkwJ9_treeifyBin_1 ++ dktJ9_treeifyBin_2
def dkwJ9_treeifyBin_0 : List UInt8 := [43, 198, 0, 12, 43, 190, 89, 62, 16, 64, 162, 0, 11, 42, 182, 0, 117, 87, 167, 0, 91, 43, 29, 4]
abbrev dktJ9_treeifyBin_0 : List UInt8 := dkwJ9_treeifyBin_0 ++ dktJ9_treeifyBin_1
theorem dksJ9_treeifyBin_0 : cJ9_treeifyBin.data.toList.drop 0 = dktJ9_treeifyBin_0 := by decide +kernel
theorem dksJ9_treeifyBin_1 : cJ9_treeifyBin.data.toList.drop 24 = dktJ9_treeifyBin_1 := dk_seg dksJ9_treeifyBin_0 24 rfl rfl
theorem dksJ9_treeifyBin_2 : cJ9_treeifyBin.data.toList.drop 47 = dktJ9_treeifyBin_2 := dk_seg dksJ9_treeifyBin_1 23 rfl rfl
theorem dksJ9_treeifyBin_3 : cJ9_treeifyBin.data.toList.drop 71 = dktJ9_treeifyBin_3 := dk_seg dksJ9_treeifyBin_2 24 rfl rfl
theorem dksJ9_treeifyBin_4 : cJ9_treeifyBin.data.toList.drop 94 = dktJ9_treeifyBin_4 := dk_seg dksJ9_treeifyBin_3 23 rfl rfl
theorem dJ9_treeifyBin_0 : decode cJ9_treeifyBin 0 = .ok (.aload_n 1, 1) := dk_43 (dk_at dksJ9_treeifyBin_0 0 rfl rfl)
theorem dJ9_treeifyBin_1 : decode cJ9_treeifyBin 1 = .ok (.ifnull 12, 3) := dk_198 0 12 (dk_at dksJ9_treeifyBin_0 1 rfl rfl)
theorem dJ9_treeifyBin_4 : decode cJ9_treeifyBin 4 = .ok (.aload_n 1, 1) := dk_43 (dk_at dksJ9_treeifyBin_0 4 rfl rfl)
theorem dJ9_treeifyBin_5 : decode cJ9_treeifyBin 5 = .ok (.arraylength, 1) := dk_190 (dk_at dksJ9_treeifyBin_0 5 rfl rfl)
theorem dJ9_treeifyBin_6 : decode cJ9_treeifyBin 6 = .ok (.dup, 1) := dk_89 (dk_at dksJ9_treeifyBin_0 6 rfl rfl)
theorem dJ9_treeifyBin_7 : decode cJ9_treeifyBin 7 = .ok (.istore_n 3, 1) := dk_62 (dk_at dksJ9_treeifyBin_0 7 rfl rfl)
theorem dJ9_treeifyBin_8 : decode cJ9_treeifyBin 8 = .ok (.bipush 64, 2) := dk_16 64 (dk_at dksJ9_treeifyBin_0 8 rfl rfl)
theorem dJ9_treeifyBin_10 : decode cJ9_treeifyBin 10 = .ok (.if_icmp .ge 11, 3) := dk_162 0 11 (dk_at dksJ9_treeifyBin_0 10 rfl rfl)
theorem dJ9_treeifyBin_13 : decode cJ9_treeifyBin 13 = .ok (.aload_n 0, 1) := dk_42 (dk_at dksJ9_treeifyBin_0 13 rfl rfl)
theorem dJ9_treeifyBin_14 : decode cJ9_treeifyBin 14 = .ok (.invokevirtual 117, 3) := dk_182 0 117 (dk_at dksJ9_treeifyBin_0 14 rfl rfl)
theorem dJ9_treeifyBin_17 : decode cJ9_treeifyBin 17 = .ok (.pop, 1) := dk_87 (dk_at dksJ9_treeifyBin_0 17 rfl rfl)
theorem dJ9_treeifyBin_18 : decode cJ9_treeifyBin 18 = .ok (.goto 91, 3) := dk_167 0 91 (dk_at dksJ9_treeifyBin_0 18 rfl rfl)
theorem dJ9_treeifyBin_21 : decode cJ9_treeifyBin 21 = .ok (.aload_n 1, 1) := dk_43 (dk_at dksJ9_treeifyBin_0 21 rfl rfl)
theorem dJ9_treeifyBin_22 : decode cJ9_treeifyBin 22 = .ok (.iload_n 3, 1) := dk_29 (dk_at dksJ9_treeifyBin_0 22 rfl rfl)
theorem dJ9_treeifyBin_23 : decode cJ9_treeifyBin 23 = .ok (.iconst 1, 1) := dk_4 (dk_at dksJ9_treeifyBin_0 23 rfl rfl)
theorem dJ9_treeifyBin_24 : decode cJ9_treeifyBin 24 = .ok (.isub, 1) := dk_100 (dk_at dksJ9_treeifyBin_1 0 rfl rfl)
theorem dJ9_treeifyBin_25 : decode cJ9_treeifyBin 25 = .ok (.iload_n 2, 1) := dk_28 (dk_at dksJ9_treeifyBin_1 1 rfl rfl)
theorem dJ9_treeifyBin_26 : decode cJ9_treeifyBin 26 = .ok (.iand, 1) := dk_126 (dk_at dksJ9_treeifyBin_1 2 rfl rfl)
theorem dJ9_treeifyBin_27 : decode cJ9_treeifyBin 27 = .ok (.dup, 1) := dk_89 (dk_at dksJ9_treeifyBin_1 3 rfl rfl)
theorem dJ9_treeifyBin_28 : decode cJ9_treeifyBin 28 = .ok (.istore 4, 2) := dk_54 4 (dk_at dksJ9_treeifyBin_1 4 rfl rfl)
theorem dJ9_treeifyBin_30 : decode cJ9_treeifyBin 30 = .ok (.aaload, 1) := dk_50 (dk_at dksJ9_treeifyBin_1 6 rfl rfl)
theorem dJ9_treeifyBin_31 : decode cJ9_treeifyBin 31 = .ok (.dup, 1) := dk_89 (dk_at dksJ9_treeifyBin_1 7 rfl rfl)
theorem dJ9_treeifyBin_32 : decode cJ9_treeifyBin 32 = .ok (.astore 5, 2) := dk_58 5 (dk_at dksJ9_treeifyBin_1 8 rfl rfl)
theorem dJ9_treeifyBin_34 : decode cJ9_treeifyBin 34 = .ok (.ifnull 75, 3) := dk_198 0 75 (dk_at dksJ9_treeifyBin_1 10 rfl rfl)
theorem dJ9_treeifyBin_37 : decode cJ9_treeifyBin 37 = .ok (.aconst_null, 1) := dk_1 (dk_at dksJ9_treeifyBin_1 13 rfl rfl)
theorem dJ9_treeifyBin_38 : decode cJ9_treeifyBin 38 = .ok (.astore 6, 2) := dk_58 6 (dk_at dksJ9_treeifyBin_1 14 rfl rfl)
theorem dJ9_treeifyBin_40 : decode cJ9_treeifyBin 40 = .ok (.aconst_null, 1) := dk_1 (dk_at dksJ9_treeifyBin_1 16 rfl rfl)
theorem dJ9_treeifyBin_41 : decode cJ9_treeifyBin 41 = .ok (.astore 7, 2) := dk_58 7 (dk_at dksJ9_treeifyBin_1 17 rfl rfl)
theorem dJ9_treeifyBin_43 : decode cJ9_treeifyBin 43 = .ok (.aload_n 0, 1) := dk_42 (dk_at dksJ9_treeifyBin_1 19 rfl rfl)
theorem dJ9_treeifyBin_44 : decode cJ9_treeifyBin 44 = .ok (.aload 5, 2) := dk_25 5 (dk_at dksJ9_treeifyBin_1 20 rfl rfl)
theorem dJ9_treeifyBin_46 : decode cJ9_treeifyBin 46 = .ok (.aconst_null, 1) := dk_1 (dk_at dksJ9_treeifyBin_1 22 rfl rfl)
theorem dJ9_treeifyBin_47 : decode cJ9_treeifyBin 47 = .ok (.invokevirtual 215, 3) := dk_182 0 215 (dk_at dksJ9_treeifyBin_2 0 rfl rfl)
theorem dJ9_treeifyBin_50 : decode cJ9_treeifyBin 50 = .ok (.astore 8, 2) := dk_58 8 (dk_at dksJ9_treeifyBin_2 3 rfl rfl)
theorem dJ9_treeifyBin_52 : decode cJ9_treeifyBin 52 = .ok (.aload 7, 2) := dk_25 7 (dk_at dksJ9_treeifyBin_2 5 rfl rfl)
theorem dJ9_treeifyBin_54 : decode cJ9_treeifyBin 54 = .ok (.ifnonnull 10, 3) := dk_199 0 10 (dk_at dksJ9_treeifyBin_2 7 rfl rfl)
theorem dJ9_treeifyBin_57 : decode cJ9_treeifyBin 57 = .ok (.aload 8, 2) := dk_25 8 (dk_at dksJ9_treeifyBin_2 10 rfl rfl)
theorem dJ9_treeifyBin_59 : decode cJ9_treeifyBin 59 = .ok (.astore 6, 2) := dk_58 6 (dk_at dksJ9_treeifyBin_2 12 rfl rfl)
theorem dJ9_treeifyBin_61 : decode cJ9_treeifyBin 61 = .ok (.goto 17, 3) := dk_167 0 17 (dk_at dksJ9_treeifyBin_2 14 rfl rfl)
theorem dJ9_treeifyBin_64 : decode cJ9_treeifyBin 64 = .ok (.aload 8, 2) := dk_25 8 (dk_at dksJ9_treeifyBin_2 17 rfl rfl)
theorem dJ9_treeifyBin_66 : decode cJ9_treeifyBin 66 = .ok (.aload 7, 2) := dk_25 7 (dk_at dksJ9_treeifyBin_2 19 rfl rfl)
theorem dJ9_treeifyBin_68 : decode cJ9_treeifyBin 68 = .ok (.putfield 219, 3) := dk_181 0 219 (dk_at dksJ9_treeifyBin_2 21 rfl rfl)
theorem dJ9_treeifyBin_71 : decode cJ9_treeifyBin 71 = .ok (.aload 7, 2) := dk_25 7 (dk_at dksJ9_treeifyBin_3 0 rfl rfl)
theorem dJ9_treeifyBin_73 : decode cJ9_treeifyBin 73 = .ok (.aload 8, 2) := dk_25 8 (dk_at dksJ9_treeifyBin_3 2 rfl rfl)
theorem dJ9_treeifyBin_75 : decode cJ9_treeifyBin 75 = .ok (.putfield 223, 3) := dk_181 0 223 (dk_at dksJ9_treeifyBin_3 4 rfl rfl)
theorem dJ9_treeifyBin_78 : decode cJ9_treeifyBin 78 = .ok (.aload 8, 2) := dk_25 8 (dk_at dksJ9_treeifyBin_3 7 rfl rfl)
theorem dJ9_treeifyBin_80 : decode cJ9_treeifyBin 80 = .ok (.astore 7, 2) := dk_58 7 (dk_at dksJ9_treeifyBin_3 9 rfl rfl)
theorem dJ9_treeifyBin_82 : decode cJ9_treeifyBin 82 = .ok (.aload 5, 2) := dk_25 5 (dk_at dksJ9_treeifyBin_3 11 rfl rfl)
theorem dJ9_treeifyBin_84 : decode cJ9_treeifyBin 84 = .ok (.getfield 177, 3) := dk_180 0 177 (dk_at dksJ9_treeifyBin_3 13 rfl rfl)
theorem dJ9_treeifyBin_87 : decode cJ9_treeifyBin 87 = .ok (.dup, 1) := dk_89 (dk_at dksJ9_treeifyBin_3 16 rfl rfl)
theorem dJ9_treeifyBin_88 : decode cJ9_treeifyBin 88 = .ok (.astore 5, 2) := dk_58 5 (dk_at dksJ9_treeifyBin_3 17 rfl rfl)
theorem dJ9_treeifyBin_90 : decode cJ9_treeifyBin 90 = .ok (.ifnonnull (-47), 3) := dk_199 255 209 (dk_at dksJ9_treeifyBin_3 19 rfl rfl)
theorem dJ9_treeifyBin_93 : decode cJ9_treeifyBin 93 = .ok (.aload_n 1, 1) := dk_43 (dk_at dksJ9_treeifyBin_3 22 rfl rfl)
theorem dJ9_treeifyBin_94 : decode cJ9_treeifyBin 94 = .ok (.iload 4, 2) := dk_21 4 (dk_at dksJ9_treeifyBin_4 0 rfl rfl)
theorem dJ9_treeifyBin_96 : decode cJ9_treeifyBin 96 = .ok (.aload 6, 2) := dk_25 6 (dk_at dksJ9_treeifyBin_4 2 rfl rfl)
theorem dJ9_treeifyBin_98 : decode cJ9_treeifyBin 98 = .ok (.dup_x2, 1) := dk_91 (dk_at dksJ9_treeifyBin_4 4 rfl rfl)
theorem dJ9_treeifyBin_99 : decode cJ9_treeifyBin 99 = .ok (.aastore, 1) := dk_83 (dk_at dksJ9_treeifyBin_4 5 rfl rfl)
theorem dJ9_treeifyBin_100 : decode cJ9_treeifyBin 100 = .ok (.ifnull 9, 3) := dk_198 0 9 (dk_at dksJ9_treeifyBin_4 6 rfl rfl)
theorem dJ9_treeifyBin_103 : decode cJ9_treeifyBin 103 = .ok (.aload 6, 2) := dk_25 6 (dk_at dksJ9_treeifyBin_4 9 rfl rfl)
theorem dJ9_treeifyBin_105 : decode cJ9_treeifyBin 105 = .ok (.aload_n 1, 1) := dk_43 (dk_at dksJ9_treeifyBin_4 11 rfl rfl)
theorem dJ9_treeifyBin_106 : decode cJ9_treeifyBin 106 = .ok (.invokevirtual 224, 3) := dk_182 0 224 (dk_at dksJ9_treeifyBin_4 12 rfl rfl)
theorem dJ9_treeifyBin_109 : decode cJ9_treeifyBin 109 = .ok (.return_, 1) := dk_177 (dk_at dksJ9_treeifyBin_4 15 rfl rfl)
abbrev cJ9_replacementTreeNode : ByteArray := prog_102_method_49_code
def yJ9_replacementTreeNode : MethodName := ⟨RJ9, "replacementTreeNode", "(Ljava/util/HashMap$Node;Ljava/util/HashMap$Node;)Ljava/util/HashMap$TreeNode;"⟩
def dkwJ9_replacementTreeNode_0 : List UInt8 := [187, 0, 180, 89, 43, 180, 0, 168, 43, 180, 0, 170, 43, 180, 0, 162, 44, 183, 1, 122, 176]
abbrev dktJ9_replacementTreeNode_0 : List UInt8 := dkwJ9_replacementTreeNode_0 ++ []
theorem dksJ9_replacementTreeNode_0 : cJ9_replacementTreeNode.data.toList.drop 0 = dktJ9_replacementTreeNode_0 := by decide +kernel
theorem dJ9_replacementTreeNode_0 : decode cJ9_replacementTreeNode 0 = .ok (.new 180, 3) := dk_187 0 180 (dk_at dksJ9_replacementTreeNode_0 0 rfl rfl)
theorem dJ9_replacementTreeNode_3 : decode cJ9_replacementTreeNode 3 = .ok (.dup, 1) := dk_89 (dk_at dksJ9_replacementTreeNode_0 3 rfl rfl)
theorem dJ9_replacementTreeNode_4 : decode cJ9_replacementTreeNode 4 = .ok (.aload_n 1, 1) := dk_43 (dk_at dksJ9_replacementTreeNode_0 4 rfl rfl)
theorem dJ9_replacementTreeNode_5 : decode cJ9_replacementTreeNode 5 = .ok (.getfield 168, 3) := dk_180 0 168 (dk_at dksJ9_replacementTreeNode_0 5 rfl rfl)
theorem dJ9_replacementTreeNode_8 : decode cJ9_replacementTreeNode 8 = .ok (.aload_n 1, 1) := dk_43 (dk_at dksJ9_replacementTreeNode_0 8 rfl rfl)
theorem dJ9_replacementTreeNode_9 : decode cJ9_replacementTreeNode 9 = .ok (.getfield 170, 3) := dk_180 0 170 (dk_at dksJ9_replacementTreeNode_0 9 rfl rfl)
theorem dJ9_replacementTreeNode_12 : decode cJ9_replacementTreeNode 12 = .ok (.aload_n 1, 1) := dk_43 (dk_at dksJ9_replacementTreeNode_0 12 rfl rfl)
theorem dJ9_replacementTreeNode_13 : decode cJ9_replacementTreeNode 13 = .ok (.getfield 162, 3) := dk_180 0 162 (dk_at dksJ9_replacementTreeNode_0 13 rfl rfl)
theorem dJ9_replacementTreeNode_16 : decode cJ9_replacementTreeNode 16 = .ok (.aload_n 2, 1) := dk_44 (dk_at dksJ9_replacementTreeNode_0 16 rfl rfl)
theorem dJ9_replacementTreeNode_17 : decode cJ9_replacementTreeNode 17 = .ok (.invokespecial 378, 3) := dk_183 1 122 (dk_at dksJ9_replacementTreeNode_0 17 rfl rfl)
theorem dJ9_replacementTreeNode_20 : decode cJ9_replacementTreeNode 20 = .ok (.areturn, 1) := dk_176 (dk_at dksJ9_replacementTreeNode_0 20 rfl rfl)
abbrev cJ9_afterNodeAccess : ByteArray := prog_102_method_51_code
def yJ9_afterNodeAccess : MethodName := ⟨RJ9, "afterNodeAccess", "(Ljava/util/HashMap$Node;)V"⟩
theorem dJ9_afterNodeAccess_0 : decode cJ9_afterNodeAccess 0 = .ok (.return_, 1) := by decide +kernel
abbrev cJ9_afterNodeInsertion : ByteArray := prog_102_method_52_code
def yJ9_afterNodeInsertion : MethodName := ⟨RJ9, "afterNodeInsertion", "(Z)V"⟩
theorem dJ9_afterNodeInsertion_0 : decode cJ9_afterNodeInsertion 0 = .ok (.return_, 1) := by decide +kernel
