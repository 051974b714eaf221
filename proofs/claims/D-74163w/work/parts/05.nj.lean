/-! java/lang/AbstractStringBuilder -/
set_option maxRecDepth 100000
def RJ0 : String := "java/lang/AbstractStringBuilder"
abbrev cJ0_init : ByteArray := prog_25_method_2_code
def yJ0_init : MethodName := ⟨RJ0, "<init>", "(I)V"⟩
def dkwJ0_init_1 : List UInt8 := [167, 0, 16, 42, 27, 184, 0, 26, 181, 0, 15, 42, 4, 181, 0, 22, 177]
abbrev dktJ0_init_1 : List UInt8 := dkwJ0_init_1 ++ []
def dkwJ0_init_0 : List UInt8 := [42, 183, 0, 3, 178, 0, 18, 153, 0, 18, 42, 27, 188, 8, 181, 0, 15, 42, 3, 181, 0, 22]
abbrev dktJ0_init_0 : List UInt8 := dkwJ0_init_0 ++ dktJ0_init_1
theorem dksJ0_init_0 : cJ0_init.data.toList.drop 0 = dktJ0_init_0 := by decide +kernel
theorem dksJ0_init_1 : cJ0_init.data.toList.drop 22 = dktJ0_init_1 := dk_seg dksJ0_init_0 22 rfl rfl
theorem dJ0_init_0 : decode cJ0_init 0 = .ok (.aload_n 0, 1) := dk_42 (dk_at dksJ0_init_0 0 rfl rfl)
theorem dJ0_init_1 : decode cJ0_init 1 = .ok (.invokespecial 3, 3) := dk_183 0 3 (dk_at dksJ0_init_0 1 rfl rfl)
theorem dJ0_init_4 : decode cJ0_init 4 = .ok (.getstatic 18, 3) := dk_178 0 18 (dk_at dksJ0_init_0 4 rfl rfl)
theorem dJ0_init_7 : decode cJ0_init 7 = .ok (.ifCond .eq 18, 3) := dk_153 0 18 (dk_at dksJ0_init_0 7 rfl rfl)
theorem dJ0_init_10 : decode cJ0_init 10 = .ok (.aload_n 0, 1) := dk_42 (dk_at dksJ0_init_0 10 rfl rfl)
theorem dJ0_init_11 : decode cJ0_init 11 = .ok (.iload_n 1, 1) := dk_27 (dk_at dksJ0_init_0 11 rfl rfl)
theorem dJ0_init_12 : decode cJ0_init 12 = .ok (.newarray .byte, 2) := dk_188_8 (dk_at dksJ0_init_0 12 rfl rfl)
theorem dJ0_init_14 : decode cJ0_init 14 = .ok (.putfield 15, 3) := dk_181 0 15 (dk_at dksJ0_init_0 14 rfl rfl)
theorem dJ0_init_17 : decode cJ0_init 17 = .ok (.aload_n 0, 1) := dk_42 (dk_at dksJ0_init_0 17 rfl rfl)
theorem dJ0_init_18 : decode cJ0_init 18 = .ok (.iconst 0, 1) := dk_3 (dk_at dksJ0_init_0 18 rfl rfl)
theorem dJ0_init_19 : decode cJ0_init 19 = .ok (.putfield 22, 3) := dk_181 0 22 (dk_at dksJ0_init_0 19 rfl rfl)
theorem dJ0_init_22 : decode cJ0_init 22 = .ok (.goto 16, 3) := dk_167 0 16 (dk_at dksJ0_init_1 0 rfl rfl)
theorem dJ0_init_25 : decode cJ0_init 25 = .ok (.aload_n 0, 1) := dk_42 (dk_at dksJ0_init_1 3 rfl rfl)
theorem dJ0_init_26 : decode cJ0_init 26 = .ok (.iload_n 1, 1) := dk_27 (dk_at dksJ0_init_1 4 rfl rfl)
theorem dJ0_init_27 : decode cJ0_init 27 = .ok (.invokestatic 26, 3) := dk_184 0 26 (dk_at dksJ0_init_1 5 rfl rfl)
theorem dJ0_init_30 : decode cJ0_init 30 = .ok (.putfield 15, 3) := dk_181 0 15 (dk_at dksJ0_init_1 8 rfl rfl)
theorem dJ0_init_33 : decode cJ0_init 33 = .ok (.aload_n 0, 1) := dk_42 (dk_at dksJ0_init_1 11 rfl rfl)
theorem dJ0_init_34 : decode cJ0_init 34 = .ok (.iconst 1, 1) := dk_4 (dk_at dksJ0_init_1 12 rfl rfl)
theorem dJ0_init_35 : decode cJ0_init 35 = .ok (.putfield 22, 3) := dk_181 0 22 (dk_at dksJ0_init_1 13 rfl rfl)
theorem dJ0_init_38 : decode cJ0_init 38 = .ok (.return_, 1) := dk_177 (dk_at dksJ0_init_1 16 rfl rfl)
abbrev cJ0_append : ByteArray := prog_25_method_31_code
def yJ0_append : MethodName := ⟨RJ0, "append", "(C)Ljava/lang/AbstractStringBuilder;"⟩
def dkwJ0_append_3 : List UInt8 := [181, 0, 79, 27, 184, 0, 197, 42, 176]
abbrev dktJ0_append_3 : List UInt8 := dkwJ0_append_3 ++ []
def dkwJ0_append_2 : List UInt8 := [182, 0, 83, 153, 0, 7, 42, 182, 0, 195, 42, 180, 0, 15, 42, 89, 180, 0, 79, 90, 4, 96]
abbrev dktJ0_append_2 : List UInt8 := dkwJ0_append_2 ++ dktJ0_append_3
def dkwJ0_append_1 : List UInt8 := [42, 180, 0, 15, 42, 89, 180, 0, 79, 90, 4, 96, 181, 0, 79, 27, 145, 84, 167, 0, 33, 42]
abbrev dktJ0_append_1 : List UInt8 := dkwJ0_append_1 ++ dktJ0_append_2
def dkwJ0_append_0 : List UInt8 := [42, 42, 180, 0, 79, 4, 96, 182, 0, 100, 42, 182, 0, 83, 153, 0, 31, 27, 184, 0, 191, 153, 0, 24]
abbrev dktJ0_append_0 : List UInt8 := dkwJ0_append_0 ++ dktJ0_append_1
theorem dksJ0_append_0 : cJ0_append.data.toList.drop 0 = dktJ0_append_0 := by decide +kernel
theorem dksJ0_append_1 : cJ0_append.data.toList.drop 24 = dktJ0_append_1 := dk_seg dksJ0_append_0 24 rfl rfl
theorem dksJ0_append_2 : cJ0_append.data.toList.drop 46 = dktJ0_append_2 := dk_seg dksJ0_append_1 22 rfl rfl
theorem dksJ0_append_3 : cJ0_append.data.toList.drop 68 = dktJ0_append_3 := dk_seg dksJ0_append_2 22 rfl rfl
theorem dJ0_append_0 : decode cJ0_append 0 = .ok (.aload_n 0, 1) := dk_42 (dk_at dksJ0_append_0 0 rfl rfl)
theorem dJ0_append_1 : decode cJ0_append 1 = .ok (.aload_n 0, 1) := dk_42 (dk_at dksJ0_append_0 1 rfl rfl)
theorem dJ0_append_2 : decode cJ0_append 2 = .ok (.getfield 79, 3) := dk_180 0 79 (dk_at dksJ0_append_0 2 rfl rfl)
theorem dJ0_append_5 : decode cJ0_append 5 = .ok (.iconst 1, 1) := dk_4 (dk_at dksJ0_append_0 5 rfl rfl)
theorem dJ0_append_6 : decode cJ0_append 6 = .ok (.iadd, 1) := dk_96 (dk_at dksJ0_append_0 6 rfl rfl)
theorem dJ0_append_7 : decode cJ0_append 7 = .ok (.invokevirtual 100, 3) := dk_182 0 100 (dk_at dksJ0_append_0 7 rfl rfl)
theorem dJ0_append_10 : decode cJ0_append 10 = .ok (.aload_n 0, 1) := dk_42 (dk_at dksJ0_append_0 10 rfl rfl)
theorem dJ0_append_11 : decode cJ0_append 11 = .ok (.invokevirtual 83, 3) := dk_182 0 83 (dk_at dksJ0_append_0 11 rfl rfl)
theorem dJ0_append_14 : decode cJ0_append 14 = .ok (.ifCond .eq 31, 3) := dk_153 0 31 (dk_at dksJ0_append_0 14 rfl rfl)
theorem dJ0_append_17 : decode cJ0_append 17 = .ok (.iload_n 1, 1) := dk_27 (dk_at dksJ0_append_0 17 rfl rfl)
theorem dJ0_append_18 : decode cJ0_append 18 = .ok (.invokestatic 191, 3) := dk_184 0 191 (dk_at dksJ0_append_0 18 rfl rfl)
theorem dJ0_append_21 : decode cJ0_append 21 = .ok (.ifCond .eq 24, 3) := dk_153 0 24 (dk_at dksJ0_append_0 21 rfl rfl)
theorem dJ0_append_24 : decode cJ0_append 24 = .ok (.aload_n 0, 1) := dk_42 (dk_at dksJ0_append_1 0 rfl rfl)
theorem dJ0_append_25 : decode cJ0_append 25 = .ok (.getfield 15, 3) := dk_180 0 15 (dk_at dksJ0_append_1 1 rfl rfl)
theorem dJ0_append_28 : decode cJ0_append 28 = .ok (.aload_n 0, 1) := dk_42 (dk_at dksJ0_append_1 4 rfl rfl)
theorem dJ0_append_29 : decode cJ0_append 29 = .ok (.dup, 1) := dk_89 (dk_at dksJ0_append_1 5 rfl rfl)
theorem dJ0_append_30 : decode cJ0_append 30 = .ok (.getfield 79, 3) := dk_180 0 79 (dk_at dksJ0_append_1 6 rfl rfl)
theorem dJ0_append_33 : decode cJ0_append 33 = .ok (.dup_x1, 1) := dk_90 (dk_at dksJ0_append_1 9 rfl rfl)
theorem dJ0_append_34 : decode cJ0_append 34 = .ok (.iconst 1, 1) := dk_4 (dk_at dksJ0_append_1 10 rfl rfl)
theorem dJ0_append_35 : decode cJ0_append 35 = .ok (.iadd, 1) := dk_96 (dk_at dksJ0_append_1 11 rfl rfl)
theorem dJ0_append_36 : decode cJ0_append 36 = .ok (.putfield 79, 3) := dk_181 0 79 (dk_at dksJ0_append_1 12 rfl rfl)
theorem dJ0_append_39 : decode cJ0_append 39 = .ok (.iload_n 1, 1) := dk_27 (dk_at dksJ0_append_1 15 rfl rfl)
theorem dJ0_append_40 : decode cJ0_append 40 = .ok (.i2b, 1) := dk_145 (dk_at dksJ0_append_1 16 rfl rfl)
theorem dJ0_append_41 : decode cJ0_append 41 = .ok (.bastore, 1) := dk_84 (dk_at dksJ0_append_1 17 rfl rfl)
theorem dJ0_append_42 : decode cJ0_append 42 = .ok (.goto 33, 3) := dk_167 0 33 (dk_at dksJ0_append_1 18 rfl rfl)
theorem dJ0_append_45 : decode cJ0_append 45 = .ok (.aload_n 0, 1) := dk_42 (dk_at dksJ0_append_1 21 rfl rfl)
theorem dJ0_append_46 : decode cJ0_append 46 = .ok (.invokevirtual 83, 3) := dk_182 0 83 (dk_at dksJ0_append_2 0 rfl rfl)
theorem dJ0_append_49 : decode cJ0_append 49 = .ok (.ifCond .eq 7, 3) := dk_153 0 7 (dk_at dksJ0_append_2 3 rfl rfl)
theorem dJ0_append_52 : decode cJ0_append 52 = .ok (.aload_n 0, 1) := dk_42 (dk_at dksJ0_append_2 6 rfl rfl)
theorem dJ0_append_53 : decode cJ0_append 53 = .ok (.invokevirtual 195, 3) := dk_182 0 195 (dk_at dksJ0_append_2 7 rfl rfl)
theorem dJ0_append_56 : decode cJ0_append 56 = .ok (.aload_n 0, 1) := dk_42 (dk_at dksJ0_append_2 10 rfl rfl)
theorem dJ0_append_57 : decode cJ0_append 57 = .ok (.getfield 15, 3) := dk_180 0 15 (dk_at dksJ0_append_2 11 rfl rfl)
theorem dJ0_append_60 : decode cJ0_append 60 = .ok (.aload_n 0, 1) := dk_42 (dk_at dksJ0_append_2 14 rfl rfl)
theorem dJ0_append_61 : decode cJ0_append 61 = .ok (.dup, 1) := dk_89 (dk_at dksJ0_append_2 15 rfl rfl)
theorem dJ0_append_62 : decode cJ0_append 62 = .ok (.getfield 79, 3) := dk_180 0 79 (dk_at dksJ0_append_2 16 rfl rfl)
theorem dJ0_append_65 : decode cJ0_append 65 = .ok (.dup_x1, 1) := dk_90 (dk_at dksJ0_append_2 19 rfl rfl)
theorem dJ0_append_66 : decode cJ0_append 66 = .ok (.iconst 1, 1) := dk_4 (dk_at dksJ0_append_2 20 rfl rfl)
theorem dJ0_append_67 : decode cJ0_append 67 = .ok (.iadd, 1) := dk_96 (dk_at dksJ0_append_2 21 rfl rfl)
theorem dJ0_append_68 : decode cJ0_append 68 = .ok (.putfield 79, 3) := dk_181 0 79 (dk_at dksJ0_append_3 0 rfl rfl)
theorem dJ0_append_71 : decode cJ0_append 71 = .ok (.iload_n 1, 1) := dk_27 (dk_at dksJ0_append_3 3 rfl rfl)
theorem dJ0_append_72 : decode cJ0_append 72 = .ok (.invokestatic 197, 3) := dk_184 0 197 (dk_at dksJ0_append_3 4 rfl rfl)
theorem dJ0_append_75 : decode cJ0_append 75 = .ok (.aload_n 0, 1) := dk_42 (dk_at dksJ0_append_3 7 rfl rfl)
theorem dJ0_append_76 : decode cJ0_append 76 = .ok (.areturn, 1) := dk_176 (dk_at dksJ0_append_3 8 rfl rfl)
abbrev cJ0_ensureCapacityInternal : ByteArray := prog_25_method_9_code
def yJ0_ensureCapacityInternal : MethodName := ⟨RJ0, "ensureCapacityInternal", "(I)V"⟩
def dkwJ0_ensureCapacityInternal_1 : List UInt8 := [182, 0, 104, 42, 180, 0, 22, 120, 184, 0, 108, 181, 0, 15, 177]
abbrev dktJ0_ensureCapacityInternal_1 : List UInt8 := dkwJ0_ensureCapacityInternal_1 ++ []
def dkwJ0_ensureCapacityInternal_0 : List UInt8 := [42, 180, 0, 15, 190, 42, 180, 0, 22, 122, 61, 27, 28, 100, 158, 0, 24, 42, 42, 180, 0, 15, 42, 27]
abbrev dktJ0_ensureCapacityInternal_0 : List UInt8 := dkwJ0_ensureCapacityInternal_0 ++ dktJ0_ensureCapacityInternal_1
theorem dksJ0_ensureCapacityInternal_0 : cJ0_ensureCapacityInternal.data.toList.drop 0 = dktJ0_ensureCapacityInternal_0 := by decide +kernel
theorem dksJ0_ensureCapacityInternal_1 : cJ0_ensureCapacityInternal.data.toList.drop 24 = dktJ0_ensureCapacityInternal_1 := dk_seg dksJ0_ensureCapacityInternal_0 24 rfl rfl
theorem dJ0_ensureCapacityInternal_0 : decode cJ0_ensureCapacityInternal 0 = .ok (.aload_n 0, 1) := dk_42 (dk_at dksJ0_ensureCapacityInternal_0 0 rfl rfl)
theorem dJ0_ensureCapacityInternal_1 : decode cJ0_ensureCapacityInternal 1 = .ok (.getfield 15, 3) := dk_180 0 15 (dk_at dksJ0_ensureCapacityInternal_0 1 rfl rfl)
theorem dJ0_ensureCapacityInternal_4 : decode cJ0_ensureCapacityInternal 4 = .ok (.arraylength, 1) := dk_190 (dk_at dksJ0_ensureCapacityInternal_0 4 rfl rfl)
theorem dJ0_ensureCapacityInternal_5 : decode cJ0_ensureCapacityInternal 5 = .ok (.aload_n 0, 1) := dk_42 (dk_at dksJ0_ensureCapacityInternal_0 5 rfl rfl)
theorem dJ0_ensureCapacityInternal_6 : decode cJ0_ensureCapacityInternal 6 = .ok (.getfield 22, 3) := dk_180 0 22 (dk_at dksJ0_ensureCapacityInternal_0 6 rfl rfl)
theorem dJ0_ensureCapacityInternal_9 : decode cJ0_ensureCapacityInternal 9 = .ok (.ishr, 1) := dk_122 (dk_at dksJ0_ensureCapacityInternal_0 9 rfl rfl)
theorem dJ0_ensureCapacityInternal_10 : decode cJ0_ensureCapacityInternal 10 = .ok (.istore_n 2, 1) := dk_61 (dk_at dksJ0_ensureCapacityInternal_0 10 rfl rfl)
theorem dJ0_ensureCapacityInternal_11 : decode cJ0_ensureCapacityInternal 11 = .ok (.iload_n 1, 1) := dk_27 (dk_at dksJ0_ensureCapacityInternal_0 11 rfl rfl)
theorem dJ0_ensureCapacityInternal_12 : decode cJ0_ensureCapacityInternal 12 = .ok (.iload_n 2, 1) := dk_28 (dk_at dksJ0_ensureCapacityInternal_0 12 rfl rfl)
theorem dJ0_ensureCapacityInternal_13 : decode cJ0_ensureCapacityInternal 13 = .ok (.isub, 1) := dk_100 (dk_at dksJ0_ensureCapacityInternal_0 13 rfl rfl)
theorem dJ0_ensureCapacityInternal_14 : decode cJ0_ensureCapacityInternal 14 = .ok (.ifCond .le 24, 3) := dk_158 0 24 (dk_at dksJ0_ensureCapacityInternal_0 14 rfl rfl)
theorem dJ0_ensureCapacityInternal_17 : decode cJ0_ensureCapacityInternal 17 = .ok (.aload_n 0, 1) := dk_42 (dk_at dksJ0_ensureCapacityInternal_0 17 rfl rfl)
theorem dJ0_ensureCapacityInternal_18 : decode cJ0_ensureCapacityInternal 18 = .ok (.aload_n 0, 1) := dk_42 (dk_at dksJ0_ensureCapacityInternal_0 18 rfl rfl)
theorem dJ0_ensureCapacityInternal_19 : decode cJ0_ensureCapacityInternal 19 = .ok (.getfield 15, 3) := dk_180 0 15 (dk_at dksJ0_ensureCapacityInternal_0 19 rfl rfl)
theorem dJ0_ensureCapacityInternal_22 : decode cJ0_ensureCapacityInternal 22 = .ok (.aload_n 0, 1) := dk_42 (dk_at dksJ0_ensureCapacityInternal_0 22 rfl rfl)
theorem dJ0_ensureCapacityInternal_23 : decode cJ0_ensureCapacityInternal 23 = .ok (.iload_n 1, 1) := dk_27 (dk_at dksJ0_ensureCapacityInternal_0 23 rfl rfl)
theorem dJ0_ensureCapacityInternal_24 : decode cJ0_ensureCapacityInternal 24 = .ok (.invokevirtual 104, 3) := dk_182 0 104 (dk_at dksJ0_ensureCapacityInternal_1 0 rfl rfl)
theorem dJ0_ensureCapacityInternal_27 : decode cJ0_ensureCapacityInternal 27 = .ok (.aload_n 0, 1) := dk_42 (dk_at dksJ0_ensureCapacityInternal_1 3 rfl rfl)
theorem dJ0_ensureCapacityInternal_28 : decode cJ0_ensureCapacityInternal 28 = .ok (.getfield 22, 3) := dk_180 0 22 (dk_at dksJ0_ensureCapacityInternal_1 4 rfl rfl)
theorem dJ0_ensureCapacityInternal_31 : decode cJ0_ensureCapacityInternal 31 = .ok (.ishl, 1) := dk_120 (dk_at dksJ0_ensureCapacityInternal_1 7 rfl rfl)
theorem dJ0_ensureCapacityInternal_32 : decode cJ0_ensureCapacityInternal 32 = .ok (.invokestatic 108, 3) := dk_184 0 108 (dk_at dksJ0_ensureCapacityInternal_1 8 rfl rfl)
theorem dJ0_ensureCapacityInternal_35 : decode cJ0_ensureCapacityInternal 35 = .ok (.putfield 15, 3) := dk_181 0 15 (dk_at dksJ0_ensureCapacityInternal_1 11 rfl rfl)
theorem dJ0_ensureCapacityInternal_38 : decode cJ0_ensureCapacityInternal 38 = .ok (.return_, 1) := dk_177 (dk_at dksJ0_ensureCapacityInternal_1 14 rfl rfl)
abbrev cJ0_newCapacity : ByteArray := prog_25_method_10_code
def yJ0_newCapacity : MethodName := ⟨RJ0, "newCapacity", "(I)I"⟩
def dkwJ0_newCapacity_2 : List UInt8 := [183, 0, 124, 191, 21, 5, 42, 180, 0, 22, 122, 172]
abbrev dktJ0_newCapacity_2 : List UInt8 := dkwJ0_newCapacity_2 ++ []
def dkwJ0_newCapacity_1 : List UInt8 := [180, 0, 22, 120, 96, 184, 0, 114, 54, 5, 21, 5, 18, 39, 160, 0, 13, 187, 0, 120, 89, 18, 122]
abbrev dktJ0_newCapacity_1 : List UInt8 := dkwJ0_newCapacity_1 ++ dktJ0_newCapacity_2
def dkwJ0_newCapacity_0 : List UInt8 := [42, 180, 0, 15, 190, 61, 27, 42, 180, 0, 22, 120, 62, 29, 28, 100, 54, 4, 28, 21, 4, 28, 5, 42]
abbrev dktJ0_newCapacity_0 : List UInt8 := dkwJ0_newCapacity_0 ++ dktJ0_newCapacity_1
theorem dksJ0_newCapacity_0 : cJ0_newCapacity.data.toList.drop 0 = dktJ0_newCapacity_0 := by decide +kernel
theorem dksJ0_newCapacity_1 : cJ0_newCapacity.data.toList.drop 24 = dktJ0_newCapacity_1 := dk_seg dksJ0_newCapacity_0 24 rfl rfl
theorem dksJ0_newCapacity_2 : cJ0_newCapacity.data.toList.drop 47 = dktJ0_newCapacity_2 := dk_seg dksJ0_newCapacity_1 23 rfl rfl
theorem dJ0_newCapacity_0 : decode cJ0_newCapacity 0 = .ok (.aload_n 0, 1) := dk_42 (dk_at dksJ0_newCapacity_0 0 rfl rfl)
theorem dJ0_newCapacity_1 : decode cJ0_newCapacity 1 = .ok (.getfield 15, 3) := dk_180 0 15 (dk_at dksJ0_newCapacity_0 1 rfl rfl)
theorem dJ0_newCapacity_4 : decode cJ0_newCapacity 4 = .ok (.arraylength, 1) := dk_190 (dk_at dksJ0_newCapacity_0 4 rfl rfl)
theorem dJ0_newCapacity_5 : decode cJ0_newCapacity 5 = .ok (.istore_n 2, 1) := dk_61 (dk_at dksJ0_newCapacity_0 5 rfl rfl)
theorem dJ0_newCapacity_6 : decode cJ0_newCapacity 6 = .ok (.iload_n 1, 1) := dk_27 (dk_at dksJ0_newCapacity_0 6 rfl rfl)
theorem dJ0_newCapacity_7 : decode cJ0_newCapacity 7 = .ok (.aload_n 0, 1) := dk_42 (dk_at dksJ0_newCapacity_0 7 rfl rfl)
theorem dJ0_newCapacity_8 : decode cJ0_newCapacity 8 = .ok (.getfield 22, 3) := dk_180 0 22 (dk_at dksJ0_newCapacity_0 8 rfl rfl)
theorem dJ0_newCapacity_11 : decode cJ0_newCapacity 11 = .ok (.ishl, 1) := dk_120 (dk_at dksJ0_newCapacity_0 11 rfl rfl)
theorem dJ0_newCapacity_12 : decode cJ0_newCapacity 12 = .ok (.istore_n 3, 1) := dk_62 (dk_at dksJ0_newCapacity_0 12 rfl rfl)
theorem dJ0_newCapacity_13 : decode cJ0_newCapacity 13 = .ok (.iload_n 3, 1) := dk_29 (dk_at dksJ0_newCapacity_0 13 rfl rfl)
theorem dJ0_newCapacity_14 : decode cJ0_newCapacity 14 = .ok (.iload_n 2, 1) := dk_28 (dk_at dksJ0_newCapacity_0 14 rfl rfl)
theorem dJ0_newCapacity_15 : decode cJ0_newCapacity 15 = .ok (.isub, 1) := dk_100 (dk_at dksJ0_newCapacity_0 15 rfl rfl)
theorem dJ0_newCapacity_16 : decode cJ0_newCapacity 16 = .ok (.istore 4, 2) := dk_54 4 (dk_at dksJ0_newCapacity_0 16 rfl rfl)
theorem dJ0_newCapacity_18 : decode cJ0_newCapacity 18 = .ok (.iload_n 2, 1) := dk_28 (dk_at dksJ0_newCapacity_0 18 rfl rfl)
theorem dJ0_newCapacity_19 : decode cJ0_newCapacity 19 = .ok (.iload 4, 2) := dk_21 4 (dk_at dksJ0_newCapacity_0 19 rfl rfl)
theorem dJ0_newCapacity_21 : decode cJ0_newCapacity 21 = .ok (.iload_n 2, 1) := dk_28 (dk_at dksJ0_newCapacity_0 21 rfl rfl)
theorem dJ0_newCapacity_22 : decode cJ0_newCapacity 22 = .ok (.iconst 2, 1) := dk_5 (dk_at dksJ0_newCapacity_0 22 rfl rfl)
theorem dJ0_newCapacity_23 : decode cJ0_newCapacity 23 = .ok (.aload_n 0, 1) := dk_42 (dk_at dksJ0_newCapacity_0 23 rfl rfl)
theorem dJ0_newCapacity_24 : decode cJ0_newCapacity 24 = .ok (.getfield 22, 3) := dk_180 0 22 (dk_at dksJ0_newCapacity_1 0 rfl rfl)
theorem dJ0_newCapacity_27 : decode cJ0_newCapacity 27 = .ok (.ishl, 1) := dk_120 (dk_at dksJ0_newCapacity_1 3 rfl rfl)
theorem dJ0_newCapacity_28 : decode cJ0_newCapacity 28 = .ok (.iadd, 1) := dk_96 (dk_at dksJ0_newCapacity_1 4 rfl rfl)
theorem dJ0_newCapacity_29 : decode cJ0_newCapacity 29 = .ok (.invokestatic 114, 3) := dk_184 0 114 (dk_at dksJ0_newCapacity_1 5 rfl rfl)
theorem dJ0_newCapacity_32 : decode cJ0_newCapacity 32 = .ok (.istore 5, 2) := dk_54 5 (dk_at dksJ0_newCapacity_1 8 rfl rfl)
theorem dJ0_newCapacity_34 : decode cJ0_newCapacity 34 = .ok (.iload 5, 2) := dk_21 5 (dk_at dksJ0_newCapacity_1 10 rfl rfl)
theorem dJ0_newCapacity_36 : decode cJ0_newCapacity 36 = .ok (.ldc 39, 2) := dk_18 39 (dk_at dksJ0_newCapacity_1 12 rfl rfl)
theorem dJ0_newCapacity_38 : decode cJ0_newCapacity 38 = .ok (.if_icmp .ne 13, 3) := dk_160 0 13 (dk_at dksJ0_newCapacity_1 14 rfl rfl)
theorem dJ0_newCapacity_41 : decode cJ0_newCapacity 41 = .ok (.new 120, 3) := dk_187 0 120 (dk_at dksJ0_newCapacity_1 17 rfl rfl)
theorem dJ0_newCapacity_44 : decode cJ0_newCapacity 44 = .ok (.dup, 1) := dk_89 (dk_at dksJ0_newCapacity_1 20 rfl rfl)
theorem dJ0_newCapacity_45 : decode cJ0_newCapacity 45 = .ok (.ldc 122, 2) := dk_18 122 (dk_at dksJ0_newCapacity_1 21 rfl rfl)
theorem dJ0_newCapacity_47 : decode cJ0_newCapacity 47 = .ok (.invokespecial 124, 3) := dk_183 0 124 (dk_at dksJ0_newCapacity_2 0 rfl rfl)
theorem dJ0_newCapacity_50 : decode cJ0_newCapacity 50 = .ok (.athrow, 1) := dk_191 (dk_at dksJ0_newCapacity_2 3 rfl rfl)
theorem dJ0_newCapacity_51 : decode cJ0_newCapacity 51 = .ok (.iload 5, 2) := dk_21 5 (dk_at dksJ0_newCapacity_2 4 rfl rfl)
theorem dJ0_newCapacity_53 : decode cJ0_newCapacity 53 = .ok (.aload_n 0, 1) := dk_42 (dk_at dksJ0_newCapacity_2 6 rfl rfl)
theorem dJ0_newCapacity_54 : decode cJ0_newCapacity 54 = .ok (.getfield 22, 3) := dk_180 0 22 (dk_at dksJ0_newCapacity_2 7 rfl rfl)
theorem dJ0_newCapacity_57 : decode cJ0_newCapacity 57 = .ok (.ishr, 1) := dk_122 (dk_at dksJ0_newCapacity_2 10 rfl rfl)
theorem dJ0_newCapacity_58 : decode cJ0_newCapacity 58 = .ok (.ireturn, 1) := dk_172 (dk_at dksJ0_newCapacity_2 11 rfl rfl)
abbrev cJ0_isLatin1 : ByteArray := prog_25_method_68_code
def yJ0_isLatin1 : MethodName := ⟨RJ0, "isLatin1", "()Z"⟩
def dkwJ0_isLatin1_0 : List UInt8 := [178, 0, 18, 153, 0, 14, 42, 180, 0, 22, 154, 0, 7, 4, 167, 0, 4, 3, 172]
abbrev dktJ0_isLatin1_0 : List UInt8 := dkwJ0_isLatin1_0 ++ []
theorem dksJ0_isLatin1_0 : cJ0_isLatin1.data.toList.drop 0 = dktJ0_isLatin1_0 := by decide +kernel
theorem dJ0_isLatin1_0 : decode cJ0_isLatin1 0 = .ok (.getstatic 18, 3) := dk_178 0 18 (dk_at dksJ0_isLatin1_0 0 rfl rfl)
theorem dJ0_isLatin1_3 : decode cJ0_isLatin1 3 = .ok (.ifCond .eq 14, 3) := dk_153 0 14 (dk_at dksJ0_isLatin1_0 3 rfl rfl)
theorem dJ0_isLatin1_6 : decode cJ0_isLatin1 6 = .ok (.aload_n 0, 1) := dk_42 (dk_at dksJ0_isLatin1_0 6 rfl rfl)
theorem dJ0_isLatin1_7 : decode cJ0_isLatin1 7 = .ok (.getfield 22, 3) := dk_180 0 22 (dk_at dksJ0_isLatin1_0 7 rfl rfl)
theorem dJ0_isLatin1_10 : decode cJ0_isLatin1 10 = .ok (.ifCond .ne 7, 3) := dk_154 0 7 (dk_at dksJ0_isLatin1_0 10 rfl rfl)
theorem dJ0_isLatin1_13 : decode cJ0_isLatin1 13 = .ok (.iconst 1, 1) := dk_4 (dk_at dksJ0_isLatin1_0 13 rfl rfl)
theorem dJ0_isLatin1_14 : decode cJ0_isLatin1 14 = .ok (.goto 4, 3) := dk_167 0 4 (dk_at dksJ0_isLatin1_0 14 rfl rfl)
theorem dJ0_isLatin1_17 : decode cJ0_isLatin1 17 = .ok (.iconst 0, 1) := dk_3 (dk_at dksJ0_isLatin1_0 17 rfl rfl)
theorem dJ0_isLatin1_18 : decode cJ0_isLatin1 18 = .ok (.ireturn, 1) := dk_172 (dk_at dksJ0_isLatin1_0 18 rfl rfl)
abbrev cJ0_inflate : ByteArray := prog_25_method_11_code
def yJ0_inflate : MethodName := ⟨RJ0, "inflate", "()V"⟩
def dkwJ0_inflate_1 : List UInt8 := [42, 180, 0, 79, 184, 0, 125, 42, 43, 181, 0, 15, 42, 4, 181, 0, 22, 177]
abbrev dktJ0_inflate_1 : List UInt8 := dkwJ0_inflate_1 ++ []
def dkwJ0_inflate_0 : List UInt8 := [42, 182, 0, 83, 154, 0, 4, 177, 42, 180, 0, 15, 190, 184, 0, 26, 76, 42, 180, 0, 15, 3, 43, 3]
abbrev dktJ0_inflate_0 : List UInt8 := dkwJ0_inflate_0 ++ dktJ0_inflate_1
theorem dksJ0_inflate_0 : cJ0_inflate.data.toList.drop 0 = dktJ0_inflate_0 := by decide +kernel
theorem dksJ0_inflate_1 : cJ0_inflate.data.toList.drop 24 = dktJ0_inflate_1 := dk_seg dksJ0_inflate_0 24 rfl rfl
theorem dJ0_inflate_0 : decode cJ0_inflate 0 = .ok (.aload_n 0, 1) := dk_42 (dk_at dksJ0_inflate_0 0 rfl rfl)
theorem dJ0_inflate_1 : decode cJ0_inflate 1 = .ok (.invokevirtual 83, 3) := dk_182 0 83 (dk_at dksJ0_inflate_0 1 rfl rfl)
theorem dJ0_inflate_4 : decode cJ0_inflate 4 = .ok (.ifCond .ne 4, 3) := dk_154 0 4 (dk_at dksJ0_inflate_0 4 rfl rfl)
theorem dJ0_inflate_7 : decode cJ0_inflate 7 = .ok (.return_, 1) := dk_177 (dk_at dksJ0_inflate_0 7 rfl rfl)
theorem dJ0_inflate_8 : decode cJ0_inflate 8 = .ok (.aload_n 0, 1) := dk_42 (dk_at dksJ0_inflate_0 8 rfl rfl)
theorem dJ0_inflate_9 : decode cJ0_inflate 9 = .ok (.getfield 15, 3) := dk_180 0 15 (dk_at dksJ0_inflate_0 9 rfl rfl)
theorem dJ0_inflate_12 : decode cJ0_inflate 12 = .ok (.arraylength, 1) := dk_190 (dk_at dksJ0_inflate_0 12 rfl rfl)
theorem dJ0_inflate_13 : decode cJ0_inflate 13 = .ok (.invokestatic 26, 3) := dk_184 0 26 (dk_at dksJ0_inflate_0 13 rfl rfl)
theorem dJ0_inflate_16 : decode cJ0_inflate 16 = .ok (.astore_n 1, 1) := dk_76 (dk_at dksJ0_inflate_0 16 rfl rfl)
theorem dJ0_inflate_17 : decode cJ0_inflate 17 = .ok (.aload_n 0, 1) := dk_42 (dk_at dksJ0_inflate_0 17 rfl rfl)
theorem dJ0_inflate_18 : decode cJ0_inflate 18 = .ok (.getfield 15, 3) := dk_180 0 15 (dk_at dksJ0_inflate_0 18 rfl rfl)
theorem dJ0_inflate_21 : decode cJ0_inflate 21 = .ok (.iconst 0, 1) := dk_3 (dk_at dksJ0_inflate_0 21 rfl rfl)
theorem dJ0_inflate_22 : decode cJ0_inflate 22 = .ok (.aload_n 1, 1) := dk_43 (dk_at dksJ0_inflate_0 22 rfl rfl)
theorem dJ0_inflate_23 : decode cJ0_inflate 23 = .ok (.iconst 0, 1) := dk_3 (dk_at dksJ0_inflate_0 23 rfl rfl)
theorem dJ0_inflate_24 : decode cJ0_inflate 24 = .ok (.aload_n 0, 1) := dk_42 (dk_at dksJ0_inflate_1 0 rfl rfl)
theorem dJ0_inflate_25 : decode cJ0_inflate 25 = .ok (.getfield 79, 3) := dk_180 0 79 (dk_at dksJ0_inflate_1 1 rfl rfl)
theorem dJ0_inflate_28 : decode cJ0_inflate 28 = .ok (.invokestatic 125, 3) := dk_184 0 125 (dk_at dksJ0_inflate_1 4 rfl rfl)
theorem dJ0_inflate_31 : decode cJ0_inflate 31 = .ok (.aload_n 0, 1) := dk_42 (dk_at dksJ0_inflate_1 7 rfl rfl)
theorem dJ0_inflate_32 : decode cJ0_inflate 32 = .ok (.aload_n 1, 1) := dk_43 (dk_at dksJ0_inflate_1 8 rfl rfl)
theorem dJ0_inflate_33 : decode cJ0_inflate 33 = .ok (.putfield 15, 3) := dk_181 0 15 (dk_at dksJ0_inflate_1 9 rfl rfl)
theorem dJ0_inflate_36 : decode cJ0_inflate 36 = .ok (.aload_n 0, 1) := dk_42 (dk_at dksJ0_inflate_1 12 rfl rfl)
theorem dJ0_inflate_37 : decode cJ0_inflate 37 = .ok (.iconst 1, 1) := dk_4 (dk_at dksJ0_inflate_1 13 rfl rfl)
theorem dJ0_inflate_38 : decode cJ0_inflate 38 = .ok (.putfield 22, 3) := dk_181 0 22 (dk_at dksJ0_inflate_1 14 rfl rfl)
theorem dJ0_inflate_41 : decode cJ0_inflate 41 = .ok (.return_, 1) := dk_177 (dk_at dksJ0_inflate_1 17 rfl rfl)
abbrev cJ0_getValue : ByteArray := prog_25_method_64_code
def yJ0_getValue : MethodName := ⟨RJ0, "getValue", "()[B"⟩
theorem dJ0_getValue_0 : decode cJ0_getValue 0 = .ok (.aload_n 0, 1) := by decide +kernel
theorem dJ0_getValue_1 : decode cJ0_getValue 1 = .ok (.getfield 15, 3) := by decide +kernel
theorem dJ0_getValue_4 : decode cJ0_getValue 4 = .ok (.areturn, 1) := by decide +kernel
abbrev cJ0_length : ByteArray := prog_25_method_6_code
def yJ0_length : MethodName := ⟨RJ0, "length", "()I"⟩
theorem dJ0_length_0 : decode cJ0_length 0 = .ok (.aload_n 0, 1) := by decide +kernel
theorem dJ0_length_1 : decode cJ0_length 1 = .ok (.getfield 79, 3) := by decide +kernel
theorem dJ0_length_4 : decode cJ0_length 4 = .ok (.ireturn, 1) := by decide +kernel
theorem q161 : (Jvm.Cond.initialized "java/lang/AbstractStringBuilder") ∈ lw_all := lw_g (lw_at lw_m1 4 rfl) rfl
theorem q331 : (Jvm.Cond.instanceMethod ({ cls := "java/lang/AbstractStringBuilder", name := "<init>", desc := "(I)V" } : Jvm.MethodName)) ∈ lw_all := lw_g (lw_at lw_m1 174 rfl) rfl
theorem q332 : (Jvm.Cond.code ({ cls := "java/lang/AbstractStringBuilder", name := "<init>", desc := "(I)V" } : Jvm.MethodName) prog_25_method_2_code (2 : Nat) (Option.none : Option Jvm.ClassFile.FieldType)) ∈ lw_all := lw_g (lw_at lw_m1 175 rfl) rfl
theorem q333 : (Jvm.Cond.methodLink "java/lang/AbstractStringBuilder" (3 : Nat) ({ cls := "java/lang/Object", name := "<init>", desc := "()V" } : Jvm.MethodName)) ∈ lw_all := lw_g (lw_at lw_m1 176 rfl) rfl
theorem q334 : (Jvm.Cond.fieldLink "java/lang/AbstractStringBuilder" (18 : Nat) "java/lang/String" "COMPACT_STRINGS" "Z") ∈ lw_all := lw_g (lw_at lw_m1 177 rfl) rfl
theorem q336 : (Jvm.Cond.methodLink "java/lang/AbstractStringBuilder" (26 : Nat) ({ cls := "java/lang/StringUTF16", name := "newBytesFor", desc := "(I)[B" } : Jvm.MethodName)) ∈ lw_all := lw_g (lw_at lw_m1 179 rfl) rfl
theorem q343 : (Jvm.Cond.fieldLink "java/lang/AbstractStringBuilder" (15 : Nat) "java/lang/AbstractStringBuilder" "value" "[B") ∈ lw_all := lw_g (lw_at lw_m1 186 rfl) rfl
theorem q344 : (Jvm.Cond.fieldLink "java/lang/AbstractStringBuilder" (22 : Nat) "java/lang/AbstractStringBuilder" "coder" "B") ∈ lw_all := lw_g (lw_at lw_m1 187 rfl) rfl
theorem q346 : (Jvm.Cond.fieldLink "java/lang/AbstractStringBuilder" (79 : Nat) "java/lang/AbstractStringBuilder" "count" "I") ∈ lw_all := lw_g (lw_at lw_m1 189 rfl) rfl
theorem q348 : (Jvm.Cond.soleField "java/lang/AbstractStringBuilder" "value") ∈ lw_all := lw_g (lw_at lw_m1 191 rfl) rfl
theorem q350 : (Jvm.Cond.soleField "java/lang/AbstractStringBuilder" "coder") ∈ lw_all := lw_g (lw_at lw_m1 193 rfl) rfl
theorem q352 : (Jvm.Cond.soleField "java/lang/AbstractStringBuilder" "maybeLatin1") ∈ lw_all := lw_g (lw_at lw_m1 195 rfl) rfl
theorem q354 : (Jvm.Cond.soleField "java/lang/AbstractStringBuilder" "count") ∈ lw_all := lw_g (lw_at lw_m1 197 rfl) rfl
theorem q361 : (Jvm.Cond.instanceMethod ({ cls := "java/lang/AbstractStringBuilder", name := "append", desc := "(C)Ljava/lang/AbstractStringBuilder;" } : Jvm.MethodName)) ∈ lw_all := lw_g (lw_at lw_m1 204 rfl) rfl
theorem q362 : (Jvm.Cond.code ({ cls := "java/lang/AbstractStringBuilder", name := "append", desc := "(C)Ljava/lang/AbstractStringBuilder;" } : Jvm.MethodName) prog_25_method_31_code (2 : Nat) (Option.some (Jvm.ClassFile.FieldType.object "java/lang/AbstractStringBuilder"))) ∈ lw_all := lw_g (lw_at lw_m1 205 rfl) rfl
theorem q363 : (Jvm.Cond.methodLink "java/lang/AbstractStringBuilder" (100 : Nat) ({ cls := "java/lang/AbstractStringBuilder", name := "ensureCapacityInternal", desc := "(I)V" } : Jvm.MethodName)) ∈ lw_all := lw_g (lw_at lw_m1 206 rfl) rfl
theorem q364 : (Jvm.Cond.privateMethod ({ cls := "java/lang/AbstractStringBuilder", name := "ensureCapacityInternal", desc := "(I)V" } : Jvm.MethodName)) ∈ lw_tbl := lw_at lw_m1 207 rfl
theorem q365 : (Jvm.Cond.instanceMethod ({ cls := "java/lang/AbstractStringBuilder", name := "ensureCapacityInternal", desc := "(I)V" } : Jvm.MethodName)) ∈ lw_all := lw_g (lw_at lw_m1 208 rfl) rfl
theorem q366 : (Jvm.Cond.code ({ cls := "java/lang/AbstractStringBuilder", name := "ensureCapacityInternal", desc := "(I)V" } : Jvm.MethodName) prog_25_method_9_code (3 : Nat) (Option.none : Option Jvm.ClassFile.FieldType)) ∈ lw_all := lw_g (lw_at lw_m1 209 rfl) rfl
theorem q367 : (Jvm.Cond.methodLink "java/lang/AbstractStringBuilder" (104 : Nat) ({ cls := "java/lang/AbstractStringBuilder", name := "newCapacity", desc := "(I)I" } : Jvm.MethodName)) ∈ lw_all := lw_g (lw_at lw_m1 210 rfl) rfl
theorem q368 : (Jvm.Cond.privateMethod ({ cls := "java/lang/AbstractStringBuilder", name := "newCapacity", desc := "(I)I" } : Jvm.MethodName)) ∈ lw_tbl := lw_at lw_m1 211 rfl
theorem q369 : (Jvm.Cond.instanceMethod ({ cls := "java/lang/AbstractStringBuilder", name := "newCapacity", desc := "(I)I" } : Jvm.MethodName)) ∈ lw_all := lw_g (lw_at lw_m1 212 rfl) rfl
theorem q370 : (Jvm.Cond.code ({ cls := "java/lang/AbstractStringBuilder", name := "newCapacity", desc := "(I)I" } : Jvm.MethodName) prog_25_method_10_code (6 : Nat) (Option.some Jvm.ClassFile.FieldType.int)) ∈ lw_all := lw_g (lw_at lw_m1 213 rfl) rfl
theorem q371 : (Jvm.Cond.methodLink "java/lang/AbstractStringBuilder" (114 : Nat) ({ cls := "jdk/internal/util/ArraysSupport", name := "newLength", desc := "(III)I" } : Jvm.MethodName)) ∈ lw_all := lw_g (lw_at lw_m1 214 rfl) rfl
theorem q381 : (Jvm.Cond.constant "java/lang/AbstractStringBuilder" (39 : Nat) (2147483647 : Int32)) ∈ lw_all := lw_g (lw_at lw_m1 224 rfl) rfl
theorem q382 : (Jvm.Cond.methodLink "java/lang/AbstractStringBuilder" (108 : Nat) ({ cls := "java/util/Arrays", name := "copyOf", desc := "([BI)[B" } : Jvm.MethodName)) ∈ lw_all := lw_g (lw_at lw_m1 225 rfl) rfl
theorem q398 : (Jvm.Cond.methodLink "java/lang/AbstractStringBuilder" (83 : Nat) ({ cls := "java/lang/AbstractStringBuilder", name := "isLatin1", desc := "()Z" } : Jvm.MethodName)) ∈ lw_all := lw_g (lw_at lw_m2 1 rfl) rfl
theorem q399 : (Jvm.Cond.instanceMethod ({ cls := "java/lang/AbstractStringBuilder", name := "isLatin1", desc := "()Z" } : Jvm.MethodName)) ∈ lw_all := lw_g (lw_at lw_m2 2 rfl) rfl
theorem q400 : (Jvm.Cond.sameMethod "java/lang/AbstractStringBuilder" "java/lang/AbstractStringBuilder" "isLatin1" "()Z") ∈ lw_all := lw_g (lw_at lw_m2 3 rfl) rfl
theorem q402 : (Jvm.Cond.code ({ cls := "java/lang/AbstractStringBuilder", name := "isLatin1", desc := "()Z" } : Jvm.MethodName) prog_25_method_68_code (1 : Nat) (Option.some Jvm.ClassFile.FieldType.boolean)) ∈ lw_all := lw_g (lw_at lw_m2 5 rfl) rfl
theorem q403 : (Jvm.Cond.methodLink "java/lang/AbstractStringBuilder" (191 : Nat) ({ cls := "java/lang/StringLatin1", name := "canEncode", desc := "(C)Z" } : Jvm.MethodName)) ∈ lw_all := lw_g (lw_at lw_m2 6 rfl) rfl
theorem q406 : (Jvm.Cond.methodLink "java/lang/AbstractStringBuilder" (195 : Nat) ({ cls := "java/lang/AbstractStringBuilder", name := "inflate", desc := "()V" } : Jvm.MethodName)) ∈ lw_all := lw_g (lw_at lw_m2 9 rfl) rfl
theorem q407 : (Jvm.Cond.privateMethod ({ cls := "java/lang/AbstractStringBuilder", name := "inflate", desc := "()V" } : Jvm.MethodName)) ∈ lw_tbl := lw_at lw_m2 10 rfl
theorem q408 : (Jvm.Cond.instanceMethod ({ cls := "java/lang/AbstractStringBuilder", name := "inflate", desc := "()V" } : Jvm.MethodName)) ∈ lw_all := lw_g (lw_at lw_m2 11 rfl) rfl
theorem q409 : (Jvm.Cond.code ({ cls := "java/lang/AbstractStringBuilder", name := "inflate", desc := "()V" } : Jvm.MethodName) prog_25_method_11_code (2 : Nat) (Option.none : Option Jvm.ClassFile.FieldType)) ∈ lw_all := lw_g (lw_at lw_m2 12 rfl) rfl
theorem q410 : (Jvm.Cond.methodLink "java/lang/AbstractStringBuilder" (125 : Nat) ({ cls := "java/lang/StringLatin1", name := "inflate", desc := "([BI[BII)V" } : Jvm.MethodName)) ∈ lw_all := lw_g (lw_at lw_m2 13 rfl) rfl
theorem q439 : (Jvm.Cond.methodLink "java/lang/AbstractStringBuilder" (197 : Nat) ({ cls := "java/lang/StringUTF16", name := "putCharSB", desc := "([BII)V" } : Jvm.MethodName)) ∈ lw_all := lw_g (lw_at lw_m2 42 rfl) rfl
theorem q465 : (Jvm.Cond.instanceMethod ({ cls := "java/lang/AbstractStringBuilder", name := "getValue", desc := "()[B" } : Jvm.MethodName)) ∈ lw_all := lw_g (lw_at lw_m2 68 rfl) rfl
theorem q466 : (Jvm.Cond.sameMethod "java/lang/AbstractStringBuilder" "java/lang/AbstractStringBuilder" "getValue" "()[B") ∈ lw_all := lw_g (lw_at lw_m2 69 rfl) rfl
theorem q468 : (Jvm.Cond.code ({ cls := "java/lang/AbstractStringBuilder", name := "getValue", desc := "()[B" } : Jvm.MethodName) prog_25_method_64_code (1 : Nat) (Option.some (Jvm.ClassFile.FieldType.array Jvm.ClassFile.FieldType.byte))) ∈ lw_all := lw_g (lw_at lw_m2 71 rfl) rfl
theorem q470 : (Jvm.Cond.instanceMethod ({ cls := "java/lang/AbstractStringBuilder", name := "length", desc := "()I" } : Jvm.MethodName)) ∈ lw_all := lw_g (lw_at lw_m2 73 rfl) rfl
theorem q471 : (Jvm.Cond.sameMethod "java/lang/AbstractStringBuilder" "java/lang/AbstractStringBuilder" "length" "()I") ∈ lw_all := lw_g (lw_at lw_m2 74 rfl) rfl
theorem q476 : (Jvm.Cond.code ({ cls := "java/lang/AbstractStringBuilder", name := "length", desc := "()I" } : Jvm.MethodName) prog_25_method_6_code (1 : Nat) (Option.some Jvm.ClassFile.FieldType.int)) ∈ lw_all := lw_g (lw_at lw_m2 79 rfl) rfl
theorem q2921 : (Jvm.Cond.sameMethod "java/lang/AbstractStringBuilder" "java/lang/AbstractStringBuilder" "append" "(C)Ljava/lang/AbstractStringBuilder;") ∈ lw_all := lw_g (lw_at lw_m12 124 rfl) rfl
theorem q2922 : (Jvm.Cond.sameMethod "java/lang/AbstractStringBuilder" "java/lang/AbstractStringBuilder" "ensureCapacityInternal" "(I)V") ∈ lw_all := lw_g (lw_at lw_m12 125 rfl) rfl
theorem q2923 : (Jvm.Cond.sameMethod "java/lang/AbstractStringBuilder" "java/lang/AbstractStringBuilder" "newCapacity" "(I)I") ∈ lw_all := lw_g (lw_at lw_m12 126 rfl) rfl
theorem q2924 : (Jvm.Cond.sameMethod "java/lang/AbstractStringBuilder" "java/lang/AbstractStringBuilder" "inflate" "()V") ∈ lw_all := lw_g (lw_at lw_m12 127 rfl) rfl
/-! java/lang/StringBuilder -/
set_option maxRecDepth 100000
def RJ1 : String := "java/lang/StringBuilder"
def TJ1 : u_T := fun k => match k with
  | 0 => ("java/lang/AbstractStringBuilder", "value", "[B", false)
  | 1 => ("java/lang/AbstractStringBuilder", "coder", "B", false)
  | 2 => ("java/lang/AbstractStringBuilder", "maybeLatin1", "Z", false)
  | _ => ("java/lang/AbstractStringBuilder", "count", "I", false)
def tyJ1 : Nat → FieldType := fun k => match k with
  | 0 => .array .byte
  | 1 => .byte
  | 2 => .boolean
  | _ => .int
abbrev wsJ10 : List Cond := u_ws RJ1 TJ1 4
theorem nmJ1 : ∀ a, a < 4 → ∀ b, b < 4 → a ≠ b → (TJ1 a).2.1 ≠ (TJ1 b).2.1 := by decide +kernel
theorem tyJ1_ok : ∀ k, k < 4 → parseFieldDescriptor (TJ1 k).2.2.1 = some (tyJ1 k) := by decide +kernel
abbrev cJ1_init : ByteArray := prog_39_method_1_code
def yJ1_init : MethodName := ⟨RJ1, "<init>", "()V"⟩
def dkwJ1_init_0 : List UInt8 := [42, 16, 16, 183, 0, 1, 177]
abbrev dktJ1_init_0 : List UInt8 := dkwJ1_init_0 ++ []
theorem dksJ1_init_0 : cJ1_init.data.toList.drop 0 = dktJ1_init_0 := by decide +kernel
theorem dJ1_init_0 : decode cJ1_init 0 = .ok (.aload_n 0, 1) := dk_42 (dk_at dksJ1_init_0 0 rfl rfl)
theorem dJ1_init_1 : decode cJ1_init 1 = .ok (.bipush 16, 2) := dk_16 16 (dk_at dksJ1_init_0 1 rfl rfl)
theorem dJ1_init_3 : decode cJ1_init 3 = .ok (.invokespecial 1, 3) := dk_183 0 1 (dk_at dksJ1_init_0 3 rfl rfl)
theorem dJ1_init_6 : decode cJ1_init 6 = .ok (.return_, 1) := dk_177 (dk_at dksJ1_init_0 6 rfl rfl)
abbrev cJ1_append : ByteArray := prog_39_method_14_code
def yJ1_append : MethodName := ⟨RJ1, "append", "(C)Ljava/lang/StringBuilder;"⟩
def dkwJ1_append_0 : List UInt8 := [42, 27, 183, 0, 50, 87, 42, 176]
abbrev dktJ1_append_0 : List UInt8 := dkwJ1_append_0 ++ []
theorem dksJ1_append_0 : cJ1_append.data.toList.drop 0 = dktJ1_append_0 := by decide +kernel
theorem dJ1_append_0 : decode cJ1_append 0 = .ok (.aload_n 0, 1) := dk_42 (dk_at dksJ1_append_0 0 rfl rfl)
theorem dJ1_append_1 : decode cJ1_append 1 = .ok (.iload_n 1, 1) := dk_27 (dk_at dksJ1_append_0 1 rfl rfl)
theorem dJ1_append_2 : decode cJ1_append 2 = .ok (.invokespecial 50, 3) := dk_183 0 50 (dk_at dksJ1_append_0 2 rfl rfl)
theorem dJ1_append_5 : decode cJ1_append 5 = .ok (.pop, 1) := dk_87 (dk_at dksJ1_append_0 5 rfl rfl)
theorem dJ1_append_6 : decode cJ1_append 6 = .ok (.aload_n 0, 1) := dk_42 (dk_at dksJ1_append_0 6 rfl rfl)
theorem dJ1_append_7 : decode cJ1_append 7 = .ok (.areturn, 1) := dk_176 (dk_at dksJ1_append_0 7 rfl rfl)
abbrev cJ1_toString : ByteArray := prog_39_method_42_code
def yJ1_toString : MethodName := ⟨RJ1, "toString", "()Ljava/lang/String;"⟩
def dkwJ1_toString_0 : List UInt8 := [187, 0, 18, 89, 42, 183, 0, 137, 176]
abbrev dktJ1_toString_0 : List UInt8 := dkwJ1_toString_0 ++ []
theorem dksJ1_toString_0 : cJ1_toString.data.toList.drop 0 = dktJ1_toString_0 := by decide +kernel
theorem dJ1_toString_0 : decode cJ1_toString 0 = .ok (.new 18, 3) := dk_187 0 18 (dk_at dksJ1_toString_0 0 rfl rfl)
theorem dJ1_toString_3 : decode cJ1_toString 3 = .ok (.dup, 1) := dk_89 (dk_at dksJ1_toString_0 3 rfl rfl)
theorem dJ1_toString_4 : decode cJ1_toString 4 = .ok (.aload_n 0, 1) := dk_42 (dk_at dksJ1_toString_0 4 rfl rfl)
theorem dJ1_toString_5 : decode cJ1_toString 5 = .ok (.invokespecial 137, 3) := dk_183 0 137 (dk_at dksJ1_toString_0 5 rfl rfl)
theorem dJ1_toString_8 : decode cJ1_toString 8 = .ok (.areturn, 1) := dk_176 (dk_at dksJ1_toString_0 8 rfl rfl)
abbrev cJ1_length : ByteArray := prog_39_method_93_code
def yJ1_length : MethodName := ⟨RJ1, "length", "()I"⟩
theorem dJ1_length_0 : decode cJ1_length 0 = .ok (.aload_n 0, 1) := by decide +kernel
theorem dJ1_length_1 : decode cJ1_length 1 = .ok (.invokespecial 343, 3) := by decide +kernel
theorem dJ1_length_4 : decode cJ1_length 4 = .ok (.ireturn, 1) := by decide +kernel
theorem q162 : (Jvm.Cond.initialized "java/lang/StringBuilder") ∈ lw_all := lw_g (lw_at lw_m1 5 rfl) rfl
theorem q326 : (Jvm.Cond.instantiable "java/lang/StringBuilder" (4 : Nat)) ∈ lw_all := lw_g (lw_at lw_m1 169 rfl) rfl
theorem q328 : (Jvm.Cond.instanceMethod ({ cls := "java/lang/StringBuilder", name := "<init>", desc := "()V" } : Jvm.MethodName)) ∈ lw_all := lw_g (lw_at lw_m1 171 rfl) rfl
theorem q329 : (Jvm.Cond.code ({ cls := "java/lang/StringBuilder", name := "<init>", desc := "()V" } : Jvm.MethodName) prog_39_method_1_code (1 : Nat) (Option.none : Option Jvm.ClassFile.FieldType)) ∈ lw_all := lw_g (lw_at lw_m1 172 rfl) rfl
theorem q330 : (Jvm.Cond.methodLink "java/lang/StringBuilder" (1 : Nat) ({ cls := "java/lang/AbstractStringBuilder", name := "<init>", desc := "(I)V" } : Jvm.MethodName)) ∈ lw_all := lw_g (lw_at lw_m1 173 rfl) rfl
theorem q347 : (Jvm.Cond.lays "java/lang/StringBuilder" "java/lang/AbstractStringBuilder" "value" "[B") ∈ lw_all := lw_g (lw_at lw_m1 190 rfl) rfl
theorem q349 : (Jvm.Cond.lays "java/lang/StringBuilder" "java/lang/AbstractStringBuilder" "coder" "B") ∈ lw_all := lw_g (lw_at lw_m1 192 rfl) rfl
theorem q351 : (Jvm.Cond.lays "java/lang/StringBuilder" "java/lang/AbstractStringBuilder" "maybeLatin1" "Z") ∈ lw_all := lw_g (lw_at lw_m1 194 rfl) rfl
theorem q353 : (Jvm.Cond.lays "java/lang/StringBuilder" "java/lang/AbstractStringBuilder" "count" "I") ∈ lw_all := lw_g (lw_at lw_m1 196 rfl) rfl
theorem q355 : (Jvm.Cond.superclass "java/lang/StringBuilder" "java/lang/AbstractStringBuilder") ∈ lw_all := lw_g (lw_at lw_m1 198 rfl) rfl
theorem q357 : (Jvm.Cond.instanceMethod ({ cls := "java/lang/StringBuilder", name := "append", desc := "(C)Ljava/lang/StringBuilder;" } : Jvm.MethodName)) ∈ lw_all := lw_g (lw_at lw_m1 200 rfl) rfl
theorem q358 : (Jvm.Cond.selects "java/lang/StringBuilder" ({ cls := "java/lang/StringBuilder", name := "append", desc := "(C)Ljava/lang/StringBuilder;" } : Jvm.MethodName) ({ cls := "java/lang/StringBuilder", name := "append", desc := "(C)Ljava/lang/StringBuilder;" } : Jvm.MethodName)) ∈ lw_all := lw_g (lw_at lw_m1 201 rfl) rfl
theorem q359 : (Jvm.Cond.code ({ cls := "java/lang/StringBuilder", name := "append", desc := "(C)Ljava/lang/StringBuilder;" } : Jvm.MethodName) prog_39_method_14_code (2 : Nat) (Option.some (Jvm.ClassFile.FieldType.object "java/lang/StringBuilder"))) ∈ lw_all := lw_g (lw_at lw_m1 202 rfl) rfl
theorem q360 : (Jvm.Cond.methodLink "java/lang/StringBuilder" (50 : Nat) ({ cls := "java/lang/AbstractStringBuilder", name := "append", desc := "(C)Ljava/lang/AbstractStringBuilder;" } : Jvm.MethodName)) ∈ lw_all := lw_g (lw_at lw_m1 203 rfl) rfl
theorem q401 : (Jvm.Cond.selects "java/lang/StringBuilder" ({ cls := "java/lang/AbstractStringBuilder", name := "isLatin1", desc := "()Z" } : Jvm.MethodName) ({ cls := "java/lang/AbstractStringBuilder", name := "isLatin1", desc := "()Z" } : Jvm.MethodName)) ∈ lw_all := lw_g (lw_at lw_m2 4 rfl) rfl
theorem q452 : (Jvm.Cond.instanceMethod ({ cls := "java/lang/StringBuilder", name := "toString", desc := "()Ljava/lang/String;" } : Jvm.MethodName)) ∈ lw_all := lw_g (lw_at lw_m2 55 rfl) rfl
theorem q453 : (Jvm.Cond.selects "java/lang/StringBuilder" ({ cls := "java/lang/StringBuilder", name := "toString", desc := "()Ljava/lang/String;" } : Jvm.MethodName) ({ cls := "java/lang/StringBuilder", name := "toString", desc := "()Ljava/lang/String;" } : Jvm.MethodName)) ∈ lw_all := lw_g (lw_at lw_m2 56 rfl) rfl
theorem q454 : (Jvm.Cond.code ({ cls := "java/lang/StringBuilder", name := "toString", desc := "()Ljava/lang/String;" } : Jvm.MethodName) prog_39_method_42_code (1 : Nat) (Option.some (Jvm.ClassFile.FieldType.object "java/lang/String"))) ∈ lw_all := lw_g (lw_at lw_m2 57 rfl) rfl
theorem q455 : (Jvm.Cond.classLink "java/lang/StringBuilder" (18 : Nat) "java/lang/String") ∈ lw_all := lw_g (lw_at lw_m2 58 rfl) rfl
theorem q457 : (Jvm.Cond.methodLink "java/lang/StringBuilder" (137 : Nat) ({ cls := "java/lang/String", name := "<init>", desc := "(Ljava/lang/StringBuilder;)V" } : Jvm.MethodName)) ∈ lw_all := lw_g (lw_at lw_m2 60 rfl) rfl
theorem q467 : (Jvm.Cond.selects "java/lang/StringBuilder" ({ cls := "java/lang/AbstractStringBuilder", name := "getValue", desc := "()[B" } : Jvm.MethodName) ({ cls := "java/lang/AbstractStringBuilder", name := "getValue", desc := "()[B" } : Jvm.MethodName)) ∈ lw_all := lw_g (lw_at lw_m2 70 rfl) rfl
theorem q472 : (Jvm.Cond.selects "java/lang/StringBuilder" ({ cls := "java/lang/AbstractStringBuilder", name := "length", desc := "()I" } : Jvm.MethodName) ({ cls := "java/lang/StringBuilder", name := "length", desc := "()I" } : Jvm.MethodName)) ∈ lw_all := lw_g (lw_at lw_m2 75 rfl) rfl
theorem q473 : (Jvm.Cond.instanceMethod ({ cls := "java/lang/StringBuilder", name := "length", desc := "()I" } : Jvm.MethodName)) ∈ lw_all := lw_g (lw_at lw_m2 76 rfl) rfl
theorem q474 : (Jvm.Cond.code ({ cls := "java/lang/StringBuilder", name := "length", desc := "()I" } : Jvm.MethodName) prog_39_method_93_code (1 : Nat) (Option.some Jvm.ClassFile.FieldType.int)) ∈ lw_all := lw_g (lw_at lw_m2 77 rfl) rfl
theorem q475 : (Jvm.Cond.methodLink "java/lang/StringBuilder" (343 : Nat) ({ cls := "java/lang/AbstractStringBuilder", name := "length", desc := "()I" } : Jvm.MethodName)) ∈ lw_all := lw_g (lw_at lw_m2 78 rfl) rfl
theorem q970 : (Jvm.Cond.selects "java/lang/StringBuilder" ({ cls := "java/lang/Object", name := "equals", desc := "(Ljava/lang/Object;)Z" } : Jvm.MethodName) ({ cls := "java/lang/Object", name := "equals", desc := "(Ljava/lang/Object;)Z" } : Jvm.MethodName)) ∈ lw_all := lw_g (lw_at lw_m4 93 rfl) rfl
theorem q1020 : (Jvm.Cond.selects "java/lang/StringBuilder" ({ cls := "java/lang/Object", name := "getClass", desc := "()Ljava/lang/Class;" } : Jvm.MethodName) ({ cls := "java/lang/Object", name := "getClass", desc := "()Ljava/lang/Class;" } : Jvm.MethodName)) ∈ lw_all := lw_g (lw_at lw_m4 143 rfl) rfl
theorem q2933 : (Jvm.Cond.castable "java/lang/StringBuilder" "java/lang/Object") ∈ lw_tbl := lw_at lw_m12 136 rfl
theorem in_J1 : ∀ w ∈ wsJ10, w ∈ lw_all := lw_in wsJ10 [347, 349, 351, 353] (by decide +kernel) (by decide +kernel)
/-! java/lang/String -/
set_option maxRecDepth 100000
def RJ2 : String := "java/lang/String"
def TJ2 : u_T := fun k => match k with
  | 0 => ("java/lang/String", "value", "[B", true)
  | 1 => ("java/lang/String", "coder", "B", true)
  | 2 => ("java/lang/String", "hash", "I", false)
  | _ => ("java/lang/String", "hashIsZero", "Z", false)
def tyJ2 : Nat → FieldType := fun k => match k with
  | 0 => .array .byte
  | 1 => .byte
  | 2 => .int
  | _ => .boolean
abbrev wsJ20 : List Cond := u_ws RJ2 TJ2 4
theorem nmJ2 : ∀ a, a < 4 → ∀ b, b < 4 → a ≠ b → (TJ2 a).2.1 ≠ (TJ2 b).2.1 := by decide +kernel
theorem tyJ2_ok : ∀ k, k < 4 → parseFieldDescriptor (TJ2 k).2.2.1 = some (tyJ2 k) := by decide +kernel
abbrev cJ2_checkBoundsOffCount : ByteArray := prog_38_method_157_code
def yJ2_checkBoundsOffCount : MethodName := ⟨RJ2, "checkBoundsOffCount", "(III)I"⟩
def dkwJ2_checkBoundsOffCount_0 : List UInt8 := [26, 27, 28, 178, 4, 29, 184, 4, 41, 172]
abbrev dktJ2_checkBoundsOffCount_0 : List UInt8 := dkwJ2_checkBoundsOffCount_0 ++ []
theorem dksJ2_checkBoundsOffCount_0 : cJ2_checkBoundsOffCount.data.toList.drop 0 = dktJ2_checkBoundsOffCount_0 := by decide +kernel
theorem dJ2_checkBoundsOffCount_0 : decode cJ2_checkBoundsOffCount 0 = .ok (.iload_n 0, 1) := dk_26 (dk_at dksJ2_checkBoundsOffCount_0 0 rfl rfl)
theorem dJ2_checkBoundsOffCount_1 : decode cJ2_checkBoundsOffCount 1 = .ok (.iload_n 1, 1) := dk_27 (dk_at dksJ2_checkBoundsOffCount_0 1 rfl rfl)
theorem dJ2_checkBoundsOffCount_2 : decode cJ2_checkBoundsOffCount 2 = .ok (.iload_n 2, 1) := dk_28 (dk_at dksJ2_checkBoundsOffCount_0 2 rfl rfl)
theorem dJ2_checkBoundsOffCount_3 : decode cJ2_checkBoundsOffCount 3 = .ok (.getstatic 1053, 3) := dk_178 4 29 (dk_at dksJ2_checkBoundsOffCount_0 3 rfl rfl)
theorem dJ2_checkBoundsOffCount_6 : decode cJ2_checkBoundsOffCount 6 = .ok (.invokestatic 1065, 3) := dk_184 4 41 (dk_at dksJ2_checkBoundsOffCount_0 6 rfl rfl)
theorem dJ2_checkBoundsOffCount_9 : decode cJ2_checkBoundsOffCount 9 = .ok (.ireturn, 1) := dk_172 (dk_at dksJ2_checkBoundsOffCount_0 9 rfl rfl)
abbrev cJ2_checkIndex : ByteArray := prog_38_method_155_code
def yJ2_checkIndex : MethodName := ⟨RJ2, "checkIndex", "(II)V"⟩
def dkwJ2_checkIndex_0 : List UInt8 := [26, 27, 178, 4, 29, 184, 4, 35, 87, 177]
abbrev dktJ2_checkIndex_0 : List UInt8 := dkwJ2_checkIndex_0 ++ []
theorem dksJ2_checkIndex_0 : cJ2_checkIndex.data.toList.drop 0 = dktJ2_checkIndex_0 := by decide +kernel
theorem dJ2_checkIndex_0 : decode cJ2_checkIndex 0 = .ok (.iload_n 0, 1) := dk_26 (dk_at dksJ2_checkIndex_0 0 rfl rfl)
theorem dJ2_checkIndex_1 : decode cJ2_checkIndex 1 = .ok (.iload_n 1, 1) := dk_27 (dk_at dksJ2_checkIndex_0 1 rfl rfl)
theorem dJ2_checkIndex_2 : decode cJ2_checkIndex 2 = .ok (.getstatic 1053, 3) := dk_178 4 29 (dk_at dksJ2_checkIndex_0 2 rfl rfl)
theorem dJ2_checkIndex_5 : decode cJ2_checkIndex 5 = .ok (.invokestatic 1059, 3) := dk_184 4 35 (dk_at dksJ2_checkIndex_0 5 rfl rfl)
theorem dJ2_checkIndex_8 : decode cJ2_checkIndex 8 = .ok (.pop, 1) := dk_87 (dk_at dksJ2_checkIndex_0 8 rfl rfl)
theorem dJ2_checkIndex_9 : decode cJ2_checkIndex 9 = .ok (.return_, 1) := dk_177 (dk_at dksJ2_checkIndex_0 9 rfl rfl)
abbrev cJ2_init : ByteArray := prog_38_method_53_code
def yJ2_init : MethodName := ⟨RJ2, "<init>", "(Ljava/lang/StringBuilder;)V"⟩
def dkwJ2_init_0 : List UInt8 := [42, 43, 1, 183, 1, 233, 177]
abbrev dktJ2_init_0 : List UInt8 := dkwJ2_init_0 ++ []
theorem dksJ2_init_0 : cJ2_init.data.toList.drop 0 = dktJ2_init_0 := by decide +kernel
theorem dJ2_init_0 : decode cJ2_init 0 = .ok (.aload_n 0, 1) := dk_42 (dk_at dksJ2_init_0 0 rfl rfl)
theorem dJ2_init_1 : decode cJ2_init 1 = .ok (.aload_n 1, 1) := dk_43 (dk_at dksJ2_init_0 1 rfl rfl)
theorem dJ2_init_2 : decode cJ2_init 2 = .ok (.aconst_null, 1) := dk_1 (dk_at dksJ2_init_0 2 rfl rfl)
theorem dJ2_init_3 : decode cJ2_init 3 = .ok (.invokespecial 489, 3) := dk_183 1 233 (dk_at dksJ2_init_0 3 rfl rfl)
theorem dJ2_init_6 : decode cJ2_init 6 = .ok (.return_, 1) := dk_177 (dk_at dksJ2_init_0 6 rfl rfl)
abbrev cJ2_init_2 : ByteArray := prog_38_method_150_code
def yJ2_init_2 : MethodName := ⟨RJ2, "<init>", "(Ljava/lang/AbstractStringBuilder;Ljava/lang/Void;)V"⟩
def dkwJ2_init_2_4 : List UInt8 := [181, 0, 9, 177]
abbrev dktJ2_init_2_4 : List UInt8 := dkwJ2_init_2_4 ++ []
def dkwJ2_init_2_3 : List UInt8 := [184, 0, 47, 181, 0, 15, 177, 42, 4, 181, 0, 15, 42, 45, 3, 21, 4, 4, 120, 184, 0, 54]
abbrev dktJ2_init_2_3 : List UInt8 := dkwJ2_init_2_3 ++ dktJ2_init_2_4
def dkwJ2_init_2_2 : List UInt8 := [180, 4, 24, 153, 0, 28, 42, 45, 3, 21, 4, 184, 4, 27, 181, 0, 9, 42, 42, 180, 0, 9, 21, 4]
abbrev dktJ2_init_2_2 : List UInt8 := dkwJ2_init_2_2 ++ dktJ2_init_2_3
def dkwJ2_init_2_1 : List UInt8 := [181, 0, 15, 42, 45, 3, 21, 4, 184, 0, 54, 181, 0, 9, 167, 0, 59, 178, 0, 38, 153, 0, 35, 43]
abbrev dktJ2_init_2_1 : List UInt8 := dkwJ2_init_2_1 ++ dktJ2_init_2_2
def dkwJ2_init_2_0 : List UInt8 := [42, 183, 0, 1, 43, 182, 2, 40, 78, 43, 182, 2, 37, 54, 4, 43, 182, 4, 23, 153, 0, 22, 42, 3]
abbrev dktJ2_init_2_0 : List UInt8 := dkwJ2_init_2_0 ++ dktJ2_init_2_1
theorem dksJ2_init_2_0 : cJ2_init_2.data.toList.drop 0 = dktJ2_init_2_0 := by decide +kernel
theorem dksJ2_init_2_1 : cJ2_init_2.data.toList.drop 24 = dktJ2_init_2_1 := dk_seg dksJ2_init_2_0 24 rfl rfl
theorem dksJ2_init_2_2 : cJ2_init_2.data.toList.drop 48 = dktJ2_init_2_2 := dk_seg dksJ2_init_2_1 24 rfl rfl
theorem dksJ2_init_2_3 : cJ2_init_2.data.toList.drop 72 = dktJ2_init_2_3 := dk_seg dksJ2_init_2_2 24 rfl rfl
theorem dksJ2_init_2_4 : cJ2_init_2.data.toList.drop 94 = dktJ2_init_2_4 := dk_seg dksJ2_init_2_3 22 rfl rfl
theorem dJ2_init_2_0 : decode cJ2_init_2 0 = .ok (.aload_n 0, 1) := dk_42 (dk_at dksJ2_init_2_0 0 rfl rfl)
theorem dJ2_init_2_1 : decode cJ2_init_2 1 = .ok (.invokespecial 1, 3) := dk_183 0 1 (dk_at dksJ2_init_2_0 1 rfl rfl)
theorem dJ2_init_2_4 : decode cJ2_init_2 4 = .ok (.aload_n 1, 1) := dk_43 (dk_at dksJ2_init_2_0 4 rfl rfl)
theorem dJ2_init_2_5 : decode cJ2_init_2 5 = .ok (.invokevirtual 552, 3) := dk_182 2 40 (dk_at dksJ2_init_2_0 5 rfl rfl)
theorem dJ2_init_2_8 : decode cJ2_init_2 8 = .ok (.astore_n 3, 1) := dk_78 (dk_at dksJ2_init_2_0 8 rfl rfl)
theorem dJ2_init_2_9 : decode cJ2_init_2 9 = .ok (.aload_n 1, 1) := dk_43 (dk_at dksJ2_init_2_0 9 rfl rfl)
theorem dJ2_init_2_10 : decode cJ2_init_2 10 = .ok (.invokevirtual 549, 3) := dk_182 2 37 (dk_at dksJ2_init_2_0 10 rfl rfl)
theorem dJ2_init_2_13 : decode cJ2_init_2 13 = .ok (.istore 4, 2) := dk_54 4 (dk_at dksJ2_init_2_0 13 rfl rfl)
theorem dJ2_init_2_15 : decode cJ2_init_2 15 = .ok (.aload_n 1, 1) := dk_43 (dk_at dksJ2_init_2_0 15 rfl rfl)
theorem dJ2_init_2_16 : decode cJ2_init_2 16 = .ok (.invokevirtual 1047, 3) := dk_182 4 23 (dk_at dksJ2_init_2_0 16 rfl rfl)
theorem dJ2_init_2_19 : decode cJ2_init_2 19 = .ok (.ifCond .eq 22, 3) := dk_153 0 22 (dk_at dksJ2_init_2_0 19 rfl rfl)
theorem dJ2_init_2_22 : decode cJ2_init_2 22 = .ok (.aload_n 0, 1) := dk_42 (dk_at dksJ2_init_2_0 22 rfl rfl)
theorem dJ2_init_2_23 : decode cJ2_init_2 23 = .ok (.iconst 0, 1) := dk_3 (dk_at dksJ2_init_2_0 23 rfl rfl)
theorem dJ2_init_2_24 : decode cJ2_init_2 24 = .ok (.putfield 15, 3) := dk_181 0 15 (dk_at dksJ2_init_2_1 0 rfl rfl)
theorem dJ2_init_2_27 : decode cJ2_init_2 27 = .ok (.aload_n 0, 1) := dk_42 (dk_at dksJ2_init_2_1 3 rfl rfl)
theorem dJ2_init_2_28 : decode cJ2_init_2 28 = .ok (.aload_n 3, 1) := dk_45 (dk_at dksJ2_init_2_1 4 rfl rfl)
theorem dJ2_init_2_29 : decode cJ2_init_2 29 = .ok (.iconst 0, 1) := dk_3 (dk_at dksJ2_init_2_1 5 rfl rfl)
theorem dJ2_init_2_30 : decode cJ2_init_2 30 = .ok (.iload 4, 2) := dk_21 4 (dk_at dksJ2_init_2_1 6 rfl rfl)
theorem dJ2_init_2_32 : decode cJ2_init_2 32 = .ok (.invokestatic 54, 3) := dk_184 0 54 (dk_at dksJ2_init_2_1 8 rfl rfl)
theorem dJ2_init_2_35 : decode cJ2_init_2 35 = .ok (.putfield 9, 3) := dk_181 0 9 (dk_at dksJ2_init_2_1 11 rfl rfl)
theorem dJ2_init_2_38 : decode cJ2_init_2 38 = .ok (.goto 59, 3) := dk_167 0 59 (dk_at dksJ2_init_2_1 14 rfl rfl)
theorem dJ2_init_2_41 : decode cJ2_init_2 41 = .ok (.getstatic 38, 3) := dk_178 0 38 (dk_at dksJ2_init_2_1 17 rfl rfl)
theorem dJ2_init_2_44 : decode cJ2_init_2 44 = .ok (.ifCond .eq 35, 3) := dk_153 0 35 (dk_at dksJ2_init_2_1 20 rfl rfl)
theorem dJ2_init_2_47 : decode cJ2_init_2 47 = .ok (.aload_n 1, 1) := dk_43 (dk_at dksJ2_init_2_1 23 rfl rfl)
theorem dJ2_init_2_48 : decode cJ2_init_2 48 = .ok (.getfield 1048, 3) := dk_180 4 24 (dk_at dksJ2_init_2_2 0 rfl rfl)
theorem dJ2_init_2_51 : decode cJ2_init_2 51 = .ok (.ifCond .eq 28, 3) := dk_153 0 28 (dk_at dksJ2_init_2_2 3 rfl rfl)
theorem dJ2_init_2_54 : decode cJ2_init_2 54 = .ok (.aload_n 0, 1) := dk_42 (dk_at dksJ2_init_2_2 6 rfl rfl)
theorem dJ2_init_2_55 : decode cJ2_init_2 55 = .ok (.aload_n 3, 1) := dk_45 (dk_at dksJ2_init_2_2 7 rfl rfl)
theorem dJ2_init_2_56 : decode cJ2_init_2 56 = .ok (.iconst 0, 1) := dk_3 (dk_at dksJ2_init_2_2 8 rfl rfl)
theorem dJ2_init_2_57 : decode cJ2_init_2 57 = .ok (.iload 4, 2) := dk_21 4 (dk_at dksJ2_init_2_2 9 rfl rfl)
theorem dJ2_init_2_59 : decode cJ2_init_2 59 = .ok (.invokestatic 1051, 3) := dk_184 4 27 (dk_at dksJ2_init_2_2 11 rfl rfl)
theorem dJ2_init_2_62 : decode cJ2_init_2 62 = .ok (.putfield 9, 3) := dk_181 0 9 (dk_at dksJ2_init_2_2 14 rfl rfl)
theorem dJ2_init_2_65 : decode cJ2_init_2 65 = .ok (.aload_n 0, 1) := dk_42 (dk_at dksJ2_init_2_2 17 rfl rfl)
theorem dJ2_init_2_66 : decode cJ2_init_2 66 = .ok (.aload_n 0, 1) := dk_42 (dk_at dksJ2_init_2_2 18 rfl rfl)
theorem dJ2_init_2_67 : decode cJ2_init_2 67 = .ok (.getfield 9, 3) := dk_180 0 9 (dk_at dksJ2_init_2_2 19 rfl rfl)
theorem dJ2_init_2_70 : decode cJ2_init_2 70 = .ok (.iload 4, 2) := dk_21 4 (dk_at dksJ2_init_2_2 22 rfl rfl)
theorem dJ2_init_2_72 : decode cJ2_init_2 72 = .ok (.invokestatic 47, 3) := dk_184 0 47 (dk_at dksJ2_init_2_3 0 rfl rfl)
theorem dJ2_init_2_75 : decode cJ2_init_2 75 = .ok (.putfield 15, 3) := dk_181 0 15 (dk_at dksJ2_init_2_3 3 rfl rfl)
theorem dJ2_init_2_78 : decode cJ2_init_2 78 = .ok (.return_, 1) := dk_177 (dk_at dksJ2_init_2_3 6 rfl rfl)
theorem dJ2_init_2_79 : decode cJ2_init_2 79 = .ok (.aload_n 0, 1) := dk_42 (dk_at dksJ2_init_2_3 7 rfl rfl)
theorem dJ2_init_2_80 : decode cJ2_init_2 80 = .ok (.iconst 1, 1) := dk_4 (dk_at dksJ2_init_2_3 8 rfl rfl)
theorem dJ2_init_2_81 : decode cJ2_init_2 81 = .ok (.putfield 15, 3) := dk_181 0 15 (dk_at dksJ2_init_2_3 9 rfl rfl)
theorem dJ2_init_2_84 : decode cJ2_init_2 84 = .ok (.aload_n 0, 1) := dk_42 (dk_at dksJ2_init_2_3 12 rfl rfl)
theorem dJ2_init_2_85 : decode cJ2_init_2 85 = .ok (.aload_n 3, 1) := dk_45 (dk_at dksJ2_init_2_3 13 rfl rfl)
theorem dJ2_init_2_86 : decode cJ2_init_2 86 = .ok (.iconst 0, 1) := dk_3 (dk_at dksJ2_init_2_3 14 rfl rfl)
theorem dJ2_init_2_87 : decode cJ2_init_2 87 = .ok (.iload 4, 2) := dk_21 4 (dk_at dksJ2_init_2_3 15 rfl rfl)
theorem dJ2_init_2_89 : decode cJ2_init_2 89 = .ok (.iconst 1, 1) := dk_4 (dk_at dksJ2_init_2_3 17 rfl rfl)
theorem dJ2_init_2_90 : decode cJ2_init_2 90 = .ok (.ishl, 1) := dk_120 (dk_at dksJ2_init_2_3 18 rfl rfl)
theorem dJ2_init_2_91 : decode cJ2_init_2 91 = .ok (.invokestatic 54, 3) := dk_184 0 54 (dk_at dksJ2_init_2_3 19 rfl rfl)
theorem dJ2_init_2_94 : decode cJ2_init_2 94 = .ok (.putfield 9, 3) := dk_181 0 9 (dk_at dksJ2_init_2_4 0 rfl rfl)
theorem dJ2_init_2_97 : decode cJ2_init_2 97 = .ok (.return_, 1) := dk_177 (dk_at dksJ2_init_2_4 3 rfl rfl)
abbrev cJ2_indexOf : ByteArray := prog_38_method_79_code
def yJ2_indexOf : MethodName := ⟨RJ2, "indexOf", "(I)I"⟩
def dkwJ2_indexOf_0 : List UInt8 := [42, 27, 3, 182, 2, 121, 172]
abbrev dktJ2_indexOf_0 : List UInt8 := dkwJ2_indexOf_0 ++ []
theorem dksJ2_indexOf_0 : cJ2_indexOf.data.toList.drop 0 = dktJ2_indexOf_0 := by decide +kernel
theorem dJ2_indexOf_0 : decode cJ2_indexOf 0 = .ok (.aload_n 0, 1) := dk_42 (dk_at dksJ2_indexOf_0 0 rfl rfl)
theorem dJ2_indexOf_1 : decode cJ2_indexOf 1 = .ok (.iload_n 1, 1) := dk_27 (dk_at dksJ2_indexOf_0 1 rfl rfl)
theorem dJ2_indexOf_2 : decode cJ2_indexOf 2 = .ok (.iconst 0, 1) := dk_3 (dk_at dksJ2_indexOf_0 2 rfl rfl)
theorem dJ2_indexOf_3 : decode cJ2_indexOf 3 = .ok (.invokevirtual 633, 3) := dk_182 2 121 (dk_at dksJ2_indexOf_0 3 rfl rfl)
theorem dJ2_indexOf_6 : decode cJ2_indexOf 6 = .ok (.ireturn, 1) := dk_172 (dk_at dksJ2_indexOf_0 6 rfl rfl)
abbrev cJ2_indexOf_2 : ByteArray := prog_38_method_80_code
def yJ2_indexOf_2 : MethodName := ⟨RJ2, "indexOf", "(II)I"⟩
def dkwJ2_indexOf_2_1 : List UInt8 := [180, 0, 9, 27, 28, 42, 182, 1, 249, 184, 2, 128, 172]
abbrev dktJ2_indexOf_2_1 : List UInt8 := dkwJ2_indexOf_2_1 ++ []
def dkwJ2_indexOf_2_0 : List UInt8 := [42, 182, 1, 236, 153, 0, 19, 42, 180, 0, 9, 27, 28, 42, 182, 1, 249, 184, 2, 125, 167, 0, 16, 42]
abbrev dktJ2_indexOf_2_0 : List UInt8 := dkwJ2_indexOf_2_0 ++ dktJ2_indexOf_2_1
theorem dksJ2_indexOf_2_0 : cJ2_indexOf_2.data.toList.drop 0 = dktJ2_indexOf_2_0 := by decide +kernel
theorem dksJ2_indexOf_2_1 : cJ2_indexOf_2.data.toList.drop 24 = dktJ2_indexOf_2_1 := dk_seg dksJ2_indexOf_2_0 24 rfl rfl
theorem dJ2_indexOf_2_0 : decode cJ2_indexOf_2 0 = .ok (.aload_n 0, 1) := dk_42 (dk_at dksJ2_indexOf_2_0 0 rfl rfl)
theorem dJ2_indexOf_2_1 : decode cJ2_indexOf_2 1 = .ok (.invokevirtual 492, 3) := dk_182 1 236 (dk_at dksJ2_indexOf_2_0 1 rfl rfl)
theorem dJ2_indexOf_2_4 : decode cJ2_indexOf_2 4 = .ok (.ifCond .eq 19, 3) := dk_153 0 19 (dk_at dksJ2_indexOf_2_0 4 rfl rfl)
theorem dJ2_indexOf_2_7 : decode cJ2_indexOf_2 7 = .ok (.aload_n 0, 1) := dk_42 (dk_at dksJ2_indexOf_2_0 7 rfl rfl)
theorem dJ2_indexOf_2_8 : decode cJ2_indexOf_2 8 = .ok (.getfield 9, 3) := dk_180 0 9 (dk_at dksJ2_indexOf_2_0 8 rfl rfl)
theorem dJ2_indexOf_2_11 : decode cJ2_indexOf_2 11 = .ok (.iload_n 1, 1) := dk_27 (dk_at dksJ2_indexOf_2_0 11 rfl rfl)
theorem dJ2_indexOf_2_12 : decode cJ2_indexOf_2 12 = .ok (.iload_n 2, 1) := dk_28 (dk_at dksJ2_indexOf_2_0 12 rfl rfl)
theorem dJ2_indexOf_2_13 : decode cJ2_indexOf_2 13 = .ok (.aload_n 0, 1) := dk_42 (dk_at dksJ2_indexOf_2_0 13 rfl rfl)
theorem dJ2_indexOf_2_14 : decode cJ2_indexOf_2 14 = .ok (.invokevirtual 505, 3) := dk_182 1 249 (dk_at dksJ2_indexOf_2_0 14 rfl rfl)
theorem dJ2_indexOf_2_17 : decode cJ2_indexOf_2 17 = .ok (.invokestatic 637, 3) := dk_184 2 125 (dk_at dksJ2_indexOf_2_0 17 rfl rfl)
theorem dJ2_indexOf_2_20 : decode cJ2_indexOf_2 20 = .ok (.goto 16, 3) := dk_167 0 16 (dk_at dksJ2_indexOf_2_0 20 rfl rfl)
theorem dJ2_indexOf_2_23 : decode cJ2_indexOf_2 23 = .ok (.aload_n 0, 1) := dk_42 (dk_at dksJ2_indexOf_2_0 23 rfl rfl)
theorem dJ2_indexOf_2_24 : decode cJ2_indexOf_2 24 = .ok (.getfield 9, 3) := dk_180 0 9 (dk_at dksJ2_indexOf_2_1 0 rfl rfl)
theorem dJ2_indexOf_2_27 : decode cJ2_indexOf_2 27 = .ok (.iload_n 1, 1) := dk_27 (dk_at dksJ2_indexOf_2_1 3 rfl rfl)
theorem dJ2_indexOf_2_28 : decode cJ2_indexOf_2 28 = .ok (.iload_n 2, 1) := dk_28 (dk_at dksJ2_indexOf_2_1 4 rfl rfl)
theorem dJ2_indexOf_2_29 : decode cJ2_indexOf_2 29 = .ok (.aload_n 0, 1) := dk_42 (dk_at dksJ2_indexOf_2_1 5 rfl rfl)
theorem dJ2_indexOf_2_30 : decode cJ2_indexOf_2 30 = .ok (.invokevirtual 505, 3) := dk_182 1 249 (dk_at dksJ2_indexOf_2_1 6 rfl rfl)
theorem dJ2_indexOf_2_33 : decode cJ2_indexOf_2 33 = .ok (.invokestatic 640, 3) := dk_184 2 128 (dk_at dksJ2_indexOf_2_1 9 rfl rfl)
theorem dJ2_indexOf_2_36 : decode cJ2_indexOf_2 36 = .ok (.ireturn, 1) := dk_172 (dk_at dksJ2_indexOf_2_1 12 rfl rfl)
abbrev cJ2_isLatin1 : ByteArray := prog_38_method_154_code
def yJ2_isLatin1 : MethodName := ⟨RJ2, "isLatin1", "()Z"⟩
def dkwJ2_isLatin1_0 : List UInt8 := [178, 0, 38, 153, 0, 14, 42, 180, 0, 15, 154, 0, 7, 4, 167, 0, 4, 3, 172]
abbrev dktJ2_isLatin1_0 : List UInt8 := dkwJ2_isLatin1_0 ++ []
theorem dksJ2_isLatin1_0 : cJ2_isLatin1.data.toList.drop 0 = dktJ2_isLatin1_0 := by decide +kernel
theorem dJ2_isLatin1_0 : decode cJ2_isLatin1 0 = .ok (.getstatic 38, 3) := dk_178 0 38 (dk_at dksJ2_isLatin1_0 0 rfl rfl)
theorem dJ2_isLatin1_3 : decode cJ2_isLatin1 3 = .ok (.ifCond .eq 14, 3) := dk_153 0 14 (dk_at dksJ2_isLatin1_0 3 rfl rfl)
theorem dJ2_isLatin1_6 : decode cJ2_isLatin1 6 = .ok (.aload_n 0, 1) := dk_42 (dk_at dksJ2_isLatin1_0 6 rfl rfl)
theorem dJ2_isLatin1_7 : decode cJ2_isLatin1 7 = .ok (.getfield 15, 3) := dk_180 0 15 (dk_at dksJ2_isLatin1_0 7 rfl rfl)
theorem dJ2_isLatin1_10 : decode cJ2_isLatin1 10 = .ok (.ifCond .ne 7, 3) := dk_154 0 7 (dk_at dksJ2_isLatin1_0 10 rfl rfl)
theorem dJ2_isLatin1_13 : decode cJ2_isLatin1 13 = .ok (.iconst 1, 1) := dk_4 (dk_at dksJ2_isLatin1_0 13 rfl rfl)
theorem dJ2_isLatin1_14 : decode cJ2_isLatin1 14 = .ok (.goto 4, 3) := dk_167 0 4 (dk_at dksJ2_isLatin1_0 14 rfl rfl)
theorem dJ2_isLatin1_17 : decode cJ2_isLatin1 17 = .ok (.iconst 0, 1) := dk_3 (dk_at dksJ2_isLatin1_0 17 rfl rfl)
theorem dJ2_isLatin1_18 : decode cJ2_isLatin1 18 = .ok (.ireturn, 1) := dk_172 (dk_at dksJ2_isLatin1_0 18 rfl rfl)
abbrev cJ2_length : ByteArray := prog_38_method_54_code
def yJ2_length : MethodName := ⟨RJ2, "length", "()I"⟩
def dkwJ2_length_0 : List UInt8 := [42, 180, 0, 9, 190, 42, 182, 1, 79, 122, 172]
abbrev dktJ2_length_0 : List UInt8 := dkwJ2_length_0 ++ []
theorem dksJ2_length_0 : cJ2_length.data.toList.drop 0 = dktJ2_length_0 := by decide +kernel
theorem dJ2_length_0 : decode cJ2_length 0 = .ok (.aload_n 0, 1) := dk_42 (dk_at dksJ2_length_0 0 rfl rfl)
theorem dJ2_length_1 : decode cJ2_length 1 = .ok (.getfield 9, 3) := dk_180 0 9 (dk_at dksJ2_length_0 1 rfl rfl)
theorem dJ2_length_4 : decode cJ2_length 4 = .ok (.arraylength, 1) := dk_190 (dk_at dksJ2_length_0 4 rfl rfl)
theorem dJ2_length_5 : decode cJ2_length 5 = .ok (.aload_n 0, 1) := dk_42 (dk_at dksJ2_length_0 5 rfl rfl)
theorem dJ2_length_6 : decode cJ2_length 6 = .ok (.invokevirtual 335, 3) := dk_182 1 79 (dk_at dksJ2_length_0 6 rfl rfl)
theorem dJ2_length_9 : decode cJ2_length 9 = .ok (.ishr, 1) := dk_122 (dk_at dksJ2_length_0 9 rfl rfl)
theorem dJ2_length_10 : decode cJ2_length 10 = .ok (.ireturn, 1) := dk_172 (dk_at dksJ2_length_0 10 rfl rfl)
abbrev cJ2_coder : ByteArray := prog_38_method_152_code
def yJ2_coder : MethodName := ⟨RJ2, "coder", "()B"⟩
def dkwJ2_coder_0 : List UInt8 := [178, 0, 38, 153, 0, 10, 42, 180, 0, 15, 167, 0, 4, 4, 172]
abbrev dktJ2_coder_0 : List UInt8 := dkwJ2_coder_0 ++ []
theorem dksJ2_coder_0 : cJ2_coder.data.toList.drop 0 = dktJ2_coder_0 := by decide +kernel
theorem dJ2_coder_0 : decode cJ2_coder 0 = .ok (.getstatic 38, 3) := dk_178 0 38 (dk_at dksJ2_coder_0 0 rfl rfl)
theorem dJ2_coder_3 : decode cJ2_coder 3 = .ok (.ifCond .eq 10, 3) := dk_153 0 10 (dk_at dksJ2_coder_0 3 rfl rfl)
theorem dJ2_coder_6 : decode cJ2_coder 6 = .ok (.aload_n 0, 1) := dk_42 (dk_at dksJ2_coder_0 6 rfl rfl)
theorem dJ2_coder_7 : decode cJ2_coder 7 = .ok (.getfield 15, 3) := dk_180 0 15 (dk_at dksJ2_coder_0 7 rfl rfl)
theorem dJ2_coder_10 : decode cJ2_coder 10 = .ok (.goto 4, 3) := dk_167 0 4 (dk_at dksJ2_coder_0 10 rfl rfl)
theorem dJ2_coder_13 : decode cJ2_coder 13 = .ok (.iconst 1, 1) := dk_4 (dk_at dksJ2_coder_0 13 rfl rfl)
theorem dJ2_coder_14 : decode cJ2_coder 14 = .ok (.ireturn, 1) := dk_172 (dk_at dksJ2_coder_0 14 rfl rfl)
abbrev cJ2_checkBoundsBeginEnd : ByteArray := prog_38_method_158_code
def yJ2_checkBoundsBeginEnd : MethodName := ⟨RJ2, "checkBoundsBeginEnd", "(III)V"⟩
def dkwJ2_checkBoundsBeginEnd_0 : List UInt8 := [26, 27, 28, 178, 4, 29, 184, 4, 38, 87, 177]
abbrev dktJ2_checkBoundsBeginEnd_0 : List UInt8 := dkwJ2_checkBoundsBeginEnd_0 ++ []
theorem dksJ2_checkBoundsBeginEnd_0 : cJ2_checkBoundsBeginEnd.data.toList.drop 0 = dktJ2_checkBoundsBeginEnd_0 := by decide +kernel
theorem dJ2_checkBoundsBeginEnd_0 : decode cJ2_checkBoundsBeginEnd 0 = .ok (.iload_n 0, 1) := dk_26 (dk_at dksJ2_checkBoundsBeginEnd_0 0 rfl rfl)
theorem dJ2_checkBoundsBeginEnd_1 : decode cJ2_checkBoundsBeginEnd 1 = .ok (.iload_n 1, 1) := dk_27 (dk_at dksJ2_checkBoundsBeginEnd_0 1 rfl rfl)
theorem dJ2_checkBoundsBeginEnd_2 : decode cJ2_checkBoundsBeginEnd 2 = .ok (.iload_n 2, 1) := dk_28 (dk_at dksJ2_checkBoundsBeginEnd_0 2 rfl rfl)
theorem dJ2_checkBoundsBeginEnd_3 : decode cJ2_checkBoundsBeginEnd 3 = .ok (.getstatic 1053, 3) := dk_178 4 29 (dk_at dksJ2_checkBoundsBeginEnd_0 3 rfl rfl)
theorem dJ2_checkBoundsBeginEnd_6 : decode cJ2_checkBoundsBeginEnd 6 = .ok (.invokestatic 1062, 3) := dk_184 4 38 (dk_at dksJ2_checkBoundsBeginEnd_0 6 rfl rfl)
theorem dJ2_checkBoundsBeginEnd_9 : decode cJ2_checkBoundsBeginEnd 9 = .ok (.pop, 1) := dk_87 (dk_at dksJ2_checkBoundsBeginEnd_0 9 rfl rfl)
theorem dJ2_checkBoundsBeginEnd_10 : decode cJ2_checkBoundsBeginEnd 10 = .ok (.return_, 1) := dk_177 (dk_at dksJ2_checkBoundsBeginEnd_0 10 rfl rfl)
abbrev cJ2_equals : ByteArray := prog_38_method_66_code
def yJ2_equals : MethodName := ⟨RJ2, "equals", "(Ljava/lang/Object;)Z"⟩
def dkwJ2_equals_2 : List UInt8 := [184, 2, 29, 153, 0, 7, 4, 167, 0, 4, 3, 172]
abbrev dktJ2_equals_2 : List UInt8 := dkwJ2_equals_2 ++ []
def dkwJ2_equals_1 : List UInt8 := [153, 0, 14, 42, 180, 0, 15, 44, 180, 0, 15, 160, 0, 21, 42, 180, 0, 9, 44, 180, 0, 9]
abbrev dktJ2_equals_1 : List UInt8 := dkwJ2_equals_1 ++ dktJ2_equals_2
def dkwJ2_equals_0 : List UInt8 := [42, 43, 166, 0, 5, 4, 172, 43, 193, 0, 10, 153, 0, 43, 43, 192, 0, 10, 77, 178, 0, 38]
abbrev dktJ2_equals_0 : List UInt8 := dkwJ2_equals_0 ++ dktJ2_equals_1
theorem dksJ2_equals_0 : cJ2_equals.data.toList.drop 0 = dktJ2_equals_0 := by decide +kernel
theorem dksJ2_equals_1 : cJ2_equals.data.toList.drop 22 = dktJ2_equals_1 := dk_seg dksJ2_equals_0 22 rfl rfl
theorem dksJ2_equals_2 : cJ2_equals.data.toList.drop 44 = dktJ2_equals_2 := dk_seg dksJ2_equals_1 22 rfl rfl
theorem dJ2_equals_0 : decode cJ2_equals 0 = .ok (.aload_n 0, 1) := dk_42 (dk_at dksJ2_equals_0 0 rfl rfl)
theorem dJ2_equals_1 : decode cJ2_equals 1 = .ok (.aload_n 1, 1) := dk_43 (dk_at dksJ2_equals_0 1 rfl rfl)
theorem dJ2_equals_2 : decode cJ2_equals 2 = .ok (.if_acmp .ne 5, 3) := dk_166 0 5 (dk_at dksJ2_equals_0 2 rfl rfl)
theorem dJ2_equals_5 : decode cJ2_equals 5 = .ok (.iconst 1, 1) := dk_4 (dk_at dksJ2_equals_0 5 rfl rfl)
theorem dJ2_equals_6 : decode cJ2_equals 6 = .ok (.ireturn, 1) := dk_172 (dk_at dksJ2_equals_0 6 rfl rfl)
theorem dJ2_equals_7 : decode cJ2_equals 7 = .ok (.aload_n 1, 1) := dk_43 (dk_at dksJ2_equals_0 7 rfl rfl)
theorem dJ2_equals_8 : decode cJ2_equals 8 = .ok (.instanceof 10, 3) := dk_193 0 10 (dk_at dksJ2_equals_0 8 rfl rfl)
theorem dJ2_equals_11 : decode cJ2_equals 11 = .ok (.ifCond .eq 43, 3) := dk_153 0 43 (dk_at dksJ2_equals_0 11 rfl rfl)
theorem dJ2_equals_14 : decode cJ2_equals 14 = .ok (.aload_n 1, 1) := dk_43 (dk_at dksJ2_equals_0 14 rfl rfl)
theorem dJ2_equals_15 : decode cJ2_equals 15 = .ok (.checkcast 10, 3) := dk_192 0 10 (dk_at dksJ2_equals_0 15 rfl rfl)
theorem dJ2_equals_18 : decode cJ2_equals 18 = .ok (.astore_n 2, 1) := dk_77 (dk_at dksJ2_equals_0 18 rfl rfl)
theorem dJ2_equals_19 : decode cJ2_equals 19 = .ok (.getstatic 38, 3) := dk_178 0 38 (dk_at dksJ2_equals_0 19 rfl rfl)
theorem dJ2_equals_22 : decode cJ2_equals 22 = .ok (.ifCond .eq 14, 3) := dk_153 0 14 (dk_at dksJ2_equals_1 0 rfl rfl)
theorem dJ2_equals_25 : decode cJ2_equals 25 = .ok (.aload_n 0, 1) := dk_42 (dk_at dksJ2_equals_1 3 rfl rfl)
theorem dJ2_equals_26 : decode cJ2_equals 26 = .ok (.getfield 15, 3) := dk_180 0 15 (dk_at dksJ2_equals_1 4 rfl rfl)
theorem dJ2_equals_29 : decode cJ2_equals 29 = .ok (.aload_n 2, 1) := dk_44 (dk_at dksJ2_equals_1 7 rfl rfl)
theorem dJ2_equals_30 : decode cJ2_equals 30 = .ok (.getfield 15, 3) := dk_180 0 15 (dk_at dksJ2_equals_1 8 rfl rfl)
theorem dJ2_equals_33 : decode cJ2_equals 33 = .ok (.if_icmp .ne 21, 3) := dk_160 0 21 (dk_at dksJ2_equals_1 11 rfl rfl)
theorem dJ2_equals_36 : decode cJ2_equals 36 = .ok (.aload_n 0, 1) := dk_42 (dk_at dksJ2_equals_1 14 rfl rfl)
theorem dJ2_equals_37 : decode cJ2_equals 37 = .ok (.getfield 9, 3) := dk_180 0 9 (dk_at dksJ2_equals_1 15 rfl rfl)
theorem dJ2_equals_40 : decode cJ2_equals 40 = .ok (.aload_n 2, 1) := dk_44 (dk_at dksJ2_equals_1 18 rfl rfl)
theorem dJ2_equals_41 : decode cJ2_equals 41 = .ok (.getfield 9, 3) := dk_180 0 9 (dk_at dksJ2_equals_1 19 rfl rfl)
theorem dJ2_equals_44 : decode cJ2_equals 44 = .ok (.invokestatic 541, 3) := dk_184 2 29 (dk_at dksJ2_equals_2 0 rfl rfl)
theorem dJ2_equals_47 : decode cJ2_equals 47 = .ok (.ifCond .eq 7, 3) := dk_153 0 7 (dk_at dksJ2_equals_2 3 rfl rfl)
theorem dJ2_equals_50 : decode cJ2_equals 50 = .ok (.iconst 1, 1) := dk_4 (dk_at dksJ2_equals_2 6 rfl rfl)
theorem dJ2_equals_51 : decode cJ2_equals 51 = .ok (.goto 4, 3) := dk_167 0 4 (dk_at dksJ2_equals_2 7 rfl rfl)
theorem dJ2_equals_54 : decode cJ2_equals 54 = .ok (.iconst 0, 1) := dk_3 (dk_at dksJ2_equals_2 10 rfl rfl)
theorem dJ2_equals_55 : decode cJ2_equals 55 = .ok (.ireturn, 1) := dk_172 (dk_at dksJ2_equals_2 11 rfl rfl)
abbrev cJ2_hashCode : ByteArray := prog_38_method_78_code
def yJ2_hashCode : MethodName := ⟨RJ2, "hashCode", "()I"⟩
def dkwJ2_hashCode_2 : List UInt8 := [181, 0, 23, 167, 0, 8, 42, 27, 181, 0, 19, 27, 172]
abbrev dktJ2_hashCode_2 : List UInt8 := dkwJ2_hashCode_2 ++ []
def dkwJ2_hashCode_1 : List UInt8 := [180, 0, 9, 184, 2, 116, 167, 0, 10, 42, 180, 0, 9, 184, 2, 120, 60, 27, 154, 0, 11, 42, 4]
abbrev dktJ2_hashCode_1 : List UInt8 := dkwJ2_hashCode_1 ++ dktJ2_hashCode_2
def dkwJ2_hashCode_0 : List UInt8 := [42, 180, 0, 19, 60, 27, 154, 0, 52, 42, 180, 0, 23, 154, 0, 45, 42, 182, 1, 236, 153, 0, 13, 42]
abbrev dktJ2_hashCode_0 : List UInt8 := dkwJ2_hashCode_0 ++ dktJ2_hashCode_1
theorem dksJ2_hashCode_0 : cJ2_hashCode.data.toList.drop 0 = dktJ2_hashCode_0 := by decide +kernel
theorem dksJ2_hashCode_1 : cJ2_hashCode.data.toList.drop 24 = dktJ2_hashCode_1 := dk_seg dksJ2_hashCode_0 24 rfl rfl
theorem dksJ2_hashCode_2 : cJ2_hashCode.data.toList.drop 47 = dktJ2_hashCode_2 := dk_seg dksJ2_hashCode_1 23 rfl rfl
theorem dJ2_hashCode_0 : decode cJ2_hashCode 0 = .ok (.aload_n 0, 1) := dk_42 (dk_at dksJ2_hashCode_0 0 rfl rfl)
theorem dJ2_hashCode_1 : decode cJ2_hashCode 1 = .ok (.getfield 19, 3) := dk_180 0 19 (dk_at dksJ2_hashCode_0 1 rfl rfl)
theorem dJ2_hashCode_4 : decode cJ2_hashCode 4 = .ok (.istore_n 1, 1) := dk_60 (dk_at dksJ2_hashCode_0 4 rfl rfl)
theorem dJ2_hashCode_5 : decode cJ2_hashCode 5 = .ok (.iload_n 1, 1) := dk_27 (dk_at dksJ2_hashCode_0 5 rfl rfl)
theorem dJ2_hashCode_6 : decode cJ2_hashCode 6 = .ok (.ifCond .ne 52, 3) := dk_154 0 52 (dk_at dksJ2_hashCode_0 6 rfl rfl)
theorem dJ2_hashCode_9 : decode cJ2_hashCode 9 = .ok (.aload_n 0, 1) := dk_42 (dk_at dksJ2_hashCode_0 9 rfl rfl)
theorem dJ2_hashCode_10 : decode cJ2_hashCode 10 = .ok (.getfield 23, 3) := dk_180 0 23 (dk_at dksJ2_hashCode_0 10 rfl rfl)
theorem dJ2_hashCode_13 : decode cJ2_hashCode 13 = .ok (.ifCond .ne 45, 3) := dk_154 0 45 (dk_at dksJ2_hashCode_0 13 rfl rfl)
theorem dJ2_hashCode_16 : decode cJ2_hashCode 16 = .ok (.aload_n 0, 1) := dk_42 (dk_at dksJ2_hashCode_0 16 rfl rfl)
theorem dJ2_hashCode_17 : decode cJ2_hashCode 17 = .ok (.invokevirtual 492, 3) := dk_182 1 236 (dk_at dksJ2_hashCode_0 17 rfl rfl)
theorem dJ2_hashCode_20 : decode cJ2_hashCode 20 = .ok (.ifCond .eq 13, 3) := dk_153 0 13 (dk_at dksJ2_hashCode_0 20 rfl rfl)
theorem dJ2_hashCode_23 : decode cJ2_hashCode 23 = .ok (.aload_n 0, 1) := dk_42 (dk_at dksJ2_hashCode_0 23 rfl rfl)
theorem dJ2_hashCode_24 : decode cJ2_hashCode 24 = .ok (.getfield 9, 3) := dk_180 0 9 (dk_at dksJ2_hashCode_1 0 rfl rfl)
theorem dJ2_hashCode_27 : decode cJ2_hashCode 27 = .ok (.invokestatic 628, 3) := dk_184 2 116 (dk_at dksJ2_hashCode_1 3 rfl rfl)
theorem dJ2_hashCode_30 : decode cJ2_hashCode 30 = .ok (.goto 10, 3) := dk_167 0 10 (dk_at dksJ2_hashCode_1 6 rfl rfl)
theorem dJ2_hashCode_33 : decode cJ2_hashCode 33 = .ok (.aload_n 0, 1) := dk_42 (dk_at dksJ2_hashCode_1 9 rfl rfl)
theorem dJ2_hashCode_34 : decode cJ2_hashCode 34 = .ok (.getfield 9, 3) := dk_180 0 9 (dk_at dksJ2_hashCode_1 10 rfl rfl)
theorem dJ2_hashCode_37 : decode cJ2_hashCode 37 = .ok (.invokestatic 632, 3) := dk_184 2 120 (dk_at dksJ2_hashCode_1 13 rfl rfl)
theorem dJ2_hashCode_40 : decode cJ2_hashCode 40 = .ok (.istore_n 1, 1) := dk_60 (dk_at dksJ2_hashCode_1 16 rfl rfl)
theorem dJ2_hashCode_41 : decode cJ2_hashCode 41 = .ok (.iload_n 1, 1) := dk_27 (dk_at dksJ2_hashCode_1 17 rfl rfl)
theorem dJ2_hashCode_42 : decode cJ2_hashCode 42 = .ok (.ifCond .ne 11, 3) := dk_154 0 11 (dk_at dksJ2_hashCode_1 18 rfl rfl)
theorem dJ2_hashCode_45 : decode cJ2_hashCode 45 = .ok (.aload_n 0, 1) := dk_42 (dk_at dksJ2_hashCode_1 21 rfl rfl)
theorem dJ2_hashCode_46 : decode cJ2_hashCode 46 = .ok (.iconst 1, 1) := dk_4 (dk_at dksJ2_hashCode_1 22 rfl rfl)
theorem dJ2_hashCode_47 : decode cJ2_hashCode 47 = .ok (.putfield 23, 3) := dk_181 0 23 (dk_at dksJ2_hashCode_2 0 rfl rfl)
theorem dJ2_hashCode_50 : decode cJ2_hashCode 50 = .ok (.goto 8, 3) := dk_167 0 8 (dk_at dksJ2_hashCode_2 3 rfl rfl)
theorem dJ2_hashCode_53 : decode cJ2_hashCode 53 = .ok (.aload_n 0, 1) := dk_42 (dk_at dksJ2_hashCode_2 6 rfl rfl)
theorem dJ2_hashCode_54 : decode cJ2_hashCode 54 = .ok (.iload_n 1, 1) := dk_27 (dk_at dksJ2_hashCode_2 7 rfl rfl)
theorem dJ2_hashCode_55 : decode cJ2_hashCode 55 = .ok (.putfield 19, 3) := dk_181 0 19 (dk_at dksJ2_hashCode_2 8 rfl rfl)
theorem dJ2_hashCode_58 : decode cJ2_hashCode 58 = .ok (.iload_n 1, 1) := dk_27 (dk_at dksJ2_hashCode_2 11 rfl rfl)
theorem dJ2_hashCode_59 : decode cJ2_hashCode 59 = .ok (.ireturn, 1) := dk_172 (dk_at dksJ2_hashCode_2 12 rfl rfl)
theorem q163 : (Jvm.Cond.initialized "java/lang/String") ∈ lw_all := lw_g (lw_at lw_m1 6 rfl) rfl
theorem q335 : (Jvm.Cond.laysStatic "java/lang/String" "COMPACT_STRINGS" "Z") ∈ lw_tbl := lw_at lw_m1 178 rfl
theorem q345 : (Jvm.Cond.fieldLink "java/lang/String" (1048 : Nat) "java/lang/AbstractStringBuilder" "maybeLatin1" "Z") ∈ lw_all := lw_g (lw_at lw_m1 188 rfl) rfl
theorem q423 : (Jvm.Cond.static ({ cls := "java/lang/String", name := "checkBoundsOffCount", desc := "(III)I" } : Jvm.MethodName)) ∈ lw_all := lw_g (lw_at lw_m2 26 rfl) rfl
theorem q424 : (Jvm.Cond.code ({ cls := "java/lang/String", name := "checkBoundsOffCount", desc := "(III)I" } : Jvm.MethodName) prog_38_method_157_code (3 : Nat) (Option.some Jvm.ClassFile.FieldType.int)) ∈ lw_all := lw_g (lw_at lw_m2 27 rfl) rfl
theorem q425 : (Jvm.Cond.fieldLink "java/lang/String" (1053 : Nat) "jdk/internal/util/Preconditions" "SIOOBE_FORMATTER" "Ljava/util/function/BiFunction;") ∈ lw_all := lw_g (lw_at lw_m2 28 rfl) rfl
theorem q427 : (Jvm.Cond.methodLink "java/lang/String" (1065 : Nat) ({ cls := "jdk/internal/util/Preconditions", name := "checkFromIndexSize", desc := "(IIILjava/util/function/BiFunction;)I" } : Jvm.MethodName)) ∈ lw_all := lw_g (lw_at lw_m2 30 rfl) rfl
theorem q446 : (Jvm.Cond.static ({ cls := "java/lang/String", name := "checkIndex", desc := "(II)V" } : Jvm.MethodName)) ∈ lw_all := lw_g (lw_at lw_m2 49 rfl) rfl
theorem q447 : (Jvm.Cond.code ({ cls := "java/lang/String", name := "checkIndex", desc := "(II)V" } : Jvm.MethodName) prog_38_method_155_code (2 : Nat) (Option.none : Option Jvm.ClassFile.FieldType)) ∈ lw_all := lw_g (lw_at lw_m2 50 rfl) rfl
theorem q448 : (Jvm.Cond.methodLink "java/lang/String" (1059 : Nat) ({ cls := "jdk/internal/util/Preconditions", name := "checkIndex", desc := "(IILjava/util/function/BiFunction;)I" } : Jvm.MethodName)) ∈ lw_all := lw_g (lw_at lw_m2 51 rfl) rfl
theorem q456 : (Jvm.Cond.instantiable "java/lang/String" (4 : Nat)) ∈ lw_all := lw_g (lw_at lw_m2 59 rfl) rfl
theorem q458 : (Jvm.Cond.instanceMethod ({ cls := "java/lang/String", name := "<init>", desc := "(Ljava/lang/StringBuilder;)V" } : Jvm.MethodName)) ∈ lw_all := lw_g (lw_at lw_m2 61 rfl) rfl
theorem q459 : (Jvm.Cond.code ({ cls := "java/lang/String", name := "<init>", desc := "(Ljava/lang/StringBuilder;)V" } : Jvm.MethodName) prog_38_method_53_code (2 : Nat) (Option.none : Option Jvm.ClassFile.FieldType)) ∈ lw_all := lw_g (lw_at lw_m2 62 rfl) rfl
theorem q460 : (Jvm.Cond.methodLink "java/lang/String" (489 : Nat) ({ cls := "java/lang/String", name := "<init>", desc := "(Ljava/lang/AbstractStringBuilder;Ljava/lang/Void;)V" } : Jvm.MethodName)) ∈ lw_all := lw_g (lw_at lw_m2 63 rfl) rfl
theorem q461 : (Jvm.Cond.instanceMethod ({ cls := "java/lang/String", name := "<init>", desc := "(Ljava/lang/AbstractStringBuilder;Ljava/lang/Void;)V" } : Jvm.MethodName)) ∈ lw_all := lw_g (lw_at lw_m2 64 rfl) rfl
theorem q462 : (Jvm.Cond.code ({ cls := "java/lang/String", name := "<init>", desc := "(Ljava/lang/AbstractStringBuilder;Ljava/lang/Void;)V" } : Jvm.MethodName) prog_38_method_150_code (5 : Nat) (Option.none : Option Jvm.ClassFile.FieldType)) ∈ lw_all := lw_g (lw_at lw_m2 65 rfl) rfl
theorem q463 : (Jvm.Cond.methodLink "java/lang/String" (1 : Nat) ({ cls := "java/lang/Object", name := "<init>", desc := "()V" } : Jvm.MethodName)) ∈ lw_all := lw_g (lw_at lw_m2 66 rfl) rfl
theorem q464 : (Jvm.Cond.methodLink "java/lang/String" (552 : Nat) ({ cls := "java/lang/AbstractStringBuilder", name := "getValue", desc := "()[B" } : Jvm.MethodName)) ∈ lw_all := lw_g (lw_at lw_m2 67 rfl) rfl
theorem q469 : (Jvm.Cond.methodLink "java/lang/String" (549 : Nat) ({ cls := "java/lang/AbstractStringBuilder", name := "length", desc := "()I" } : Jvm.MethodName)) ∈ lw_all := lw_g (lw_at lw_m2 72 rfl) rfl
theorem q477 : (Jvm.Cond.methodLink "java/lang/String" (1047 : Nat) ({ cls := "java/lang/AbstractStringBuilder", name := "isLatin1", desc := "()Z" } : Jvm.MethodName)) ∈ lw_all := lw_g (lw_at lw_m2 80 rfl) rfl
theorem q478 : (Jvm.Cond.methodLink "java/lang/String" (54 : Nat) ({ cls := "java/util/Arrays", name := "copyOfRange", desc := "([BII)[B" } : Jvm.MethodName)) ∈ lw_all := lw_g (lw_at lw_m2 81 rfl) rfl
theorem q487 : (Jvm.Cond.fieldLink "java/lang/String" (38 : Nat) "java/lang/String" "COMPACT_STRINGS" "Z") ∈ lw_all := lw_g (lw_at lw_m2 90 rfl) rfl
theorem q488 : (Jvm.Cond.methodLink "java/lang/String" (1051 : Nat) ({ cls := "java/lang/StringUTF16", name := "compress", desc := "([BII)[B" } : Jvm.MethodName)) ∈ lw_all := lw_g (lw_at lw_m2 91 rfl) rfl
theorem q498 : (Jvm.Cond.methodLink "java/lang/String" (47 : Nat) ({ cls := "java/lang/StringUTF16", name := "coderFromArrayLen", desc := "([BI)B" } : Jvm.MethodName)) ∈ lw_all := lw_g (lw_at lw_m2 101 rfl) rfl
theorem q501 : (Jvm.Cond.fieldLink "java/lang/String" (9 : Nat) "java/lang/String" "value" "[B") ∈ lw_all := lw_g (lw_at lw_m2 104 rfl) rfl
theorem q502 : (Jvm.Cond.fieldLink "java/lang/String" (15 : Nat) "java/lang/String" "coder" "B") ∈ lw_all := lw_g (lw_at lw_m2 105 rfl) rfl
theorem q503 : (Jvm.Cond.fieldLink "java/lang/String" (19 : Nat) "java/lang/String" "hash" "I") ∈ lw_all := lw_g (lw_at lw_m2 106 rfl) rfl
theorem q504 : (Jvm.Cond.fieldLink "java/lang/String" (23 : Nat) "java/lang/String" "hashIsZero" "Z") ∈ lw_all := lw_g (lw_at lw_m2 107 rfl) rfl
theorem q505 : (Jvm.Cond.laysFinal "java/lang/String" "java/lang/String" "value" "[B") ∈ lw_all := lw_g (lw_at lw_m2 108 rfl) rfl
theorem q506 : (Jvm.Cond.soleField "java/lang/String" "value") ∈ lw_all := lw_g (lw_at lw_m2 109 rfl) rfl
theorem q507 : (Jvm.Cond.laysFinal "java/lang/String" "java/lang/String" "coder" "B") ∈ lw_all := lw_g (lw_at lw_m2 110 rfl) rfl
theorem q508 : (Jvm.Cond.soleField "java/lang/String" "coder") ∈ lw_all := lw_g (lw_at lw_m2 111 rfl) rfl
theorem q509 : (Jvm.Cond.lays "java/lang/String" "java/lang/String" "hash" "I") ∈ lw_all := lw_g (lw_at lw_m2 112 rfl) rfl
theorem q510 : (Jvm.Cond.soleField "java/lang/String" "hash") ∈ lw_all := lw_g (lw_at lw_m2 113 rfl) rfl
theorem q511 : (Jvm.Cond.lays "java/lang/String" "java/lang/String" "hashIsZero" "Z") ∈ lw_all := lw_g (lw_at lw_m2 114 rfl) rfl
theorem q512 : (Jvm.Cond.soleField "java/lang/String" "hashIsZero") ∈ lw_all := lw_g (lw_at lw_m2 115 rfl) rfl
theorem q513 : (Jvm.Cond.superclass "java/lang/String" "java/lang/Object") ∈ lw_all := lw_g (lw_at lw_m2 116 rfl) rfl
theorem q516 : (Jvm.Cond.instanceMethod ({ cls := "java/lang/String", name := "indexOf", desc := "(I)I" } : Jvm.MethodName)) ∈ lw_all := lw_g (lw_at lw_m2 119 rfl) rfl
theorem q517 : (Jvm.Cond.selects "java/lang/String" ({ cls := "java/lang/String", name := "indexOf", desc := "(I)I" } : Jvm.MethodName) ({ cls := "java/lang/String", name := "indexOf", desc := "(I)I" } : Jvm.MethodName)) ∈ lw_all := lw_g (lw_at lw_m2 120 rfl) rfl
theorem q518 : (Jvm.Cond.code ({ cls := "java/lang/String", name := "indexOf", desc := "(I)I" } : Jvm.MethodName) prog_38_method_79_code (2 : Nat) (Option.some Jvm.ClassFile.FieldType.int)) ∈ lw_all := lw_g (lw_at lw_m2 121 rfl) rfl
theorem q519 : (Jvm.Cond.methodLink "java/lang/String" (633 : Nat) ({ cls := "java/lang/String", name := "indexOf", desc := "(II)I" } : Jvm.MethodName)) ∈ lw_all := lw_g (lw_at lw_m2 122 rfl) rfl
theorem q520 : (Jvm.Cond.instanceMethod ({ cls := "java/lang/String", name := "indexOf", desc := "(II)I" } : Jvm.MethodName)) ∈ lw_all := lw_g (lw_at lw_m2 123 rfl) rfl
theorem q521 : (Jvm.Cond.selects "java/lang/String" ({ cls := "java/lang/String", name := "indexOf", desc := "(II)I" } : Jvm.MethodName) ({ cls := "java/lang/String", name := "indexOf", desc := "(II)I" } : Jvm.MethodName)) ∈ lw_all := lw_g (lw_at lw_m2 124 rfl) rfl
theorem q522 : (Jvm.Cond.code ({ cls := "java/lang/String", name := "indexOf", desc := "(II)I" } : Jvm.MethodName) prog_38_method_80_code (3 : Nat) (Option.some Jvm.ClassFile.FieldType.int)) ∈ lw_all := lw_g (lw_at lw_m2 125 rfl) rfl
theorem q523 : (Jvm.Cond.methodLink "java/lang/String" (492 : Nat) ({ cls := "java/lang/String", name := "isLatin1", desc := "()Z" } : Jvm.MethodName)) ∈ lw_all := lw_g (lw_at lw_m2 126 rfl) rfl
theorem q524 : (Jvm.Cond.instanceMethod ({ cls := "java/lang/String", name := "isLatin1", desc := "()Z" } : Jvm.MethodName)) ∈ lw_all := lw_g (lw_at lw_m2 127 rfl) rfl
theorem q525 : (Jvm.Cond.selects "java/lang/String" ({ cls := "java/lang/String", name := "isLatin1", desc := "()Z" } : Jvm.MethodName) ({ cls := "java/lang/String", name := "isLatin1", desc := "()Z" } : Jvm.MethodName)) ∈ lw_all := lw_g (lw_at lw_m2 128 rfl) rfl
theorem q526 : (Jvm.Cond.code ({ cls := "java/lang/String", name := "isLatin1", desc := "()Z" } : Jvm.MethodName) prog_38_method_154_code (1 : Nat) (Option.some Jvm.ClassFile.FieldType.boolean)) ∈ lw_all := lw_g (lw_at lw_m2 129 rfl) rfl
theorem q527 : (Jvm.Cond.methodLink "java/lang/String" (505 : Nat) ({ cls := "java/lang/String", name := "length", desc := "()I" } : Jvm.MethodName)) ∈ lw_all := lw_g (lw_at lw_m2 130 rfl) rfl
theorem q528 : (Jvm.Cond.instanceMethod ({ cls := "java/lang/String", name := "length", desc := "()I" } : Jvm.MethodName)) ∈ lw_all := lw_g (lw_at lw_m2 131 rfl) rfl
theorem q529 : (Jvm.Cond.selects "java/lang/String" ({ cls := "java/lang/String", name := "length", desc := "()I" } : Jvm.MethodName) ({ cls := "java/lang/String", name := "length", desc := "()I" } : Jvm.MethodName)) ∈ lw_all := lw_g (lw_at lw_m2 132 rfl) rfl
theorem q530 : (Jvm.Cond.code ({ cls := "java/lang/String", name := "length", desc := "()I" } : Jvm.MethodName) prog_38_method_54_code (1 : Nat) (Option.some Jvm.ClassFile.FieldType.int)) ∈ lw_all := lw_g (lw_at lw_m2 133 rfl) rfl
theorem q531 : (Jvm.Cond.methodLink "java/lang/String" (335 : Nat) ({ cls := "java/lang/String", name := "coder", desc := "()B" } : Jvm.MethodName)) ∈ lw_all := lw_g (lw_at lw_m2 134 rfl) rfl
theorem q532 : (Jvm.Cond.instanceMethod ({ cls := "java/lang/String", name := "coder", desc := "()B" } : Jvm.MethodName)) ∈ lw_all := lw_g (lw_at lw_m2 135 rfl) rfl
theorem q533 : (Jvm.Cond.selects "java/lang/String" ({ cls := "java/lang/String", name := "coder", desc := "()B" } : Jvm.MethodName) ({ cls := "java/lang/String", name := "coder", desc := "()B" } : Jvm.MethodName)) ∈ lw_all := lw_g (lw_at lw_m2 136 rfl) rfl
theorem q534 : (Jvm.Cond.code ({ cls := "java/lang/String", name := "coder", desc := "()B" } : Jvm.MethodName) prog_38_method_152_code (1 : Nat) (Option.some Jvm.ClassFile.FieldType.byte)) ∈ lw_all := lw_g (lw_at lw_m2 137 rfl) rfl
theorem q535 : (Jvm.Cond.methodLink "java/lang/String" (637 : Nat) ({ cls := "java/lang/StringLatin1", name := "indexOf", desc := "([BIII)I" } : Jvm.MethodName)) ∈ lw_all := lw_g (lw_at lw_m2 138 rfl) rfl
theorem q546 : (Jvm.Cond.methodLink "java/lang/String" (640 : Nat) ({ cls := "java/lang/StringUTF16", name := "indexOf", desc := "([BIII)I" } : Jvm.MethodName)) ∈ lw_all := lw_g (lw_at lw_m2 149 rfl) rfl
theorem q559 : (Jvm.Cond.static ({ cls := "java/lang/String", name := "checkBoundsBeginEnd", desc := "(III)V" } : Jvm.MethodName)) ∈ lw_all := lw_g (lw_at lw_m2 162 rfl) rfl
theorem q560 : (Jvm.Cond.code ({ cls := "java/lang/String", name := "checkBoundsBeginEnd", desc := "(III)V" } : Jvm.MethodName) prog_38_method_158_code (3 : Nat) (Option.none : Option Jvm.ClassFile.FieldType)) ∈ lw_all := lw_g (lw_at lw_m2 163 rfl) rfl
theorem q561 : (Jvm.Cond.methodLink "java/lang/String" (1062 : Nat) ({ cls := "jdk/internal/util/Preconditions", name := "checkFromToIndex", desc := "(IIILjava/util/function/BiFunction;)I" } : Jvm.MethodName)) ∈ lw_all := lw_g (lw_at lw_m2 164 rfl) rfl
theorem q698 : (Jvm.Cond.instanceMethod ({ cls := "java/lang/String", name := "equals", desc := "(Ljava/lang/Object;)Z" } : Jvm.MethodName)) ∈ lw_all := lw_g (lw_at lw_m3 61 rfl) rfl
theorem q699 : (Jvm.Cond.selects "java/lang/String" ({ cls := "java/lang/String", name := "equals", desc := "(Ljava/lang/Object;)Z" } : Jvm.MethodName) ({ cls := "java/lang/String", name := "equals", desc := "(Ljava/lang/Object;)Z" } : Jvm.MethodName)) ∈ lw_all := lw_g (lw_at lw_m3 62 rfl) rfl
theorem q700 : (Jvm.Cond.code ({ cls := "java/lang/String", name := "equals", desc := "(Ljava/lang/Object;)Z" } : Jvm.MethodName) prog_38_method_66_code (3 : Nat) (Option.some Jvm.ClassFile.FieldType.boolean)) ∈ lw_all := lw_g (lw_at lw_m3 63 rfl) rfl
theorem q701 : (Jvm.Cond.classLink "java/lang/String" (10 : Nat) "java/lang/String") ∈ lw_all := lw_g (lw_at lw_m3 64 rfl) rfl
theorem q702 : (Jvm.Cond.methodLink "java/lang/String" (541 : Nat) ({ cls := "java/lang/StringLatin1", name := "equals", desc := "([B[B)Z" } : Jvm.MethodName)) ∈ lw_all := lw_g (lw_at lw_m3 65 rfl) rfl
theorem q794 : (Jvm.Cond.instanceMethod ({ cls := "java/lang/String", name := "hashCode", desc := "()I" } : Jvm.MethodName)) ∈ lw_all := lw_g (lw_at lw_m3 157 rfl) rfl
theorem q795 : (Jvm.Cond.selects "java/lang/String" ({ cls := "java/lang/String", name := "hashCode", desc := "()I" } : Jvm.MethodName) ({ cls := "java/lang/String", name := "hashCode", desc := "()I" } : Jvm.MethodName)) ∈ lw_all := lw_g (lw_at lw_m3 158 rfl) rfl
theorem q796 : (Jvm.Cond.code ({ cls := "java/lang/String", name := "hashCode", desc := "()I" } : Jvm.MethodName) prog_38_method_78_code (2 : Nat) (Option.some Jvm.ClassFile.FieldType.int)) ∈ lw_all := lw_g (lw_at lw_m3 159 rfl) rfl
theorem q797 : (Jvm.Cond.methodLink "java/lang/String" (628 : Nat) ({ cls := "java/lang/StringLatin1", name := "hashCode", desc := "([B)I" } : Jvm.MethodName)) ∈ lw_all := lw_g (lw_at lw_m3 160 rfl) rfl
theorem q838 : (Jvm.Cond.methodLink "java/lang/String" (632 : Nat) ({ cls := "java/lang/StringUTF16", name := "hashCode", desc := "([B)I" } : Jvm.MethodName)) ∈ lw_all := lw_g (lw_at lw_m3 201 rfl) rfl
theorem q969 : (Jvm.Cond.selects "java/lang/String" ({ cls := "java/lang/Object", name := "equals", desc := "(Ljava/lang/Object;)Z" } : Jvm.MethodName) ({ cls := "java/lang/String", name := "equals", desc := "(Ljava/lang/Object;)Z" } : Jvm.MethodName)) ∈ lw_all := lw_g (lw_at lw_m4 92 rfl) rfl
theorem q1019 : (Jvm.Cond.selects "java/lang/String" ({ cls := "java/lang/Object", name := "getClass", desc := "()Ljava/lang/Class;" } : Jvm.MethodName) ({ cls := "java/lang/Object", name := "getClass", desc := "()Ljava/lang/Class;" } : Jvm.MethodName)) ∈ lw_all := lw_g (lw_at lw_m4 142 rfl) rfl
theorem q2934 : (Jvm.Cond.castable "java/lang/String" "java/lang/Object") ∈ lw_tbl := lw_at lw_m12 137 rfl
theorem in_J2 : ∀ w ∈ wsJ20, w ∈ lw_all := lw_in wsJ20 [505, 507, 509, 511] (by decide +kernel) (by decide +kernel)
/-! java/lang/StringUTF16 -/
set_option maxRecDepth 100000
def RJ3 : String := "java/lang/StringUTF16"
abbrev cJ3_newBytesFor : ByteArray := prog_41_method_2_code
def yJ3_newBytesFor : MethodName := ⟨RJ3, "newBytesFor", "(I)[B"⟩
def dkwJ3_newBytesFor_0 : List UInt8 := [26, 184, 0, 11, 188, 8, 176]
abbrev dktJ3_newBytesFor_0 : List UInt8 := dkwJ3_newBytesFor_0 ++ []
theorem dksJ3_newBytesFor_0 : cJ3_newBytesFor.data.toList.drop 0 = dktJ3_newBytesFor_0 := by decide +kernel
theorem dJ3_newBytesFor_0 : decode cJ3_newBytesFor 0 = .ok (.iload_n 0, 1) := dk_26 (dk_at dksJ3_newBytesFor_0 0 rfl rfl)
theorem dJ3_newBytesFor_1 : decode cJ3_newBytesFor 1 = .ok (.invokestatic 11, 3) := dk_184 0 11 (dk_at dksJ3_newBytesFor_0 1 rfl rfl)
theorem dJ3_newBytesFor_4 : decode cJ3_newBytesFor 4 = .ok (.newarray .byte, 2) := dk_188_8 (dk_at dksJ3_newBytesFor_0 4 rfl rfl)
theorem dJ3_newBytesFor_6 : decode cJ3_newBytesFor 6 = .ok (.areturn, 1) := dk_176 (dk_at dksJ3_newBytesFor_0 6 rfl rfl)
abbrev cJ3_newBytesLength : ByteArray := prog_41_method_3_code
def yJ3_newBytesLength : MethodName := ⟨RJ3, "newBytesLength", "(I)I"⟩
def dkwJ3_newBytesLength_2 : List UInt8 := [182, 0, 32, 182, 0, 37, 183, 0, 41, 191, 26, 4, 120, 172]
abbrev dktJ3_newBytesLength_2 : List UInt8 := dkwJ3_newBytesLength_2 ++ []
def dkwJ3_newBytesLength_1 : List UInt8 := [187, 0, 23, 89, 183, 0, 25, 18, 26, 182, 0, 28, 26, 182, 0, 32, 18, 35, 182, 0, 28, 18, 20]
abbrev dktJ3_newBytesLength_1 : List UInt8 := dkwJ3_newBytesLength_1 ++ dktJ3_newBytesLength_2
def dkwJ3_newBytesLength_0 : List UInt8 := [26, 156, 0, 11, 187, 0, 17, 89, 183, 0, 19, 191, 26, 18, 20, 161, 0, 40, 187, 0, 21, 89]
abbrev dktJ3_newBytesLength_0 : List UInt8 := dkwJ3_newBytesLength_0 ++ dktJ3_newBytesLength_1
theorem dksJ3_newBytesLength_0 : cJ3_newBytesLength.data.toList.drop 0 = dktJ3_newBytesLength_0 := by decide +kernel
theorem dksJ3_newBytesLength_1 : cJ3_newBytesLength.data.toList.drop 22 = dktJ3_newBytesLength_1 := dk_seg dksJ3_newBytesLength_0 22 rfl rfl
theorem dksJ3_newBytesLength_2 : cJ3_newBytesLength.data.toList.drop 45 = dktJ3_newBytesLength_2 := dk_seg dksJ3_newBytesLength_1 23 rfl rfl
theorem dJ3_newBytesLength_0 : decode cJ3_newBytesLength 0 = .ok (.iload_n 0, 1) := dk_26 (dk_at dksJ3_newBytesLength_0 0 rfl rfl)
theorem dJ3_newBytesLength_1 : decode cJ3_newBytesLength 1 = .ok (.ifCond .ge 11, 3) := dk_156 0 11 (dk_at dksJ3_newBytesLength_0 1 rfl rfl)
theorem dJ3_newBytesLength_4 : decode cJ3_newBytesLength 4 = .ok (.new 17, 3) := dk_187 0 17 (dk_at dksJ3_newBytesLength_0 4 rfl rfl)
theorem dJ3_newBytesLength_7 : decode cJ3_newBytesLength 7 = .ok (.dup, 1) := dk_89 (dk_at dksJ3_newBytesLength_0 7 rfl rfl)
theorem dJ3_newBytesLength_8 : decode cJ3_newBytesLength 8 = .ok (.invokespecial 19, 3) := dk_183 0 19 (dk_at dksJ3_newBytesLength_0 8 rfl rfl)
theorem dJ3_newBytesLength_11 : decode cJ3_newBytesLength 11 = .ok (.athrow, 1) := dk_191 (dk_at dksJ3_newBytesLength_0 11 rfl rfl)
theorem dJ3_newBytesLength_12 : decode cJ3_newBytesLength 12 = .ok (.iload_n 0, 1) := dk_26 (dk_at dksJ3_newBytesLength_0 12 rfl rfl)
theorem dJ3_newBytesLength_13 : decode cJ3_newBytesLength 13 = .ok (.ldc 20, 2) := dk_18 20 (dk_at dksJ3_newBytesLength_0 13 rfl rfl)
theorem dJ3_newBytesLength_15 : decode cJ3_newBytesLength 15 = .ok (.if_icmp .lt 40, 3) := dk_161 0 40 (dk_at dksJ3_newBytesLength_0 15 rfl rfl)
theorem dJ3_newBytesLength_18 : decode cJ3_newBytesLength 18 = .ok (.new 21, 3) := dk_187 0 21 (dk_at dksJ3_newBytesLength_0 18 rfl rfl)
theorem dJ3_newBytesLength_21 : decode cJ3_newBytesLength 21 = .ok (.dup, 1) := dk_89 (dk_at dksJ3_newBytesLength_0 21 rfl rfl)
theorem dJ3_newBytesLength_22 : decode cJ3_newBytesLength 22 = .ok (.new 23, 3) := dk_187 0 23 (dk_at dksJ3_newBytesLength_1 0 rfl rfl)
theorem dJ3_newBytesLength_25 : decode cJ3_newBytesLength 25 = .ok (.dup, 1) := dk_89 (dk_at dksJ3_newBytesLength_1 3 rfl rfl)
theorem dJ3_newBytesLength_26 : decode cJ3_newBytesLength 26 = .ok (.invokespecial 25, 3) := dk_183 0 25 (dk_at dksJ3_newBytesLength_1 4 rfl rfl)
theorem dJ3_newBytesLength_29 : decode cJ3_newBytesLength 29 = .ok (.ldc 26, 2) := dk_18 26 (dk_at dksJ3_newBytesLength_1 7 rfl rfl)
theorem dJ3_newBytesLength_31 : decode cJ3_newBytesLength 31 = .ok (.invokevirtual 28, 3) := dk_182 0 28 (dk_at dksJ3_newBytesLength_1 9 rfl rfl)
theorem dJ3_newBytesLength_34 : decode cJ3_newBytesLength 34 = .ok (.iload_n 0, 1) := dk_26 (dk_at dksJ3_newBytesLength_1 12 rfl rfl)
theorem dJ3_newBytesLength_35 : decode cJ3_newBytesLength 35 = .ok (.invokevirtual 32, 3) := dk_182 0 32 (dk_at dksJ3_newBytesLength_1 13 rfl rfl)
theorem dJ3_newBytesLength_38 : decode cJ3_newBytesLength 38 = .ok (.ldc 35, 2) := dk_18 35 (dk_at dksJ3_newBytesLength_1 16 rfl rfl)
theorem dJ3_newBytesLength_40 : decode cJ3_newBytesLength 40 = .ok (.invokevirtual 28, 3) := dk_182 0 28 (dk_at dksJ3_newBytesLength_1 18 rfl rfl)
theorem dJ3_newBytesLength_43 : decode cJ3_newBytesLength 43 = .ok (.ldc 20, 2) := dk_18 20 (dk_at dksJ3_newBytesLength_1 21 rfl rfl)
theorem dJ3_newBytesLength_45 : decode cJ3_newBytesLength 45 = .ok (.invokevirtual 32, 3) := dk_182 0 32 (dk_at dksJ3_newBytesLength_2 0 rfl rfl)
theorem dJ3_newBytesLength_48 : decode cJ3_newBytesLength 48 = .ok (.invokevirtual 37, 3) := dk_182 0 37 (dk_at dksJ3_newBytesLength_2 3 rfl rfl)
theorem dJ3_newBytesLength_51 : decode cJ3_newBytesLength 51 = .ok (.invokespecial 41, 3) := dk_183 0 41 (dk_at dksJ3_newBytesLength_2 6 rfl rfl)
theorem dJ3_newBytesLength_54 : decode cJ3_newBytesLength 54 = .ok (.athrow, 1) := dk_191 (dk_at dksJ3_newBytesLength_2 9 rfl rfl)
theorem dJ3_newBytesLength_55 : decode cJ3_newBytesLength 55 = .ok (.iload_n 0, 1) := dk_26 (dk_at dksJ3_newBytesLength_2 10 rfl rfl)
theorem dJ3_newBytesLength_56 : decode cJ3_newBytesLength 56 = .ok (.iconst 1, 1) := dk_4 (dk_at dksJ3_newBytesLength_2 11 rfl rfl)
theorem dJ3_newBytesLength_57 : decode cJ3_newBytesLength 57 = .ok (.ishl, 1) := dk_120 (dk_at dksJ3_newBytesLength_2 12 rfl rfl)
theorem dJ3_newBytesLength_58 : decode cJ3_newBytesLength 58 = .ok (.ireturn, 1) := dk_172 (dk_at dksJ3_newBytesLength_2 13 rfl rfl)
abbrev cJ3_inflate : ByteArray := prog_41_method_86_code
def yJ3_inflate : MethodName := ⟨RJ3, "inflate", "([BI[BII)V"⟩
def dkwJ3_inflate_1 : List UInt8 := [132, 1, 1, 51, 17, 0, 255, 126, 184, 0, 111, 132, 5, 1, 167, 255, 228, 177]
abbrev dktJ3_inflate_1 : List UInt8 := dkwJ3_inflate_1 ++ []
def dkwJ3_inflate_0 : List UInt8 := [29, 21, 4, 44, 184, 0, 173, 3, 54, 5, 21, 5, 21, 4, 162, 0, 27, 44, 29, 132, 3, 1, 42, 27]
abbrev dktJ3_inflate_0 : List UInt8 := dkwJ3_inflate_0 ++ dktJ3_inflate_1
theorem dksJ3_inflate_0 : cJ3_inflate.data.toList.drop 0 = dktJ3_inflate_0 := by decide +kernel
theorem dksJ3_inflate_1 : cJ3_inflate.data.toList.drop 24 = dktJ3_inflate_1 := dk_seg dksJ3_inflate_0 24 rfl rfl
theorem dJ3_inflate_0 : decode cJ3_inflate 0 = .ok (.iload_n 3, 1) := dk_29 (dk_at dksJ3_inflate_0 0 rfl rfl)
theorem dJ3_inflate_1 : decode cJ3_inflate 1 = .ok (.iload 4, 2) := dk_21 4 (dk_at dksJ3_inflate_0 1 rfl rfl)
theorem dJ3_inflate_3 : decode cJ3_inflate 3 = .ok (.aload_n 2, 1) := dk_44 (dk_at dksJ3_inflate_0 3 rfl rfl)
theorem dJ3_inflate_4 : decode cJ3_inflate 4 = .ok (.invokestatic 173, 3) := dk_184 0 173 (dk_at dksJ3_inflate_0 4 rfl rfl)
theorem dJ3_inflate_7 : decode cJ3_inflate 7 = .ok (.iconst 0, 1) := dk_3 (dk_at dksJ3_inflate_0 7 rfl rfl)
theorem dJ3_inflate_8 : decode cJ3_inflate 8 = .ok (.istore 5, 2) := dk_54 5 (dk_at dksJ3_inflate_0 8 rfl rfl)
theorem dJ3_inflate_10 : decode cJ3_inflate 10 = .ok (.iload 5, 2) := dk_21 5 (dk_at dksJ3_inflate_0 10 rfl rfl)
theorem dJ3_inflate_12 : decode cJ3_inflate 12 = .ok (.iload 4, 2) := dk_21 4 (dk_at dksJ3_inflate_0 12 rfl rfl)
theorem dJ3_inflate_14 : decode cJ3_inflate 14 = .ok (.if_icmp .ge 27, 3) := dk_162 0 27 (dk_at dksJ3_inflate_0 14 rfl rfl)
theorem dJ3_inflate_17 : decode cJ3_inflate 17 = .ok (.aload_n 2, 1) := dk_44 (dk_at dksJ3_inflate_0 17 rfl rfl)
theorem dJ3_inflate_18 : decode cJ3_inflate 18 = .ok (.iload_n 3, 1) := dk_29 (dk_at dksJ3_inflate_0 18 rfl rfl)
theorem dJ3_inflate_19 : decode cJ3_inflate 19 = .ok (.iinc 3 1, 3) := dk_132 3 1 (dk_at dksJ3_inflate_0 19 rfl rfl)
theorem dJ3_inflate_22 : decode cJ3_inflate 22 = .ok (.aload_n 0, 1) := dk_42 (dk_at dksJ3_inflate_0 22 rfl rfl)
theorem dJ3_inflate_23 : decode cJ3_inflate 23 = .ok (.iload_n 1, 1) := dk_27 (dk_at dksJ3_inflate_0 23 rfl rfl)
theorem dJ3_inflate_24 : decode cJ3_inflate 24 = .ok (.iinc 1 1, 3) := dk_132 1 1 (dk_at dksJ3_inflate_1 0 rfl rfl)
theorem dJ3_inflate_27 : decode cJ3_inflate 27 = .ok (.baload, 1) := dk_51 (dk_at dksJ3_inflate_1 3 rfl rfl)
theorem dJ3_inflate_28 : decode cJ3_inflate 28 = .ok (.sipush 255, 3) := dk_17 0 255 (dk_at dksJ3_inflate_1 4 rfl rfl)
theorem dJ3_inflate_31 : decode cJ3_inflate 31 = .ok (.iand, 1) := dk_126 (dk_at dksJ3_inflate_1 7 rfl rfl)
theorem dJ3_inflate_32 : decode cJ3_inflate 32 = .ok (.invokestatic 111, 3) := dk_184 0 111 (dk_at dksJ3_inflate_1 8 rfl rfl)
theorem dJ3_inflate_35 : decode cJ3_inflate 35 = .ok (.iinc 5 1, 3) := dk_132 5 1 (dk_at dksJ3_inflate_1 11 rfl rfl)
theorem dJ3_inflate_38 : decode cJ3_inflate 38 = .ok (.goto (-28), 3) := dk_167 255 228 (dk_at dksJ3_inflate_1 14 rfl rfl)
theorem dJ3_inflate_41 : decode cJ3_inflate 41 = .ok (.return_, 1) := dk_177 (dk_at dksJ3_inflate_1 17 rfl rfl)
abbrev cJ3_checkBoundsOffCount : ByteArray := prog_41_method_94_code
def yJ3_checkBoundsOffCount : MethodName := ⟨RJ3, "checkBoundsOffCount", "(II[B)V"⟩
def dkwJ3_checkBoundsOffCount_0 : List UInt8 := [26, 27, 44, 184, 0, 48, 184, 1, 163, 87, 177]
abbrev dktJ3_checkBoundsOffCount_0 : List UInt8 := dkwJ3_checkBoundsOffCount_0 ++ []
theorem dksJ3_checkBoundsOffCount_0 : cJ3_checkBoundsOffCount.data.toList.drop 0 = dktJ3_checkBoundsOffCount_0 := by decide +kernel
theorem dJ3_checkBoundsOffCount_0 : decode cJ3_checkBoundsOffCount 0 = .ok (.iload_n 0, 1) := dk_26 (dk_at dksJ3_checkBoundsOffCount_0 0 rfl rfl)
theorem dJ3_checkBoundsOffCount_1 : decode cJ3_checkBoundsOffCount 1 = .ok (.iload_n 1, 1) := dk_27 (dk_at dksJ3_checkBoundsOffCount_0 1 rfl rfl)
theorem dJ3_checkBoundsOffCount_2 : decode cJ3_checkBoundsOffCount 2 = .ok (.aload_n 2, 1) := dk_44 (dk_at dksJ3_checkBoundsOffCount_0 2 rfl rfl)
theorem dJ3_checkBoundsOffCount_3 : decode cJ3_checkBoundsOffCount 3 = .ok (.invokestatic 48, 3) := dk_184 0 48 (dk_at dksJ3_checkBoundsOffCount_0 3 rfl rfl)
theorem dJ3_checkBoundsOffCount_6 : decode cJ3_checkBoundsOffCount 6 = .ok (.invokestatic 419, 3) := dk_184 1 163 (dk_at dksJ3_checkBoundsOffCount_0 6 rfl rfl)
theorem dJ3_checkBoundsOffCount_9 : decode cJ3_checkBoundsOffCount 9 = .ok (.pop, 1) := dk_87 (dk_at dksJ3_checkBoundsOffCount_0 9 rfl rfl)
theorem dJ3_checkBoundsOffCount_10 : decode cJ3_checkBoundsOffCount 10 = .ok (.return_, 1) := dk_177 (dk_at dksJ3_checkBoundsOffCount_0 10 rfl rfl)
abbrev cJ3_length : ByteArray := prog_41_method_6_code
def yJ3_length : MethodName := ⟨RJ3, "length", "([B)I"⟩
def dkwJ3_length_0 : List UInt8 := [42, 190, 4, 122, 172]
abbrev dktJ3_length_0 : List UInt8 := dkwJ3_length_0 ++ []
theorem dksJ3_length_0 : cJ3_length.data.toList.drop 0 = dktJ3_length_0 := by decide +kernel
theorem dJ3_length_0 : decode cJ3_length 0 = .ok (.aload_n 0, 1) := dk_42 (dk_at dksJ3_length_0 0 rfl rfl)
theorem dJ3_length_1 : decode cJ3_length 1 = .ok (.arraylength, 1) := dk_190 (dk_at dksJ3_length_0 1 rfl rfl)
theorem dJ3_length_2 : decode cJ3_length 2 = .ok (.iconst 1, 1) := dk_4 (dk_at dksJ3_length_0 2 rfl rfl)
theorem dJ3_length_3 : decode cJ3_length 3 = .ok (.ishr, 1) := dk_122 (dk_at dksJ3_length_0 3 rfl rfl)
theorem dJ3_length_4 : decode cJ3_length 4 = .ok (.ireturn, 1) := dk_172 (dk_at dksJ3_length_0 4 rfl rfl)
abbrev cJ3_putChar : ByteArray := prog_41_method_4_code
def yJ3_putChar : MethodName := ⟨RJ3, "putChar", "([BII)V"⟩
def dkwJ3_putChar_2 : List UInt8 := [178, 0, 63, 122, 145, 84, 177]
abbrev dktJ3_putChar_2 : List UInt8 := dkwJ3_putChar_2 ++ []
def dkwJ3_putChar_1 : List UInt8 := [183, 0, 56, 191, 27, 4, 120, 60, 42, 27, 132, 1, 1, 28, 178, 0, 59, 122, 145, 84, 42, 27, 28]
abbrev dktJ3_putChar_1 : List UInt8 := dkwJ3_putChar_1 ++ dktJ3_putChar_2
def dkwJ3_putChar_0 : List UInt8 := [178, 0, 44, 154, 0, 25, 27, 155, 0, 11, 27, 42, 184, 0, 48, 161, 0, 13, 187, 0, 52, 89, 18, 54]
abbrev dktJ3_putChar_0 : List UInt8 := dkwJ3_putChar_0 ++ dktJ3_putChar_1
theorem dksJ3_putChar_0 : cJ3_putChar.data.toList.drop 0 = dktJ3_putChar_0 := by decide +kernel
theorem dksJ3_putChar_1 : cJ3_putChar.data.toList.drop 24 = dktJ3_putChar_1 := dk_seg dksJ3_putChar_0 24 rfl rfl
theorem dksJ3_putChar_2 : cJ3_putChar.data.toList.drop 47 = dktJ3_putChar_2 := dk_seg dksJ3_putChar_1 23 rfl rfl
theorem dJ3_putChar_0 : decode cJ3_putChar 0 = .ok (.getstatic 44, 3) := dk_178 0 44 (dk_at dksJ3_putChar_0 0 rfl rfl)
theorem dJ3_putChar_3 : decode cJ3_putChar 3 = .ok (.ifCond .ne 25, 3) := dk_154 0 25 (dk_at dksJ3_putChar_0 3 rfl rfl)
theorem dJ3_putChar_6 : decode cJ3_putChar 6 = .ok (.iload_n 1, 1) := dk_27 (dk_at dksJ3_putChar_0 6 rfl rfl)
theorem dJ3_putChar_7 : decode cJ3_putChar 7 = .ok (.ifCond .lt 11, 3) := dk_155 0 11 (dk_at dksJ3_putChar_0 7 rfl rfl)
theorem dJ3_putChar_10 : decode cJ3_putChar 10 = .ok (.iload_n 1, 1) := dk_27 (dk_at dksJ3_putChar_0 10 rfl rfl)
theorem dJ3_putChar_11 : decode cJ3_putChar 11 = .ok (.aload_n 0, 1) := dk_42 (dk_at dksJ3_putChar_0 11 rfl rfl)
theorem dJ3_putChar_12 : decode cJ3_putChar 12 = .ok (.invokestatic 48, 3) := dk_184 0 48 (dk_at dksJ3_putChar_0 12 rfl rfl)
theorem dJ3_putChar_15 : decode cJ3_putChar 15 = .ok (.if_icmp .lt 13, 3) := dk_161 0 13 (dk_at dksJ3_putChar_0 15 rfl rfl)
theorem dJ3_putChar_18 : decode cJ3_putChar 18 = .ok (.new 52, 3) := dk_187 0 52 (dk_at dksJ3_putChar_0 18 rfl rfl)
theorem dJ3_putChar_21 : decode cJ3_putChar 21 = .ok (.dup, 1) := dk_89 (dk_at dksJ3_putChar_0 21 rfl rfl)
theorem dJ3_putChar_22 : decode cJ3_putChar 22 = .ok (.ldc 54, 2) := dk_18 54 (dk_at dksJ3_putChar_0 22 rfl rfl)
theorem dJ3_putChar_24 : decode cJ3_putChar 24 = .ok (.invokespecial 56, 3) := dk_183 0 56 (dk_at dksJ3_putChar_1 0 rfl rfl)
theorem dJ3_putChar_27 : decode cJ3_putChar 27 = .ok (.athrow, 1) := dk_191 (dk_at dksJ3_putChar_1 3 rfl rfl)
theorem dJ3_putChar_28 : decode cJ3_putChar 28 = .ok (.iload_n 1, 1) := dk_27 (dk_at dksJ3_putChar_1 4 rfl rfl)
theorem dJ3_putChar_29 : decode cJ3_putChar 29 = .ok (.iconst 1, 1) := dk_4 (dk_at dksJ3_putChar_1 5 rfl rfl)
theorem dJ3_putChar_30 : decode cJ3_putChar 30 = .ok (.ishl, 1) := dk_120 (dk_at dksJ3_putChar_1 6 rfl rfl)
theorem dJ3_putChar_31 : decode cJ3_putChar 31 = .ok (.istore_n 1, 1) := dk_60 (dk_at dksJ3_putChar_1 7 rfl rfl)
theorem dJ3_putChar_32 : decode cJ3_putChar 32 = .ok (.aload_n 0, 1) := dk_42 (dk_at dksJ3_putChar_1 8 rfl rfl)
theorem dJ3_putChar_33 : decode cJ3_putChar 33 = .ok (.iload_n 1, 1) := dk_27 (dk_at dksJ3_putChar_1 9 rfl rfl)
theorem dJ3_putChar_34 : decode cJ3_putChar 34 = .ok (.iinc 1 1, 3) := dk_132 1 1 (dk_at dksJ3_putChar_1 10 rfl rfl)
theorem dJ3_putChar_37 : decode cJ3_putChar 37 = .ok (.iload_n 2, 1) := dk_28 (dk_at dksJ3_putChar_1 13 rfl rfl)
theorem dJ3_putChar_38 : decode cJ3_putChar 38 = .ok (.getstatic 59, 3) := dk_178 0 59 (dk_at dksJ3_putChar_1 14 rfl rfl)
theorem dJ3_putChar_41 : decode cJ3_putChar 41 = .ok (.ishr, 1) := dk_122 (dk_at dksJ3_putChar_1 17 rfl rfl)
theorem dJ3_putChar_42 : decode cJ3_putChar 42 = .ok (.i2b, 1) := dk_145 (dk_at dksJ3_putChar_1 18 rfl rfl)
theorem dJ3_putChar_43 : decode cJ3_putChar 43 = .ok (.bastore, 1) := dk_84 (dk_at dksJ3_putChar_1 19 rfl rfl)
theorem dJ3_putChar_44 : decode cJ3_putChar 44 = .ok (.aload_n 0, 1) := dk_42 (dk_at dksJ3_putChar_1 20 rfl rfl)
theorem dJ3_putChar_45 : decode cJ3_putChar 45 = .ok (.iload_n 1, 1) := dk_27 (dk_at dksJ3_putChar_1 21 rfl rfl)
theorem dJ3_putChar_46 : decode cJ3_putChar 46 = .ok (.iload_n 2, 1) := dk_28 (dk_at dksJ3_putChar_1 22 rfl rfl)
theorem dJ3_putChar_47 : decode cJ3_putChar 47 = .ok (.getstatic 63, 3) := dk_178 0 63 (dk_at dksJ3_putChar_2 0 rfl rfl)
theorem dJ3_putChar_50 : decode cJ3_putChar 50 = .ok (.ishr, 1) := dk_122 (dk_at dksJ3_putChar_2 3 rfl rfl)
theorem dJ3_putChar_51 : decode cJ3_putChar 51 = .ok (.i2b, 1) := dk_145 (dk_at dksJ3_putChar_2 4 rfl rfl)
theorem dJ3_putChar_52 : decode cJ3_putChar 52 = .ok (.bastore, 1) := dk_84 (dk_at dksJ3_putChar_2 5 rfl rfl)
theorem dJ3_putChar_53 : decode cJ3_putChar 53 = .ok (.return_, 1) := dk_177 (dk_at dksJ3_putChar_2 6 rfl rfl)
abbrev cJ3_putCharSB : ByteArray := prog_41_method_71_code
def yJ3_putCharSB : MethodName := ⟨RJ3, "putCharSB", "([BII)V"⟩
def dkwJ3_putCharSB_0 : List UInt8 := [27, 42, 184, 0, 67, 42, 27, 28, 184, 0, 111, 177]
abbrev dktJ3_putCharSB_0 : List UInt8 := dkwJ3_putCharSB_0 ++ []
theorem dksJ3_putCharSB_0 : cJ3_putCharSB.data.toList.drop 0 = dktJ3_putCharSB_0 := by decide +kernel
theorem dJ3_putCharSB_0 : decode cJ3_putCharSB 0 = .ok (.iload_n 1, 1) := dk_27 (dk_at dksJ3_putCharSB_0 0 rfl rfl)
theorem dJ3_putCharSB_1 : decode cJ3_putCharSB 1 = .ok (.aload_n 0, 1) := dk_42 (dk_at dksJ3_putCharSB_0 1 rfl rfl)
theorem dJ3_putCharSB_2 : decode cJ3_putCharSB 2 = .ok (.invokestatic 67, 3) := dk_184 0 67 (dk_at dksJ3_putCharSB_0 2 rfl rfl)
theorem dJ3_putCharSB_5 : decode cJ3_putCharSB 5 = .ok (.aload_n 0, 1) := dk_42 (dk_at dksJ3_putCharSB_0 5 rfl rfl)
theorem dJ3_putCharSB_6 : decode cJ3_putCharSB 6 = .ok (.iload_n 1, 1) := dk_27 (dk_at dksJ3_putCharSB_0 6 rfl rfl)
theorem dJ3_putCharSB_7 : decode cJ3_putCharSB 7 = .ok (.iload_n 2, 1) := dk_28 (dk_at dksJ3_putCharSB_0 7 rfl rfl)
theorem dJ3_putCharSB_8 : decode cJ3_putCharSB 8 = .ok (.invokestatic 111, 3) := dk_184 0 111 (dk_at dksJ3_putCharSB_0 8 rfl rfl)
theorem dJ3_putCharSB_11 : decode cJ3_putCharSB 11 = .ok (.return_, 1) := dk_177 (dk_at dksJ3_putCharSB_0 11 rfl rfl)
abbrev cJ3_checkIndex : ByteArray := prog_41_method_91_code
def yJ3_checkIndex : MethodName := ⟨RJ3, "checkIndex", "(I[B)V"⟩
def dkwJ3_checkIndex_0 : List UInt8 := [26, 43, 184, 0, 48, 184, 1, 158, 177]
abbrev dktJ3_checkIndex_0 : List UInt8 := dkwJ3_checkIndex_0 ++ []
theorem dksJ3_checkIndex_0 : cJ3_checkIndex.data.toList.drop 0 = dktJ3_checkIndex_0 := by decide +kernel
theorem dJ3_checkIndex_0 : decode cJ3_checkIndex 0 = .ok (.iload_n 0, 1) := dk_26 (dk_at dksJ3_checkIndex_0 0 rfl rfl)
theorem dJ3_checkIndex_1 : decode cJ3_checkIndex 1 = .ok (.aload_n 1, 1) := dk_43 (dk_at dksJ3_checkIndex_0 1 rfl rfl)
theorem dJ3_checkIndex_2 : decode cJ3_checkIndex 2 = .ok (.invokestatic 48, 3) := dk_184 0 48 (dk_at dksJ3_checkIndex_0 2 rfl rfl)
theorem dJ3_checkIndex_5 : decode cJ3_checkIndex 5 = .ok (.invokestatic 414, 3) := dk_184 1 158 (dk_at dksJ3_checkIndex_0 5 rfl rfl)
theorem dJ3_checkIndex_8 : decode cJ3_checkIndex 8 = .ok (.return_, 1) := dk_177 (dk_at dksJ3_checkIndex_0 8 rfl rfl)
abbrev cJ3_compress : ByteArray := prog_41_method_17_code
def yJ3_compress : MethodName := ⟨RJ3, "compress", "([BII)[B"⟩
def dkwJ3_compress_2 : List UInt8 := [25, 5, 3, 45, 3, 28, 184, 0, 123, 28, 159, 0, 6, 25, 5, 176, 45, 176]
abbrev dktJ3_compress_2 : List UInt8 := dkwJ3_compress_2 ++ []
def dkwJ3_compress_1 : List UInt8 := [27, 28, 96, 184, 0, 11, 184, 0, 126, 58, 5, 25, 5, 21, 4, 184, 0, 71, 17, 0, 255, 163, 0, 16]
abbrev dktJ3_compress_1 : List UInt8 := dkwJ3_compress_1 ++ dktJ3_compress_2
def dkwJ3_compress_0 : List UInt8 := [28, 188, 8, 78, 42, 27, 45, 3, 28, 184, 0, 123, 54, 4, 21, 4, 28, 159, 0, 47, 42, 27, 4, 120]
abbrev dktJ3_compress_0 : List UInt8 := dkwJ3_compress_0 ++ dktJ3_compress_1
theorem dksJ3_compress_0 : cJ3_compress.data.toList.drop 0 = dktJ3_compress_0 := by decide +kernel
theorem dksJ3_compress_1 : cJ3_compress.data.toList.drop 24 = dktJ3_compress_1 := dk_seg dksJ3_compress_0 24 rfl rfl
theorem dksJ3_compress_2 : cJ3_compress.data.toList.drop 48 = dktJ3_compress_2 := dk_seg dksJ3_compress_1 24 rfl rfl
theorem dJ3_compress_0 : decode cJ3_compress 0 = .ok (.iload_n 2, 1) := dk_28 (dk_at dksJ3_compress_0 0 rfl rfl)
theorem dJ3_compress_1 : decode cJ3_compress 1 = .ok (.newarray .byte, 2) := dk_188_8 (dk_at dksJ3_compress_0 1 rfl rfl)
theorem dJ3_compress_3 : decode cJ3_compress 3 = .ok (.astore_n 3, 1) := dk_78 (dk_at dksJ3_compress_0 3 rfl rfl)
theorem dJ3_compress_4 : decode cJ3_compress 4 = .ok (.aload_n 0, 1) := dk_42 (dk_at dksJ3_compress_0 4 rfl rfl)
theorem dJ3_compress_5 : decode cJ3_compress 5 = .ok (.iload_n 1, 1) := dk_27 (dk_at dksJ3_compress_0 5 rfl rfl)
theorem dJ3_compress_6 : decode cJ3_compress 6 = .ok (.aload_n 3, 1) := dk_45 (dk_at dksJ3_compress_0 6 rfl rfl)
theorem dJ3_compress_7 : decode cJ3_compress 7 = .ok (.iconst 0, 1) := dk_3 (dk_at dksJ3_compress_0 7 rfl rfl)
theorem dJ3_compress_8 : decode cJ3_compress 8 = .ok (.iload_n 2, 1) := dk_28 (dk_at dksJ3_compress_0 8 rfl rfl)
theorem dJ3_compress_9 : decode cJ3_compress 9 = .ok (.invokestatic 123, 3) := dk_184 0 123 (dk_at dksJ3_compress_0 9 rfl rfl)
theorem dJ3_compress_12 : decode cJ3_compress 12 = .ok (.istore 4, 2) := dk_54 4 (dk_at dksJ3_compress_0 12 rfl rfl)
theorem dJ3_compress_14 : decode cJ3_compress 14 = .ok (.iload 4, 2) := dk_21 4 (dk_at dksJ3_compress_0 14 rfl rfl)
theorem dJ3_compress_16 : decode cJ3_compress 16 = .ok (.iload_n 2, 1) := dk_28 (dk_at dksJ3_compress_0 16 rfl rfl)
theorem dJ3_compress_17 : decode cJ3_compress 17 = .ok (.if_icmp .eq 47, 3) := dk_159 0 47 (dk_at dksJ3_compress_0 17 rfl rfl)
theorem dJ3_compress_20 : decode cJ3_compress 20 = .ok (.aload_n 0, 1) := dk_42 (dk_at dksJ3_compress_0 20 rfl rfl)
theorem dJ3_compress_21 : decode cJ3_compress 21 = .ok (.iload_n 1, 1) := dk_27 (dk_at dksJ3_compress_0 21 rfl rfl)
theorem dJ3_compress_22 : decode cJ3_compress 22 = .ok (.iconst 1, 1) := dk_4 (dk_at dksJ3_compress_0 22 rfl rfl)
theorem dJ3_compress_23 : decode cJ3_compress 23 = .ok (.ishl, 1) := dk_120 (dk_at dksJ3_compress_0 23 rfl rfl)
theorem dJ3_compress_24 : decode cJ3_compress 24 = .ok (.iload_n 1, 1) := dk_27 (dk_at dksJ3_compress_1 0 rfl rfl)
theorem dJ3_compress_25 : decode cJ3_compress 25 = .ok (.iload_n 2, 1) := dk_28 (dk_at dksJ3_compress_1 1 rfl rfl)
theorem dJ3_compress_26 : decode cJ3_compress 26 = .ok (.iadd, 1) := dk_96 (dk_at dksJ3_compress_1 2 rfl rfl)
theorem dJ3_compress_27 : decode cJ3_compress 27 = .ok (.invokestatic 11, 3) := dk_184 0 11 (dk_at dksJ3_compress_1 3 rfl rfl)
theorem dJ3_compress_30 : decode cJ3_compress 30 = .ok (.invokestatic 126, 3) := dk_184 0 126 (dk_at dksJ3_compress_1 6 rfl rfl)
theorem dJ3_compress_33 : decode cJ3_compress 33 = .ok (.astore 5, 2) := dk_58 5 (dk_at dksJ3_compress_1 9 rfl rfl)
theorem dJ3_compress_35 : decode cJ3_compress 35 = .ok (.aload 5, 2) := dk_25 5 (dk_at dksJ3_compress_1 11 rfl rfl)
theorem dJ3_compress_37 : decode cJ3_compress 37 = .ok (.iload 4, 2) := dk_21 4 (dk_at dksJ3_compress_1 13 rfl rfl)
theorem dJ3_compress_39 : decode cJ3_compress 39 = .ok (.invokestatic 71, 3) := dk_184 0 71 (dk_at dksJ3_compress_1 15 rfl rfl)
theorem dJ3_compress_42 : decode cJ3_compress 42 = .ok (.sipush 255, 3) := dk_17 0 255 (dk_at dksJ3_compress_1 18 rfl rfl)
theorem dJ3_compress_45 : decode cJ3_compress 45 = .ok (.if_icmp .gt 16, 3) := dk_163 0 16 (dk_at dksJ3_compress_1 21 rfl rfl)
theorem dJ3_compress_48 : decode cJ3_compress 48 = .ok (.aload 5, 2) := dk_25 5 (dk_at dksJ3_compress_2 0 rfl rfl)
theorem dJ3_compress_50 : decode cJ3_compress 50 = .ok (.iconst 0, 1) := dk_3 (dk_at dksJ3_compress_2 2 rfl rfl)
theorem dJ3_compress_51 : decode cJ3_compress 51 = .ok (.aload_n 3, 1) := dk_45 (dk_at dksJ3_compress_2 3 rfl rfl)
theorem dJ3_compress_52 : decode cJ3_compress 52 = .ok (.iconst 0, 1) := dk_3 (dk_at dksJ3_compress_2 4 rfl rfl)
theorem dJ3_compress_53 : decode cJ3_compress 53 = .ok (.iload_n 2, 1) := dk_28 (dk_at dksJ3_compress_2 5 rfl rfl)
theorem dJ3_compress_54 : decode cJ3_compress 54 = .ok (.invokestatic 123, 3) := dk_184 0 123 (dk_at dksJ3_compress_2 6 rfl rfl)
theorem dJ3_compress_57 : decode cJ3_compress 57 = .ok (.iload_n 2, 1) := dk_28 (dk_at dksJ3_compress_2 9 rfl rfl)
theorem dJ3_compress_58 : decode cJ3_compress 58 = .ok (.if_icmp .eq 6, 3) := dk_159 0 6 (dk_at dksJ3_compress_2 10 rfl rfl)
theorem dJ3_compress_61 : decode cJ3_compress 61 = .ok (.aload 5, 2) := dk_25 5 (dk_at dksJ3_compress_2 13 rfl rfl)
theorem dJ3_compress_63 : decode cJ3_compress 63 = .ok (.areturn, 1) := dk_176 (dk_at dksJ3_compress_2 15 rfl rfl)
theorem dJ3_compress_64 : decode cJ3_compress 64 = .ok (.aload_n 3, 1) := dk_45 (dk_at dksJ3_compress_2 16 rfl rfl)
theorem dJ3_compress_65 : decode cJ3_compress 65 = .ok (.areturn, 1) := dk_176 (dk_at dksJ3_compress_2 17 rfl rfl)
abbrev cJ3_compress_2 : ByteArray := prog_41_method_22_code
def yJ3_compress_2 : MethodName := ⟨RJ3, "compress", "([BI[BII)I"⟩
def dkwJ3_compress_2_2 : List UInt8 := [132, 5, 1, 167, 255, 216, 21, 4, 172]
abbrev dktJ3_compress_2_2 : List UInt8 := dkwJ3_compress_2_2 ++ []
def dkwJ3_compress_2_1 : List UInt8 := [21, 6, 17, 0, 255, 164, 0, 6, 21, 5, 172, 44, 29, 21, 6, 145, 84, 132, 1, 1, 132, 3, 1]
abbrev dktJ3_compress_2_1 : List UInt8 := dkwJ3_compress_2_1 ++ dktJ3_compress_2_2
def dkwJ3_compress_2_0 : List UInt8 := [27, 21, 4, 42, 184, 0, 173, 3, 54, 5, 21, 5, 21, 4, 162, 0, 39, 42, 27, 184, 0, 71, 54, 6]
abbrev dktJ3_compress_2_0 : List UInt8 := dkwJ3_compress_2_0 ++ dktJ3_compress_2_1
theorem dksJ3_compress_2_0 : cJ3_compress_2.data.toList.drop 0 = dktJ3_compress_2_0 := by decide +kernel
theorem dksJ3_compress_2_1 : cJ3_compress_2.data.toList.drop 24 = dktJ3_compress_2_1 := dk_seg dksJ3_compress_2_0 24 rfl rfl
theorem dksJ3_compress_2_2 : cJ3_compress_2.data.toList.drop 47 = dktJ3_compress_2_2 := dk_seg dksJ3_compress_2_1 23 rfl rfl
theorem dJ3_compress_2_0 : decode cJ3_compress_2 0 = .ok (.iload_n 1, 1) := dk_27 (dk_at dksJ3_compress_2_0 0 rfl rfl)
theorem dJ3_compress_2_1 : decode cJ3_compress_2 1 = .ok (.iload 4, 2) := dk_21 4 (dk_at dksJ3_compress_2_0 1 rfl rfl)
theorem dJ3_compress_2_3 : decode cJ3_compress_2 3 = .ok (.aload_n 0, 1) := dk_42 (dk_at dksJ3_compress_2_0 3 rfl rfl)
theorem dJ3_compress_2_4 : decode cJ3_compress_2 4 = .ok (.invokestatic 173, 3) := dk_184 0 173 (dk_at dksJ3_compress_2_0 4 rfl rfl)
theorem dJ3_compress_2_7 : decode cJ3_compress_2 7 = .ok (.iconst 0, 1) := dk_3 (dk_at dksJ3_compress_2_0 7 rfl rfl)
theorem dJ3_compress_2_8 : decode cJ3_compress_2 8 = .ok (.istore 5, 2) := dk_54 5 (dk_at dksJ3_compress_2_0 8 rfl rfl)
theorem dJ3_compress_2_10 : decode cJ3_compress_2 10 = .ok (.iload 5, 2) := dk_21 5 (dk_at dksJ3_compress_2_0 10 rfl rfl)
theorem dJ3_compress_2_12 : decode cJ3_compress_2 12 = .ok (.iload 4, 2) := dk_21 4 (dk_at dksJ3_compress_2_0 12 rfl rfl)
theorem dJ3_compress_2_14 : decode cJ3_compress_2 14 = .ok (.if_icmp .ge 39, 3) := dk_162 0 39 (dk_at dksJ3_compress_2_0 14 rfl rfl)
theorem dJ3_compress_2_17 : decode cJ3_compress_2 17 = .ok (.aload_n 0, 1) := dk_42 (dk_at dksJ3_compress_2_0 17 rfl rfl)
theorem dJ3_compress_2_18 : decode cJ3_compress_2 18 = .ok (.iload_n 1, 1) := dk_27 (dk_at dksJ3_compress_2_0 18 rfl rfl)
theorem dJ3_compress_2_19 : decode cJ3_compress_2 19 = .ok (.invokestatic 71, 3) := dk_184 0 71 (dk_at dksJ3_compress_2_0 19 rfl rfl)
theorem dJ3_compress_2_22 : decode cJ3_compress_2 22 = .ok (.istore 6, 2) := dk_54 6 (dk_at dksJ3_compress_2_0 22 rfl rfl)
theorem dJ3_compress_2_24 : decode cJ3_compress_2 24 = .ok (.iload 6, 2) := dk_21 6 (dk_at dksJ3_compress_2_1 0 rfl rfl)
theorem dJ3_compress_2_26 : decode cJ3_compress_2 26 = .ok (.sipush 255, 3) := dk_17 0 255 (dk_at dksJ3_compress_2_1 2 rfl rfl)
theorem dJ3_compress_2_29 : decode cJ3_compress_2 29 = .ok (.if_icmp .le 6, 3) := dk_164 0 6 (dk_at dksJ3_compress_2_1 5 rfl rfl)
theorem dJ3_compress_2_32 : decode cJ3_compress_2 32 = .ok (.iload 5, 2) := dk_21 5 (dk_at dksJ3_compress_2_1 8 rfl rfl)
theorem dJ3_compress_2_34 : decode cJ3_compress_2 34 = .ok (.ireturn, 1) := dk_172 (dk_at dksJ3_compress_2_1 10 rfl rfl)
theorem dJ3_compress_2_35 : decode cJ3_compress_2 35 = .ok (.aload_n 2, 1) := dk_44 (dk_at dksJ3_compress_2_1 11 rfl rfl)
theorem dJ3_compress_2_36 : decode cJ3_compress_2 36 = .ok (.iload_n 3, 1) := dk_29 (dk_at dksJ3_compress_2_1 12 rfl rfl)
theorem dJ3_compress_2_37 : decode cJ3_compress_2 37 = .ok (.iload 6, 2) := dk_21 6 (dk_at dksJ3_compress_2_1 13 rfl rfl)
theorem dJ3_compress_2_39 : decode cJ3_compress_2 39 = .ok (.i2b, 1) := dk_145 (dk_at dksJ3_compress_2_1 15 rfl rfl)
theorem dJ3_compress_2_40 : decode cJ3_compress_2 40 = .ok (.bastore, 1) := dk_84 (dk_at dksJ3_compress_2_1 16 rfl rfl)
theorem dJ3_compress_2_41 : decode cJ3_compress_2 41 = .ok (.iinc 1 1, 3) := dk_132 1 1 (dk_at dksJ3_compress_2_1 17 rfl rfl)
theorem dJ3_compress_2_44 : decode cJ3_compress_2 44 = .ok (.iinc 3 1, 3) := dk_132 3 1 (dk_at dksJ3_compress_2_1 20 rfl rfl)
theorem dJ3_compress_2_47 : decode cJ3_compress_2 47 = .ok (.iinc 5 1, 3) := dk_132 5 1 (dk_at dksJ3_compress_2_2 0 rfl rfl)
theorem dJ3_compress_2_50 : decode cJ3_compress_2 50 = .ok (.goto (-40), 3) := dk_167 255 216 (dk_at dksJ3_compress_2_2 3 rfl rfl)
theorem dJ3_compress_2_53 : decode cJ3_compress_2 53 = .ok (.iload 4, 2) := dk_21 4 (dk_at dksJ3_compress_2_2 6 rfl rfl)
theorem dJ3_compress_2_55 : decode cJ3_compress_2 55 = .ok (.ireturn, 1) := dk_172 (dk_at dksJ3_compress_2_2 8 rfl rfl)
abbrev cJ3_getChar : ByteArray := prog_41_method_5_code
def yJ3_getChar : MethodName := ⟨RJ3, "getChar", "([BI)C"⟩
def dkwJ3_getChar_2 : List UInt8 := [51, 17, 0, 255, 126, 178, 0, 63, 120, 128, 146, 172]
abbrev dktJ3_getChar_2 : List UInt8 := dkwJ3_getChar_2 ++ []
def dkwJ3_getChar_1 : List UInt8 := [183, 0, 56, 191, 27, 4, 120, 60, 42, 27, 132, 1, 1, 51, 17, 0, 255, 126, 178, 0, 59, 120, 42, 27]
abbrev dktJ3_getChar_1 : List UInt8 := dkwJ3_getChar_1 ++ dktJ3_getChar_2
def dkwJ3_getChar_0 : List UInt8 := [178, 0, 44, 154, 0, 25, 27, 155, 0, 11, 27, 42, 184, 0, 48, 161, 0, 13, 187, 0, 52, 89, 18, 54]
abbrev dktJ3_getChar_0 : List UInt8 := dkwJ3_getChar_0 ++ dktJ3_getChar_1
theorem dksJ3_getChar_0 : cJ3_getChar.data.toList.drop 0 = dktJ3_getChar_0 := by decide +kernel
theorem dksJ3_getChar_1 : cJ3_getChar.data.toList.drop 24 = dktJ3_getChar_1 := dk_seg dksJ3_getChar_0 24 rfl rfl
theorem dksJ3_getChar_2 : cJ3_getChar.data.toList.drop 48 = dktJ3_getChar_2 := dk_seg dksJ3_getChar_1 24 rfl rfl
theorem dJ3_getChar_0 : decode cJ3_getChar 0 = .ok (.getstatic 44, 3) := dk_178 0 44 (dk_at dksJ3_getChar_0 0 rfl rfl)
theorem dJ3_getChar_3 : decode cJ3_getChar 3 = .ok (.ifCond .ne 25, 3) := dk_154 0 25 (dk_at dksJ3_getChar_0 3 rfl rfl)
theorem dJ3_getChar_6 : decode cJ3_getChar 6 = .ok (.iload_n 1, 1) := dk_27 (dk_at dksJ3_getChar_0 6 rfl rfl)
theorem dJ3_getChar_7 : decode cJ3_getChar 7 = .ok (.ifCond .lt 11, 3) := dk_155 0 11 (dk_at dksJ3_getChar_0 7 rfl rfl)
theorem dJ3_getChar_10 : decode cJ3_getChar 10 = .ok (.iload_n 1, 1) := dk_27 (dk_at dksJ3_getChar_0 10 rfl rfl)
theorem dJ3_getChar_11 : decode cJ3_getChar 11 = .ok (.aload_n 0, 1) := dk_42 (dk_at dksJ3_getChar_0 11 rfl rfl)
theorem dJ3_getChar_12 : decode cJ3_getChar 12 = .ok (.invokestatic 48, 3) := dk_184 0 48 (dk_at dksJ3_getChar_0 12 rfl rfl)
theorem dJ3_getChar_15 : decode cJ3_getChar 15 = .ok (.if_icmp .lt 13, 3) := dk_161 0 13 (dk_at dksJ3_getChar_0 15 rfl rfl)
theorem dJ3_getChar_18 : decode cJ3_getChar 18 = .ok (.new 52, 3) := dk_187 0 52 (dk_at dksJ3_getChar_0 18 rfl rfl)
theorem dJ3_getChar_21 : decode cJ3_getChar 21 = .ok (.dup, 1) := dk_89 (dk_at dksJ3_getChar_0 21 rfl rfl)
theorem dJ3_getChar_22 : decode cJ3_getChar 22 = .ok (.ldc 54, 2) := dk_18 54 (dk_at dksJ3_getChar_0 22 rfl rfl)
theorem dJ3_getChar_24 : decode cJ3_getChar 24 = .ok (.invokespecial 56, 3) := dk_183 0 56 (dk_at dksJ3_getChar_1 0 rfl rfl)
theorem dJ3_getChar_27 : decode cJ3_getChar 27 = .ok (.athrow, 1) := dk_191 (dk_at dksJ3_getChar_1 3 rfl rfl)
theorem dJ3_getChar_28 : decode cJ3_getChar 28 = .ok (.iload_n 1, 1) := dk_27 (dk_at dksJ3_getChar_1 4 rfl rfl)
theorem dJ3_getChar_29 : decode cJ3_getChar 29 = .ok (.iconst 1, 1) := dk_4 (dk_at dksJ3_getChar_1 5 rfl rfl)
theorem dJ3_getChar_30 : decode cJ3_getChar 30 = .ok (.ishl, 1) := dk_120 (dk_at dksJ3_getChar_1 6 rfl rfl)
theorem dJ3_getChar_31 : decode cJ3_getChar 31 = .ok (.istore_n 1, 1) := dk_60 (dk_at dksJ3_getChar_1 7 rfl rfl)
theorem dJ3_getChar_32 : decode cJ3_getChar 32 = .ok (.aload_n 0, 1) := dk_42 (dk_at dksJ3_getChar_1 8 rfl rfl)
theorem dJ3_getChar_33 : decode cJ3_getChar 33 = .ok (.iload_n 1, 1) := dk_27 (dk_at dksJ3_getChar_1 9 rfl rfl)
theorem dJ3_getChar_34 : decode cJ3_getChar 34 = .ok (.iinc 1 1, 3) := dk_132 1 1 (dk_at dksJ3_getChar_1 10 rfl rfl)
theorem dJ3_getChar_37 : decode cJ3_getChar 37 = .ok (.baload, 1) := dk_51 (dk_at dksJ3_getChar_1 13 rfl rfl)
theorem dJ3_getChar_38 : decode cJ3_getChar 38 = .ok (.sipush 255, 3) := dk_17 0 255 (dk_at dksJ3_getChar_1 14 rfl rfl)
theorem dJ3_getChar_41 : decode cJ3_getChar 41 = .ok (.iand, 1) := dk_126 (dk_at dksJ3_getChar_1 17 rfl rfl)
theorem dJ3_getChar_42 : decode cJ3_getChar 42 = .ok (.getstatic 59, 3) := dk_178 0 59 (dk_at dksJ3_getChar_1 18 rfl rfl)
theorem dJ3_getChar_45 : decode cJ3_getChar 45 = .ok (.ishl, 1) := dk_120 (dk_at dksJ3_getChar_1 21 rfl rfl)
theorem dJ3_getChar_46 : decode cJ3_getChar 46 = .ok (.aload_n 0, 1) := dk_42 (dk_at dksJ3_getChar_1 22 rfl rfl)
theorem dJ3_getChar_47 : decode cJ3_getChar 47 = .ok (.iload_n 1, 1) := dk_27 (dk_at dksJ3_getChar_1 23 rfl rfl)
theorem dJ3_getChar_48 : decode cJ3_getChar 48 = .ok (.baload, 1) := dk_51 (dk_at dksJ3_getChar_2 0 rfl rfl)
theorem dJ3_getChar_49 : decode cJ3_getChar 49 = .ok (.sipush 255, 3) := dk_17 0 255 (dk_at dksJ3_getChar_2 1 rfl rfl)
theorem dJ3_getChar_52 : decode cJ3_getChar 52 = .ok (.iand, 1) := dk_126 (dk_at dksJ3_getChar_2 4 rfl rfl)
theorem dJ3_getChar_53 : decode cJ3_getChar 53 = .ok (.getstatic 63, 3) := dk_178 0 63 (dk_at dksJ3_getChar_2 5 rfl rfl)
theorem dJ3_getChar_56 : decode cJ3_getChar 56 = .ok (.ishl, 1) := dk_120 (dk_at dksJ3_getChar_2 8 rfl rfl)
theorem dJ3_getChar_57 : decode cJ3_getChar 57 = .ok (.ior, 1) := dk_128 (dk_at dksJ3_getChar_2 9 rfl rfl)
theorem dJ3_getChar_58 : decode cJ3_getChar 58 = .ok (.i2c, 1) := dk_146 (dk_at dksJ3_getChar_2 10 rfl rfl)
theorem dJ3_getChar_59 : decode cJ3_getChar 59 = .ok (.ireturn, 1) := dk_172 (dk_at dksJ3_getChar_2 11 rfl rfl)
abbrev cJ3_coderFromArrayLen : ByteArray := prog_41_method_15_code
def yJ3_coderFromArrayLen : MethodName := ⟨RJ3, "coderFromArrayLen", "([BI)B"⟩
def dkwJ3_coderFromArrayLen_0 : List UInt8 := [27, 42, 190, 100, 16, 31, 124, 145, 172]
abbrev dktJ3_coderFromArrayLen_0 : List UInt8 := dkwJ3_coderFromArrayLen_0 ++ []
theorem dksJ3_coderFromArrayLen_0 : cJ3_coderFromArrayLen.data.toList.drop 0 = dktJ3_coderFromArrayLen_0 := by decide +kernel
theorem dJ3_coderFromArrayLen_0 : decode cJ3_coderFromArrayLen 0 = .ok (.iload_n 1, 1) := dk_27 (dk_at dksJ3_coderFromArrayLen_0 0 rfl rfl)
theorem dJ3_coderFromArrayLen_1 : decode cJ3_coderFromArrayLen 1 = .ok (.aload_n 0, 1) := dk_42 (dk_at dksJ3_coderFromArrayLen_0 1 rfl rfl)
theorem dJ3_coderFromArrayLen_2 : decode cJ3_coderFromArrayLen 2 = .ok (.arraylength, 1) := dk_190 (dk_at dksJ3_coderFromArrayLen_0 2 rfl rfl)
theorem dJ3_coderFromArrayLen_3 : decode cJ3_coderFromArrayLen 3 = .ok (.isub, 1) := dk_100 (dk_at dksJ3_coderFromArrayLen_0 3 rfl rfl)
theorem dJ3_coderFromArrayLen_4 : decode cJ3_coderFromArrayLen 4 = .ok (.bipush 31, 2) := dk_16 31 (dk_at dksJ3_coderFromArrayLen_0 4 rfl rfl)
theorem dJ3_coderFromArrayLen_6 : decode cJ3_coderFromArrayLen 6 = .ok (.iushr, 1) := dk_124 (dk_at dksJ3_coderFromArrayLen_0 6 rfl rfl)
theorem dJ3_coderFromArrayLen_7 : decode cJ3_coderFromArrayLen 7 = .ok (.i2b, 1) := dk_145 (dk_at dksJ3_coderFromArrayLen_0 7 rfl rfl)
theorem dJ3_coderFromArrayLen_8 : decode cJ3_coderFromArrayLen 8 = .ok (.ireturn, 1) := dk_172 (dk_at dksJ3_coderFromArrayLen_0 8 rfl rfl)
abbrev cJ3_indexOf : ByteArray := prog_41_method_40_code
def yJ3_indexOf : MethodName := ⟨RJ3, "indexOf", "([BIII)I"⟩
def dkwJ3_indexOf_1 : List UInt8 := [18, 227, 162, 0, 11, 42, 27, 28, 29, 184, 0, 228, 172, 42, 27, 28, 29, 184, 0, 232, 172]
abbrev dktJ3_indexOf_1 : List UInt8 := dkwJ3_indexOf_1 ++ []
def dkwJ3_indexOf_0 : List UInt8 := [28, 3, 184, 0, 224, 61, 29, 42, 190, 4, 122, 184, 0, 183, 62, 28, 29, 161, 0, 5, 2, 172, 27]
abbrev dktJ3_indexOf_0 : List UInt8 := dkwJ3_indexOf_0 ++ dktJ3_indexOf_1
theorem dksJ3_indexOf_0 : cJ3_indexOf.data.toList.drop 0 = dktJ3_indexOf_0 := by decide +kernel
theorem dksJ3_indexOf_1 : cJ3_indexOf.data.toList.drop 23 = dktJ3_indexOf_1 := dk_seg dksJ3_indexOf_0 23 rfl rfl
theorem dJ3_indexOf_0 : decode cJ3_indexOf 0 = .ok (.iload_n 2, 1) := dk_28 (dk_at dksJ3_indexOf_0 0 rfl rfl)
theorem dJ3_indexOf_1 : decode cJ3_indexOf 1 = .ok (.iconst 0, 1) := dk_3 (dk_at dksJ3_indexOf_0 1 rfl rfl)
theorem dJ3_indexOf_2 : decode cJ3_indexOf 2 = .ok (.invokestatic 224, 3) := dk_184 0 224 (dk_at dksJ3_indexOf_0 2 rfl rfl)
theorem dJ3_indexOf_5 : decode cJ3_indexOf 5 = .ok (.istore_n 2, 1) := dk_61 (dk_at dksJ3_indexOf_0 5 rfl rfl)
theorem dJ3_indexOf_6 : decode cJ3_indexOf 6 = .ok (.iload_n 3, 1) := dk_29 (dk_at dksJ3_indexOf_0 6 rfl rfl)
theorem dJ3_indexOf_7 : decode cJ3_indexOf 7 = .ok (.aload_n 0, 1) := dk_42 (dk_at dksJ3_indexOf_0 7 rfl rfl)
theorem dJ3_indexOf_8 : decode cJ3_indexOf 8 = .ok (.arraylength, 1) := dk_190 (dk_at dksJ3_indexOf_0 8 rfl rfl)
theorem dJ3_indexOf_9 : decode cJ3_indexOf 9 = .ok (.iconst 1, 1) := dk_4 (dk_at dksJ3_indexOf_0 9 rfl rfl)
theorem dJ3_indexOf_10 : decode cJ3_indexOf 10 = .ok (.ishr, 1) := dk_122 (dk_at dksJ3_indexOf_0 10 rfl rfl)
theorem dJ3_indexOf_11 : decode cJ3_indexOf 11 = .ok (.invokestatic 183, 3) := dk_184 0 183 (dk_at dksJ3_indexOf_0 11 rfl rfl)
theorem dJ3_indexOf_14 : decode cJ3_indexOf 14 = .ok (.istore_n 3, 1) := dk_62 (dk_at dksJ3_indexOf_0 14 rfl rfl)
theorem dJ3_indexOf_15 : decode cJ3_indexOf 15 = .ok (.iload_n 2, 1) := dk_28 (dk_at dksJ3_indexOf_0 15 rfl rfl)
theorem dJ3_indexOf_16 : decode cJ3_indexOf 16 = .ok (.iload_n 3, 1) := dk_29 (dk_at dksJ3_indexOf_0 16 rfl rfl)
theorem dJ3_indexOf_17 : decode cJ3_indexOf 17 = .ok (.if_icmp .lt 5, 3) := dk_161 0 5 (dk_at dksJ3_indexOf_0 17 rfl rfl)
theorem dJ3_indexOf_20 : decode cJ3_indexOf 20 = .ok (.iconst (-1), 1) := dk_2 (dk_at dksJ3_indexOf_0 20 rfl rfl)
theorem dJ3_indexOf_21 : decode cJ3_indexOf 21 = .ok (.ireturn, 1) := dk_172 (dk_at dksJ3_indexOf_0 21 rfl rfl)
theorem dJ3_indexOf_22 : decode cJ3_indexOf 22 = .ok (.iload_n 1, 1) := dk_27 (dk_at dksJ3_indexOf_0 22 rfl rfl)
theorem dJ3_indexOf_23 : decode cJ3_indexOf 23 = .ok (.ldc 227, 2) := dk_18 227 (dk_at dksJ3_indexOf_1 0 rfl rfl)
theorem dJ3_indexOf_25 : decode cJ3_indexOf 25 = .ok (.if_icmp .ge 11, 3) := dk_162 0 11 (dk_at dksJ3_indexOf_1 2 rfl rfl)
theorem dJ3_indexOf_28 : decode cJ3_indexOf 28 = .ok (.aload_n 0, 1) := dk_42 (dk_at dksJ3_indexOf_1 5 rfl rfl)
theorem dJ3_indexOf_29 : decode cJ3_indexOf 29 = .ok (.iload_n 1, 1) := dk_27 (dk_at dksJ3_indexOf_1 6 rfl rfl)
theorem dJ3_indexOf_30 : decode cJ3_indexOf 30 = .ok (.iload_n 2, 1) := dk_28 (dk_at dksJ3_indexOf_1 7 rfl rfl)
theorem dJ3_indexOf_31 : decode cJ3_indexOf 31 = .ok (.iload_n 3, 1) := dk_29 (dk_at dksJ3_indexOf_1 8 rfl rfl)
theorem dJ3_indexOf_32 : decode cJ3_indexOf 32 = .ok (.invokestatic 228, 3) := dk_184 0 228 (dk_at dksJ3_indexOf_1 9 rfl rfl)
theorem dJ3_indexOf_35 : decode cJ3_indexOf 35 = .ok (.ireturn, 1) := dk_172 (dk_at dksJ3_indexOf_1 12 rfl rfl)
theorem dJ3_indexOf_36 : decode cJ3_indexOf 36 = .ok (.aload_n 0, 1) := dk_42 (dk_at dksJ3_indexOf_1 13 rfl rfl)
theorem dJ3_indexOf_37 : decode cJ3_indexOf 37 = .ok (.iload_n 1, 1) := dk_27 (dk_at dksJ3_indexOf_1 14 rfl rfl)
theorem dJ3_indexOf_38 : decode cJ3_indexOf 38 = .ok (.iload_n 2, 1) := dk_28 (dk_at dksJ3_indexOf_1 15 rfl rfl)
theorem dJ3_indexOf_39 : decode cJ3_indexOf 39 = .ok (.iload_n 3, 1) := dk_29 (dk_at dksJ3_indexOf_1 16 rfl rfl)
theorem dJ3_indexOf_40 : decode cJ3_indexOf 40 = .ok (.invokestatic 232, 3) := dk_184 0 232 (dk_at dksJ3_indexOf_1 17 rfl rfl)
theorem dJ3_indexOf_43 : decode cJ3_indexOf 43 = .ok (.ireturn, 1) := dk_172 (dk_at dksJ3_indexOf_1 20 rfl rfl)
abbrev cJ3_indexOfChar : ByteArray := prog_41_method_47_code
def yJ3_indexOfChar : MethodName := ⟨RJ3, "indexOfChar", "([BIII)I"⟩
def dkwJ3_indexOfChar_0 : List UInt8 := [28, 29, 42, 184, 0, 96, 42, 27, 28, 29, 184, 0, 244, 172]
abbrev dktJ3_indexOfChar_0 : List UInt8 := dkwJ3_indexOfChar_0 ++ []
theorem dksJ3_indexOfChar_0 : cJ3_indexOfChar.data.toList.drop 0 = dktJ3_indexOfChar_0 := by decide +kernel
theorem dJ3_indexOfChar_0 : decode cJ3_indexOfChar 0 = .ok (.iload_n 2, 1) := dk_28 (dk_at dksJ3_indexOfChar_0 0 rfl rfl)
theorem dJ3_indexOfChar_1 : decode cJ3_indexOfChar 1 = .ok (.iload_n 3, 1) := dk_29 (dk_at dksJ3_indexOfChar_0 1 rfl rfl)
theorem dJ3_indexOfChar_2 : decode cJ3_indexOfChar 2 = .ok (.aload_n 0, 1) := dk_42 (dk_at dksJ3_indexOfChar_0 2 rfl rfl)
theorem dJ3_indexOfChar_3 : decode cJ3_indexOfChar 3 = .ok (.invokestatic 96, 3) := dk_184 0 96 (dk_at dksJ3_indexOfChar_0 3 rfl rfl)
theorem dJ3_indexOfChar_6 : decode cJ3_indexOfChar 6 = .ok (.aload_n 0, 1) := dk_42 (dk_at dksJ3_indexOfChar_0 6 rfl rfl)
theorem dJ3_indexOfChar_7 : decode cJ3_indexOfChar 7 = .ok (.iload_n 1, 1) := dk_27 (dk_at dksJ3_indexOfChar_0 7 rfl rfl)
theorem dJ3_indexOfChar_8 : decode cJ3_indexOfChar 8 = .ok (.iload_n 2, 1) := dk_28 (dk_at dksJ3_indexOfChar_0 8 rfl rfl)
theorem dJ3_indexOfChar_9 : decode cJ3_indexOfChar 9 = .ok (.iload_n 3, 1) := dk_29 (dk_at dksJ3_indexOfChar_0 9 rfl rfl)
theorem dJ3_indexOfChar_10 : decode cJ3_indexOfChar 10 = .ok (.invokestatic 244, 3) := dk_184 0 244 (dk_at dksJ3_indexOfChar_0 10 rfl rfl)
theorem dJ3_indexOfChar_13 : decode cJ3_indexOfChar 13 = .ok (.ireturn, 1) := dk_172 (dk_at dksJ3_indexOfChar_0 13 rfl rfl)
abbrev cJ3_checkBoundsBeginEnd : ByteArray := prog_41_method_93_code
def yJ3_checkBoundsBeginEnd : MethodName := ⟨RJ3, "checkBoundsBeginEnd", "(II[B)V"⟩
def dkwJ3_checkBoundsBeginEnd_0 : List UInt8 := [26, 27, 44, 184, 0, 48, 184, 0, 241, 177]
abbrev dktJ3_checkBoundsBeginEnd_0 : List UInt8 := dkwJ3_checkBoundsBeginEnd_0 ++ []
theorem dksJ3_checkBoundsBeginEnd_0 : cJ3_checkBoundsBeginEnd.data.toList.drop 0 = dktJ3_checkBoundsBeginEnd_0 := by decide +kernel
theorem dJ3_checkBoundsBeginEnd_0 : decode cJ3_checkBoundsBeginEnd 0 = .ok (.iload_n 0, 1) := dk_26 (dk_at dksJ3_checkBoundsBeginEnd_0 0 rfl rfl)
theorem dJ3_checkBoundsBeginEnd_1 : decode cJ3_checkBoundsBeginEnd 1 = .ok (.iload_n 1, 1) := dk_27 (dk_at dksJ3_checkBoundsBeginEnd_0 1 rfl rfl)
theorem dJ3_checkBoundsBeginEnd_2 : decode cJ3_checkBoundsBeginEnd 2 = .ok (.aload_n 2, 1) := dk_44 (dk_at dksJ3_checkBoundsBeginEnd_0 2 rfl rfl)
theorem dJ3_checkBoundsBeginEnd_3 : decode cJ3_checkBoundsBeginEnd 3 = .ok (.invokestatic 48, 3) := dk_184 0 48 (dk_at dksJ3_checkBoundsBeginEnd_0 3 rfl rfl)
theorem dJ3_checkBoundsBeginEnd_6 : decode cJ3_checkBoundsBeginEnd 6 = .ok (.invokestatic 241, 3) := dk_184 0 241 (dk_at dksJ3_checkBoundsBeginEnd_0 6 rfl rfl)
theorem dJ3_checkBoundsBeginEnd_9 : decode cJ3_checkBoundsBeginEnd 9 = .ok (.return_, 1) := dk_177 (dk_at dksJ3_checkBoundsBeginEnd_0 9 rfl rfl)
abbrev cJ3_indexOfCharUnsafe : ByteArray := prog_41_method_48_code
def yJ3_indexOfCharUnsafe : MethodName := ⟨RJ3, "indexOfCharUnsafe", "([BIII)I"⟩
def dkwJ3_indexOfCharUnsafe_1 : List UInt8 := [132, 4, 1, 167, 255, 234, 2, 172]
abbrev dktJ3_indexOfCharUnsafe_1 : List UInt8 := dkwJ3_indexOfCharUnsafe_1 ++ []
def dkwJ3_indexOfCharUnsafe_0 : List UInt8 := [28, 54, 4, 21, 4, 29, 162, 0, 22, 42, 21, 4, 184, 0, 71, 27, 160, 0, 6, 21, 4, 172]
abbrev dktJ3_indexOfCharUnsafe_0 : List UInt8 := dkwJ3_indexOfCharUnsafe_0 ++ dktJ3_indexOfCharUnsafe_1
theorem dksJ3_indexOfCharUnsafe_0 : cJ3_indexOfCharUnsafe.data.toList.drop 0 = dktJ3_indexOfCharUnsafe_0 := by decide +kernel
theorem dksJ3_indexOfCharUnsafe_1 : cJ3_indexOfCharUnsafe.data.toList.drop 22 = dktJ3_indexOfCharUnsafe_1 := dk_seg dksJ3_indexOfCharUnsafe_0 22 rfl rfl
theorem dJ3_indexOfCharUnsafe_0 : decode cJ3_indexOfCharUnsafe 0 = .ok (.iload_n 2, 1) := dk_28 (dk_at dksJ3_indexOfCharUnsafe_0 0 rfl rfl)
theorem dJ3_indexOfCharUnsafe_1 : decode cJ3_indexOfCharUnsafe 1 = .ok (.istore 4, 2) := dk_54 4 (dk_at dksJ3_indexOfCharUnsafe_0 1 rfl rfl)
theorem dJ3_indexOfCharUnsafe_3 : decode cJ3_indexOfCharUnsafe 3 = .ok (.iload 4, 2) := dk_21 4 (dk_at dksJ3_indexOfCharUnsafe_0 3 rfl rfl)
theorem dJ3_indexOfCharUnsafe_5 : decode cJ3_indexOfCharUnsafe 5 = .ok (.iload_n 3, 1) := dk_29 (dk_at dksJ3_indexOfCharUnsafe_0 5 rfl rfl)
theorem dJ3_indexOfCharUnsafe_6 : decode cJ3_indexOfCharUnsafe 6 = .ok (.if_icmp .ge 22, 3) := dk_162 0 22 (dk_at dksJ3_indexOfCharUnsafe_0 6 rfl rfl)
theorem dJ3_indexOfCharUnsafe_9 : decode cJ3_indexOfCharUnsafe 9 = .ok (.aload_n 0, 1) := dk_42 (dk_at dksJ3_indexOfCharUnsafe_0 9 rfl rfl)
theorem dJ3_indexOfCharUnsafe_10 : decode cJ3_indexOfCharUnsafe 10 = .ok (.iload 4, 2) := dk_21 4 (dk_at dksJ3_indexOfCharUnsafe_0 10 rfl rfl)
theorem dJ3_indexOfCharUnsafe_12 : decode cJ3_indexOfCharUnsafe 12 = .ok (.invokestatic 71, 3) := dk_184 0 71 (dk_at dksJ3_indexOfCharUnsafe_0 12 rfl rfl)
theorem dJ3_indexOfCharUnsafe_15 : decode cJ3_indexOfCharUnsafe 15 = .ok (.iload_n 1, 1) := dk_27 (dk_at dksJ3_indexOfCharUnsafe_0 15 rfl rfl)
theorem dJ3_indexOfCharUnsafe_16 : decode cJ3_indexOfCharUnsafe 16 = .ok (.if_icmp .ne 6, 3) := dk_160 0 6 (dk_at dksJ3_indexOfCharUnsafe_0 16 rfl rfl)
theorem dJ3_indexOfCharUnsafe_19 : decode cJ3_indexOfCharUnsafe 19 = .ok (.iload 4, 2) := dk_21 4 (dk_at dksJ3_indexOfCharUnsafe_0 19 rfl rfl)
theorem dJ3_indexOfCharUnsafe_21 : decode cJ3_indexOfCharUnsafe 21 = .ok (.ireturn, 1) := dk_172 (dk_at dksJ3_indexOfCharUnsafe_0 21 rfl rfl)
theorem dJ3_indexOfCharUnsafe_22 : decode cJ3_indexOfCharUnsafe 22 = .ok (.iinc 4 1, 3) := dk_132 4 1 (dk_at dksJ3_indexOfCharUnsafe_1 0 rfl rfl)
theorem dJ3_indexOfCharUnsafe_25 : decode cJ3_indexOfCharUnsafe 25 = .ok (.goto (-22), 3) := dk_167 255 234 (dk_at dksJ3_indexOfCharUnsafe_1 3 rfl rfl)
theorem dJ3_indexOfCharUnsafe_28 : decode cJ3_indexOfCharUnsafe 28 = .ok (.iconst (-1), 1) := dk_2 (dk_at dksJ3_indexOfCharUnsafe_1 6 rfl rfl)
theorem dJ3_indexOfCharUnsafe_29 : decode cJ3_indexOfCharUnsafe 29 = .ok (.ireturn, 1) := dk_172 (dk_at dksJ3_indexOfCharUnsafe_1 7 rfl rfl)
abbrev cJ3_indexOfSupplementary : ByteArray := prog_41_method_49_code
def yJ3_indexOfSupplementary : MethodName := ⟨RJ3, "indexOfSupplementary", "([BIII)I"⟩
def dkwJ3_indexOfSupplementary_3 : List UInt8 := [167, 255, 218, 2, 172]
abbrev dktJ3_indexOfSupplementary_3 : List UInt8 := dkwJ3_indexOfSupplementary_3 ++ []
def dkwJ3_indexOfSupplementary_2 : List UInt8 := [160, 0, 19, 42, 21, 6, 4, 96, 184, 0, 71, 21, 5, 160, 0, 6, 21, 6, 172, 132, 6, 1]
abbrev dktJ3_indexOfSupplementary_2 : List UInt8 := dkwJ3_indexOfSupplementary_2 ++ dktJ3_indexOfSupplementary_3
def dkwJ3_indexOfSupplementary_1 : List UInt8 := [184, 0, 96, 28, 54, 6, 21, 6, 29, 4, 100, 162, 0, 36, 42, 21, 6, 184, 0, 71, 21, 4]
abbrev dktJ3_indexOfSupplementary_1 : List UInt8 := dkwJ3_indexOfSupplementary_1 ++ dktJ3_indexOfSupplementary_2
def dkwJ3_indexOfSupplementary_0 : List UInt8 := [27, 184, 0, 164, 153, 0, 65, 27, 184, 0, 157, 54, 4, 27, 184, 0, 161, 54, 5, 28, 29, 42]
abbrev dktJ3_indexOfSupplementary_0 : List UInt8 := dkwJ3_indexOfSupplementary_0 ++ dktJ3_indexOfSupplementary_1
theorem dksJ3_indexOfSupplementary_0 : cJ3_indexOfSupplementary.data.toList.drop 0 = dktJ3_indexOfSupplementary_0 := by decide +kernel
theorem dksJ3_indexOfSupplementary_1 : cJ3_indexOfSupplementary.data.toList.drop 22 = dktJ3_indexOfSupplementary_1 := dk_seg dksJ3_indexOfSupplementary_0 22 rfl rfl
theorem dksJ3_indexOfSupplementary_2 : cJ3_indexOfSupplementary.data.toList.drop 44 = dktJ3_indexOfSupplementary_2 := dk_seg dksJ3_indexOfSupplementary_1 22 rfl rfl
theorem dksJ3_indexOfSupplementary_3 : cJ3_indexOfSupplementary.data.toList.drop 66 = dktJ3_indexOfSupplementary_3 := dk_seg dksJ3_indexOfSupplementary_2 22 rfl rfl
theorem dJ3_indexOfSupplementary_0 : decode cJ3_indexOfSupplementary 0 = .ok (.iload_n 1, 1) := dk_27 (dk_at dksJ3_indexOfSupplementary_0 0 rfl rfl)
theorem dJ3_indexOfSupplementary_1 : decode cJ3_indexOfSupplementary 1 = .ok (.invokestatic 164, 3) := dk_184 0 164 (dk_at dksJ3_indexOfSupplementary_0 1 rfl rfl)
theorem dJ3_indexOfSupplementary_4 : decode cJ3_indexOfSupplementary 4 = .ok (.ifCond .eq 65, 3) := dk_153 0 65 (dk_at dksJ3_indexOfSupplementary_0 4 rfl rfl)
theorem dJ3_indexOfSupplementary_7 : decode cJ3_indexOfSupplementary 7 = .ok (.iload_n 1, 1) := dk_27 (dk_at dksJ3_indexOfSupplementary_0 7 rfl rfl)
theorem dJ3_indexOfSupplementary_8 : decode cJ3_indexOfSupplementary 8 = .ok (.invokestatic 157, 3) := dk_184 0 157 (dk_at dksJ3_indexOfSupplementary_0 8 rfl rfl)
theorem dJ3_indexOfSupplementary_11 : decode cJ3_indexOfSupplementary 11 = .ok (.istore 4, 2) := dk_54 4 (dk_at dksJ3_indexOfSupplementary_0 11 rfl rfl)
theorem dJ3_indexOfSupplementary_13 : decode cJ3_indexOfSupplementary 13 = .ok (.iload_n 1, 1) := dk_27 (dk_at dksJ3_indexOfSupplementary_0 13 rfl rfl)
theorem dJ3_indexOfSupplementary_14 : decode cJ3_indexOfSupplementary 14 = .ok (.invokestatic 161, 3) := dk_184 0 161 (dk_at dksJ3_indexOfSupplementary_0 14 rfl rfl)
theorem dJ3_indexOfSupplementary_17 : decode cJ3_indexOfSupplementary 17 = .ok (.istore 5, 2) := dk_54 5 (dk_at dksJ3_indexOfSupplementary_0 17 rfl rfl)
theorem dJ3_indexOfSupplementary_19 : decode cJ3_indexOfSupplementary 19 = .ok (.iload_n 2, 1) := dk_28 (dk_at dksJ3_indexOfSupplementary_0 19 rfl rfl)
theorem dJ3_indexOfSupplementary_20 : decode cJ3_indexOfSupplementary 20 = .ok (.iload_n 3, 1) := dk_29 (dk_at dksJ3_indexOfSupplementary_0 20 rfl rfl)
theorem dJ3_indexOfSupplementary_21 : decode cJ3_indexOfSupplementary 21 = .ok (.aload_n 0, 1) := dk_42 (dk_at dksJ3_indexOfSupplementary_0 21 rfl rfl)
theorem dJ3_indexOfSupplementary_22 : decode cJ3_indexOfSupplementary 22 = .ok (.invokestatic 96, 3) := dk_184 0 96 (dk_at dksJ3_indexOfSupplementary_1 0 rfl rfl)
theorem dJ3_indexOfSupplementary_25 : decode cJ3_indexOfSupplementary 25 = .ok (.iload_n 2, 1) := dk_28 (dk_at dksJ3_indexOfSupplementary_1 3 rfl rfl)
theorem dJ3_indexOfSupplementary_26 : decode cJ3_indexOfSupplementary 26 = .ok (.istore 6, 2) := dk_54 6 (dk_at dksJ3_indexOfSupplementary_1 4 rfl rfl)
theorem dJ3_indexOfSupplementary_28 : decode cJ3_indexOfSupplementary 28 = .ok (.iload 6, 2) := dk_21 6 (dk_at dksJ3_indexOfSupplementary_1 6 rfl rfl)
theorem dJ3_indexOfSupplementary_30 : decode cJ3_indexOfSupplementary 30 = .ok (.iload_n 3, 1) := dk_29 (dk_at dksJ3_indexOfSupplementary_1 8 rfl rfl)
theorem dJ3_indexOfSupplementary_31 : decode cJ3_indexOfSupplementary 31 = .ok (.iconst 1, 1) := dk_4 (dk_at dksJ3_indexOfSupplementary_1 9 rfl rfl)
theorem dJ3_indexOfSupplementary_32 : decode cJ3_indexOfSupplementary 32 = .ok (.isub, 1) := dk_100 (dk_at dksJ3_indexOfSupplementary_1 10 rfl rfl)
theorem dJ3_indexOfSupplementary_33 : decode cJ3_indexOfSupplementary 33 = .ok (.if_icmp .ge 36, 3) := dk_162 0 36 (dk_at dksJ3_indexOfSupplementary_1 11 rfl rfl)
theorem dJ3_indexOfSupplementary_36 : decode cJ3_indexOfSupplementary 36 = .ok (.aload_n 0, 1) := dk_42 (dk_at dksJ3_indexOfSupplementary_1 14 rfl rfl)
theorem dJ3_indexOfSupplementary_37 : decode cJ3_indexOfSupplementary 37 = .ok (.iload 6, 2) := dk_21 6 (dk_at dksJ3_indexOfSupplementary_1 15 rfl rfl)
theorem dJ3_indexOfSupplementary_39 : decode cJ3_indexOfSupplementary 39 = .ok (.invokestatic 71, 3) := dk_184 0 71 (dk_at dksJ3_indexOfSupplementary_1 17 rfl rfl)
theorem dJ3_indexOfSupplementary_42 : decode cJ3_indexOfSupplementary 42 = .ok (.iload 4, 2) := dk_21 4 (dk_at dksJ3_indexOfSupplementary_1 20 rfl rfl)
theorem dJ3_indexOfSupplementary_44 : decode cJ3_indexOfSupplementary 44 = .ok (.if_icmp .ne 19, 3) := dk_160 0 19 (dk_at dksJ3_indexOfSupplementary_2 0 rfl rfl)
theorem dJ3_indexOfSupplementary_47 : decode cJ3_indexOfSupplementary 47 = .ok (.aload_n 0, 1) := dk_42 (dk_at dksJ3_indexOfSupplementary_2 3 rfl rfl)
theorem dJ3_indexOfSupplementary_48 : decode cJ3_indexOfSupplementary 48 = .ok (.iload 6, 2) := dk_21 6 (dk_at dksJ3_indexOfSupplementary_2 4 rfl rfl)
theorem dJ3_indexOfSupplementary_50 : decode cJ3_indexOfSupplementary 50 = .ok (.iconst 1, 1) := dk_4 (dk_at dksJ3_indexOfSupplementary_2 6 rfl rfl)
theorem dJ3_indexOfSupplementary_51 : decode cJ3_indexOfSupplementary 51 = .ok (.iadd, 1) := dk_96 (dk_at dksJ3_indexOfSupplementary_2 7 rfl rfl)
theorem dJ3_indexOfSupplementary_52 : decode cJ3_indexOfSupplementary 52 = .ok (.invokestatic 71, 3) := dk_184 0 71 (dk_at dksJ3_indexOfSupplementary_2 8 rfl rfl)
theorem dJ3_indexOfSupplementary_55 : decode cJ3_indexOfSupplementary 55 = .ok (.iload 5, 2) := dk_21 5 (dk_at dksJ3_indexOfSupplementary_2 11 rfl rfl)
theorem dJ3_indexOfSupplementary_57 : decode cJ3_indexOfSupplementary 57 = .ok (.if_icmp .ne 6, 3) := dk_160 0 6 (dk_at dksJ3_indexOfSupplementary_2 13 rfl rfl)
theorem dJ3_indexOfSupplementary_60 : decode cJ3_indexOfSupplementary 60 = .ok (.iload 6, 2) := dk_21 6 (dk_at dksJ3_indexOfSupplementary_2 16 rfl rfl)
theorem dJ3_indexOfSupplementary_62 : decode cJ3_indexOfSupplementary 62 = .ok (.ireturn, 1) := dk_172 (dk_at dksJ3_indexOfSupplementary_2 18 rfl rfl)
theorem dJ3_indexOfSupplementary_63 : decode cJ3_indexOfSupplementary 63 = .ok (.iinc 6 1, 3) := dk_132 6 1 (dk_at dksJ3_indexOfSupplementary_2 19 rfl rfl)
theorem dJ3_indexOfSupplementary_66 : decode cJ3_indexOfSupplementary 66 = .ok (.goto (-38), 3) := dk_167 255 218 (dk_at dksJ3_indexOfSupplementary_3 0 rfl rfl)
theorem dJ3_indexOfSupplementary_69 : decode cJ3_indexOfSupplementary 69 = .ok (.iconst (-1), 1) := dk_2 (dk_at dksJ3_indexOfSupplementary_3 3 rfl rfl)
theorem dJ3_indexOfSupplementary_70 : decode cJ3_indexOfSupplementary 70 = .ok (.ireturn, 1) := dk_172 (dk_at dksJ3_indexOfSupplementary_3 4 rfl rfl)
abbrev cJ3_hashCode : ByteArray := prog_41_method_39_code
def yJ3_hashCode : MethodName := ⟨RJ3, "hashCode", "([B)I"⟩
def dkwJ3_hashCode_2 : List UInt8 := [3, 167, 0, 22, 42, 3, 184, 0, 71, 167, 0, 14, 42, 3, 42, 190, 4, 122, 3, 8, 184, 0, 220, 172]
abbrev dktJ3_hashCode_2 : List UInt8 := dkwJ3_hashCode_2 ++ []
def dkwJ3_hashCode_1 : List UInt8 := [171, 0, 0, 0, 0, 38, 0, 0, 0, 2, 0, 0, 0, 0, 0, 0, 0, 26, 0, 0, 0, 2, 0, 0, 0, 30]
abbrev dktJ3_hashCode_1 : List UInt8 := dkwJ3_hashCode_1 ++ dktJ3_hashCode_2
def dkwJ3_hashCode_0 : List UInt8 := [42, 190]
abbrev dktJ3_hashCode_0 : List UInt8 := dkwJ3_hashCode_0 ++ dktJ3_hashCode_1
theorem dksJ3_hashCode_0 : cJ3_hashCode.data.toList.drop 0 = dktJ3_hashCode_0 := by decide +kernel
theorem dksJ3_hashCode_1 : cJ3_hashCode.data.toList.drop 2 = dktJ3_hashCode_1 := dk_seg dksJ3_hashCode_0 2 rfl rfl
theorem dksJ3_hashCode_2 : cJ3_hashCode.data.toList.drop 28 = dktJ3_hashCode_2 := dk_seg dksJ3_hashCode_1 26 rfl rfl
theorem dJ3_hashCode_0 : decode cJ3_hashCode 0 = .ok (.aload_n 0, 1) := dk_42 (dk_at dksJ3_hashCode_0 0 rfl rfl)
theorem dJ3_hashCode_1 : decode cJ3_hashCode 1 = .ok (.arraylength, 1) := dk_190 (dk_at dksJ3_hashCode_0 1 rfl rfl)
theorem dJ3_hashCode_2 : decode cJ3_hashCode 2 = .ok (.lookupswitch 38 #[(0, 26), (2, 30)], 26) := by decide +kernel
theorem dJ3_hashCode_28 : decode cJ3_hashCode 28 = .ok (.iconst 0, 1) := dk_3 (dk_at dksJ3_hashCode_2 0 rfl rfl)
theorem dJ3_hashCode_29 : decode cJ3_hashCode 29 = .ok (.goto 22, 3) := dk_167 0 22 (dk_at dksJ3_hashCode_2 1 rfl rfl)
theorem dJ3_hashCode_32 : decode cJ3_hashCode 32 = .ok (.aload_n 0, 1) := dk_42 (dk_at dksJ3_hashCode_2 4 rfl rfl)
theorem dJ3_hashCode_33 : decode cJ3_hashCode 33 = .ok (.iconst 0, 1) := dk_3 (dk_at dksJ3_hashCode_2 5 rfl rfl)
theorem dJ3_hashCode_34 : decode cJ3_hashCode 34 = .ok (.invokestatic 71, 3) := dk_184 0 71 (dk_at dksJ3_hashCode_2 6 rfl rfl)
theorem dJ3_hashCode_37 : decode cJ3_hashCode 37 = .ok (.goto 14, 3) := dk_167 0 14 (dk_at dksJ3_hashCode_2 9 rfl rfl)
theorem dJ3_hashCode_40 : decode cJ3_hashCode 40 = .ok (.aload_n 0, 1) := dk_42 (dk_at dksJ3_hashCode_2 12 rfl rfl)
theorem dJ3_hashCode_41 : decode cJ3_hashCode 41 = .ok (.iconst 0, 1) := dk_3 (dk_at dksJ3_hashCode_2 13 rfl rfl)
theorem dJ3_hashCode_42 : decode cJ3_hashCode 42 = .ok (.aload_n 0, 1) := dk_42 (dk_at dksJ3_hashCode_2 14 rfl rfl)
theorem dJ3_hashCode_43 : decode cJ3_hashCode 43 = .ok (.arraylength, 1) := dk_190 (dk_at dksJ3_hashCode_2 15 rfl rfl)
theorem dJ3_hashCode_44 : decode cJ3_hashCode 44 = .ok (.iconst 1, 1) := dk_4 (dk_at dksJ3_hashCode_2 16 rfl rfl)
theorem dJ3_hashCode_45 : decode cJ3_hashCode 45 = .ok (.ishr, 1) := dk_122 (dk_at dksJ3_hashCode_2 17 rfl rfl)
theorem dJ3_hashCode_46 : decode cJ3_hashCode 46 = .ok (.iconst 0, 1) := dk_3 (dk_at dksJ3_hashCode_2 18 rfl rfl)
theorem dJ3_hashCode_47 : decode cJ3_hashCode 47 = .ok (.iconst 5, 1) := dk_8 (dk_at dksJ3_hashCode_2 19 rfl rfl)
theorem dJ3_hashCode_48 : decode cJ3_hashCode 48 = .ok (.invokestatic 220, 3) := dk_184 0 220 (dk_at dksJ3_hashCode_2 20 rfl rfl)
theorem dJ3_hashCode_51 : decode cJ3_hashCode 51 = .ok (.ireturn, 1) := dk_172 (dk_at dksJ3_hashCode_2 23 rfl rfl)
theorem q164 : (Jvm.Cond.initialized "java/lang/StringUTF16") ∈ lw_all := lw_g (lw_at lw_m1 7 rfl) rfl
theorem q337 : (Jvm.Cond.static ({ cls := "java/lang/StringUTF16", name := "newBytesFor", desc := "(I)[B" } : Jvm.MethodName)) ∈ lw_all := lw_g (lw_at lw_m1 180 rfl) rfl
theorem q338 : (Jvm.Cond.code ({ cls := "java/lang/StringUTF16", name := "newBytesFor", desc := "(I)[B" } : Jvm.MethodName) prog_41_method_2_code (1 : Nat) (Option.some (Jvm.ClassFile.FieldType.array Jvm.ClassFile.FieldType.byte))) ∈ lw_all := lw_g (lw_at lw_m1 181 rfl) rfl
theorem q339 : (Jvm.Cond.methodLink "java/lang/StringUTF16" (11 : Nat) ({ cls := "java/lang/StringUTF16", name := "newBytesLength", desc := "(I)I" } : Jvm.MethodName)) ∈ lw_all := lw_g (lw_at lw_m1 182 rfl) rfl
theorem q340 : (Jvm.Cond.static ({ cls := "java/lang/StringUTF16", name := "newBytesLength", desc := "(I)I" } : Jvm.MethodName)) ∈ lw_all := lw_g (lw_at lw_m1 183 rfl) rfl
theorem q341 : (Jvm.Cond.code ({ cls := "java/lang/StringUTF16", name := "newBytesLength", desc := "(I)I" } : Jvm.MethodName) prog_41_method_3_code (1 : Nat) (Option.some Jvm.ClassFile.FieldType.int)) ∈ lw_all := lw_g (lw_at lw_m1 184 rfl) rfl
theorem q342 : (Jvm.Cond.constant "java/lang/StringUTF16" (20 : Nat) (1073741823 : Int32)) ∈ lw_all := lw_g (lw_at lw_m1 185 rfl) rfl
theorem q414 : (Jvm.Cond.static ({ cls := "java/lang/StringUTF16", name := "inflate", desc := "([BI[BII)V" } : Jvm.MethodName)) ∈ lw_all := lw_g (lw_at lw_m2 17 rfl) rfl
theorem q415 : (Jvm.Cond.code ({ cls := "java/lang/StringUTF16", name := "inflate", desc := "([BI[BII)V" } : Jvm.MethodName) prog_41_method_86_code (6 : Nat) (Option.none : Option Jvm.ClassFile.FieldType)) ∈ lw_all := lw_g (lw_at lw_m2 18 rfl) rfl
theorem q416 : (Jvm.Cond.methodLink "java/lang/StringUTF16" (173 : Nat) ({ cls := "java/lang/StringUTF16", name := "checkBoundsOffCount", desc := "(II[B)V" } : Jvm.MethodName)) ∈ lw_all := lw_g (lw_at lw_m2 19 rfl) rfl
theorem q417 : (Jvm.Cond.static ({ cls := "java/lang/StringUTF16", name := "checkBoundsOffCount", desc := "(II[B)V" } : Jvm.MethodName)) ∈ lw_all := lw_g (lw_at lw_m2 20 rfl) rfl
theorem q418 : (Jvm.Cond.code ({ cls := "java/lang/StringUTF16", name := "checkBoundsOffCount", desc := "(II[B)V" } : Jvm.MethodName) prog_41_method_94_code (3 : Nat) (Option.none : Option Jvm.ClassFile.FieldType)) ∈ lw_all := lw_g (lw_at lw_m2 21 rfl) rfl
theorem q419 : (Jvm.Cond.methodLink "java/lang/StringUTF16" (48 : Nat) ({ cls := "java/lang/StringUTF16", name := "length", desc := "([B)I" } : Jvm.MethodName)) ∈ lw_all := lw_g (lw_at lw_m2 22 rfl) rfl
theorem q420 : (Jvm.Cond.static ({ cls := "java/lang/StringUTF16", name := "length", desc := "([B)I" } : Jvm.MethodName)) ∈ lw_all := lw_g (lw_at lw_m2 23 rfl) rfl
theorem q421 : (Jvm.Cond.code ({ cls := "java/lang/StringUTF16", name := "length", desc := "([B)I" } : Jvm.MethodName) prog_41_method_6_code (1 : Nat) (Option.some Jvm.ClassFile.FieldType.int)) ∈ lw_all := lw_g (lw_at lw_m2 24 rfl) rfl
theorem q422 : (Jvm.Cond.methodLink "java/lang/StringUTF16" (419 : Nat) ({ cls := "java/lang/String", name := "checkBoundsOffCount", desc := "(III)I" } : Jvm.MethodName)) ∈ lw_all := lw_g (lw_at lw_m2 25 rfl) rfl
theorem q430 : (Jvm.Cond.methodLink "java/lang/StringUTF16" (111 : Nat) ({ cls := "java/lang/StringUTF16", name := "putChar", desc := "([BII)V" } : Jvm.MethodName)) ∈ lw_all := lw_g (lw_at lw_m2 33 rfl) rfl
theorem q431 : (Jvm.Cond.static ({ cls := "java/lang/StringUTF16", name := "putChar", desc := "([BII)V" } : Jvm.MethodName)) ∈ lw_all := lw_g (lw_at lw_m2 34 rfl) rfl
theorem q432 : (Jvm.Cond.code ({ cls := "java/lang/StringUTF16", name := "putChar", desc := "([BII)V" } : Jvm.MethodName) prog_41_method_4_code (3 : Nat) (Option.none : Option Jvm.ClassFile.FieldType)) ∈ lw_all := lw_g (lw_at lw_m2 35 rfl) rfl
theorem q433 : (Jvm.Cond.fieldLink "java/lang/StringUTF16" (44 : Nat) "java/lang/StringUTF16" "$assertionsDisabled" "Z") ∈ lw_all := lw_g (lw_at lw_m2 36 rfl) rfl
theorem q434 : (Jvm.Cond.laysStatic "java/lang/StringUTF16" "$assertionsDisabled" "Z") ∈ lw_tbl := lw_at lw_m2 37 rfl
theorem q435 : (Jvm.Cond.fieldLink "java/lang/StringUTF16" (59 : Nat) "java/lang/StringUTF16" "HI_BYTE_SHIFT" "I") ∈ lw_all := lw_g (lw_at lw_m2 38 rfl) rfl
theorem q436 : (Jvm.Cond.laysStatic "java/lang/StringUTF16" "HI_BYTE_SHIFT" "I") ∈ lw_tbl := lw_at lw_m2 39 rfl
theorem q437 : (Jvm.Cond.fieldLink "java/lang/StringUTF16" (63 : Nat) "java/lang/StringUTF16" "LO_BYTE_SHIFT" "I") ∈ lw_all := lw_g (lw_at lw_m2 40 rfl) rfl
theorem q438 : (Jvm.Cond.laysStatic "java/lang/StringUTF16" "LO_BYTE_SHIFT" "I") ∈ lw_tbl := lw_at lw_m2 41 rfl
theorem q440 : (Jvm.Cond.static ({ cls := "java/lang/StringUTF16", name := "putCharSB", desc := "([BII)V" } : Jvm.MethodName)) ∈ lw_all := lw_g (lw_at lw_m2 43 rfl) rfl
theorem q441 : (Jvm.Cond.code ({ cls := "java/lang/StringUTF16", name := "putCharSB", desc := "([BII)V" } : Jvm.MethodName) prog_41_method_71_code (3 : Nat) (Option.none : Option Jvm.ClassFile.FieldType)) ∈ lw_all := lw_g (lw_at lw_m2 44 rfl) rfl
theorem q442 : (Jvm.Cond.methodLink "java/lang/StringUTF16" (67 : Nat) ({ cls := "java/lang/StringUTF16", name := "checkIndex", desc := "(I[B)V" } : Jvm.MethodName)) ∈ lw_all := lw_g (lw_at lw_m2 45 rfl) rfl
theorem q443 : (Jvm.Cond.static ({ cls := "java/lang/StringUTF16", name := "checkIndex", desc := "(I[B)V" } : Jvm.MethodName)) ∈ lw_all := lw_g (lw_at lw_m2 46 rfl) rfl
theorem q444 : (Jvm.Cond.code ({ cls := "java/lang/StringUTF16", name := "checkIndex", desc := "(I[B)V" } : Jvm.MethodName) prog_41_method_91_code (2 : Nat) (Option.none : Option Jvm.ClassFile.FieldType)) ∈ lw_all := lw_g (lw_at lw_m2 47 rfl) rfl
theorem q445 : (Jvm.Cond.methodLink "java/lang/StringUTF16" (414 : Nat) ({ cls := "java/lang/String", name := "checkIndex", desc := "(II)V" } : Jvm.MethodName)) ∈ lw_all := lw_g (lw_at lw_m2 48 rfl) rfl
theorem q489 : (Jvm.Cond.static ({ cls := "java/lang/StringUTF16", name := "compress", desc := "([BII)[B" } : Jvm.MethodName)) ∈ lw_all := lw_g (lw_at lw_m2 92 rfl) rfl
theorem q490 : (Jvm.Cond.code ({ cls := "java/lang/StringUTF16", name := "compress", desc := "([BII)[B" } : Jvm.MethodName) prog_41_method_17_code (6 : Nat) (Option.some (Jvm.ClassFile.FieldType.array Jvm.ClassFile.FieldType.byte))) ∈ lw_all := lw_g (lw_at lw_m2 93 rfl) rfl
theorem q491 : (Jvm.Cond.methodLink "java/lang/StringUTF16" (123 : Nat) ({ cls := "java/lang/StringUTF16", name := "compress", desc := "([BI[BII)I" } : Jvm.MethodName)) ∈ lw_all := lw_g (lw_at lw_m2 94 rfl) rfl
theorem q492 : (Jvm.Cond.static ({ cls := "java/lang/StringUTF16", name := "compress", desc := "([BI[BII)I" } : Jvm.MethodName)) ∈ lw_all := lw_g (lw_at lw_m2 95 rfl) rfl
theorem q493 : (Jvm.Cond.code ({ cls := "java/lang/StringUTF16", name := "compress", desc := "([BI[BII)I" } : Jvm.MethodName) prog_41_method_22_code (7 : Nat) (Option.some Jvm.ClassFile.FieldType.int)) ∈ lw_all := lw_g (lw_at lw_m2 96 rfl) rfl
theorem q494 : (Jvm.Cond.methodLink "java/lang/StringUTF16" (71 : Nat) ({ cls := "java/lang/StringUTF16", name := "getChar", desc := "([BI)C" } : Jvm.MethodName)) ∈ lw_all := lw_g (lw_at lw_m2 97 rfl) rfl
theorem q495 : (Jvm.Cond.static ({ cls := "java/lang/StringUTF16", name := "getChar", desc := "([BI)C" } : Jvm.MethodName)) ∈ lw_all := lw_g (lw_at lw_m2 98 rfl) rfl
theorem q496 : (Jvm.Cond.code ({ cls := "java/lang/StringUTF16", name := "getChar", desc := "([BI)C" } : Jvm.MethodName) prog_41_method_5_code (2 : Nat) (Option.some Jvm.ClassFile.FieldType.char)) ∈ lw_all := lw_g (lw_at lw_m2 99 rfl) rfl
theorem q497 : (Jvm.Cond.methodLink "java/lang/StringUTF16" (126 : Nat) ({ cls := "java/util/Arrays", name := "copyOfRange", desc := "([BII)[B" } : Jvm.MethodName)) ∈ lw_all := lw_g (lw_at lw_m2 100 rfl) rfl
theorem q499 : (Jvm.Cond.static ({ cls := "java/lang/StringUTF16", name := "coderFromArrayLen", desc := "([BI)B" } : Jvm.MethodName)) ∈ lw_all := lw_g (lw_at lw_m2 102 rfl) rfl
theorem q500 : (Jvm.Cond.code ({ cls := "java/lang/StringUTF16", name := "coderFromArrayLen", desc := "([BI)B" } : Jvm.MethodName) prog_41_method_15_code (2 : Nat) (Option.some Jvm.ClassFile.FieldType.byte)) ∈ lw_all := lw_g (lw_at lw_m2 103 rfl) rfl
theorem q547 : (Jvm.Cond.static ({ cls := "java/lang/StringUTF16", name := "indexOf", desc := "([BIII)I" } : Jvm.MethodName)) ∈ lw_all := lw_g (lw_at lw_m2 150 rfl) rfl
theorem q548 : (Jvm.Cond.code ({ cls := "java/lang/StringUTF16", name := "indexOf", desc := "([BIII)I" } : Jvm.MethodName) prog_41_method_40_code (4 : Nat) (Option.some Jvm.ClassFile.FieldType.int)) ∈ lw_all := lw_g (lw_at lw_m2 151 rfl) rfl
theorem q549 : (Jvm.Cond.methodLink "java/lang/StringUTF16" (224 : Nat) ({ cls := "java/lang/Math", name := "max", desc := "(II)I" } : Jvm.MethodName)) ∈ lw_all := lw_g (lw_at lw_m2 152 rfl) rfl
theorem q550 : (Jvm.Cond.methodLink "java/lang/StringUTF16" (183 : Nat) ({ cls := "java/lang/Math", name := "min", desc := "(II)I" } : Jvm.MethodName)) ∈ lw_all := lw_g (lw_at lw_m2 153 rfl) rfl
theorem q551 : (Jvm.Cond.constant "java/lang/StringUTF16" (227 : Nat) (65536 : Int32)) ∈ lw_all := lw_g (lw_at lw_m2 154 rfl) rfl
theorem q552 : (Jvm.Cond.methodLink "java/lang/StringUTF16" (228 : Nat) ({ cls := "java/lang/StringUTF16", name := "indexOfChar", desc := "([BIII)I" } : Jvm.MethodName)) ∈ lw_all := lw_g (lw_at lw_m2 155 rfl) rfl
theorem q553 : (Jvm.Cond.static ({ cls := "java/lang/StringUTF16", name := "indexOfChar", desc := "([BIII)I" } : Jvm.MethodName)) ∈ lw_all := lw_g (lw_at lw_m2 156 rfl) rfl
theorem q554 : (Jvm.Cond.code ({ cls := "java/lang/StringUTF16", name := "indexOfChar", desc := "([BIII)I" } : Jvm.MethodName) prog_41_method_47_code (4 : Nat) (Option.some Jvm.ClassFile.FieldType.int)) ∈ lw_all := lw_g (lw_at lw_m2 157 rfl) rfl
theorem q555 : (Jvm.Cond.methodLink "java/lang/StringUTF16" (96 : Nat) ({ cls := "java/lang/StringUTF16", name := "checkBoundsBeginEnd", desc := "(II[B)V" } : Jvm.MethodName)) ∈ lw_all := lw_g (lw_at lw_m2 158 rfl) rfl
theorem q556 : (Jvm.Cond.static ({ cls := "java/lang/StringUTF16", name := "checkBoundsBeginEnd", desc := "(II[B)V" } : Jvm.MethodName)) ∈ lw_all := lw_g (lw_at lw_m2 159 rfl) rfl
theorem q557 : (Jvm.Cond.code ({ cls := "java/lang/StringUTF16", name := "checkBoundsBeginEnd", desc := "(II[B)V" } : Jvm.MethodName) prog_41_method_93_code (3 : Nat) (Option.none : Option Jvm.ClassFile.FieldType)) ∈ lw_all := lw_g (lw_at lw_m2 160 rfl) rfl
theorem q558 : (Jvm.Cond.methodLink "java/lang/StringUTF16" (241 : Nat) ({ cls := "java/lang/String", name := "checkBoundsBeginEnd", desc := "(III)V" } : Jvm.MethodName)) ∈ lw_all := lw_g (lw_at lw_m2 161 rfl) rfl
theorem q564 : (Jvm.Cond.methodLink "java/lang/StringUTF16" (244 : Nat) ({ cls := "java/lang/StringUTF16", name := "indexOfCharUnsafe", desc := "([BIII)I" } : Jvm.MethodName)) ∈ lw_all := lw_g (lw_at lw_m2 167 rfl) rfl
theorem q565 : (Jvm.Cond.static ({ cls := "java/lang/StringUTF16", name := "indexOfCharUnsafe", desc := "([BIII)I" } : Jvm.MethodName)) ∈ lw_all := lw_g (lw_at lw_m2 168 rfl) rfl
theorem q566 : (Jvm.Cond.code ({ cls := "java/lang/StringUTF16", name := "indexOfCharUnsafe", desc := "([BIII)I" } : Jvm.MethodName) prog_41_method_48_code (5 : Nat) (Option.some Jvm.ClassFile.FieldType.int)) ∈ lw_all := lw_g (lw_at lw_m2 169 rfl) rfl
theorem q567 : (Jvm.Cond.methodLink "java/lang/StringUTF16" (232 : Nat) ({ cls := "java/lang/StringUTF16", name := "indexOfSupplementary", desc := "([BIII)I" } : Jvm.MethodName)) ∈ lw_all := lw_g (lw_at lw_m2 170 rfl) rfl
theorem q568 : (Jvm.Cond.static ({ cls := "java/lang/StringUTF16", name := "indexOfSupplementary", desc := "([BIII)I" } : Jvm.MethodName)) ∈ lw_all := lw_g (lw_at lw_m2 171 rfl) rfl
theorem q569 : (Jvm.Cond.code ({ cls := "java/lang/StringUTF16", name := "indexOfSupplementary", desc := "([BIII)I" } : Jvm.MethodName) prog_41_method_49_code (7 : Nat) (Option.some Jvm.ClassFile.FieldType.int)) ∈ lw_all := lw_g (lw_at lw_m2 172 rfl) rfl
theorem q570 : (Jvm.Cond.methodLink "java/lang/StringUTF16" (164 : Nat) ({ cls := "java/lang/Character", name := "isValidCodePoint", desc := "(I)Z" } : Jvm.MethodName)) ∈ lw_all := lw_g (lw_at lw_m2 173 rfl) rfl
theorem q573 : (Jvm.Cond.methodLink "java/lang/StringUTF16" (157 : Nat) ({ cls := "java/lang/Character", name := "highSurrogate", desc := "(I)C" } : Jvm.MethodName)) ∈ lw_all := lw_g (lw_at lw_m2 176 rfl) rfl
theorem q577 : (Jvm.Cond.methodLink "java/lang/StringUTF16" (161 : Nat) ({ cls := "java/lang/Character", name := "lowSurrogate", desc := "(I)C" } : Jvm.MethodName)) ∈ lw_all := lw_g (lw_at lw_m2 180 rfl) rfl
theorem q839 : (Jvm.Cond.static ({ cls := "java/lang/StringUTF16", name := "hashCode", desc := "([B)I" } : Jvm.MethodName)) ∈ lw_all := lw_g (lw_at lw_m3 202 rfl) rfl
theorem q840 : (Jvm.Cond.code ({ cls := "java/lang/StringUTF16", name := "hashCode", desc := "([B)I" } : Jvm.MethodName) prog_41_method_39_code (1 : Nat) (Option.some Jvm.ClassFile.FieldType.int)) ∈ lw_all := lw_g (lw_at lw_m3 203 rfl) rfl
theorem q841 : (Jvm.Cond.methodLink "java/lang/StringUTF16" (220 : Nat) ({ cls := "jdk/internal/util/ArraysSupport", name := "vectorizedHashCode", desc := "(Ljava/lang/Object;IIII)I" } : Jvm.MethodName)) ∈ lw_all := lw_g (lw_at lw_m3 204 rfl) rfl
/-! jdk/internal/util/ArraysSupport -/
set_option maxRecDepth 100000
def RJ4 : String := "jdk/internal/util/ArraysSupport"
abbrev cJ4_newLength : ByteArray := prog_60_method_27_code
def yJ4_newLength : MethodName := ⟨RJ4, "newLength", "(III)I"⟩
def dkwJ4_newLength_1 : List UInt8 := [184, 0, 201, 172]
abbrev dktJ4_newLength_1 : List UInt8 := dkwJ4_newLength_1 ++ []
def dkwJ4_newLength_0 : List UInt8 := [26, 27, 28, 184, 0, 194, 96, 62, 3, 29, 162, 0, 11, 29, 18, 200, 163, 0, 5, 29, 172, 26, 27]
abbrev dktJ4_newLength_0 : List UInt8 := dkwJ4_newLength_0 ++ dktJ4_newLength_1
theorem dksJ4_newLength_0 : cJ4_newLength.data.toList.drop 0 = dktJ4_newLength_0 := by decide +kernel
theorem dksJ4_newLength_1 : cJ4_newLength.data.toList.drop 23 = dktJ4_newLength_1 := dk_seg dksJ4_newLength_0 23 rfl rfl
theorem dJ4_newLength_0 : decode cJ4_newLength 0 = .ok (.iload_n 0, 1) := dk_26 (dk_at dksJ4_newLength_0 0 rfl rfl)
theorem dJ4_newLength_1 : decode cJ4_newLength 1 = .ok (.iload_n 1, 1) := dk_27 (dk_at dksJ4_newLength_0 1 rfl rfl)
theorem dJ4_newLength_2 : decode cJ4_newLength 2 = .ok (.iload_n 2, 1) := dk_28 (dk_at dksJ4_newLength_0 2 rfl rfl)
theorem dJ4_newLength_3 : decode cJ4_newLength 3 = .ok (.invokestatic 194, 3) := dk_184 0 194 (dk_at dksJ4_newLength_0 3 rfl rfl)
theorem dJ4_newLength_6 : decode cJ4_newLength 6 = .ok (.iadd, 1) := dk_96 (dk_at dksJ4_newLength_0 6 rfl rfl)
theorem dJ4_newLength_7 : decode cJ4_newLength 7 = .ok (.istore_n 3, 1) := dk_62 (dk_at dksJ4_newLength_0 7 rfl rfl)
theorem dJ4_newLength_8 : decode cJ4_newLength 8 = .ok (.iconst 0, 1) := dk_3 (dk_at dksJ4_newLength_0 8 rfl rfl)
theorem dJ4_newLength_9 : decode cJ4_newLength 9 = .ok (.iload_n 3, 1) := dk_29 (dk_at dksJ4_newLength_0 9 rfl rfl)
theorem dJ4_newLength_10 : decode cJ4_newLength 10 = .ok (.if_icmp .ge 11, 3) := dk_162 0 11 (dk_at dksJ4_newLength_0 10 rfl rfl)
theorem dJ4_newLength_13 : decode cJ4_newLength 13 = .ok (.iload_n 3, 1) := dk_29 (dk_at dksJ4_newLength_0 13 rfl rfl)
theorem dJ4_newLength_14 : decode cJ4_newLength 14 = .ok (.ldc 200, 2) := dk_18 200 (dk_at dksJ4_newLength_0 14 rfl rfl)
theorem dJ4_newLength_16 : decode cJ4_newLength 16 = .ok (.if_icmp .gt 5, 3) := dk_163 0 5 (dk_at dksJ4_newLength_0 16 rfl rfl)
theorem dJ4_newLength_19 : decode cJ4_newLength 19 = .ok (.iload_n 3, 1) := dk_29 (dk_at dksJ4_newLength_0 19 rfl rfl)
theorem dJ4_newLength_20 : decode cJ4_newLength 20 = .ok (.ireturn, 1) := dk_172 (dk_at dksJ4_newLength_0 20 rfl rfl)
theorem dJ4_newLength_21 : decode cJ4_newLength 21 = .ok (.iload_n 0, 1) := dk_26 (dk_at dksJ4_newLength_0 21 rfl rfl)
theorem dJ4_newLength_22 : decode cJ4_newLength 22 = .ok (.iload_n 1, 1) := dk_27 (dk_at dksJ4_newLength_0 22 rfl rfl)
theorem dJ4_newLength_23 : decode cJ4_newLength 23 = .ok (.invokestatic 201, 3) := dk_184 0 201 (dk_at dksJ4_newLength_1 0 rfl rfl)
theorem dJ4_newLength_26 : decode cJ4_newLength 26 = .ok (.ireturn, 1) := dk_172 (dk_at dksJ4_newLength_1 3 rfl rfl)
abbrev cJ4_hugeLength : ByteArray := prog_60_method_28_code
def yJ4_hugeLength : MethodName := ⟨RJ4, "hugeLength", "(II)I"⟩
def dkwJ4_hugeLength_2 : List UInt8 := [191, 28, 18, 200, 163, 0, 6, 18, 200, 172, 28, 172]
abbrev dktJ4_hugeLength_2 : List UInt8 := dkwJ4_hugeLength_2 ++ []
def dkwJ4_hugeLength_1 : List UInt8 := [26, 182, 0, 98, 18, 208, 182, 0, 94, 27, 182, 0, 98, 18, 210, 182, 0, 94, 182, 0, 101, 183, 0, 212]
abbrev dktJ4_hugeLength_1 : List UInt8 := dkwJ4_hugeLength_1 ++ dktJ4_hugeLength_2
def dkwJ4_hugeLength_0 : List UInt8 := [26, 27, 96, 61, 28, 156, 0, 44, 187, 0, 204, 89, 187, 0, 89, 89, 183, 0, 91, 18, 206, 182, 0, 94]
abbrev dktJ4_hugeLength_0 : List UInt8 := dkwJ4_hugeLength_0 ++ dktJ4_hugeLength_1
theorem dksJ4_hugeLength_0 : cJ4_hugeLength.data.toList.drop 0 = dktJ4_hugeLength_0 := by decide +kernel
theorem dksJ4_hugeLength_1 : cJ4_hugeLength.data.toList.drop 24 = dktJ4_hugeLength_1 := dk_seg dksJ4_hugeLength_0 24 rfl rfl
theorem dksJ4_hugeLength_2 : cJ4_hugeLength.data.toList.drop 48 = dktJ4_hugeLength_2 := dk_seg dksJ4_hugeLength_1 24 rfl rfl
theorem dJ4_hugeLength_0 : decode cJ4_hugeLength 0 = .ok (.iload_n 0, 1) := dk_26 (dk_at dksJ4_hugeLength_0 0 rfl rfl)
theorem dJ4_hugeLength_1 : decode cJ4_hugeLength 1 = .ok (.iload_n 1, 1) := dk_27 (dk_at dksJ4_hugeLength_0 1 rfl rfl)
theorem dJ4_hugeLength_2 : decode cJ4_hugeLength 2 = .ok (.iadd, 1) := dk_96 (dk_at dksJ4_hugeLength_0 2 rfl rfl)
theorem dJ4_hugeLength_3 : decode cJ4_hugeLength 3 = .ok (.istore_n 2, 1) := dk_61 (dk_at dksJ4_hugeLength_0 3 rfl rfl)
theorem dJ4_hugeLength_4 : decode cJ4_hugeLength 4 = .ok (.iload_n 2, 1) := dk_28 (dk_at dksJ4_hugeLength_0 4 rfl rfl)
theorem dJ4_hugeLength_5 : decode cJ4_hugeLength 5 = .ok (.ifCond .ge 44, 3) := dk_156 0 44 (dk_at dksJ4_hugeLength_0 5 rfl rfl)
theorem dJ4_hugeLength_8 : decode cJ4_hugeLength 8 = .ok (.new 204, 3) := dk_187 0 204 (dk_at dksJ4_hugeLength_0 8 rfl rfl)
theorem dJ4_hugeLength_11 : decode cJ4_hugeLength 11 = .ok (.dup, 1) := dk_89 (dk_at dksJ4_hugeLength_0 11 rfl rfl)
theorem dJ4_hugeLength_12 : decode cJ4_hugeLength 12 = .ok (.new 89, 3) := dk_187 0 89 (dk_at dksJ4_hugeLength_0 12 rfl rfl)
theorem dJ4_hugeLength_15 : decode cJ4_hugeLength 15 = .ok (.dup, 1) := dk_89 (dk_at dksJ4_hugeLength_0 15 rfl rfl)
theorem dJ4_hugeLength_16 : decode cJ4_hugeLength 16 = .ok (.invokespecial 91, 3) := dk_183 0 91 (dk_at dksJ4_hugeLength_0 16 rfl rfl)
theorem dJ4_hugeLength_19 : decode cJ4_hugeLength 19 = .ok (.ldc 206, 2) := dk_18 206 (dk_at dksJ4_hugeLength_0 19 rfl rfl)
theorem dJ4_hugeLength_21 : decode cJ4_hugeLength 21 = .ok (.invokevirtual 94, 3) := dk_182 0 94 (dk_at dksJ4_hugeLength_0 21 rfl rfl)
theorem dJ4_hugeLength_24 : decode cJ4_hugeLength 24 = .ok (.iload_n 0, 1) := dk_26 (dk_at dksJ4_hugeLength_1 0 rfl rfl)
theorem dJ4_hugeLength_25 : decode cJ4_hugeLength 25 = .ok (.invokevirtual 98, 3) := dk_182 0 98 (dk_at dksJ4_hugeLength_1 1 rfl rfl)
theorem dJ4_hugeLength_28 : decode cJ4_hugeLength 28 = .ok (.ldc 208, 2) := dk_18 208 (dk_at dksJ4_hugeLength_1 4 rfl rfl)
theorem dJ4_hugeLength_30 : decode cJ4_hugeLength 30 = .ok (.invokevirtual 94, 3) := dk_182 0 94 (dk_at dksJ4_hugeLength_1 6 rfl rfl)
theorem dJ4_hugeLength_33 : decode cJ4_hugeLength 33 = .ok (.iload_n 1, 1) := dk_27 (dk_at dksJ4_hugeLength_1 9 rfl rfl)
theorem dJ4_hugeLength_34 : decode cJ4_hugeLength 34 = .ok (.invokevirtual 98, 3) := dk_182 0 98 (dk_at dksJ4_hugeLength_1 10 rfl rfl)
theorem dJ4_hugeLength_37 : decode cJ4_hugeLength 37 = .ok (.ldc 210, 2) := dk_18 210 (dk_at dksJ4_hugeLength_1 13 rfl rfl)
theorem dJ4_hugeLength_39 : decode cJ4_hugeLength 39 = .ok (.invokevirtual 94, 3) := dk_182 0 94 (dk_at dksJ4_hugeLength_1 15 rfl rfl)
theorem dJ4_hugeLength_42 : decode cJ4_hugeLength 42 = .ok (.invokevirtual 101, 3) := dk_182 0 101 (dk_at dksJ4_hugeLength_1 18 rfl rfl)
theorem dJ4_hugeLength_45 : decode cJ4_hugeLength 45 = .ok (.invokespecial 212, 3) := dk_183 0 212 (dk_at dksJ4_hugeLength_1 21 rfl rfl)
theorem dJ4_hugeLength_48 : decode cJ4_hugeLength 48 = .ok (.athrow, 1) := dk_191 (dk_at dksJ4_hugeLength_2 0 rfl rfl)
theorem dJ4_hugeLength_49 : decode cJ4_hugeLength 49 = .ok (.iload_n 2, 1) := dk_28 (dk_at dksJ4_hugeLength_2 1 rfl rfl)
theorem dJ4_hugeLength_50 : decode cJ4_hugeLength 50 = .ok (.ldc 200, 2) := dk_18 200 (dk_at dksJ4_hugeLength_2 2 rfl rfl)
theorem dJ4_hugeLength_52 : decode cJ4_hugeLength 52 = .ok (.if_icmp .gt 6, 3) := dk_163 0 6 (dk_at dksJ4_hugeLength_2 4 rfl rfl)
theorem dJ4_hugeLength_55 : decode cJ4_hugeLength 55 = .ok (.ldc 200, 2) := dk_18 200 (dk_at dksJ4_hugeLength_2 7 rfl rfl)
theorem dJ4_hugeLength_57 : decode cJ4_hugeLength 57 = .ok (.ireturn, 1) := dk_172 (dk_at dksJ4_hugeLength_2 9 rfl rfl)
theorem dJ4_hugeLength_58 : decode cJ4_hugeLength 58 = .ok (.iload_n 2, 1) := dk_28 (dk_at dksJ4_hugeLength_2 10 rfl rfl)
theorem dJ4_hugeLength_59 : decode cJ4_hugeLength 59 = .ok (.ireturn, 1) := dk_172 (dk_at dksJ4_hugeLength_2 11 rfl rfl)
abbrev cJ4_vectorizedHashCode : ByteArray := prog_60_method_4_code
def yJ4_vectorizedHashCode : MethodName := ⟨RJ4, "vectorizedHashCode", "(Ljava/lang/Object;IIII)I"⟩
def dkwJ4_vectorizedHashCode_6 : List UInt8 := [183, 0, 91, 18, 92, 182, 0, 94, 21, 4, 182, 0, 98, 182, 0, 101, 183, 0, 105, 191, 172]
abbrev dktJ4_vectorizedHashCode_6 : List UInt8 := dkwJ4_vectorizedHashCode_6 ++ []
def dkwJ4_vectorizedHashCode_5 : List UInt8 := [167, 0, 44, 29, 42, 192, 0, 82, 27, 28, 184, 0, 84, 167, 0, 31, 187, 0, 87, 89, 187, 0, 89, 89]
abbrev dktJ4_vectorizedHashCode_5 : List UInt8 := dkwJ4_vectorizedHashCode_5 ++ dktJ4_vectorizedHashCode_6
def dkwJ4_vectorizedHashCode_4 : List UInt8 := [29, 42, 192, 0, 60, 27, 28, 184, 0, 75, 167, 0, 57, 29, 42, 192, 0, 77, 27, 28, 184, 0, 79]
abbrev dktJ4_vectorizedHashCode_4 : List UInt8 := dkwJ4_vectorizedHashCode_4 ++ dktJ4_vectorizedHashCode_5
def dkwJ4_vectorizedHashCode_3 : List UInt8 := [192, 0, 60, 27, 28, 184, 0, 66, 167, 0, 83, 29, 42, 192, 0, 69, 27, 28, 184, 0, 71, 167, 0, 70]
abbrev dktJ4_vectorizedHashCode_3 : List UInt8 := dkwJ4_vectorizedHashCode_3 ++ dktJ4_vectorizedHashCode_4
def dkwJ4_vectorizedHashCode_2 : List UInt8 := [29, 42, 192, 0, 60, 27, 28, 184, 0, 62, 167, 0, 103, 42, 193, 0, 60, 153, 0, 16, 29, 42]
abbrev dktJ4_vectorizedHashCode_2 : List UInt8 := dkwJ4_vectorizedHashCode_2 ++ dktJ4_vectorizedHashCode_3
def dkwJ4_vectorizedHashCode_1 : List UInt8 := [170, 0, 0, 0, 0, 127, 0, 0, 0, 4, 0, 0, 0, 10, 0, 0, 0, 42, 0, 0, 0, 55, 0, 0, 0, 127, 0, 0, 0, 127, 0, 0, 0, 88, 0, 0, 0, 101, 0, 0, 0, 114]
abbrev dktJ4_vectorizedHashCode_1 : List UInt8 := dkwJ4_vectorizedHashCode_1 ++ dktJ4_vectorizedHashCode_2
def dkwJ4_vectorizedHashCode_0 : List UInt8 := [21, 4]
abbrev dktJ4_vectorizedHashCode_0 : List UInt8 := dkwJ4_vectorizedHashCode_0 ++ dktJ4_vectorizedHashCode_1
theorem dksJ4_vectorizedHashCode_0 : cJ4_vectorizedHashCode.data.toList.drop 0 = dktJ4_vectorizedHashCode_0 := by decide +kernel
theorem dksJ4_vectorizedHashCode_1 : cJ4_vectorizedHashCode.data.toList.drop 2 = dktJ4_vectorizedHashCode_1 := dk_seg dksJ4_vectorizedHashCode_0 2 rfl rfl
theorem dksJ4_vectorizedHashCode_2 : cJ4_vectorizedHashCode.data.toList.drop 44 = dktJ4_vectorizedHashCode_2 := dk_seg dksJ4_vectorizedHashCode_1 42 rfl rfl
theorem dksJ4_vectorizedHashCode_3 : cJ4_vectorizedHashCode.data.toList.drop 66 = dktJ4_vectorizedHashCode_3 := dk_seg dksJ4_vectorizedHashCode_2 22 rfl rfl
theorem dksJ4_vectorizedHashCode_4 : cJ4_vectorizedHashCode.data.toList.drop 90 = dktJ4_vectorizedHashCode_4 := dk_seg dksJ4_vectorizedHashCode_3 24 rfl rfl
theorem dksJ4_vectorizedHashCode_5 : cJ4_vectorizedHashCode.data.toList.drop 113 = dktJ4_vectorizedHashCode_5 := dk_seg dksJ4_vectorizedHashCode_4 23 rfl rfl
theorem dksJ4_vectorizedHashCode_6 : cJ4_vectorizedHashCode.data.toList.drop 137 = dktJ4_vectorizedHashCode_6 := dk_seg dksJ4_vectorizedHashCode_5 24 rfl rfl
theorem dJ4_vectorizedHashCode_0 : decode cJ4_vectorizedHashCode 0 = .ok (.iload 4, 2) := dk_21 4 (dk_at dksJ4_vectorizedHashCode_0 0 rfl rfl)
theorem dJ4_vectorizedHashCode_2 : decode cJ4_vectorizedHashCode 2 = .ok (.tableswitch 127 4 10 #[42, 55, 127, 127, 88, 101, 114], 42) := by decide +kernel
theorem dJ4_vectorizedHashCode_44 : decode cJ4_vectorizedHashCode 44 = .ok (.iload_n 3, 1) := dk_29 (dk_at dksJ4_vectorizedHashCode_2 0 rfl rfl)
theorem dJ4_vectorizedHashCode_45 : decode cJ4_vectorizedHashCode 45 = .ok (.aload_n 0, 1) := dk_42 (dk_at dksJ4_vectorizedHashCode_2 1 rfl rfl)
theorem dJ4_vectorizedHashCode_46 : decode cJ4_vectorizedHashCode 46 = .ok (.checkcast 60, 3) := dk_192 0 60 (dk_at dksJ4_vectorizedHashCode_2 2 rfl rfl)
theorem dJ4_vectorizedHashCode_49 : decode cJ4_vectorizedHashCode 49 = .ok (.iload_n 1, 1) := dk_27 (dk_at dksJ4_vectorizedHashCode_2 5 rfl rfl)
theorem dJ4_vectorizedHashCode_50 : decode cJ4_vectorizedHashCode 50 = .ok (.iload_n 2, 1) := dk_28 (dk_at dksJ4_vectorizedHashCode_2 6 rfl rfl)
theorem dJ4_vectorizedHashCode_51 : decode cJ4_vectorizedHashCode 51 = .ok (.invokestatic 62, 3) := dk_184 0 62 (dk_at dksJ4_vectorizedHashCode_2 7 rfl rfl)
theorem dJ4_vectorizedHashCode_54 : decode cJ4_vectorizedHashCode 54 = .ok (.goto 103, 3) := dk_167 0 103 (dk_at dksJ4_vectorizedHashCode_2 10 rfl rfl)
theorem dJ4_vectorizedHashCode_57 : decode cJ4_vectorizedHashCode 57 = .ok (.aload_n 0, 1) := dk_42 (dk_at dksJ4_vectorizedHashCode_2 13 rfl rfl)
theorem dJ4_vectorizedHashCode_58 : decode cJ4_vectorizedHashCode 58 = .ok (.instanceof 60, 3) := dk_193 0 60 (dk_at dksJ4_vectorizedHashCode_2 14 rfl rfl)
theorem dJ4_vectorizedHashCode_61 : decode cJ4_vectorizedHashCode 61 = .ok (.ifCond .eq 16, 3) := dk_153 0 16 (dk_at dksJ4_vectorizedHashCode_2 17 rfl rfl)
theorem dJ4_vectorizedHashCode_64 : decode cJ4_vectorizedHashCode 64 = .ok (.iload_n 3, 1) := dk_29 (dk_at dksJ4_vectorizedHashCode_2 20 rfl rfl)
theorem dJ4_vectorizedHashCode_65 : decode cJ4_vectorizedHashCode 65 = .ok (.aload_n 0, 1) := dk_42 (dk_at dksJ4_vectorizedHashCode_2 21 rfl rfl)
theorem dJ4_vectorizedHashCode_66 : decode cJ4_vectorizedHashCode 66 = .ok (.checkcast 60, 3) := dk_192 0 60 (dk_at dksJ4_vectorizedHashCode_3 0 rfl rfl)
theorem dJ4_vectorizedHashCode_69 : decode cJ4_vectorizedHashCode 69 = .ok (.iload_n 1, 1) := dk_27 (dk_at dksJ4_vectorizedHashCode_3 3 rfl rfl)
theorem dJ4_vectorizedHashCode_70 : decode cJ4_vectorizedHashCode 70 = .ok (.iload_n 2, 1) := dk_28 (dk_at dksJ4_vectorizedHashCode_3 4 rfl rfl)
theorem dJ4_vectorizedHashCode_71 : decode cJ4_vectorizedHashCode 71 = .ok (.invokestatic 66, 3) := dk_184 0 66 (dk_at dksJ4_vectorizedHashCode_3 5 rfl rfl)
theorem dJ4_vectorizedHashCode_74 : decode cJ4_vectorizedHashCode 74 = .ok (.goto 83, 3) := dk_167 0 83 (dk_at dksJ4_vectorizedHashCode_3 8 rfl rfl)
theorem dJ4_vectorizedHashCode_77 : decode cJ4_vectorizedHashCode 77 = .ok (.iload_n 3, 1) := dk_29 (dk_at dksJ4_vectorizedHashCode_3 11 rfl rfl)
theorem dJ4_vectorizedHashCode_78 : decode cJ4_vectorizedHashCode 78 = .ok (.aload_n 0, 1) := dk_42 (dk_at dksJ4_vectorizedHashCode_3 12 rfl rfl)
theorem dJ4_vectorizedHashCode_79 : decode cJ4_vectorizedHashCode 79 = .ok (.checkcast 69, 3) := dk_192 0 69 (dk_at dksJ4_vectorizedHashCode_3 13 rfl rfl)
theorem dJ4_vectorizedHashCode_82 : decode cJ4_vectorizedHashCode 82 = .ok (.iload_n 1, 1) := dk_27 (dk_at dksJ4_vectorizedHashCode_3 16 rfl rfl)
theorem dJ4_vectorizedHashCode_83 : decode cJ4_vectorizedHashCode 83 = .ok (.iload_n 2, 1) := dk_28 (dk_at dksJ4_vectorizedHashCode_3 17 rfl rfl)
theorem dJ4_vectorizedHashCode_84 : decode cJ4_vectorizedHashCode 84 = .ok (.invokestatic 71, 3) := dk_184 0 71 (dk_at dksJ4_vectorizedHashCode_3 18 rfl rfl)
theorem dJ4_vectorizedHashCode_87 : decode cJ4_vectorizedHashCode 87 = .ok (.goto 70, 3) := dk_167 0 70 (dk_at dksJ4_vectorizedHashCode_3 21 rfl rfl)
theorem dJ4_vectorizedHashCode_90 : decode cJ4_vectorizedHashCode 90 = .ok (.iload_n 3, 1) := dk_29 (dk_at dksJ4_vectorizedHashCode_4 0 rfl rfl)
theorem dJ4_vectorizedHashCode_91 : decode cJ4_vectorizedHashCode 91 = .ok (.aload_n 0, 1) := dk_42 (dk_at dksJ4_vectorizedHashCode_4 1 rfl rfl)
theorem dJ4_vectorizedHashCode_92 : decode cJ4_vectorizedHashCode 92 = .ok (.checkcast 60, 3) := dk_192 0 60 (dk_at dksJ4_vectorizedHashCode_4 2 rfl rfl)
theorem dJ4_vectorizedHashCode_95 : decode cJ4_vectorizedHashCode 95 = .ok (.iload_n 1, 1) := dk_27 (dk_at dksJ4_vectorizedHashCode_4 5 rfl rfl)
theorem dJ4_vectorizedHashCode_96 : decode cJ4_vectorizedHashCode 96 = .ok (.iload_n 2, 1) := dk_28 (dk_at dksJ4_vectorizedHashCode_4 6 rfl rfl)
theorem dJ4_vectorizedHashCode_97 : decode cJ4_vectorizedHashCode 97 = .ok (.invokestatic 75, 3) := dk_184 0 75 (dk_at dksJ4_vectorizedHashCode_4 7 rfl rfl)
theorem dJ4_vectorizedHashCode_100 : decode cJ4_vectorizedHashCode 100 = .ok (.goto 57, 3) := dk_167 0 57 (dk_at dksJ4_vectorizedHashCode_4 10 rfl rfl)
theorem dJ4_vectorizedHashCode_103 : decode cJ4_vectorizedHashCode 103 = .ok (.iload_n 3, 1) := dk_29 (dk_at dksJ4_vectorizedHashCode_4 13 rfl rfl)
theorem dJ4_vectorizedHashCode_104 : decode cJ4_vectorizedHashCode 104 = .ok (.aload_n 0, 1) := dk_42 (dk_at dksJ4_vectorizedHashCode_4 14 rfl rfl)
theorem dJ4_vectorizedHashCode_105 : decode cJ4_vectorizedHashCode 105 = .ok (.checkcast 77, 3) := dk_192 0 77 (dk_at dksJ4_vectorizedHashCode_4 15 rfl rfl)
theorem dJ4_vectorizedHashCode_108 : decode cJ4_vectorizedHashCode 108 = .ok (.iload_n 1, 1) := dk_27 (dk_at dksJ4_vectorizedHashCode_4 18 rfl rfl)
theorem dJ4_vectorizedHashCode_109 : decode cJ4_vectorizedHashCode 109 = .ok (.iload_n 2, 1) := dk_28 (dk_at dksJ4_vectorizedHashCode_4 19 rfl rfl)
theorem dJ4_vectorizedHashCode_110 : decode cJ4_vectorizedHashCode 110 = .ok (.invokestatic 79, 3) := dk_184 0 79 (dk_at dksJ4_vectorizedHashCode_4 20 rfl rfl)
theorem dJ4_vectorizedHashCode_113 : decode cJ4_vectorizedHashCode 113 = .ok (.goto 44, 3) := dk_167 0 44 (dk_at dksJ4_vectorizedHashCode_5 0 rfl rfl)
theorem dJ4_vectorizedHashCode_116 : decode cJ4_vectorizedHashCode 116 = .ok (.iload_n 3, 1) := dk_29 (dk_at dksJ4_vectorizedHashCode_5 3 rfl rfl)
theorem dJ4_vectorizedHashCode_117 : decode cJ4_vectorizedHashCode 117 = .ok (.aload_n 0, 1) := dk_42 (dk_at dksJ4_vectorizedHashCode_5 4 rfl rfl)
theorem dJ4_vectorizedHashCode_118 : decode cJ4_vectorizedHashCode 118 = .ok (.checkcast 82, 3) := dk_192 0 82 (dk_at dksJ4_vectorizedHashCode_5 5 rfl rfl)
theorem dJ4_vectorizedHashCode_121 : decode cJ4_vectorizedHashCode 121 = .ok (.iload_n 1, 1) := dk_27 (dk_at dksJ4_vectorizedHashCode_5 8 rfl rfl)
theorem dJ4_vectorizedHashCode_122 : decode cJ4_vectorizedHashCode 122 = .ok (.iload_n 2, 1) := dk_28 (dk_at dksJ4_vectorizedHashCode_5 9 rfl rfl)
theorem dJ4_vectorizedHashCode_123 : decode cJ4_vectorizedHashCode 123 = .ok (.invokestatic 84, 3) := dk_184 0 84 (dk_at dksJ4_vectorizedHashCode_5 10 rfl rfl)
theorem dJ4_vectorizedHashCode_126 : decode cJ4_vectorizedHashCode 126 = .ok (.goto 31, 3) := dk_167 0 31 (dk_at dksJ4_vectorizedHashCode_5 13 rfl rfl)
theorem dJ4_vectorizedHashCode_129 : decode cJ4_vectorizedHashCode 129 = .ok (.new 87, 3) := dk_187 0 87 (dk_at dksJ4_vectorizedHashCode_5 16 rfl rfl)
theorem dJ4_vectorizedHashCode_132 : decode cJ4_vectorizedHashCode 132 = .ok (.dup, 1) := dk_89 (dk_at dksJ4_vectorizedHashCode_5 19 rfl rfl)
theorem dJ4_vectorizedHashCode_133 : decode cJ4_vectorizedHashCode 133 = .ok (.new 89, 3) := dk_187 0 89 (dk_at dksJ4_vectorizedHashCode_5 20 rfl rfl)
theorem dJ4_vectorizedHashCode_136 : decode cJ4_vectorizedHashCode 136 = .ok (.dup, 1) := dk_89 (dk_at dksJ4_vectorizedHashCode_5 23 rfl rfl)
theorem dJ4_vectorizedHashCode_137 : decode cJ4_vectorizedHashCode 137 = .ok (.invokespecial 91, 3) := dk_183 0 91 (dk_at dksJ4_vectorizedHashCode_6 0 rfl rfl)
theorem dJ4_vectorizedHashCode_140 : decode cJ4_vectorizedHashCode 140 = .ok (.ldc 92, 2) := dk_18 92 (dk_at dksJ4_vectorizedHashCode_6 3 rfl rfl)
theorem dJ4_vectorizedHashCode_142 : decode cJ4_vectorizedHashCode 142 = .ok (.invokevirtual 94, 3) := dk_182 0 94 (dk_at dksJ4_vectorizedHashCode_6 5 rfl rfl)
theorem dJ4_vectorizedHashCode_145 : decode cJ4_vectorizedHashCode 145 = .ok (.iload 4, 2) := dk_21 4 (dk_at dksJ4_vectorizedHashCode_6 8 rfl rfl)
theorem dJ4_vectorizedHashCode_147 : decode cJ4_vectorizedHashCode 147 = .ok (.invokevirtual 98, 3) := dk_182 0 98 (dk_at dksJ4_vectorizedHashCode_6 10 rfl rfl)
theorem dJ4_vectorizedHashCode_150 : decode cJ4_vectorizedHashCode 150 = .ok (.invokevirtual 101, 3) := dk_182 0 101 (dk_at dksJ4_vectorizedHashCode_6 13 rfl rfl)
theorem dJ4_vectorizedHashCode_153 : decode cJ4_vectorizedHashCode 153 = .ok (.invokespecial 105, 3) := dk_183 0 105 (dk_at dksJ4_vectorizedHashCode_6 16 rfl rfl)
theorem dJ4_vectorizedHashCode_156 : decode cJ4_vectorizedHashCode 156 = .ok (.athrow, 1) := dk_191 (dk_at dksJ4_vectorizedHashCode_6 19 rfl rfl)
theorem dJ4_vectorizedHashCode_157 : decode cJ4_vectorizedHashCode 157 = .ok (.ireturn, 1) := dk_172 (dk_at dksJ4_vectorizedHashCode_6 20 rfl rfl)
abbrev cJ4_signedHashCode : ByteArray := prog_60_method_5_code
def yJ4_signedHashCode : MethodName := ⟨RJ4, "signedHashCode", "(I[BII)I"⟩
def dkwJ4_signedHashCode_1 : List UInt8 := [17, 0, 255, 126, 96, 59, 132, 5, 1, 167, 255, 232, 26, 172]
abbrev dktJ4_signedHashCode_1 : List UInt8 := dkwJ4_signedHashCode_1 ++ []
def dkwJ4_signedHashCode_0 : List UInt8 := [28, 29, 96, 54, 4, 28, 54, 5, 21, 5, 21, 4, 162, 0, 23, 16, 31, 26, 104, 43, 21, 5, 51]
abbrev dktJ4_signedHashCode_0 : List UInt8 := dkwJ4_signedHashCode_0 ++ dktJ4_signedHashCode_1
theorem dksJ4_signedHashCode_0 : cJ4_signedHashCode.data.toList.drop 0 = dktJ4_signedHashCode_0 := by decide +kernel
theorem dksJ4_signedHashCode_1 : cJ4_signedHashCode.data.toList.drop 23 = dktJ4_signedHashCode_1 := dk_seg dksJ4_signedHashCode_0 23 rfl rfl
theorem dJ4_signedHashCode_0 : decode cJ4_signedHashCode 0 = .ok (.iload_n 2, 1) := dk_28 (dk_at dksJ4_signedHashCode_0 0 rfl rfl)
theorem dJ4_signedHashCode_1 : decode cJ4_signedHashCode 1 = .ok (.iload_n 3, 1) := dk_29 (dk_at dksJ4_signedHashCode_0 1 rfl rfl)
theorem dJ4_signedHashCode_2 : decode cJ4_signedHashCode 2 = .ok (.iadd, 1) := dk_96 (dk_at dksJ4_signedHashCode_0 2 rfl rfl)
theorem dJ4_signedHashCode_3 : decode cJ4_signedHashCode 3 = .ok (.istore 4, 2) := dk_54 4 (dk_at dksJ4_signedHashCode_0 3 rfl rfl)
theorem dJ4_signedHashCode_5 : decode cJ4_signedHashCode 5 = .ok (.iload_n 2, 1) := dk_28 (dk_at dksJ4_signedHashCode_0 5 rfl rfl)
theorem dJ4_signedHashCode_6 : decode cJ4_signedHashCode 6 = .ok (.istore 5, 2) := dk_54 5 (dk_at dksJ4_signedHashCode_0 6 rfl rfl)
theorem dJ4_signedHashCode_8 : decode cJ4_signedHashCode 8 = .ok (.iload 5, 2) := dk_21 5 (dk_at dksJ4_signedHashCode_0 8 rfl rfl)
theorem dJ4_signedHashCode_10 : decode cJ4_signedHashCode 10 = .ok (.iload 4, 2) := dk_21 4 (dk_at dksJ4_signedHashCode_0 10 rfl rfl)
theorem dJ4_signedHashCode_12 : decode cJ4_signedHashCode 12 = .ok (.if_icmp .ge 23, 3) := dk_162 0 23 (dk_at dksJ4_signedHashCode_0 12 rfl rfl)
theorem dJ4_signedHashCode_15 : decode cJ4_signedHashCode 15 = .ok (.bipush 31, 2) := dk_16 31 (dk_at dksJ4_signedHashCode_0 15 rfl rfl)
theorem dJ4_signedHashCode_17 : decode cJ4_signedHashCode 17 = .ok (.iload_n 0, 1) := dk_26 (dk_at dksJ4_signedHashCode_0 17 rfl rfl)
theorem dJ4_signedHashCode_18 : decode cJ4_signedHashCode 18 = .ok (.imul, 1) := dk_104 (dk_at dksJ4_signedHashCode_0 18 rfl rfl)
theorem dJ4_signedHashCode_19 : decode cJ4_signedHashCode 19 = .ok (.aload_n 1, 1) := dk_43 (dk_at dksJ4_signedHashCode_0 19 rfl rfl)
theorem dJ4_signedHashCode_20 : decode cJ4_signedHashCode 20 = .ok (.iload 5, 2) := dk_21 5 (dk_at dksJ4_signedHashCode_0 20 rfl rfl)
theorem dJ4_signedHashCode_22 : decode cJ4_signedHashCode 22 = .ok (.baload, 1) := dk_51 (dk_at dksJ4_signedHashCode_0 22 rfl rfl)
theorem dJ4_signedHashCode_23 : decode cJ4_signedHashCode 23 = .ok (.sipush 255, 3) := dk_17 0 255 (dk_at dksJ4_signedHashCode_1 0 rfl rfl)
theorem dJ4_signedHashCode_26 : decode cJ4_signedHashCode 26 = .ok (.iand, 1) := dk_126 (dk_at dksJ4_signedHashCode_1 3 rfl rfl)
theorem dJ4_signedHashCode_27 : decode cJ4_signedHashCode 27 = .ok (.iadd, 1) := dk_96 (dk_at dksJ4_signedHashCode_1 4 rfl rfl)
theorem dJ4_signedHashCode_28 : decode cJ4_signedHashCode 28 = .ok (.istore_n 0, 1) := dk_59 (dk_at dksJ4_signedHashCode_1 5 rfl rfl)
theorem dJ4_signedHashCode_29 : decode cJ4_signedHashCode 29 = .ok (.iinc 5 1, 3) := dk_132 5 1 (dk_at dksJ4_signedHashCode_1 6 rfl rfl)
theorem dJ4_signedHashCode_32 : decode cJ4_signedHashCode 32 = .ok (.goto (-24), 3) := dk_167 255 232 (dk_at dksJ4_signedHashCode_1 9 rfl rfl)
theorem dJ4_signedHashCode_35 : decode cJ4_signedHashCode 35 = .ok (.iload_n 0, 1) := dk_26 (dk_at dksJ4_signedHashCode_1 12 rfl rfl)
theorem dJ4_signedHashCode_36 : decode cJ4_signedHashCode 36 = .ok (.ireturn, 1) := dk_172 (dk_at dksJ4_signedHashCode_1 13 rfl rfl)
abbrev cJ4_utf16hashCode : ByteArray := prog_60_method_10_code
def yJ4_utf16hashCode : MethodName := ⟨RJ4, "utf16hashCode", "(I[BII)I"⟩
def dkwJ4_utf16hashCode_1 : List UInt8 := [21, 5, 185, 0, 110, 3, 0, 96, 59, 132, 5, 1, 167, 255, 229, 26, 172]
abbrev dktJ4_utf16hashCode_1 : List UInt8 := dkwJ4_utf16hashCode_1 ++ []
def dkwJ4_utf16hashCode_0 : List UInt8 := [28, 29, 96, 54, 4, 28, 54, 5, 21, 5, 21, 4, 162, 0, 26, 16, 31, 26, 104, 178, 0, 106, 43]
abbrev dktJ4_utf16hashCode_0 : List UInt8 := dkwJ4_utf16hashCode_0 ++ dktJ4_utf16hashCode_1
theorem dksJ4_utf16hashCode_0 : cJ4_utf16hashCode.data.toList.drop 0 = dktJ4_utf16hashCode_0 := by decide +kernel
theorem dksJ4_utf16hashCode_1 : cJ4_utf16hashCode.data.toList.drop 23 = dktJ4_utf16hashCode_1 := dk_seg dksJ4_utf16hashCode_0 23 rfl rfl
theorem dJ4_utf16hashCode_0 : decode cJ4_utf16hashCode 0 = .ok (.iload_n 2, 1) := dk_28 (dk_at dksJ4_utf16hashCode_0 0 rfl rfl)
theorem dJ4_utf16hashCode_1 : decode cJ4_utf16hashCode 1 = .ok (.iload_n 3, 1) := dk_29 (dk_at dksJ4_utf16hashCode_0 1 rfl rfl)
theorem dJ4_utf16hashCode_2 : decode cJ4_utf16hashCode 2 = .ok (.iadd, 1) := dk_96 (dk_at dksJ4_utf16hashCode_0 2 rfl rfl)
theorem dJ4_utf16hashCode_3 : decode cJ4_utf16hashCode 3 = .ok (.istore 4, 2) := dk_54 4 (dk_at dksJ4_utf16hashCode_0 3 rfl rfl)
theorem dJ4_utf16hashCode_5 : decode cJ4_utf16hashCode 5 = .ok (.iload_n 2, 1) := dk_28 (dk_at dksJ4_utf16hashCode_0 5 rfl rfl)
theorem dJ4_utf16hashCode_6 : decode cJ4_utf16hashCode 6 = .ok (.istore 5, 2) := dk_54 5 (dk_at dksJ4_utf16hashCode_0 6 rfl rfl)
theorem dJ4_utf16hashCode_8 : decode cJ4_utf16hashCode 8 = .ok (.iload 5, 2) := dk_21 5 (dk_at dksJ4_utf16hashCode_0 8 rfl rfl)
theorem dJ4_utf16hashCode_10 : decode cJ4_utf16hashCode 10 = .ok (.iload 4, 2) := dk_21 4 (dk_at dksJ4_utf16hashCode_0 10 rfl rfl)
theorem dJ4_utf16hashCode_12 : decode cJ4_utf16hashCode 12 = .ok (.if_icmp .ge 26, 3) := dk_162 0 26 (dk_at dksJ4_utf16hashCode_0 12 rfl rfl)
theorem dJ4_utf16hashCode_15 : decode cJ4_utf16hashCode 15 = .ok (.bipush 31, 2) := dk_16 31 (dk_at dksJ4_utf16hashCode_0 15 rfl rfl)
theorem dJ4_utf16hashCode_17 : decode cJ4_utf16hashCode 17 = .ok (.iload_n 0, 1) := dk_26 (dk_at dksJ4_utf16hashCode_0 17 rfl rfl)
theorem dJ4_utf16hashCode_18 : decode cJ4_utf16hashCode 18 = .ok (.imul, 1) := dk_104 (dk_at dksJ4_utf16hashCode_0 18 rfl rfl)
theorem dJ4_utf16hashCode_19 : decode cJ4_utf16hashCode 19 = .ok (.getstatic 106, 3) := dk_178 0 106 (dk_at dksJ4_utf16hashCode_0 19 rfl rfl)
theorem dJ4_utf16hashCode_22 : decode cJ4_utf16hashCode 22 = .ok (.aload_n 1, 1) := dk_43 (dk_at dksJ4_utf16hashCode_0 22 rfl rfl)
theorem dJ4_utf16hashCode_23 : decode cJ4_utf16hashCode 23 = .ok (.iload 5, 2) := dk_21 5 (dk_at dksJ4_utf16hashCode_1 0 rfl rfl)
theorem dJ4_utf16hashCode_25 : decode cJ4_utf16hashCode 25 = .ok (.invokeinterface 110 3, 5) := by decide +kernel
theorem dJ4_utf16hashCode_30 : decode cJ4_utf16hashCode 30 = .ok (.iadd, 1) := dk_96 (dk_at dksJ4_utf16hashCode_1 7 rfl rfl)
theorem dJ4_utf16hashCode_31 : decode cJ4_utf16hashCode 31 = .ok (.istore_n 0, 1) := dk_59 (dk_at dksJ4_utf16hashCode_1 8 rfl rfl)
theorem dJ4_utf16hashCode_32 : decode cJ4_utf16hashCode 32 = .ok (.iinc 5 1, 3) := dk_132 5 1 (dk_at dksJ4_utf16hashCode_1 9 rfl rfl)
theorem dJ4_utf16hashCode_35 : decode cJ4_utf16hashCode 35 = .ok (.goto (-27), 3) := dk_167 255 229 (dk_at dksJ4_utf16hashCode_1 12 rfl rfl)
theorem dJ4_utf16hashCode_38 : decode cJ4_utf16hashCode 38 = .ok (.iload_n 0, 1) := dk_26 (dk_at dksJ4_utf16hashCode_1 15 rfl rfl)
theorem dJ4_utf16hashCode_39 : decode cJ4_utf16hashCode 39 = .ok (.ireturn, 1) := dk_172 (dk_at dksJ4_utf16hashCode_1 16 rfl rfl)
abbrev cJ4_hashCode : ByteArray := prog_60_method_7_code
def yJ4_hashCode : MethodName := ⟨RJ4, "hashCode", "(I[CII)I"⟩
def dkwJ4_hashCode_1 : List UInt8 := [59, 132, 5, 1, 167, 255, 236, 26, 172]
abbrev dktJ4_hashCode_1 : List UInt8 := dkwJ4_hashCode_1 ++ []
def dkwJ4_hashCode_0 : List UInt8 := [28, 29, 96, 54, 4, 28, 54, 5, 21, 5, 21, 4, 162, 0, 19, 16, 31, 26, 104, 43, 21, 5, 52, 96]
abbrev dktJ4_hashCode_0 : List UInt8 := dkwJ4_hashCode_0 ++ dktJ4_hashCode_1
theorem dksJ4_hashCode_0 : cJ4_hashCode.data.toList.drop 0 = dktJ4_hashCode_0 := by decide +kernel
theorem dksJ4_hashCode_1 : cJ4_hashCode.data.toList.drop 24 = dktJ4_hashCode_1 := dk_seg dksJ4_hashCode_0 24 rfl rfl
theorem dJ4_hashCode_0 : decode cJ4_hashCode 0 = .ok (.iload_n 2, 1) := dk_28 (dk_at dksJ4_hashCode_0 0 rfl rfl)
theorem dJ4_hashCode_1 : decode cJ4_hashCode 1 = .ok (.iload_n 3, 1) := dk_29 (dk_at dksJ4_hashCode_0 1 rfl rfl)
theorem dJ4_hashCode_2 : decode cJ4_hashCode 2 = .ok (.iadd, 1) := dk_96 (dk_at dksJ4_hashCode_0 2 rfl rfl)
theorem dJ4_hashCode_3 : decode cJ4_hashCode 3 = .ok (.istore 4, 2) := dk_54 4 (dk_at dksJ4_hashCode_0 3 rfl rfl)
theorem dJ4_hashCode_5 : decode cJ4_hashCode 5 = .ok (.iload_n 2, 1) := dk_28 (dk_at dksJ4_hashCode_0 5 rfl rfl)
theorem dJ4_hashCode_6 : decode cJ4_hashCode 6 = .ok (.istore 5, 2) := dk_54 5 (dk_at dksJ4_hashCode_0 6 rfl rfl)
theorem dJ4_hashCode_8 : decode cJ4_hashCode 8 = .ok (.iload 5, 2) := dk_21 5 (dk_at dksJ4_hashCode_0 8 rfl rfl)
theorem dJ4_hashCode_10 : decode cJ4_hashCode 10 = .ok (.iload 4, 2) := dk_21 4 (dk_at dksJ4_hashCode_0 10 rfl rfl)
theorem dJ4_hashCode_12 : decode cJ4_hashCode 12 = .ok (.if_icmp .ge 19, 3) := dk_162 0 19 (dk_at dksJ4_hashCode_0 12 rfl rfl)
theorem dJ4_hashCode_15 : decode cJ4_hashCode 15 = .ok (.bipush 31, 2) := dk_16 31 (dk_at dksJ4_hashCode_0 15 rfl rfl)
theorem dJ4_hashCode_17 : decode cJ4_hashCode 17 = .ok (.iload_n 0, 1) := dk_26 (dk_at dksJ4_hashCode_0 17 rfl rfl)
theorem dJ4_hashCode_18 : decode cJ4_hashCode 18 = .ok (.imul, 1) := dk_104 (dk_at dksJ4_hashCode_0 18 rfl rfl)
theorem dJ4_hashCode_19 : decode cJ4_hashCode 19 = .ok (.aload_n 1, 1) := dk_43 (dk_at dksJ4_hashCode_0 19 rfl rfl)
theorem dJ4_hashCode_20 : decode cJ4_hashCode 20 = .ok (.iload 5, 2) := dk_21 5 (dk_at dksJ4_hashCode_0 20 rfl rfl)
theorem dJ4_hashCode_22 : decode cJ4_hashCode 22 = .ok (.caload, 1) := dk_52 (dk_at dksJ4_hashCode_0 22 rfl rfl)
theorem dJ4_hashCode_23 : decode cJ4_hashCode 23 = .ok (.iadd, 1) := dk_96 (dk_at dksJ4_hashCode_0 23 rfl rfl)
theorem dJ4_hashCode_24 : decode cJ4_hashCode 24 = .ok (.istore_n 0, 1) := dk_59 (dk_at dksJ4_hashCode_1 0 rfl rfl)
theorem dJ4_hashCode_25 : decode cJ4_hashCode 25 = .ok (.iinc 5 1, 3) := dk_132 5 1 (dk_at dksJ4_hashCode_1 1 rfl rfl)
theorem dJ4_hashCode_28 : decode cJ4_hashCode 28 = .ok (.goto (-20), 3) := dk_167 255 236 (dk_at dksJ4_hashCode_1 4 rfl rfl)
theorem dJ4_hashCode_31 : decode cJ4_hashCode 31 = .ok (.iload_n 0, 1) := dk_26 (dk_at dksJ4_hashCode_1 7 rfl rfl)
theorem dJ4_hashCode_32 : decode cJ4_hashCode 32 = .ok (.ireturn, 1) := dk_172 (dk_at dksJ4_hashCode_1 8 rfl rfl)
abbrev cJ4_hashCode_2 : ByteArray := prog_60_method_6_code
def yJ4_hashCode_2 : MethodName := ⟨RJ4, "hashCode", "(I[BII)I"⟩
def dkwJ4_hashCode_2_1 : List UInt8 := [59, 132, 5, 1, 167, 255, 236, 26, 172]
abbrev dktJ4_hashCode_2_1 : List UInt8 := dkwJ4_hashCode_2_1 ++ []
def dkwJ4_hashCode_2_0 : List UInt8 := [28, 29, 96, 54, 4, 28, 54, 5, 21, 5, 21, 4, 162, 0, 19, 16, 31, 26, 104, 43, 21, 5, 51, 96]
abbrev dktJ4_hashCode_2_0 : List UInt8 := dkwJ4_hashCode_2_0 ++ dktJ4_hashCode_2_1
theorem dksJ4_hashCode_2_0 : cJ4_hashCode_2.data.toList.drop 0 = dktJ4_hashCode_2_0 := by decide +kernel
theorem dksJ4_hashCode_2_1 : cJ4_hashCode_2.data.toList.drop 24 = dktJ4_hashCode_2_1 := dk_seg dksJ4_hashCode_2_0 24 rfl rfl
theorem dJ4_hashCode_2_0 : decode cJ4_hashCode_2 0 = .ok (.iload_n 2, 1) := dk_28 (dk_at dksJ4_hashCode_2_0 0 rfl rfl)
theorem dJ4_hashCode_2_1 : decode cJ4_hashCode_2 1 = .ok (.iload_n 3, 1) := dk_29 (dk_at dksJ4_hashCode_2_0 1 rfl rfl)
theorem dJ4_hashCode_2_2 : decode cJ4_hashCode_2 2 = .ok (.iadd, 1) := dk_96 (dk_at dksJ4_hashCode_2_0 2 rfl rfl)
theorem dJ4_hashCode_2_3 : decode cJ4_hashCode_2 3 = .ok (.istore 4, 2) := dk_54 4 (dk_at dksJ4_hashCode_2_0 3 rfl rfl)
theorem dJ4_hashCode_2_5 : decode cJ4_hashCode_2 5 = .ok (.iload_n 2, 1) := dk_28 (dk_at dksJ4_hashCode_2_0 5 rfl rfl)
theorem dJ4_hashCode_2_6 : decode cJ4_hashCode_2 6 = .ok (.istore 5, 2) := dk_54 5 (dk_at dksJ4_hashCode_2_0 6 rfl rfl)
theorem dJ4_hashCode_2_8 : decode cJ4_hashCode_2 8 = .ok (.iload 5, 2) := dk_21 5 (dk_at dksJ4_hashCode_2_0 8 rfl rfl)
theorem dJ4_hashCode_2_10 : decode cJ4_hashCode_2 10 = .ok (.iload 4, 2) := dk_21 4 (dk_at dksJ4_hashCode_2_0 10 rfl rfl)
theorem dJ4_hashCode_2_12 : decode cJ4_hashCode_2 12 = .ok (.if_icmp .ge 19, 3) := dk_162 0 19 (dk_at dksJ4_hashCode_2_0 12 rfl rfl)
theorem dJ4_hashCode_2_15 : decode cJ4_hashCode_2 15 = .ok (.bipush 31, 2) := dk_16 31 (dk_at dksJ4_hashCode_2_0 15 rfl rfl)
theorem dJ4_hashCode_2_17 : decode cJ4_hashCode_2 17 = .ok (.iload_n 0, 1) := dk_26 (dk_at dksJ4_hashCode_2_0 17 rfl rfl)
theorem dJ4_hashCode_2_18 : decode cJ4_hashCode_2 18 = .ok (.imul, 1) := dk_104 (dk_at dksJ4_hashCode_2_0 18 rfl rfl)
theorem dJ4_hashCode_2_19 : decode cJ4_hashCode_2 19 = .ok (.aload_n 1, 1) := dk_43 (dk_at dksJ4_hashCode_2_0 19 rfl rfl)
theorem dJ4_hashCode_2_20 : decode cJ4_hashCode_2 20 = .ok (.iload 5, 2) := dk_21 5 (dk_at dksJ4_hashCode_2_0 20 rfl rfl)
theorem dJ4_hashCode_2_22 : decode cJ4_hashCode_2 22 = .ok (.baload, 1) := dk_51 (dk_at dksJ4_hashCode_2_0 22 rfl rfl)
theorem dJ4_hashCode_2_23 : decode cJ4_hashCode_2 23 = .ok (.iadd, 1) := dk_96 (dk_at dksJ4_hashCode_2_0 23 rfl rfl)
theorem dJ4_hashCode_2_24 : decode cJ4_hashCode_2 24 = .ok (.istore_n 0, 1) := dk_59 (dk_at dksJ4_hashCode_2_1 0 rfl rfl)
theorem dJ4_hashCode_2_25 : decode cJ4_hashCode_2 25 = .ok (.iinc 5 1, 3) := dk_132 5 1 (dk_at dksJ4_hashCode_2_1 1 rfl rfl)
theorem dJ4_hashCode_2_28 : decode cJ4_hashCode_2 28 = .ok (.goto (-20), 3) := dk_167 255 236 (dk_at dksJ4_hashCode_2_1 4 rfl rfl)
theorem dJ4_hashCode_2_31 : decode cJ4_hashCode_2 31 = .ok (.iload_n 0, 1) := dk_26 (dk_at dksJ4_hashCode_2_1 7 rfl rfl)
theorem dJ4_hashCode_2_32 : decode cJ4_hashCode_2 32 = .ok (.ireturn, 1) := dk_172 (dk_at dksJ4_hashCode_2_1 8 rfl rfl)
abbrev cJ4_hashCode_3 : ByteArray := prog_60_method_8_code
def yJ4_hashCode_3 : MethodName := ⟨RJ4, "hashCode", "(I[SII)I"⟩
def dkwJ4_hashCode_3_1 : List UInt8 := [59, 132, 5, 1, 167, 255, 236, 26, 172]
abbrev dktJ4_hashCode_3_1 : List UInt8 := dkwJ4_hashCode_3_1 ++ []
def dkwJ4_hashCode_3_0 : List UInt8 := [28, 29, 96, 54, 4, 28, 54, 5, 21, 5, 21, 4, 162, 0, 19, 16, 31, 26, 104, 43, 21, 5, 53, 96]
abbrev dktJ4_hashCode_3_0 : List UInt8 := dkwJ4_hashCode_3_0 ++ dktJ4_hashCode_3_1
theorem dksJ4_hashCode_3_0 : cJ4_hashCode_3.data.toList.drop 0 = dktJ4_hashCode_3_0 := by decide +kernel
theorem dksJ4_hashCode_3_1 : cJ4_hashCode_3.data.toList.drop 24 = dktJ4_hashCode_3_1 := dk_seg dksJ4_hashCode_3_0 24 rfl rfl
theorem dJ4_hashCode_3_0 : decode cJ4_hashCode_3 0 = .ok (.iload_n 2, 1) := dk_28 (dk_at dksJ4_hashCode_3_0 0 rfl rfl)
theorem dJ4_hashCode_3_1 : decode cJ4_hashCode_3 1 = .ok (.iload_n 3, 1) := dk_29 (dk_at dksJ4_hashCode_3_0 1 rfl rfl)
theorem dJ4_hashCode_3_2 : decode cJ4_hashCode_3 2 = .ok (.iadd, 1) := dk_96 (dk_at dksJ4_hashCode_3_0 2 rfl rfl)
theorem dJ4_hashCode_3_3 : decode cJ4_hashCode_3 3 = .ok (.istore 4, 2) := dk_54 4 (dk_at dksJ4_hashCode_3_0 3 rfl rfl)
theorem dJ4_hashCode_3_5 : decode cJ4_hashCode_3 5 = .ok (.iload_n 2, 1) := dk_28 (dk_at dksJ4_hashCode_3_0 5 rfl rfl)
theorem dJ4_hashCode_3_6 : decode cJ4_hashCode_3 6 = .ok (.istore 5, 2) := dk_54 5 (dk_at dksJ4_hashCode_3_0 6 rfl rfl)
theorem dJ4_hashCode_3_8 : decode cJ4_hashCode_3 8 = .ok (.iload 5, 2) := dk_21 5 (dk_at dksJ4_hashCode_3_0 8 rfl rfl)
theorem dJ4_hashCode_3_10 : decode cJ4_hashCode_3 10 = .ok (.iload 4, 2) := dk_21 4 (dk_at dksJ4_hashCode_3_0 10 rfl rfl)
theorem dJ4_hashCode_3_12 : decode cJ4_hashCode_3 12 = .ok (.if_icmp .ge 19, 3) := dk_162 0 19 (dk_at dksJ4_hashCode_3_0 12 rfl rfl)
theorem dJ4_hashCode_3_15 : decode cJ4_hashCode_3 15 = .ok (.bipush 31, 2) := dk_16 31 (dk_at dksJ4_hashCode_3_0 15 rfl rfl)
theorem dJ4_hashCode_3_17 : decode cJ4_hashCode_3 17 = .ok (.iload_n 0, 1) := dk_26 (dk_at dksJ4_hashCode_3_0 17 rfl rfl)
theorem dJ4_hashCode_3_18 : decode cJ4_hashCode_3 18 = .ok (.imul, 1) := dk_104 (dk_at dksJ4_hashCode_3_0 18 rfl rfl)
theorem dJ4_hashCode_3_19 : decode cJ4_hashCode_3 19 = .ok (.aload_n 1, 1) := dk_43 (dk_at dksJ4_hashCode_3_0 19 rfl rfl)
theorem dJ4_hashCode_3_20 : decode cJ4_hashCode_3 20 = .ok (.iload 5, 2) := dk_21 5 (dk_at dksJ4_hashCode_3_0 20 rfl rfl)
theorem dJ4_hashCode_3_22 : decode cJ4_hashCode_3 22 = .ok (.saload, 1) := dk_53 (dk_at dksJ4_hashCode_3_0 22 rfl rfl)
theorem dJ4_hashCode_3_23 : decode cJ4_hashCode_3 23 = .ok (.iadd, 1) := dk_96 (dk_at dksJ4_hashCode_3_0 23 rfl rfl)
theorem dJ4_hashCode_3_24 : decode cJ4_hashCode_3 24 = .ok (.istore_n 0, 1) := dk_59 (dk_at dksJ4_hashCode_3_1 0 rfl rfl)
theorem dJ4_hashCode_3_25 : decode cJ4_hashCode_3 25 = .ok (.iinc 5 1, 3) := dk_132 5 1 (dk_at dksJ4_hashCode_3_1 1 rfl rfl)
theorem dJ4_hashCode_3_28 : decode cJ4_hashCode_3 28 = .ok (.goto (-20), 3) := dk_167 255 236 (dk_at dksJ4_hashCode_3_1 4 rfl rfl)
theorem dJ4_hashCode_3_31 : decode cJ4_hashCode_3 31 = .ok (.iload_n 0, 1) := dk_26 (dk_at dksJ4_hashCode_3_1 7 rfl rfl)
theorem dJ4_hashCode_3_32 : decode cJ4_hashCode_3 32 = .ok (.ireturn, 1) := dk_172 (dk_at dksJ4_hashCode_3_1 8 rfl rfl)
abbrev cJ4_hashCode_4 : ByteArray := prog_60_method_9_code
def yJ4_hashCode_4 : MethodName := ⟨RJ4, "hashCode", "(I[III)I"⟩
def dkwJ4_hashCode_4_1 : List UInt8 := [59, 132, 5, 1, 167, 255, 236, 26, 172]
abbrev dktJ4_hashCode_4_1 : List UInt8 := dkwJ4_hashCode_4_1 ++ []
def dkwJ4_hashCode_4_0 : List UInt8 := [28, 29, 96, 54, 4, 28, 54, 5, 21, 5, 21, 4, 162, 0, 19, 16, 31, 26, 104, 43, 21, 5, 46, 96]
abbrev dktJ4_hashCode_4_0 : List UInt8 := dkwJ4_hashCode_4_0 ++ dktJ4_hashCode_4_1
theorem dksJ4_hashCode_4_0 : cJ4_hashCode_4.data.toList.drop 0 = dktJ4_hashCode_4_0 := by decide +kernel
theorem dksJ4_hashCode_4_1 : cJ4_hashCode_4.data.toList.drop 24 = dktJ4_hashCode_4_1 := dk_seg dksJ4_hashCode_4_0 24 rfl rfl
theorem dJ4_hashCode_4_0 : decode cJ4_hashCode_4 0 = .ok (.iload_n 2, 1) := dk_28 (dk_at dksJ4_hashCode_4_0 0 rfl rfl)
theorem dJ4_hashCode_4_1 : decode cJ4_hashCode_4 1 = .ok (.iload_n 3, 1) := dk_29 (dk_at dksJ4_hashCode_4_0 1 rfl rfl)
theorem dJ4_hashCode_4_2 : decode cJ4_hashCode_4 2 = .ok (.iadd, 1) := dk_96 (dk_at dksJ4_hashCode_4_0 2 rfl rfl)
theorem dJ4_hashCode_4_3 : decode cJ4_hashCode_4 3 = .ok (.istore 4, 2) := dk_54 4 (dk_at dksJ4_hashCode_4_0 3 rfl rfl)
theorem dJ4_hashCode_4_5 : decode cJ4_hashCode_4 5 = .ok (.iload_n 2, 1) := dk_28 (dk_at dksJ4_hashCode_4_0 5 rfl rfl)
theorem dJ4_hashCode_4_6 : decode cJ4_hashCode_4 6 = .ok (.istore 5, 2) := dk_54 5 (dk_at dksJ4_hashCode_4_0 6 rfl rfl)
theorem dJ4_hashCode_4_8 : decode cJ4_hashCode_4 8 = .ok (.iload 5, 2) := dk_21 5 (dk_at dksJ4_hashCode_4_0 8 rfl rfl)
theorem dJ4_hashCode_4_10 : decode cJ4_hashCode_4 10 = .ok (.iload 4, 2) := dk_21 4 (dk_at dksJ4_hashCode_4_0 10 rfl rfl)
theorem dJ4_hashCode_4_12 : decode cJ4_hashCode_4 12 = .ok (.if_icmp .ge 19, 3) := dk_162 0 19 (dk_at dksJ4_hashCode_4_0 12 rfl rfl)
theorem dJ4_hashCode_4_15 : decode cJ4_hashCode_4 15 = .ok (.bipush 31, 2) := dk_16 31 (dk_at dksJ4_hashCode_4_0 15 rfl rfl)
theorem dJ4_hashCode_4_17 : decode cJ4_hashCode_4 17 = .ok (.iload_n 0, 1) := dk_26 (dk_at dksJ4_hashCode_4_0 17 rfl rfl)
theorem dJ4_hashCode_4_18 : decode cJ4_hashCode_4 18 = .ok (.imul, 1) := dk_104 (dk_at dksJ4_hashCode_4_0 18 rfl rfl)
theorem dJ4_hashCode_4_19 : decode cJ4_hashCode_4 19 = .ok (.aload_n 1, 1) := dk_43 (dk_at dksJ4_hashCode_4_0 19 rfl rfl)
theorem dJ4_hashCode_4_20 : decode cJ4_hashCode_4 20 = .ok (.iload 5, 2) := dk_21 5 (dk_at dksJ4_hashCode_4_0 20 rfl rfl)
theorem dJ4_hashCode_4_22 : decode cJ4_hashCode_4 22 = .ok (.iaload, 1) := dk_46 (dk_at dksJ4_hashCode_4_0 22 rfl rfl)
theorem dJ4_hashCode_4_23 : decode cJ4_hashCode_4 23 = .ok (.iadd, 1) := dk_96 (dk_at dksJ4_hashCode_4_0 23 rfl rfl)
theorem dJ4_hashCode_4_24 : decode cJ4_hashCode_4 24 = .ok (.istore_n 0, 1) := dk_59 (dk_at dksJ4_hashCode_4_1 0 rfl rfl)
theorem dJ4_hashCode_4_25 : decode cJ4_hashCode_4 25 = .ok (.iinc 5 1, 3) := dk_132 5 1 (dk_at dksJ4_hashCode_4_1 1 rfl rfl)
theorem dJ4_hashCode_4_28 : decode cJ4_hashCode_4 28 = .ok (.goto (-20), 3) := dk_167 255 236 (dk_at dksJ4_hashCode_4_1 4 rfl rfl)
theorem dJ4_hashCode_4_31 : decode cJ4_hashCode_4 31 = .ok (.iload_n 0, 1) := dk_26 (dk_at dksJ4_hashCode_4_1 7 rfl rfl)
theorem dJ4_hashCode_4_32 : decode cJ4_hashCode_4 32 = .ok (.ireturn, 1) := dk_172 (dk_at dksJ4_hashCode_4_1 8 rfl rfl)
theorem q165 : (Jvm.Cond.initialized "jdk/internal/util/ArraysSupport") ∈ lw_all := lw_g (lw_at lw_m1 8 rfl) rfl
theorem q372 : (Jvm.Cond.static ({ cls := "jdk/internal/util/ArraysSupport", name := "newLength", desc := "(III)I" } : Jvm.MethodName)) ∈ lw_all := lw_g (lw_at lw_m1 215 rfl) rfl
theorem q373 : (Jvm.Cond.code ({ cls := "jdk/internal/util/ArraysSupport", name := "newLength", desc := "(III)I" } : Jvm.MethodName) prog_60_method_27_code (4 : Nat) (Option.some Jvm.ClassFile.FieldType.int)) ∈ lw_all := lw_g (lw_at lw_m1 216 rfl) rfl
theorem q374 : (Jvm.Cond.methodLink "jdk/internal/util/ArraysSupport" (194 : Nat) ({ cls := "java/lang/Math", name := "max", desc := "(II)I" } : Jvm.MethodName)) ∈ lw_all := lw_g (lw_at lw_m1 217 rfl) rfl
theorem q377 : (Jvm.Cond.constant "jdk/internal/util/ArraysSupport" (200 : Nat) (2147483639 : Int32)) ∈ lw_all := lw_g (lw_at lw_m1 220 rfl) rfl
theorem q378 : (Jvm.Cond.methodLink "jdk/internal/util/ArraysSupport" (201 : Nat) ({ cls := "jdk/internal/util/ArraysSupport", name := "hugeLength", desc := "(II)I" } : Jvm.MethodName)) ∈ lw_all := lw_g (lw_at lw_m1 221 rfl) rfl
theorem q379 : (Jvm.Cond.static ({ cls := "jdk/internal/util/ArraysSupport", name := "hugeLength", desc := "(II)I" } : Jvm.MethodName)) ∈ lw_all := lw_g (lw_at lw_m1 222 rfl) rfl
theorem q380 : (Jvm.Cond.code ({ cls := "jdk/internal/util/ArraysSupport", name := "hugeLength", desc := "(II)I" } : Jvm.MethodName) prog_60_method_28_code (3 : Nat) (Option.some Jvm.ClassFile.FieldType.int)) ∈ lw_all := lw_g (lw_at lw_m1 223 rfl) rfl
theorem q801 : (Jvm.Cond.static ({ cls := "jdk/internal/util/ArraysSupport", name := "vectorizedHashCode", desc := "(Ljava/lang/Object;IIII)I" } : Jvm.MethodName)) ∈ lw_all := lw_g (lw_at lw_m3 164 rfl) rfl
theorem q802 : (Jvm.Cond.code ({ cls := "jdk/internal/util/ArraysSupport", name := "vectorizedHashCode", desc := "(Ljava/lang/Object;IIII)I" } : Jvm.MethodName) prog_60_method_4_code (5 : Nat) (Option.some Jvm.ClassFile.FieldType.int)) ∈ lw_all := lw_g (lw_at lw_m3 165 rfl) rfl
theorem q803 : (Jvm.Cond.classLink "jdk/internal/util/ArraysSupport" (60 : Nat) "[B") ∈ lw_all := lw_g (lw_at lw_m3 166 rfl) rfl
theorem q804 : (Jvm.Cond.methodLink "jdk/internal/util/ArraysSupport" (62 : Nat) ({ cls := "jdk/internal/util/ArraysSupport", name := "signedHashCode", desc := "(I[BII)I" } : Jvm.MethodName)) ∈ lw_all := lw_g (lw_at lw_m3 167 rfl) rfl
theorem q805 : (Jvm.Cond.static ({ cls := "jdk/internal/util/ArraysSupport", name := "signedHashCode", desc := "(I[BII)I" } : Jvm.MethodName)) ∈ lw_all := lw_g (lw_at lw_m3 168 rfl) rfl
theorem q806 : (Jvm.Cond.code ({ cls := "jdk/internal/util/ArraysSupport", name := "signedHashCode", desc := "(I[BII)I" } : Jvm.MethodName) prog_60_method_5_code (6 : Nat) (Option.some Jvm.ClassFile.FieldType.int)) ∈ lw_all := lw_g (lw_at lw_m3 169 rfl) rfl
theorem q807 : (Jvm.Cond.methodLink "jdk/internal/util/ArraysSupport" (66 : Nat) ({ cls := "jdk/internal/util/ArraysSupport", name := "utf16hashCode", desc := "(I[BII)I" } : Jvm.MethodName)) ∈ lw_all := lw_g (lw_at lw_m3 170 rfl) rfl
theorem q808 : (Jvm.Cond.static ({ cls := "jdk/internal/util/ArraysSupport", name := "utf16hashCode", desc := "(I[BII)I" } : Jvm.MethodName)) ∈ lw_all := lw_g (lw_at lw_m3 171 rfl) rfl
theorem q809 : (Jvm.Cond.code ({ cls := "jdk/internal/util/ArraysSupport", name := "utf16hashCode", desc := "(I[BII)I" } : Jvm.MethodName) prog_60_method_10_code (6 : Nat) (Option.some Jvm.ClassFile.FieldType.int)) ∈ lw_all := lw_g (lw_at lw_m3 172 rfl) rfl
theorem q810 : (Jvm.Cond.fieldLink "jdk/internal/util/ArraysSupport" (106 : Nat) "jdk/internal/util/ArraysSupport" "JLA" "Ljdk/internal/access/JavaLangAccess;") ∈ lw_all := lw_g (lw_at lw_m3 173 rfl) rfl
theorem q811 : (Jvm.Cond.laysStatic "jdk/internal/util/ArraysSupport" "JLA" "Ljdk/internal/access/JavaLangAccess;") ∈ lw_tbl := lw_at lw_m3 174 rfl
theorem q812 : (Jvm.Cond.interfaceEntry "jdk/internal/util/ArraysSupport" (110 : Nat)) ∈ lw_tbl := lw_at lw_m3 175 rfl
theorem q813 : (Jvm.Cond.methodLink "jdk/internal/util/ArraysSupport" (110 : Nat) ({ cls := "jdk/internal/access/JavaLangAccess", name := "getUTF16Char", desc := "([BI)C" } : Jvm.MethodName)) ∈ lw_all := lw_g (lw_at lw_m3 176 rfl) rfl
theorem q823 : (Jvm.Cond.classLink "jdk/internal/util/ArraysSupport" (69 : Nat) "[C") ∈ lw_all := lw_g (lw_at lw_m3 186 rfl) rfl
theorem q824 : (Jvm.Cond.methodLink "jdk/internal/util/ArraysSupport" (71 : Nat) ({ cls := "jdk/internal/util/ArraysSupport", name := "hashCode", desc := "(I[CII)I" } : Jvm.MethodName)) ∈ lw_all := lw_g (lw_at lw_m3 187 rfl) rfl
theorem q825 : (Jvm.Cond.static ({ cls := "jdk/internal/util/ArraysSupport", name := "hashCode", desc := "(I[CII)I" } : Jvm.MethodName)) ∈ lw_all := lw_g (lw_at lw_m3 188 rfl) rfl
theorem q826 : (Jvm.Cond.code ({ cls := "jdk/internal/util/ArraysSupport", name := "hashCode", desc := "(I[CII)I" } : Jvm.MethodName) prog_60_method_7_code (6 : Nat) (Option.some Jvm.ClassFile.FieldType.int)) ∈ lw_all := lw_g (lw_at lw_m3 189 rfl) rfl
theorem q827 : (Jvm.Cond.methodLink "jdk/internal/util/ArraysSupport" (75 : Nat) ({ cls := "jdk/internal/util/ArraysSupport", name := "hashCode", desc := "(I[BII)I" } : Jvm.MethodName)) ∈ lw_all := lw_g (lw_at lw_m3 190 rfl) rfl
theorem q828 : (Jvm.Cond.static ({ cls := "jdk/internal/util/ArraysSupport", name := "hashCode", desc := "(I[BII)I" } : Jvm.MethodName)) ∈ lw_all := lw_g (lw_at lw_m3 191 rfl) rfl
theorem q829 : (Jvm.Cond.code ({ cls := "jdk/internal/util/ArraysSupport", name := "hashCode", desc := "(I[BII)I" } : Jvm.MethodName) prog_60_method_6_code (6 : Nat) (Option.some Jvm.ClassFile.FieldType.int)) ∈ lw_all := lw_g (lw_at lw_m3 192 rfl) rfl
theorem q830 : (Jvm.Cond.classLink "jdk/internal/util/ArraysSupport" (77 : Nat) "[S") ∈ lw_all := lw_g (lw_at lw_m3 193 rfl) rfl
theorem q831 : (Jvm.Cond.methodLink "jdk/internal/util/ArraysSupport" (79 : Nat) ({ cls := "jdk/internal/util/ArraysSupport", name := "hashCode", desc := "(I[SII)I" } : Jvm.MethodName)) ∈ lw_all := lw_g (lw_at lw_m3 194 rfl) rfl
theorem q832 : (Jvm.Cond.static ({ cls := "jdk/internal/util/ArraysSupport", name := "hashCode", desc := "(I[SII)I" } : Jvm.MethodName)) ∈ lw_all := lw_g (lw_at lw_m3 195 rfl) rfl
theorem q833 : (Jvm.Cond.code ({ cls := "jdk/internal/util/ArraysSupport", name := "hashCode", desc := "(I[SII)I" } : Jvm.MethodName) prog_60_method_8_code (6 : Nat) (Option.some Jvm.ClassFile.FieldType.int)) ∈ lw_all := lw_g (lw_at lw_m3 196 rfl) rfl
theorem q834 : (Jvm.Cond.classLink "jdk/internal/util/ArraysSupport" (82 : Nat) "[I") ∈ lw_all := lw_g (lw_at lw_m3 197 rfl) rfl
theorem q835 : (Jvm.Cond.methodLink "jdk/internal/util/ArraysSupport" (84 : Nat) ({ cls := "jdk/internal/util/ArraysSupport", name := "hashCode", desc := "(I[III)I" } : Jvm.MethodName)) ∈ lw_all := lw_g (lw_at lw_m3 198 rfl) rfl
theorem q836 : (Jvm.Cond.static ({ cls := "jdk/internal/util/ArraysSupport", name := "hashCode", desc := "(I[III)I" } : Jvm.MethodName)) ∈ lw_all := lw_g (lw_at lw_m3 199 rfl) rfl
theorem q837 : (Jvm.Cond.code ({ cls := "jdk/internal/util/ArraysSupport", name := "hashCode", desc := "(I[III)I" } : Jvm.MethodName) prog_60_method_9_code (6 : Nat) (Option.some Jvm.ClassFile.FieldType.int)) ∈ lw_all := lw_g (lw_at lw_m3 200 rfl) rfl
/-! java/lang/Math -/
set_option maxRecDepth 100000
def RJ5 : String := "java/lang/Math"
abbrev cJ5_max : ByteArray := prog_35_method_65_code
def yJ5_max : MethodName := ⟨RJ5, "max", "(II)I"⟩
def dkwJ5_max_0 : List UInt8 := [26, 27, 161, 0, 7, 26, 167, 0, 4, 27, 172]
abbrev dktJ5_max_0 : List UInt8 := dkwJ5_max_0 ++ []
theorem dksJ5_max_0 : cJ5_max.data.toList.drop 0 = dktJ5_max_0 := by decide +kernel
theorem dJ5_max_0 : decode cJ5_max 0 = .ok (.iload_n 0, 1) := dk_26 (dk_at dksJ5_max_0 0 rfl rfl)
theorem dJ5_max_1 : decode cJ5_max 1 = .ok (.iload_n 1, 1) := dk_27 (dk_at dksJ5_max_0 1 rfl rfl)
theorem dJ5_max_2 : decode cJ5_max 2 = .ok (.if_icmp .lt 7, 3) := dk_161 0 7 (dk_at dksJ5_max_0 2 rfl rfl)
theorem dJ5_max_5 : decode cJ5_max 5 = .ok (.iload_n 0, 1) := dk_26 (dk_at dksJ5_max_0 5 rfl rfl)
theorem dJ5_max_6 : decode cJ5_max 6 = .ok (.goto 4, 3) := dk_167 0 4 (dk_at dksJ5_max_0 6 rfl rfl)
theorem dJ5_max_9 : decode cJ5_max 9 = .ok (.iload_n 1, 1) := dk_27 (dk_at dksJ5_max_0 9 rfl rfl)
theorem dJ5_max_10 : decode cJ5_max 10 = .ok (.ireturn, 1) := dk_172 (dk_at dksJ5_max_0 10 rfl rfl)
abbrev cJ5_min : ByteArray := prog_35_method_69_code
def yJ5_min : MethodName := ⟨RJ5, "min", "(II)I"⟩
def dkwJ5_min_0 : List UInt8 := [26, 27, 163, 0, 7, 26, 167, 0, 4, 27, 172]
abbrev dktJ5_min_0 : List UInt8 := dkwJ5_min_0 ++ []
theorem dksJ5_min_0 : cJ5_min.data.toList.drop 0 = dktJ5_min_0 := by decide +kernel
theorem dJ5_min_0 : decode cJ5_min 0 = .ok (.iload_n 0, 1) := dk_26 (dk_at dksJ5_min_0 0 rfl rfl)
theorem dJ5_min_1 : decode cJ5_min 1 = .ok (.iload_n 1, 1) := dk_27 (dk_at dksJ5_min_0 1 rfl rfl)
theorem dJ5_min_2 : decode cJ5_min 2 = .ok (.if_icmp .gt 7, 3) := dk_163 0 7 (dk_at dksJ5_min_0 2 rfl rfl)
theorem dJ5_min_5 : decode cJ5_min 5 = .ok (.iload_n 0, 1) := dk_26 (dk_at dksJ5_min_0 5 rfl rfl)
theorem dJ5_min_6 : decode cJ5_min 6 = .ok (.goto 4, 3) := dk_167 0 4 (dk_at dksJ5_min_0 6 rfl rfl)
theorem dJ5_min_9 : decode cJ5_min 9 = .ok (.iload_n 1, 1) := dk_27 (dk_at dksJ5_min_0 9 rfl rfl)
theorem dJ5_min_10 : decode cJ5_min 10 = .ok (.ireturn, 1) := dk_172 (dk_at dksJ5_min_0 10 rfl rfl)
theorem q166 : (Jvm.Cond.initialized "java/lang/Math") ∈ lw_all := lw_g (lw_at lw_m1 9 rfl) rfl
theorem q375 : (Jvm.Cond.static ({ cls := "java/lang/Math", name := "max", desc := "(II)I" } : Jvm.MethodName)) ∈ lw_all := lw_g (lw_at lw_m1 218 rfl) rfl
theorem q376 : (Jvm.Cond.code ({ cls := "java/lang/Math", name := "max", desc := "(II)I" } : Jvm.MethodName) prog_35_method_65_code (2 : Nat) (Option.some Jvm.ClassFile.FieldType.int)) ∈ lw_all := lw_g (lw_at lw_m1 219 rfl) rfl
theorem q393 : (Jvm.Cond.static ({ cls := "java/lang/Math", name := "min", desc := "(II)I" } : Jvm.MethodName)) ∈ lw_all := lw_g (lw_at lw_m1 236 rfl) rfl
theorem q394 : (Jvm.Cond.code ({ cls := "java/lang/Math", name := "min", desc := "(II)I" } : Jvm.MethodName) prog_35_method_69_code (2 : Nat) (Option.some Jvm.ClassFile.FieldType.int)) ∈ lw_all := lw_g (lw_at lw_m1 237 rfl) rfl
/-! java/util/Arrays -/
set_option maxRecDepth 100000
def RJ6 : String := "java/util/Arrays"
abbrev cJ6_copyOf : ByteArray := prog_51_method_121_code
def yJ6_copyOf : MethodName := ⟨RJ6, "copyOf", "([BI)[B"⟩
def dkwJ6_copyOf_1 : List UInt8 := [27, 184, 1, 48, 184, 0, 150, 44, 176]
abbrev dktJ6_copyOf_1 : List UInt8 := dkwJ6_copyOf_1 ++ []
def dkwJ6_copyOf_0 : List UInt8 := [27, 42, 190, 160, 0, 11, 42, 182, 1, 54, 192, 1, 55, 176, 27, 188, 8, 77, 42, 3, 44, 3, 42, 190]
abbrev dktJ6_copyOf_0 : List UInt8 := dkwJ6_copyOf_0 ++ dktJ6_copyOf_1
theorem dksJ6_copyOf_0 : cJ6_copyOf.data.toList.drop 0 = dktJ6_copyOf_0 := by decide +kernel
theorem dksJ6_copyOf_1 : cJ6_copyOf.data.toList.drop 24 = dktJ6_copyOf_1 := dk_seg dksJ6_copyOf_0 24 rfl rfl
theorem dJ6_copyOf_0 : decode cJ6_copyOf 0 = .ok (.iload_n 1, 1) := dk_27 (dk_at dksJ6_copyOf_0 0 rfl rfl)
theorem dJ6_copyOf_1 : decode cJ6_copyOf 1 = .ok (.aload_n 0, 1) := dk_42 (dk_at dksJ6_copyOf_0 1 rfl rfl)
theorem dJ6_copyOf_2 : decode cJ6_copyOf 2 = .ok (.arraylength, 1) := dk_190 (dk_at dksJ6_copyOf_0 2 rfl rfl)
theorem dJ6_copyOf_3 : decode cJ6_copyOf 3 = .ok (.if_icmp .ne 11, 3) := dk_160 0 11 (dk_at dksJ6_copyOf_0 3 rfl rfl)
theorem dJ6_copyOf_6 : decode cJ6_copyOf 6 = .ok (.aload_n 0, 1) := dk_42 (dk_at dksJ6_copyOf_0 6 rfl rfl)
theorem dJ6_copyOf_7 : decode cJ6_copyOf 7 = .ok (.invokevirtual 310, 3) := dk_182 1 54 (dk_at dksJ6_copyOf_0 7 rfl rfl)
theorem dJ6_copyOf_10 : decode cJ6_copyOf 10 = .ok (.checkcast 311, 3) := dk_192 1 55 (dk_at dksJ6_copyOf_0 10 rfl rfl)
theorem dJ6_copyOf_13 : decode cJ6_copyOf 13 = .ok (.areturn, 1) := dk_176 (dk_at dksJ6_copyOf_0 13 rfl rfl)
theorem dJ6_copyOf_14 : decode cJ6_copyOf 14 = .ok (.iload_n 1, 1) := dk_27 (dk_at dksJ6_copyOf_0 14 rfl rfl)
theorem dJ6_copyOf_15 : decode cJ6_copyOf 15 = .ok (.newarray .byte, 2) := dk_188_8 (dk_at dksJ6_copyOf_0 15 rfl rfl)
theorem dJ6_copyOf_17 : decode cJ6_copyOf 17 = .ok (.astore_n 2, 1) := dk_77 (dk_at dksJ6_copyOf_0 17 rfl rfl)
theorem dJ6_copyOf_18 : decode cJ6_copyOf 18 = .ok (.aload_n 0, 1) := dk_42 (dk_at dksJ6_copyOf_0 18 rfl rfl)
theorem dJ6_copyOf_19 : decode cJ6_copyOf 19 = .ok (.iconst 0, 1) := dk_3 (dk_at dksJ6_copyOf_0 19 rfl rfl)
theorem dJ6_copyOf_20 : decode cJ6_copyOf 20 = .ok (.aload_n 2, 1) := dk_44 (dk_at dksJ6_copyOf_0 20 rfl rfl)
theorem dJ6_copyOf_21 : decode cJ6_copyOf 21 = .ok (.iconst 0, 1) := dk_3 (dk_at dksJ6_copyOf_0 21 rfl rfl)
theorem dJ6_copyOf_22 : decode cJ6_copyOf 22 = .ok (.aload_n 0, 1) := dk_42 (dk_at dksJ6_copyOf_0 22 rfl rfl)
theorem dJ6_copyOf_23 : decode cJ6_copyOf 23 = .ok (.arraylength, 1) := dk_190 (dk_at dksJ6_copyOf_0 23 rfl rfl)
theorem dJ6_copyOf_24 : decode cJ6_copyOf 24 = .ok (.iload_n 1, 1) := dk_27 (dk_at dksJ6_copyOf_1 0 rfl rfl)
theorem dJ6_copyOf_25 : decode cJ6_copyOf 25 = .ok (.invokestatic 304, 3) := dk_184 1 48 (dk_at dksJ6_copyOf_1 1 rfl rfl)
theorem dJ6_copyOf_28 : decode cJ6_copyOf 28 = .ok (.invokestatic 150, 3) := dk_184 0 150 (dk_at dksJ6_copyOf_1 4 rfl rfl)
theorem dJ6_copyOf_31 : decode cJ6_copyOf 31 = .ok (.aload_n 2, 1) := dk_44 (dk_at dksJ6_copyOf_1 7 rfl rfl)
theorem dJ6_copyOf_32 : decode cJ6_copyOf 32 = .ok (.areturn, 1) := dk_176 (dk_at dksJ6_copyOf_1 8 rfl rfl)
abbrev cJ6_copyOfRange : ByteArray := prog_51_method_132_code
def yJ6_copyOfRange : MethodName := ⟨RJ6, "copyOfRange", "([BII)[B"⟩
def dkwJ6_copyOfRange_1 : List UInt8 := [176]
abbrev dktJ6_copyOfRange_1 : List UInt8 := dkwJ6_copyOfRange_1 ++ []
def dkwJ6_copyOfRange_0 : List UInt8 := [27, 154, 0, 9, 28, 42, 190, 159, 0, 10, 42, 27, 28, 184, 1, 83, 176, 42, 182, 1, 54, 192, 1, 55]
abbrev dktJ6_copyOfRange_0 : List UInt8 := dkwJ6_copyOfRange_0 ++ dktJ6_copyOfRange_1
theorem dksJ6_copyOfRange_0 : cJ6_copyOfRange.data.toList.drop 0 = dktJ6_copyOfRange_0 := by decide +kernel
theorem dksJ6_copyOfRange_1 : cJ6_copyOfRange.data.toList.drop 24 = dktJ6_copyOfRange_1 := dk_seg dksJ6_copyOfRange_0 24 rfl rfl
theorem dJ6_copyOfRange_0 : decode cJ6_copyOfRange 0 = .ok (.iload_n 1, 1) := dk_27 (dk_at dksJ6_copyOfRange_0 0 rfl rfl)
theorem dJ6_copyOfRange_1 : decode cJ6_copyOfRange 1 = .ok (.ifCond .ne 9, 3) := dk_154 0 9 (dk_at dksJ6_copyOfRange_0 1 rfl rfl)
theorem dJ6_copyOfRange_4 : decode cJ6_copyOfRange 4 = .ok (.iload_n 2, 1) := dk_28 (dk_at dksJ6_copyOfRange_0 4 rfl rfl)
theorem dJ6_copyOfRange_5 : decode cJ6_copyOfRange 5 = .ok (.aload_n 0, 1) := dk_42 (dk_at dksJ6_copyOfRange_0 5 rfl rfl)
theorem dJ6_copyOfRange_6 : decode cJ6_copyOfRange 6 = .ok (.arraylength, 1) := dk_190 (dk_at dksJ6_copyOfRange_0 6 rfl rfl)
theorem dJ6_copyOfRange_7 : decode cJ6_copyOfRange 7 = .ok (.if_icmp .eq 10, 3) := dk_159 0 10 (dk_at dksJ6_copyOfRange_0 7 rfl rfl)
theorem dJ6_copyOfRange_10 : decode cJ6_copyOfRange 10 = .ok (.aload_n 0, 1) := dk_42 (dk_at dksJ6_copyOfRange_0 10 rfl rfl)
theorem dJ6_copyOfRange_11 : decode cJ6_copyOfRange 11 = .ok (.iload_n 1, 1) := dk_27 (dk_at dksJ6_copyOfRange_0 11 rfl rfl)
theorem dJ6_copyOfRange_12 : decode cJ6_copyOfRange 12 = .ok (.iload_n 2, 1) := dk_28 (dk_at dksJ6_copyOfRange_0 12 rfl rfl)
theorem dJ6_copyOfRange_13 : decode cJ6_copyOfRange 13 = .ok (.invokestatic 339, 3) := dk_184 1 83 (dk_at dksJ6_copyOfRange_0 13 rfl rfl)
theorem dJ6_copyOfRange_16 : decode cJ6_copyOfRange 16 = .ok (.areturn, 1) := dk_176 (dk_at dksJ6_copyOfRange_0 16 rfl rfl)
theorem dJ6_copyOfRange_17 : decode cJ6_copyOfRange 17 = .ok (.aload_n 0, 1) := dk_42 (dk_at dksJ6_copyOfRange_0 17 rfl rfl)
theorem dJ6_copyOfRange_18 : decode cJ6_copyOfRange 18 = .ok (.invokevirtual 310, 3) := dk_182 1 54 (dk_at dksJ6_copyOfRange_0 18 rfl rfl)
theorem dJ6_copyOfRange_21 : decode cJ6_copyOfRange 21 = .ok (.checkcast 311, 3) := dk_192 1 55 (dk_at dksJ6_copyOfRange_0 21 rfl rfl)
theorem dJ6_copyOfRange_24 : decode cJ6_copyOfRange 24 = .ok (.areturn, 1) := dk_176 (dk_at dksJ6_copyOfRange_1 0 rfl rfl)
abbrev cJ6_copyOfRangeByte : ByteArray := prog_51_method_133_code
def yJ6_copyOfRangeByte : MethodName := ⟨RJ6, "copyOfRangeByte", "([BII)[B"⟩
def dkwJ6_copyOfRangeByte_1 : List UInt8 := [184, 1, 48, 184, 0, 150, 25, 4, 176]
abbrev dktJ6_copyOfRangeByte_1 : List UInt8 := dkwJ6_copyOfRangeByte_1 ++ []
def dkwJ6_copyOfRangeByte_0 : List UInt8 := [27, 28, 184, 1, 87, 28, 27, 100, 62, 29, 188, 8, 58, 4, 42, 27, 25, 4, 3, 42, 190, 27, 100, 29]
abbrev dktJ6_copyOfRangeByte_0 : List UInt8 := dkwJ6_copyOfRangeByte_0 ++ dktJ6_copyOfRangeByte_1
theorem dksJ6_copyOfRangeByte_0 : cJ6_copyOfRangeByte.data.toList.drop 0 = dktJ6_copyOfRangeByte_0 := by decide +kernel
theorem dksJ6_copyOfRangeByte_1 : cJ6_copyOfRangeByte.data.toList.drop 24 = dktJ6_copyOfRangeByte_1 := dk_seg dksJ6_copyOfRangeByte_0 24 rfl rfl
theorem dJ6_copyOfRangeByte_0 : decode cJ6_copyOfRangeByte 0 = .ok (.iload_n 1, 1) := dk_27 (dk_at dksJ6_copyOfRangeByte_0 0 rfl rfl)
theorem dJ6_copyOfRangeByte_1 : decode cJ6_copyOfRangeByte 1 = .ok (.iload_n 2, 1) := dk_28 (dk_at dksJ6_copyOfRangeByte_0 1 rfl rfl)
theorem dJ6_copyOfRangeByte_2 : decode cJ6_copyOfRangeByte 2 = .ok (.invokestatic 343, 3) := dk_184 1 87 (dk_at dksJ6_copyOfRangeByte_0 2 rfl rfl)
theorem dJ6_copyOfRangeByte_5 : decode cJ6_copyOfRangeByte 5 = .ok (.iload_n 2, 1) := dk_28 (dk_at dksJ6_copyOfRangeByte_0 5 rfl rfl)
theorem dJ6_copyOfRangeByte_6 : decode cJ6_copyOfRangeByte 6 = .ok (.iload_n 1, 1) := dk_27 (dk_at dksJ6_copyOfRangeByte_0 6 rfl rfl)
theorem dJ6_copyOfRangeByte_7 : decode cJ6_copyOfRangeByte 7 = .ok (.isub, 1) := dk_100 (dk_at dksJ6_copyOfRangeByte_0 7 rfl rfl)
theorem dJ6_copyOfRangeByte_8 : decode cJ6_copyOfRangeByte 8 = .ok (.istore_n 3, 1) := dk_62 (dk_at dksJ6_copyOfRangeByte_0 8 rfl rfl)
theorem dJ6_copyOfRangeByte_9 : decode cJ6_copyOfRangeByte 9 = .ok (.iload_n 3, 1) := dk_29 (dk_at dksJ6_copyOfRangeByte_0 9 rfl rfl)
theorem dJ6_copyOfRangeByte_10 : decode cJ6_copyOfRangeByte 10 = .ok (.newarray .byte, 2) := dk_188_8 (dk_at dksJ6_copyOfRangeByte_0 10 rfl rfl)
theorem dJ6_copyOfRangeByte_12 : decode cJ6_copyOfRangeByte 12 = .ok (.astore 4, 2) := dk_58 4 (dk_at dksJ6_copyOfRangeByte_0 12 rfl rfl)
theorem dJ6_copyOfRangeByte_14 : decode cJ6_copyOfRangeByte 14 = .ok (.aload_n 0, 1) := dk_42 (dk_at dksJ6_copyOfRangeByte_0 14 rfl rfl)
theorem dJ6_copyOfRangeByte_15 : decode cJ6_copyOfRangeByte 15 = .ok (.iload_n 1, 1) := dk_27 (dk_at dksJ6_copyOfRangeByte_0 15 rfl rfl)
theorem dJ6_copyOfRangeByte_16 : decode cJ6_copyOfRangeByte 16 = .ok (.aload 4, 2) := dk_25 4 (dk_at dksJ6_copyOfRangeByte_0 16 rfl rfl)
theorem dJ6_copyOfRangeByte_18 : decode cJ6_copyOfRangeByte 18 = .ok (.iconst 0, 1) := dk_3 (dk_at dksJ6_copyOfRangeByte_0 18 rfl rfl)
theorem dJ6_copyOfRangeByte_19 : decode cJ6_copyOfRangeByte 19 = .ok (.aload_n 0, 1) := dk_42 (dk_at dksJ6_copyOfRangeByte_0 19 rfl rfl)
theorem dJ6_copyOfRangeByte_20 : decode cJ6_copyOfRangeByte 20 = .ok (.arraylength, 1) := dk_190 (dk_at dksJ6_copyOfRangeByte_0 20 rfl rfl)
theorem dJ6_copyOfRangeByte_21 : decode cJ6_copyOfRangeByte 21 = .ok (.iload_n 1, 1) := dk_27 (dk_at dksJ6_copyOfRangeByte_0 21 rfl rfl)
theorem dJ6_copyOfRangeByte_22 : decode cJ6_copyOfRangeByte 22 = .ok (.isub, 1) := dk_100 (dk_at dksJ6_copyOfRangeByte_0 22 rfl rfl)
theorem dJ6_copyOfRangeByte_23 : decode cJ6_copyOfRangeByte 23 = .ok (.iload_n 3, 1) := dk_29 (dk_at dksJ6_copyOfRangeByte_0 23 rfl rfl)
theorem dJ6_copyOfRangeByte_24 : decode cJ6_copyOfRangeByte 24 = .ok (.invokestatic 304, 3) := dk_184 1 48 (dk_at dksJ6_copyOfRangeByte_1 0 rfl rfl)
theorem dJ6_copyOfRangeByte_27 : decode cJ6_copyOfRangeByte 27 = .ok (.invokestatic 150, 3) := dk_184 0 150 (dk_at dksJ6_copyOfRangeByte_1 3 rfl rfl)
theorem dJ6_copyOfRangeByte_30 : decode cJ6_copyOfRangeByte 30 = .ok (.aload 4, 2) := dk_25 4 (dk_at dksJ6_copyOfRangeByte_1 6 rfl rfl)
theorem dJ6_copyOfRangeByte_32 : decode cJ6_copyOfRangeByte 32 = .ok (.areturn, 1) := dk_176 (dk_at dksJ6_copyOfRangeByte_1 8 rfl rfl)
abbrev cJ6_checkLength : ByteArray := prog_51_method_131_code
def yJ6_checkLength : MethodName := ⟨RJ6, "checkLength", "(II)V"⟩
def dkwJ6_checkLength_1 : List UInt8 := [182, 0, 50, 27, 182, 0, 54, 182, 0, 61, 183, 0, 65, 191, 177]
abbrev dktJ6_checkLength_1 : List UInt8 := dkwJ6_checkLength_1 ++ []
def dkwJ6_checkLength_0 : List UInt8 := [27, 26, 162, 0, 35, 187, 0, 43, 89, 187, 0, 45, 89, 183, 0, 47, 26, 182, 0, 54, 19, 1, 81]
abbrev dktJ6_checkLength_0 : List UInt8 := dkwJ6_checkLength_0 ++ dktJ6_checkLength_1
theorem dksJ6_checkLength_0 : cJ6_checkLength.data.toList.drop 0 = dktJ6_checkLength_0 := by decide +kernel
theorem dksJ6_checkLength_1 : cJ6_checkLength.data.toList.drop 23 = dktJ6_checkLength_1 := dk_seg dksJ6_checkLength_0 23 rfl rfl
theorem dJ6_checkLength_0 : decode cJ6_checkLength 0 = .ok (.iload_n 1, 1) := dk_27 (dk_at dksJ6_checkLength_0 0 rfl rfl)
theorem dJ6_checkLength_1 : decode cJ6_checkLength 1 = .ok (.iload_n 0, 1) := dk_26 (dk_at dksJ6_checkLength_0 1 rfl rfl)
theorem dJ6_checkLength_2 : decode cJ6_checkLength 2 = .ok (.if_icmp .ge 35, 3) := dk_162 0 35 (dk_at dksJ6_checkLength_0 2 rfl rfl)
theorem dJ6_checkLength_5 : decode cJ6_checkLength 5 = .ok (.new 43, 3) := dk_187 0 43 (dk_at dksJ6_checkLength_0 5 rfl rfl)
theorem dJ6_checkLength_8 : decode cJ6_checkLength 8 = .ok (.dup, 1) := dk_89 (dk_at dksJ6_checkLength_0 8 rfl rfl)
theorem dJ6_checkLength_9 : decode cJ6_checkLength 9 = .ok (.new 45, 3) := dk_187 0 45 (dk_at dksJ6_checkLength_0 9 rfl rfl)
theorem dJ6_checkLength_12 : decode cJ6_checkLength 12 = .ok (.dup, 1) := dk_89 (dk_at dksJ6_checkLength_0 12 rfl rfl)
theorem dJ6_checkLength_13 : decode cJ6_checkLength 13 = .ok (.invokespecial 47, 3) := dk_183 0 47 (dk_at dksJ6_checkLength_0 13 rfl rfl)
theorem dJ6_checkLength_16 : decode cJ6_checkLength 16 = .ok (.iload_n 0, 1) := dk_26 (dk_at dksJ6_checkLength_0 16 rfl rfl)
theorem dJ6_checkLength_17 : decode cJ6_checkLength 17 = .ok (.invokevirtual 54, 3) := dk_182 0 54 (dk_at dksJ6_checkLength_0 17 rfl rfl)
theorem dJ6_checkLength_20 : decode cJ6_checkLength 20 = .ok (.ldc_w 337, 3) := dk_19 1 81 (dk_at dksJ6_checkLength_0 20 rfl rfl)
theorem dJ6_checkLength_23 : decode cJ6_checkLength 23 = .ok (.invokevirtual 50, 3) := dk_182 0 50 (dk_at dksJ6_checkLength_1 0 rfl rfl)
theorem dJ6_checkLength_26 : decode cJ6_checkLength 26 = .ok (.iload_n 1, 1) := dk_27 (dk_at dksJ6_checkLength_1 3 rfl rfl)
theorem dJ6_checkLength_27 : decode cJ6_checkLength 27 = .ok (.invokevirtual 54, 3) := dk_182 0 54 (dk_at dksJ6_checkLength_1 4 rfl rfl)
theorem dJ6_checkLength_30 : decode cJ6_checkLength 30 = .ok (.invokevirtual 61, 3) := dk_182 0 61 (dk_at dksJ6_checkLength_1 7 rfl rfl)
theorem dJ6_checkLength_33 : decode cJ6_checkLength 33 = .ok (.invokespecial 65, 3) := dk_183 0 65 (dk_at dksJ6_checkLength_1 10 rfl rfl)
theorem dJ6_checkLength_36 : decode cJ6_checkLength 36 = .ok (.athrow, 1) := dk_191 (dk_at dksJ6_checkLength_1 13 rfl rfl)
theorem dJ6_checkLength_37 : decode cJ6_checkLength 37 = .ok (.return_, 1) := dk_177 (dk_at dksJ6_checkLength_1 14 rfl rfl)
abbrev cJ6_copyOf_2 : ByteArray := prog_51_method_119_code
def yJ6_copyOf_2 : MethodName := ⟨RJ6, "copyOf", "([Ljava/lang/Object;I)[Ljava/lang/Object;"⟩
def dkwJ6_copyOf_2_0 : List UInt8 := [42, 27, 42, 182, 0, 86, 184, 1, 44, 176]
abbrev dktJ6_copyOf_2_0 : List UInt8 := dkwJ6_copyOf_2_0 ++ []
theorem dksJ6_copyOf_2_0 : cJ6_copyOf_2.data.toList.drop 0 = dktJ6_copyOf_2_0 := by decide +kernel
theorem dJ6_copyOf_2_0 : decode cJ6_copyOf_2 0 = .ok (.aload_n 0, 1) := dk_42 (dk_at dksJ6_copyOf_2_0 0 rfl rfl)
theorem dJ6_copyOf_2_1 : decode cJ6_copyOf_2 1 = .ok (.iload_n 1, 1) := dk_27 (dk_at dksJ6_copyOf_2_0 1 rfl rfl)
theorem dJ6_copyOf_2_2 : decode cJ6_copyOf_2 2 = .ok (.aload_n 0, 1) := dk_42 (dk_at dksJ6_copyOf_2_0 2 rfl rfl)
theorem dJ6_copyOf_2_3 : decode cJ6_copyOf_2 3 = .ok (.invokevirtual 86, 3) := dk_182 0 86 (dk_at dksJ6_copyOf_2_0 3 rfl rfl)
theorem dJ6_copyOf_2_6 : decode cJ6_copyOf_2 6 = .ok (.invokestatic 300, 3) := dk_184 1 44 (dk_at dksJ6_copyOf_2_0 6 rfl rfl)
theorem dJ6_copyOf_2_9 : decode cJ6_copyOf_2 9 = .ok (.areturn, 1) := dk_176 (dk_at dksJ6_copyOf_2_0 9 rfl rfl)
abbrev cJ6_copyOf_3 : ByteArray := prog_51_method_120_code
def yJ6_copyOf_3 : MethodName := ⟨RJ6, "copyOf", "([Ljava/lang/Object;ILjava/lang/Class;)[Ljava/lang/Object;"⟩
def dkwJ6_copyOf_3_1 : List UInt8 := [78, 42, 3, 45, 3, 42, 190, 27, 184, 1, 48, 184, 0, 150, 45, 176]
abbrev dktJ6_copyOf_3_1 : List UInt8 := dkwJ6_copyOf_3_1 ++ []
def dkwJ6_copyOf_3_0 : List UInt8 := [44, 18, 110, 166, 0, 10, 27, 189, 0, 2, 167, 0, 14, 44, 182, 0, 90, 27, 184, 0, 95, 192, 0, 110]
abbrev dktJ6_copyOf_3_0 : List UInt8 := dkwJ6_copyOf_3_0 ++ dktJ6_copyOf_3_1
theorem dksJ6_copyOf_3_0 : cJ6_copyOf_3.data.toList.drop 0 = dktJ6_copyOf_3_0 := by decide +kernel
theorem dksJ6_copyOf_3_1 : cJ6_copyOf_3.data.toList.drop 24 = dktJ6_copyOf_3_1 := dk_seg dksJ6_copyOf_3_0 24 rfl rfl
theorem dJ6_copyOf_3_0 : decode cJ6_copyOf_3 0 = .ok (.aload_n 2, 1) := dk_44 (dk_at dksJ6_copyOf_3_0 0 rfl rfl)
theorem dJ6_copyOf_3_1 : decode cJ6_copyOf_3 1 = .ok (.ldc 110, 2) := dk_18 110 (dk_at dksJ6_copyOf_3_0 1 rfl rfl)
theorem dJ6_copyOf_3_3 : decode cJ6_copyOf_3 3 = .ok (.if_acmp .ne 10, 3) := dk_166 0 10 (dk_at dksJ6_copyOf_3_0 3 rfl rfl)
theorem dJ6_copyOf_3_6 : decode cJ6_copyOf_3 6 = .ok (.iload_n 1, 1) := dk_27 (dk_at dksJ6_copyOf_3_0 6 rfl rfl)
theorem dJ6_copyOf_3_7 : decode cJ6_copyOf_3 7 = .ok (.anewarray 2, 3) := dk_189 0 2 (dk_at dksJ6_copyOf_3_0 7 rfl rfl)
theorem dJ6_copyOf_3_10 : decode cJ6_copyOf_3 10 = .ok (.goto 14, 3) := dk_167 0 14 (dk_at dksJ6_copyOf_3_0 10 rfl rfl)
theorem dJ6_copyOf_3_13 : decode cJ6_copyOf_3 13 = .ok (.aload_n 2, 1) := dk_44 (dk_at dksJ6_copyOf_3_0 13 rfl rfl)
theorem dJ6_copyOf_3_14 : decode cJ6_copyOf_3 14 = .ok (.invokevirtual 90, 3) := dk_182 0 90 (dk_at dksJ6_copyOf_3_0 14 rfl rfl)
theorem dJ6_copyOf_3_17 : decode cJ6_copyOf_3 17 = .ok (.iload_n 1, 1) := dk_27 (dk_at dksJ6_copyOf_3_0 17 rfl rfl)
theorem dJ6_copyOf_3_18 : decode cJ6_copyOf_3 18 = .ok (.invokestatic 95, 3) := dk_184 0 95 (dk_at dksJ6_copyOf_3_0 18 rfl rfl)
theorem dJ6_copyOf_3_21 : decode cJ6_copyOf_3 21 = .ok (.checkcast 110, 3) := dk_192 0 110 (dk_at dksJ6_copyOf_3_0 21 rfl rfl)
theorem dJ6_copyOf_3_24 : decode cJ6_copyOf_3 24 = .ok (.astore_n 3, 1) := dk_78 (dk_at dksJ6_copyOf_3_1 0 rfl rfl)
theorem dJ6_copyOf_3_25 : decode cJ6_copyOf_3 25 = .ok (.aload_n 0, 1) := dk_42 (dk_at dksJ6_copyOf_3_1 1 rfl rfl)
theorem dJ6_copyOf_3_26 : decode cJ6_copyOf_3 26 = .ok (.iconst 0, 1) := dk_3 (dk_at dksJ6_copyOf_3_1 2 rfl rfl)
theorem dJ6_copyOf_3_27 : decode cJ6_copyOf_3 27 = .ok (.aload_n 3, 1) := dk_45 (dk_at dksJ6_copyOf_3_1 3 rfl rfl)
theorem dJ6_copyOf_3_28 : decode cJ6_copyOf_3 28 = .ok (.iconst 0, 1) := dk_3 (dk_at dksJ6_copyOf_3_1 4 rfl rfl)
theorem dJ6_copyOf_3_29 : decode cJ6_copyOf_3 29 = .ok (.aload_n 0, 1) := dk_42 (dk_at dksJ6_copyOf_3_1 5 rfl rfl)
theorem dJ6_copyOf_3_30 : decode cJ6_copyOf_3 30 = .ok (.arraylength, 1) := dk_190 (dk_at dksJ6_copyOf_3_1 6 rfl rfl)
theorem dJ6_copyOf_3_31 : decode cJ6_copyOf_3 31 = .ok (.iload_n 1, 1) := dk_27 (dk_at dksJ6_copyOf_3_1 7 rfl rfl)
theorem dJ6_copyOf_3_32 : decode cJ6_copyOf_3 32 = .ok (.invokestatic 304, 3) := dk_184 1 48 (dk_at dksJ6_copyOf_3_1 8 rfl rfl)
theorem dJ6_copyOf_3_35 : decode cJ6_copyOf_3 35 = .ok (.invokestatic 150, 3) := dk_184 0 150 (dk_at dksJ6_copyOf_3_1 11 rfl rfl)
theorem dJ6_copyOf_3_38 : decode cJ6_copyOf_3 38 = .ok (.aload_n 3, 1) := dk_45 (dk_at dksJ6_copyOf_3_1 14 rfl rfl)
theorem dJ6_copyOf_3_39 : decode cJ6_copyOf_3 39 = .ok (.areturn, 1) := dk_176 (dk_at dksJ6_copyOf_3_1 15 rfl rfl)
abbrev cJ6_fill : ByteArray := prog_51_method_103_code
def yJ6_fill : MethodName := ⟨RJ6, "fill", "([II)V"⟩
def dkwJ6_fill_0 : List UInt8 := [3, 61, 42, 190, 62, 28, 29, 162, 0, 13, 42, 28, 27, 79, 132, 2, 1, 167, 255, 244, 177]
abbrev dktJ6_fill_0 : List UInt8 := dkwJ6_fill_0 ++ []
theorem dksJ6_fill_0 : cJ6_fill.data.toList.drop 0 = dktJ6_fill_0 := by decide +kernel
theorem dJ6_fill_0 : decode cJ6_fill 0 = .ok (.iconst 0, 1) := dk_3 (dk_at dksJ6_fill_0 0 rfl rfl)
theorem dJ6_fill_1 : decode cJ6_fill 1 = .ok (.istore_n 2, 1) := dk_61 (dk_at dksJ6_fill_0 1 rfl rfl)
theorem dJ6_fill_2 : decode cJ6_fill 2 = .ok (.aload_n 0, 1) := dk_42 (dk_at dksJ6_fill_0 2 rfl rfl)
theorem dJ6_fill_3 : decode cJ6_fill 3 = .ok (.arraylength, 1) := dk_190 (dk_at dksJ6_fill_0 3 rfl rfl)
theorem dJ6_fill_4 : decode cJ6_fill 4 = .ok (.istore_n 3, 1) := dk_62 (dk_at dksJ6_fill_0 4 rfl rfl)
theorem dJ6_fill_5 : decode cJ6_fill 5 = .ok (.iload_n 2, 1) := dk_28 (dk_at dksJ6_fill_0 5 rfl rfl)
theorem dJ6_fill_6 : decode cJ6_fill 6 = .ok (.iload_n 3, 1) := dk_29 (dk_at dksJ6_fill_0 6 rfl rfl)
theorem dJ6_fill_7 : decode cJ6_fill 7 = .ok (.if_icmp .ge 13, 3) := dk_162 0 13 (dk_at dksJ6_fill_0 7 rfl rfl)
theorem dJ6_fill_10 : decode cJ6_fill 10 = .ok (.aload_n 0, 1) := dk_42 (dk_at dksJ6_fill_0 10 rfl rfl)
theorem dJ6_fill_11 : decode cJ6_fill 11 = .ok (.iload_n 2, 1) := dk_28 (dk_at dksJ6_fill_0 11 rfl rfl)
theorem dJ6_fill_12 : decode cJ6_fill 12 = .ok (.iload_n 1, 1) := dk_27 (dk_at dksJ6_fill_0 12 rfl rfl)
theorem dJ6_fill_13 : decode cJ6_fill 13 = .ok (.iastore, 1) := dk_79 (dk_at dksJ6_fill_0 13 rfl rfl)
theorem dJ6_fill_14 : decode cJ6_fill 14 = .ok (.iinc 2 1, 3) := dk_132 2 1 (dk_at dksJ6_fill_0 14 rfl rfl)
theorem dJ6_fill_17 : decode cJ6_fill 17 = .ok (.goto (-12), 3) := dk_167 255 244 (dk_at dksJ6_fill_0 17 rfl rfl)
theorem dJ6_fill_20 : decode cJ6_fill 20 = .ok (.return_, 1) := dk_177 (dk_at dksJ6_fill_0 20 rfl rfl)
theorem q167 : (Jvm.Cond.initialized "java/util/Arrays") ∈ lw_all := lw_g (lw_at lw_m1 10 rfl) rfl
theorem q383 : (Jvm.Cond.static ({ cls := "java/util/Arrays", name := "copyOf", desc := "([BI)[B" } : Jvm.MethodName)) ∈ lw_all := lw_g (lw_at lw_m1 226 rfl) rfl
theorem q384 : (Jvm.Cond.code ({ cls := "java/util/Arrays", name := "copyOf", desc := "([BI)[B" } : Jvm.MethodName) prog_51_method_121_code (3 : Nat) (Option.some (Jvm.ClassFile.FieldType.array Jvm.ClassFile.FieldType.byte))) ∈ lw_all := lw_g (lw_at lw_m1 227 rfl) rfl
theorem q385 : (Jvm.Cond.methodLink "java/util/Arrays" (310 : Nat) ({ cls := "[B", name := "clone", desc := "()Ljava/lang/Object;" } : Jvm.MethodName)) ∈ lw_all := lw_g (lw_at lw_m1 228 rfl) rfl
theorem q391 : (Jvm.Cond.classLink "java/util/Arrays" (311 : Nat) "[B") ∈ lw_all := lw_g (lw_at lw_m1 234 rfl) rfl
theorem q392 : (Jvm.Cond.methodLink "java/util/Arrays" (304 : Nat) ({ cls := "java/lang/Math", name := "min", desc := "(II)I" } : Jvm.MethodName)) ∈ lw_all := lw_g (lw_at lw_m1 235 rfl) rfl
theorem q395 : (Jvm.Cond.methodLink "java/util/Arrays" (150 : Nat) ({ cls := "java/lang/System", name := "arraycopy", desc := "(Ljava/lang/Object;ILjava/lang/Object;II)V" } : Jvm.MethodName)) ∈ lw_all := lw_g (lw_at lw_m1 238 rfl) rfl
theorem q479 : (Jvm.Cond.static ({ cls := "java/util/Arrays", name := "copyOfRange", desc := "([BII)[B" } : Jvm.MethodName)) ∈ lw_all := lw_g (lw_at lw_m2 82 rfl) rfl
theorem q480 : (Jvm.Cond.code ({ cls := "java/util/Arrays", name := "copyOfRange", desc := "([BII)[B" } : Jvm.MethodName) prog_51_method_132_code (3 : Nat) (Option.some (Jvm.ClassFile.FieldType.array Jvm.ClassFile.FieldType.byte))) ∈ lw_all := lw_g (lw_at lw_m2 83 rfl) rfl
theorem q481 : (Jvm.Cond.methodLink "java/util/Arrays" (339 : Nat) ({ cls := "java/util/Arrays", name := "copyOfRangeByte", desc := "([BII)[B" } : Jvm.MethodName)) ∈ lw_all := lw_g (lw_at lw_m2 84 rfl) rfl
theorem q482 : (Jvm.Cond.static ({ cls := "java/util/Arrays", name := "copyOfRangeByte", desc := "([BII)[B" } : Jvm.MethodName)) ∈ lw_all := lw_g (lw_at lw_m2 85 rfl) rfl
theorem q483 : (Jvm.Cond.code ({ cls := "java/util/Arrays", name := "copyOfRangeByte", desc := "([BII)[B" } : Jvm.MethodName) prog_51_method_133_code (5 : Nat) (Option.some (Jvm.ClassFile.FieldType.array Jvm.ClassFile.FieldType.byte))) ∈ lw_all := lw_g (lw_at lw_m2 86 rfl) rfl
theorem q484 : (Jvm.Cond.methodLink "java/util/Arrays" (343 : Nat) ({ cls := "java/util/Arrays", name := "checkLength", desc := "(II)V" } : Jvm.MethodName)) ∈ lw_all := lw_g (lw_at lw_m2 87 rfl) rfl
theorem q485 : (Jvm.Cond.static ({ cls := "java/util/Arrays", name := "checkLength", desc := "(II)V" } : Jvm.MethodName)) ∈ lw_all := lw_g (lw_at lw_m2 88 rfl) rfl
theorem q486 : (Jvm.Cond.code ({ cls := "java/util/Arrays", name := "checkLength", desc := "(II)V" } : Jvm.MethodName) prog_51_method_131_code (2 : Nat) (Option.none : Option Jvm.ClassFile.FieldType)) ∈ lw_all := lw_g (lw_at lw_m2 89 rfl) rfl
theorem q993 : (Jvm.Cond.static ({ cls := "java/util/Arrays", name := "copyOf", desc := "([Ljava/lang/Object;I)[Ljava/lang/Object;" } : Jvm.MethodName)) ∈ lw_all := lw_g (lw_at lw_m4 116 rfl) rfl
theorem q994 : (Jvm.Cond.code ({ cls := "java/util/Arrays", name := "copyOf", desc := "([Ljava/lang/Object;I)[Ljava/lang/Object;" } : Jvm.MethodName) prog_51_method_119_code (2 : Nat) (Option.some (Jvm.ClassFile.FieldType.array (Jvm.ClassFile.FieldType.object "java/lang/Object")))) ∈ lw_all := lw_g (lw_at lw_m4 117 rfl) rfl
theorem q995 : (Jvm.Cond.methodLink "java/util/Arrays" (86 : Nat) ({ cls := "java/lang/Object", name := "getClass", desc := "()Ljava/lang/Class;" } : Jvm.MethodName)) ∈ lw_all := lw_g (lw_at lw_m4 118 rfl) rfl
theorem q1026 : (Jvm.Cond.methodLink "java/util/Arrays" (300 : Nat) ({ cls := "java/util/Arrays", name := "copyOf", desc := "([Ljava/lang/Object;ILjava/lang/Class;)[Ljava/lang/Object;" } : Jvm.MethodName)) ∈ lw_all := lw_g (lw_at lw_m4 149 rfl) rfl
theorem q1027 : (Jvm.Cond.static ({ cls := "java/util/Arrays", name := "copyOf", desc := "([Ljava/lang/Object;ILjava/lang/Class;)[Ljava/lang/Object;" } : Jvm.MethodName)) ∈ lw_all := lw_g (lw_at lw_m4 150 rfl) rfl
theorem q1028 : (Jvm.Cond.code ({ cls := "java/util/Arrays", name := "copyOf", desc := "([Ljava/lang/Object;ILjava/lang/Class;)[Ljava/lang/Object;" } : Jvm.MethodName) prog_51_method_120_code (4 : Nat) (Option.some (Jvm.ClassFile.FieldType.array (Jvm.ClassFile.FieldType.object "java/lang/Object")))) ∈ lw_all := lw_g (lw_at lw_m4 151 rfl) rfl
theorem q1029 : (Jvm.Cond.classLink "java/util/Arrays" (110 : Nat) "[Ljava/lang/Object;") ∈ lw_all := lw_g (lw_at lw_m4 152 rfl) rfl
theorem q1030 : (Jvm.Cond.classLink "java/util/Arrays" (2 : Nat) "java/lang/Object") ∈ lw_all := lw_g (lw_at lw_m4 153 rfl) rfl
theorem q1559 : (Jvm.Cond.static ({ cls := "java/util/Arrays", name := "fill", desc := "([II)V" } : Jvm.MethodName)) ∈ lw_all := lw_g (lw_at lw_m6 202 rfl) rfl
theorem q1560 : (Jvm.Cond.code ({ cls := "java/util/Arrays", name := "fill", desc := "([II)V" } : Jvm.MethodName) prog_51_method_103_code (4 : Nat) (Option.none : Option Jvm.ClassFile.FieldType)) ∈ lw_all := lw_g (lw_at lw_m6 203 rfl) rfl
/-! java/lang/StringLatin1 -/
set_option maxRecDepth 100000
def RJ7 : String := "java/lang/StringLatin1"
abbrev cJ7_canEncode : ByteArray := prog_40_method_3_code
def yJ7_canEncode : MethodName := ⟨RJ7, "canEncode", "(C)Z"⟩
def dkwJ7_canEncode_0 : List UInt8 := [26, 17, 0, 255, 163, 0, 7, 4, 167, 0, 4, 3, 172]
abbrev dktJ7_canEncode_0 : List UInt8 := dkwJ7_canEncode_0 ++ []
theorem dksJ7_canEncode_0 : cJ7_canEncode.data.toList.drop 0 = dktJ7_canEncode_0 := by decide +kernel
theorem dJ7_canEncode_0 : decode cJ7_canEncode 0 = .ok (.iload_n 0, 1) := dk_26 (dk_at dksJ7_canEncode_0 0 rfl rfl)
theorem dJ7_canEncode_1 : decode cJ7_canEncode 1 = .ok (.sipush 255, 3) := dk_17 0 255 (dk_at dksJ7_canEncode_0 1 rfl rfl)
theorem dJ7_canEncode_4 : decode cJ7_canEncode 4 = .ok (.if_icmp .gt 7, 3) := dk_163 0 7 (dk_at dksJ7_canEncode_0 4 rfl rfl)
theorem dJ7_canEncode_7 : decode cJ7_canEncode 7 = .ok (.iconst 1, 1) := dk_4 (dk_at dksJ7_canEncode_0 7 rfl rfl)
theorem dJ7_canEncode_8 : decode cJ7_canEncode 8 = .ok (.goto 4, 3) := dk_167 0 4 (dk_at dksJ7_canEncode_0 8 rfl rfl)
theorem dJ7_canEncode_11 : decode cJ7_canEncode 11 = .ok (.iconst 0, 1) := dk_3 (dk_at dksJ7_canEncode_0 11 rfl rfl)
theorem dJ7_canEncode_12 : decode cJ7_canEncode 12 = .ok (.ireturn, 1) := dk_172 (dk_at dksJ7_canEncode_0 12 rfl rfl)
abbrev cJ7_inflate : ByteArray := prog_40_method_50_code
def yJ7_inflate : MethodName := ⟨RJ7, "inflate", "([BI[BII)V"⟩
def dkwJ7_inflate_0 : List UInt8 := [42, 27, 44, 29, 21, 4, 184, 0, 240, 177]
abbrev dktJ7_inflate_0 : List UInt8 := dkwJ7_inflate_0 ++ []
theorem dksJ7_inflate_0 : cJ7_inflate.data.toList.drop 0 = dktJ7_inflate_0 := by decide +kernel
theorem dJ7_inflate_0 : decode cJ7_inflate 0 = .ok (.aload_n 0, 1) := dk_42 (dk_at dksJ7_inflate_0 0 rfl rfl)
theorem dJ7_inflate_1 : decode cJ7_inflate 1 = .ok (.iload_n 1, 1) := dk_27 (dk_at dksJ7_inflate_0 1 rfl rfl)
theorem dJ7_inflate_2 : decode cJ7_inflate 2 = .ok (.aload_n 2, 1) := dk_44 (dk_at dksJ7_inflate_0 2 rfl rfl)
theorem dJ7_inflate_3 : decode cJ7_inflate 3 = .ok (.iload_n 3, 1) := dk_29 (dk_at dksJ7_inflate_0 3 rfl rfl)
theorem dJ7_inflate_4 : decode cJ7_inflate 4 = .ok (.iload 4, 2) := dk_21 4 (dk_at dksJ7_inflate_0 4 rfl rfl)
theorem dJ7_inflate_6 : decode cJ7_inflate 6 = .ok (.invokestatic 240, 3) := dk_184 0 240 (dk_at dksJ7_inflate_0 6 rfl rfl)
theorem dJ7_inflate_9 : decode cJ7_inflate 9 = .ok (.return_, 1) := dk_177 (dk_at dksJ7_inflate_0 9 rfl rfl)
abbrev cJ7_indexOf : ByteArray := prog_40_method_22_code
def yJ7_indexOf : MethodName := ⟨RJ7, "indexOf", "([BIII)I"⟩
def dkwJ7_indexOf_1 : List UInt8 := [161, 0, 5, 2, 172, 42, 27, 28, 29, 184, 0, 95, 172]
abbrev dktJ7_indexOf_1 : List UInt8 := dkwJ7_indexOf_1 ++ []
def dkwJ7_indexOf_0 : List UInt8 := [27, 184, 0, 88, 154, 0, 5, 2, 172, 28, 3, 184, 0, 92, 61, 29, 42, 190, 184, 0, 38, 62, 28, 29]
abbrev dktJ7_indexOf_0 : List UInt8 := dkwJ7_indexOf_0 ++ dktJ7_indexOf_1
theorem dksJ7_indexOf_0 : cJ7_indexOf.data.toList.drop 0 = dktJ7_indexOf_0 := by decide +kernel
theorem dksJ7_indexOf_1 : cJ7_indexOf.data.toList.drop 24 = dktJ7_indexOf_1 := dk_seg dksJ7_indexOf_0 24 rfl rfl
theorem dJ7_indexOf_0 : decode cJ7_indexOf 0 = .ok (.iload_n 1, 1) := dk_27 (dk_at dksJ7_indexOf_0 0 rfl rfl)
theorem dJ7_indexOf_1 : decode cJ7_indexOf 1 = .ok (.invokestatic 88, 3) := dk_184 0 88 (dk_at dksJ7_indexOf_0 1 rfl rfl)
theorem dJ7_indexOf_4 : decode cJ7_indexOf 4 = .ok (.ifCond .ne 5, 3) := dk_154 0 5 (dk_at dksJ7_indexOf_0 4 rfl rfl)
theorem dJ7_indexOf_7 : decode cJ7_indexOf 7 = .ok (.iconst (-1), 1) := dk_2 (dk_at dksJ7_indexOf_0 7 rfl rfl)
theorem dJ7_indexOf_8 : decode cJ7_indexOf 8 = .ok (.ireturn, 1) := dk_172 (dk_at dksJ7_indexOf_0 8 rfl rfl)
theorem dJ7_indexOf_9 : decode cJ7_indexOf 9 = .ok (.iload_n 2, 1) := dk_28 (dk_at dksJ7_indexOf_0 9 rfl rfl)
theorem dJ7_indexOf_10 : decode cJ7_indexOf 10 = .ok (.iconst 0, 1) := dk_3 (dk_at dksJ7_indexOf_0 10 rfl rfl)
theorem dJ7_indexOf_11 : decode cJ7_indexOf 11 = .ok (.invokestatic 92, 3) := dk_184 0 92 (dk_at dksJ7_indexOf_0 11 rfl rfl)
theorem dJ7_indexOf_14 : decode cJ7_indexOf 14 = .ok (.istore_n 2, 1) := dk_61 (dk_at dksJ7_indexOf_0 14 rfl rfl)
theorem dJ7_indexOf_15 : decode cJ7_indexOf 15 = .ok (.iload_n 3, 1) := dk_29 (dk_at dksJ7_indexOf_0 15 rfl rfl)
theorem dJ7_indexOf_16 : decode cJ7_indexOf 16 = .ok (.aload_n 0, 1) := dk_42 (dk_at dksJ7_indexOf_0 16 rfl rfl)
theorem dJ7_indexOf_17 : decode cJ7_indexOf 17 = .ok (.arraylength, 1) := dk_190 (dk_at dksJ7_indexOf_0 17 rfl rfl)
theorem dJ7_indexOf_18 : decode cJ7_indexOf 18 = .ok (.invokestatic 38, 3) := dk_184 0 38 (dk_at dksJ7_indexOf_0 18 rfl rfl)
theorem dJ7_indexOf_21 : decode cJ7_indexOf 21 = .ok (.istore_n 3, 1) := dk_62 (dk_at dksJ7_indexOf_0 21 rfl rfl)
theorem dJ7_indexOf_22 : decode cJ7_indexOf 22 = .ok (.iload_n 2, 1) := dk_28 (dk_at dksJ7_indexOf_0 22 rfl rfl)
theorem dJ7_indexOf_23 : decode cJ7_indexOf 23 = .ok (.iload_n 3, 1) := dk_29 (dk_at dksJ7_indexOf_0 23 rfl rfl)
theorem dJ7_indexOf_24 : decode cJ7_indexOf 24 = .ok (.if_icmp .lt 5, 3) := dk_161 0 5 (dk_at dksJ7_indexOf_1 0 rfl rfl)
theorem dJ7_indexOf_27 : decode cJ7_indexOf 27 = .ok (.iconst (-1), 1) := dk_2 (dk_at dksJ7_indexOf_1 3 rfl rfl)
theorem dJ7_indexOf_28 : decode cJ7_indexOf 28 = .ok (.ireturn, 1) := dk_172 (dk_at dksJ7_indexOf_1 4 rfl rfl)
theorem dJ7_indexOf_29 : decode cJ7_indexOf 29 = .ok (.aload_n 0, 1) := dk_42 (dk_at dksJ7_indexOf_1 5 rfl rfl)
theorem dJ7_indexOf_30 : decode cJ7_indexOf 30 = .ok (.iload_n 1, 1) := dk_27 (dk_at dksJ7_indexOf_1 6 rfl rfl)
theorem dJ7_indexOf_31 : decode cJ7_indexOf 31 = .ok (.iload_n 2, 1) := dk_28 (dk_at dksJ7_indexOf_1 7 rfl rfl)
theorem dJ7_indexOf_32 : decode cJ7_indexOf 32 = .ok (.iload_n 3, 1) := dk_29 (dk_at dksJ7_indexOf_1 8 rfl rfl)
theorem dJ7_indexOf_33 : decode cJ7_indexOf 33 = .ok (.invokestatic 95, 3) := dk_184 0 95 (dk_at dksJ7_indexOf_1 9 rfl rfl)
theorem dJ7_indexOf_36 : decode cJ7_indexOf 36 = .ok (.ireturn, 1) := dk_172 (dk_at dksJ7_indexOf_1 12 rfl rfl)
abbrev cJ7_canEncode_2 : ByteArray := prog_40_method_4_code
def yJ7_canEncode_2 : MethodName := ⟨RJ7, "canEncode", "(I)Z"⟩
def dkwJ7_canEncode_2_0 : List UInt8 := [26, 155, 0, 14, 26, 17, 0, 255, 163, 0, 7, 4, 167, 0, 4, 3, 172]
abbrev dktJ7_canEncode_2_0 : List UInt8 := dkwJ7_canEncode_2_0 ++ []
theorem dksJ7_canEncode_2_0 : cJ7_canEncode_2.data.toList.drop 0 = dktJ7_canEncode_2_0 := by decide +kernel
theorem dJ7_canEncode_2_0 : decode cJ7_canEncode_2 0 = .ok (.iload_n 0, 1) := dk_26 (dk_at dksJ7_canEncode_2_0 0 rfl rfl)
theorem dJ7_canEncode_2_1 : decode cJ7_canEncode_2 1 = .ok (.ifCond .lt 14, 3) := dk_155 0 14 (dk_at dksJ7_canEncode_2_0 1 rfl rfl)
theorem dJ7_canEncode_2_4 : decode cJ7_canEncode_2 4 = .ok (.iload_n 0, 1) := dk_26 (dk_at dksJ7_canEncode_2_0 4 rfl rfl)
theorem dJ7_canEncode_2_5 : decode cJ7_canEncode_2 5 = .ok (.sipush 255, 3) := dk_17 0 255 (dk_at dksJ7_canEncode_2_0 5 rfl rfl)
theorem dJ7_canEncode_2_8 : decode cJ7_canEncode_2 8 = .ok (.if_icmp .gt 7, 3) := dk_163 0 7 (dk_at dksJ7_canEncode_2_0 8 rfl rfl)
theorem dJ7_canEncode_2_11 : decode cJ7_canEncode_2 11 = .ok (.iconst 1, 1) := dk_4 (dk_at dksJ7_canEncode_2_0 11 rfl rfl)
theorem dJ7_canEncode_2_12 : decode cJ7_canEncode_2 12 = .ok (.goto 4, 3) := dk_167 0 4 (dk_at dksJ7_canEncode_2_0 12 rfl rfl)
theorem dJ7_canEncode_2_15 : decode cJ7_canEncode_2 15 = .ok (.iconst 0, 1) := dk_3 (dk_at dksJ7_canEncode_2_0 15 rfl rfl)
theorem dJ7_canEncode_2_16 : decode cJ7_canEncode_2 16 = .ok (.ireturn, 1) := dk_172 (dk_at dksJ7_canEncode_2_0 16 rfl rfl)
abbrev cJ7_indexOfChar : ByteArray := prog_40_method_23_code
def yJ7_indexOfChar : MethodName := ⟨RJ7, "indexOfChar", "([BIII)I"⟩
def dkwJ7_indexOfChar_1 : List UInt8 := [172, 132, 5, 1, 167, 255, 235, 2, 172]
abbrev dktJ7_indexOfChar_1 : List UInt8 := dkwJ7_indexOfChar_1 ++ []
def dkwJ7_indexOfChar_0 : List UInt8 := [27, 145, 54, 4, 28, 54, 5, 21, 5, 29, 162, 0, 21, 42, 21, 5, 51, 21, 4, 160, 0, 6, 21, 5]
abbrev dktJ7_indexOfChar_0 : List UInt8 := dkwJ7_indexOfChar_0 ++ dktJ7_indexOfChar_1
theorem dksJ7_indexOfChar_0 : cJ7_indexOfChar.data.toList.drop 0 = dktJ7_indexOfChar_0 := by decide +kernel
theorem dksJ7_indexOfChar_1 : cJ7_indexOfChar.data.toList.drop 24 = dktJ7_indexOfChar_1 := dk_seg dksJ7_indexOfChar_0 24 rfl rfl
theorem dJ7_indexOfChar_0 : decode cJ7_indexOfChar 0 = .ok (.iload_n 1, 1) := dk_27 (dk_at dksJ7_indexOfChar_0 0 rfl rfl)
theorem dJ7_indexOfChar_1 : decode cJ7_indexOfChar 1 = .ok (.i2b, 1) := dk_145 (dk_at dksJ7_indexOfChar_0 1 rfl rfl)
theorem dJ7_indexOfChar_2 : decode cJ7_indexOfChar 2 = .ok (.istore 4, 2) := dk_54 4 (dk_at dksJ7_indexOfChar_0 2 rfl rfl)
theorem dJ7_indexOfChar_4 : decode cJ7_indexOfChar 4 = .ok (.iload_n 2, 1) := dk_28 (dk_at dksJ7_indexOfChar_0 4 rfl rfl)
theorem dJ7_indexOfChar_5 : decode cJ7_indexOfChar 5 = .ok (.istore 5, 2) := dk_54 5 (dk_at dksJ7_indexOfChar_0 5 rfl rfl)
theorem dJ7_indexOfChar_7 : decode cJ7_indexOfChar 7 = .ok (.iload 5, 2) := dk_21 5 (dk_at dksJ7_indexOfChar_0 7 rfl rfl)
theorem dJ7_indexOfChar_9 : decode cJ7_indexOfChar 9 = .ok (.iload_n 3, 1) := dk_29 (dk_at dksJ7_indexOfChar_0 9 rfl rfl)
theorem dJ7_indexOfChar_10 : decode cJ7_indexOfChar 10 = .ok (.if_icmp .ge 21, 3) := dk_162 0 21 (dk_at dksJ7_indexOfChar_0 10 rfl rfl)
theorem dJ7_indexOfChar_13 : decode cJ7_indexOfChar 13 = .ok (.aload_n 0, 1) := dk_42 (dk_at dksJ7_indexOfChar_0 13 rfl rfl)
theorem dJ7_indexOfChar_14 : decode cJ7_indexOfChar 14 = .ok (.iload 5, 2) := dk_21 5 (dk_at dksJ7_indexOfChar_0 14 rfl rfl)
theorem dJ7_indexOfChar_16 : decode cJ7_indexOfChar 16 = .ok (.baload, 1) := dk_51 (dk_at dksJ7_indexOfChar_0 16 rfl rfl)
theorem dJ7_indexOfChar_17 : decode cJ7_indexOfChar 17 = .ok (.iload 4, 2) := dk_21 4 (dk_at dksJ7_indexOfChar_0 17 rfl rfl)
theorem dJ7_indexOfChar_19 : decode cJ7_indexOfChar 19 = .ok (.if_icmp .ne 6, 3) := dk_160 0 6 (dk_at dksJ7_indexOfChar_0 19 rfl rfl)
theorem dJ7_indexOfChar_22 : decode cJ7_indexOfChar 22 = .ok (.iload 5, 2) := dk_21 5 (dk_at dksJ7_indexOfChar_0 22 rfl rfl)
theorem dJ7_indexOfChar_24 : decode cJ7_indexOfChar 24 = .ok (.ireturn, 1) := dk_172 (dk_at dksJ7_indexOfChar_1 0 rfl rfl)
theorem dJ7_indexOfChar_25 : decode cJ7_indexOfChar 25 = .ok (.iinc 5 1, 3) := dk_132 5 1 (dk_at dksJ7_indexOfChar_1 1 rfl rfl)
theorem dJ7_indexOfChar_28 : decode cJ7_indexOfChar 28 = .ok (.goto (-21), 3) := dk_167 255 235 (dk_at dksJ7_indexOfChar_1 4 rfl rfl)
theorem dJ7_indexOfChar_31 : decode cJ7_indexOfChar 31 = .ok (.iconst (-1), 1) := dk_2 (dk_at dksJ7_indexOfChar_1 7 rfl rfl)
theorem dJ7_indexOfChar_32 : decode cJ7_indexOfChar 32 = .ok (.ireturn, 1) := dk_172 (dk_at dksJ7_indexOfChar_1 8 rfl rfl)
abbrev cJ7_equals : ByteArray := prog_40_method_13_code
def yJ7_equals : MethodName := ⟨RJ7, "equals", "([B[B)Z"⟩
def dkwJ7_equals_1 : List UInt8 := [3, 172, 132, 2, 1, 167, 255, 236, 4, 172, 3, 172]
abbrev dktJ7_equals_1 : List UInt8 := dkwJ7_equals_1 ++ []
def dkwJ7_equals_0 : List UInt8 := [42, 190, 43, 190, 160, 0, 30, 3, 61, 28, 42, 190, 162, 0, 20, 42, 28, 51, 43, 28, 51, 159, 0, 5]
abbrev dktJ7_equals_0 : List UInt8 := dkwJ7_equals_0 ++ dktJ7_equals_1
theorem dksJ7_equals_0 : cJ7_equals.data.toList.drop 0 = dktJ7_equals_0 := by decide +kernel
theorem dksJ7_equals_1 : cJ7_equals.data.toList.drop 24 = dktJ7_equals_1 := dk_seg dksJ7_equals_0 24 rfl rfl
theorem dJ7_equals_0 : decode cJ7_equals 0 = .ok (.aload_n 0, 1) := dk_42 (dk_at dksJ7_equals_0 0 rfl rfl)
theorem dJ7_equals_1 : decode cJ7_equals 1 = .ok (.arraylength, 1) := dk_190 (dk_at dksJ7_equals_0 1 rfl rfl)
theorem dJ7_equals_2 : decode cJ7_equals 2 = .ok (.aload_n 1, 1) := dk_43 (dk_at dksJ7_equals_0 2 rfl rfl)
theorem dJ7_equals_3 : decode cJ7_equals 3 = .ok (.arraylength, 1) := dk_190 (dk_at dksJ7_equals_0 3 rfl rfl)
theorem dJ7_equals_4 : decode cJ7_equals 4 = .ok (.if_icmp .ne 30, 3) := dk_160 0 30 (dk_at dksJ7_equals_0 4 rfl rfl)
theorem dJ7_equals_7 : decode cJ7_equals 7 = .ok (.iconst 0, 1) := dk_3 (dk_at dksJ7_equals_0 7 rfl rfl)
theorem dJ7_equals_8 : decode cJ7_equals 8 = .ok (.istore_n 2, 1) := dk_61 (dk_at dksJ7_equals_0 8 rfl rfl)
theorem dJ7_equals_9 : decode cJ7_equals 9 = .ok (.iload_n 2, 1) := dk_28 (dk_at dksJ7_equals_0 9 rfl rfl)
theorem dJ7_equals_10 : decode cJ7_equals 10 = .ok (.aload_n 0, 1) := dk_42 (dk_at dksJ7_equals_0 10 rfl rfl)
theorem dJ7_equals_11 : decode cJ7_equals 11 = .ok (.arraylength, 1) := dk_190 (dk_at dksJ7_equals_0 11 rfl rfl)
theorem dJ7_equals_12 : decode cJ7_equals 12 = .ok (.if_icmp .ge 20, 3) := dk_162 0 20 (dk_at dksJ7_equals_0 12 rfl rfl)
theorem dJ7_equals_15 : decode cJ7_equals 15 = .ok (.aload_n 0, 1) := dk_42 (dk_at dksJ7_equals_0 15 rfl rfl)
theorem dJ7_equals_16 : decode cJ7_equals 16 = .ok (.iload_n 2, 1) := dk_28 (dk_at dksJ7_equals_0 16 rfl rfl)
theorem dJ7_equals_17 : decode cJ7_equals 17 = .ok (.baload, 1) := dk_51 (dk_at dksJ7_equals_0 17 rfl rfl)
theorem dJ7_equals_18 : decode cJ7_equals 18 = .ok (.aload_n 1, 1) := dk_43 (dk_at dksJ7_equals_0 18 rfl rfl)
theorem dJ7_equals_19 : decode cJ7_equals 19 = .ok (.iload_n 2, 1) := dk_28 (dk_at dksJ7_equals_0 19 rfl rfl)
theorem dJ7_equals_20 : decode cJ7_equals 20 = .ok (.baload, 1) := dk_51 (dk_at dksJ7_equals_0 20 rfl rfl)
theorem dJ7_equals_21 : decode cJ7_equals 21 = .ok (.if_icmp .eq 5, 3) := dk_159 0 5 (dk_at dksJ7_equals_0 21 rfl rfl)
theorem dJ7_equals_24 : decode cJ7_equals 24 = .ok (.iconst 0, 1) := dk_3 (dk_at dksJ7_equals_1 0 rfl rfl)
theorem dJ7_equals_25 : decode cJ7_equals 25 = .ok (.ireturn, 1) := dk_172 (dk_at dksJ7_equals_1 1 rfl rfl)
theorem dJ7_equals_26 : decode cJ7_equals 26 = .ok (.iinc 2 1, 3) := dk_132 2 1 (dk_at dksJ7_equals_1 2 rfl rfl)
theorem dJ7_equals_29 : decode cJ7_equals 29 = .ok (.goto (-20), 3) := dk_167 255 236 (dk_at dksJ7_equals_1 5 rfl rfl)
theorem dJ7_equals_32 : decode cJ7_equals 32 = .ok (.iconst 1, 1) := dk_4 (dk_at dksJ7_equals_1 8 rfl rfl)
theorem dJ7_equals_33 : decode cJ7_equals 33 = .ok (.ireturn, 1) := dk_172 (dk_at dksJ7_equals_1 9 rfl rfl)
theorem dJ7_equals_34 : decode cJ7_equals 34 = .ok (.iconst 0, 1) := dk_3 (dk_at dksJ7_equals_1 10 rfl rfl)
theorem dJ7_equals_35 : decode cJ7_equals 35 = .ok (.ireturn, 1) := dk_172 (dk_at dksJ7_equals_1 11 rfl rfl)
abbrev cJ7_hashCode : ByteArray := prog_40_method_21_code
def yJ7_hashCode : MethodName := ⟨RJ7, "hashCode", "([B)I"⟩
def dkwJ7_hashCode_2 : List UInt8 := [3, 167, 0, 22, 42, 3, 51, 17, 0, 255, 126, 167, 0, 12, 42, 3, 42, 190, 3, 7, 184, 0, 84, 172]
abbrev dktJ7_hashCode_2 : List UInt8 := dkwJ7_hashCode_2 ++ []
def dkwJ7_hashCode_1 : List UInt8 := [171, 0, 0, 0, 0, 40, 0, 0, 0, 2, 0, 0, 0, 0, 0, 0, 0, 26, 0, 0, 0, 1, 0, 0, 0, 30]
abbrev dktJ7_hashCode_1 : List UInt8 := dkwJ7_hashCode_1 ++ dktJ7_hashCode_2
def dkwJ7_hashCode_0 : List UInt8 := [42, 190]
abbrev dktJ7_hashCode_0 : List UInt8 := dkwJ7_hashCode_0 ++ dktJ7_hashCode_1
theorem dksJ7_hashCode_0 : cJ7_hashCode.data.toList.drop 0 = dktJ7_hashCode_0 := by decide +kernel
theorem dksJ7_hashCode_1 : cJ7_hashCode.data.toList.drop 2 = dktJ7_hashCode_1 := dk_seg dksJ7_hashCode_0 2 rfl rfl
theorem dksJ7_hashCode_2 : cJ7_hashCode.data.toList.drop 28 = dktJ7_hashCode_2 := dk_seg dksJ7_hashCode_1 26 rfl rfl
theorem dJ7_hashCode_0 : decode cJ7_hashCode 0 = .ok (.aload_n 0, 1) := dk_42 (dk_at dksJ7_hashCode_0 0 rfl rfl)
theorem dJ7_hashCode_1 : decode cJ7_hashCode 1 = .ok (.arraylength, 1) := dk_190 (dk_at dksJ7_hashCode_0 1 rfl rfl)
theorem dJ7_hashCode_2 : decode cJ7_hashCode 2 = .ok (.lookupswitch 40 #[(0, 26), (1, 30)], 26) := by decide +kernel
theorem dJ7_hashCode_28 : decode cJ7_hashCode 28 = .ok (.iconst 0, 1) := dk_3 (dk_at dksJ7_hashCode_2 0 rfl rfl)
theorem dJ7_hashCode_29 : decode cJ7_hashCode 29 = .ok (.goto 22, 3) := dk_167 0 22 (dk_at dksJ7_hashCode_2 1 rfl rfl)
theorem dJ7_hashCode_32 : decode cJ7_hashCode 32 = .ok (.aload_n 0, 1) := dk_42 (dk_at dksJ7_hashCode_2 4 rfl rfl)
theorem dJ7_hashCode_33 : decode cJ7_hashCode 33 = .ok (.iconst 0, 1) := dk_3 (dk_at dksJ7_hashCode_2 5 rfl rfl)
theorem dJ7_hashCode_34 : decode cJ7_hashCode 34 = .ok (.baload, 1) := dk_51 (dk_at dksJ7_hashCode_2 6 rfl rfl)
theorem dJ7_hashCode_35 : decode cJ7_hashCode 35 = .ok (.sipush 255, 3) := dk_17 0 255 (dk_at dksJ7_hashCode_2 7 rfl rfl)
theorem dJ7_hashCode_38 : decode cJ7_hashCode 38 = .ok (.iand, 1) := dk_126 (dk_at dksJ7_hashCode_2 10 rfl rfl)
theorem dJ7_hashCode_39 : decode cJ7_hashCode 39 = .ok (.goto 12, 3) := dk_167 0 12 (dk_at dksJ7_hashCode_2 11 rfl rfl)
theorem dJ7_hashCode_42 : decode cJ7_hashCode 42 = .ok (.aload_n 0, 1) := dk_42 (dk_at dksJ7_hashCode_2 14 rfl rfl)
theorem dJ7_hashCode_43 : decode cJ7_hashCode 43 = .ok (.iconst 0, 1) := dk_3 (dk_at dksJ7_hashCode_2 15 rfl rfl)
theorem dJ7_hashCode_44 : decode cJ7_hashCode 44 = .ok (.aload_n 0, 1) := dk_42 (dk_at dksJ7_hashCode_2 16 rfl rfl)
theorem dJ7_hashCode_45 : decode cJ7_hashCode 45 = .ok (.arraylength, 1) := dk_190 (dk_at dksJ7_hashCode_2 17 rfl rfl)
theorem dJ7_hashCode_46 : decode cJ7_hashCode 46 = .ok (.iconst 0, 1) := dk_3 (dk_at dksJ7_hashCode_2 18 rfl rfl)
theorem dJ7_hashCode_47 : decode cJ7_hashCode 47 = .ok (.iconst 4, 1) := dk_7 (dk_at dksJ7_hashCode_2 19 rfl rfl)
theorem dJ7_hashCode_48 : decode cJ7_hashCode 48 = .ok (.invokestatic 84, 3) := dk_184 0 84 (dk_at dksJ7_hashCode_2 20 rfl rfl)
theorem dJ7_hashCode_51 : decode cJ7_hashCode 51 = .ok (.ireturn, 1) := dk_172 (dk_at dksJ7_hashCode_2 23 rfl rfl)
theorem q169 : (Jvm.Cond.initialized "java/lang/StringLatin1") ∈ lw_all := lw_g (lw_at lw_m1 12 rfl) rfl
theorem q404 : (Jvm.Cond.static ({ cls := "java/lang/StringLatin1", name := "canEncode", desc := "(C)Z" } : Jvm.MethodName)) ∈ lw_all := lw_g (lw_at lw_m2 7 rfl) rfl
theorem q405 : (Jvm.Cond.code ({ cls := "java/lang/StringLatin1", name := "canEncode", desc := "(C)Z" } : Jvm.MethodName) prog_40_method_3_code (1 : Nat) (Option.some Jvm.ClassFile.FieldType.boolean)) ∈ lw_all := lw_g (lw_at lw_m2 8 rfl) rfl
theorem q411 : (Jvm.Cond.static ({ cls := "java/lang/StringLatin1", name := "inflate", desc := "([BI[BII)V" } : Jvm.MethodName)) ∈ lw_all := lw_g (lw_at lw_m2 14 rfl) rfl
theorem q412 : (Jvm.Cond.code ({ cls := "java/lang/StringLatin1", name := "inflate", desc := "([BI[BII)V" } : Jvm.MethodName) prog_40_method_50_code (5 : Nat) (Option.none : Option Jvm.ClassFile.FieldType)) ∈ lw_all := lw_g (lw_at lw_m2 15 rfl) rfl
theorem q413 : (Jvm.Cond.methodLink "java/lang/StringLatin1" (240 : Nat) ({ cls := "java/lang/StringUTF16", name := "inflate", desc := "([BI[BII)V" } : Jvm.MethodName)) ∈ lw_all := lw_g (lw_at lw_m2 16 rfl) rfl
theorem q536 : (Jvm.Cond.static ({ cls := "java/lang/StringLatin1", name := "indexOf", desc := "([BIII)I" } : Jvm.MethodName)) ∈ lw_all := lw_g (lw_at lw_m2 139 rfl) rfl
theorem q537 : (Jvm.Cond.code ({ cls := "java/lang/StringLatin1", name := "indexOf", desc := "([BIII)I" } : Jvm.MethodName) prog_40_method_22_code (4 : Nat) (Option.some Jvm.ClassFile.FieldType.int)) ∈ lw_all := lw_g (lw_at lw_m2 140 rfl) rfl
theorem q538 : (Jvm.Cond.methodLink "java/lang/StringLatin1" (88 : Nat) ({ cls := "java/lang/StringLatin1", name := "canEncode", desc := "(I)Z" } : Jvm.MethodName)) ∈ lw_all := lw_g (lw_at lw_m2 141 rfl) rfl
theorem q539 : (Jvm.Cond.static ({ cls := "java/lang/StringLatin1", name := "canEncode", desc := "(I)Z" } : Jvm.MethodName)) ∈ lw_all := lw_g (lw_at lw_m2 142 rfl) rfl
theorem q540 : (Jvm.Cond.code ({ cls := "java/lang/StringLatin1", name := "canEncode", desc := "(I)Z" } : Jvm.MethodName) prog_40_method_4_code (1 : Nat) (Option.some Jvm.ClassFile.FieldType.boolean)) ∈ lw_all := lw_g (lw_at lw_m2 143 rfl) rfl
theorem q541 : (Jvm.Cond.methodLink "java/lang/StringLatin1" (92 : Nat) ({ cls := "java/lang/Math", name := "max", desc := "(II)I" } : Jvm.MethodName)) ∈ lw_all := lw_g (lw_at lw_m2 144 rfl) rfl
theorem q542 : (Jvm.Cond.methodLink "java/lang/StringLatin1" (38 : Nat) ({ cls := "java/lang/Math", name := "min", desc := "(II)I" } : Jvm.MethodName)) ∈ lw_all := lw_g (lw_at lw_m2 145 rfl) rfl
theorem q543 : (Jvm.Cond.methodLink "java/lang/StringLatin1" (95 : Nat) ({ cls := "java/lang/StringLatin1", name := "indexOfChar", desc := "([BIII)I" } : Jvm.MethodName)) ∈ lw_all := lw_g (lw_at lw_m2 146 rfl) rfl
theorem q544 : (Jvm.Cond.static ({ cls := "java/lang/StringLatin1", name := "indexOfChar", desc := "([BIII)I" } : Jvm.MethodName)) ∈ lw_all := lw_g (lw_at lw_m2 147 rfl) rfl
theorem q545 : (Jvm.Cond.code ({ cls := "java/lang/StringLatin1", name := "indexOfChar", desc := "([BIII)I" } : Jvm.MethodName) prog_40_method_23_code (6 : Nat) (Option.some Jvm.ClassFile.FieldType.int)) ∈ lw_all := lw_g (lw_at lw_m2 148 rfl) rfl
theorem q703 : (Jvm.Cond.static ({ cls := "java/lang/StringLatin1", name := "equals", desc := "([B[B)Z" } : Jvm.MethodName)) ∈ lw_all := lw_g (lw_at lw_m3 66 rfl) rfl
theorem q704 : (Jvm.Cond.code ({ cls := "java/lang/StringLatin1", name := "equals", desc := "([B[B)Z" } : Jvm.MethodName) prog_40_method_13_code (3 : Nat) (Option.some Jvm.ClassFile.FieldType.boolean)) ∈ lw_all := lw_g (lw_at lw_m3 67 rfl) rfl
theorem q798 : (Jvm.Cond.static ({ cls := "java/lang/StringLatin1", name := "hashCode", desc := "([B)I" } : Jvm.MethodName)) ∈ lw_all := lw_g (lw_at lw_m3 161 rfl) rfl
theorem q799 : (Jvm.Cond.code ({ cls := "java/lang/StringLatin1", name := "hashCode", desc := "([B)I" } : Jvm.MethodName) prog_40_method_21_code (1 : Nat) (Option.some Jvm.ClassFile.FieldType.int)) ∈ lw_all := lw_g (lw_at lw_m3 162 rfl) rfl
theorem q800 : (Jvm.Cond.methodLink "java/lang/StringLatin1" (84 : Nat) ({ cls := "jdk/internal/util/ArraysSupport", name := "vectorizedHashCode", desc := "(Ljava/lang/Object;IIII)I" } : Jvm.MethodName)) ∈ lw_all := lw_g (lw_at lw_m3 163 rfl) rfl
/-! jdk/internal/util/Preconditions -/
set_option maxRecDepth 100000
def RJ8 : String := "jdk/internal/util/Preconditions"
abbrev cJ8_checkFromIndexSize : ByteArray := prog_61_method_13_code
def yJ8_checkFromIndexSize : MethodName := ⟨RJ8, "checkFromIndexSize", "(IIILjava/util/function/BiFunction;)I"⟩
def dkwJ8_checkFromIndexSize_1 : List UInt8 := [172]
abbrev dktJ8_checkFromIndexSize_1 : List UInt8 := dkwJ8_checkFromIndexSize_1 ++ []
def dkwJ8_checkFromIndexSize_0 : List UInt8 := [28, 26, 128, 27, 128, 155, 0, 10, 27, 28, 26, 100, 164, 0, 11, 45, 26, 27, 28, 184, 0, 103, 191, 26]
abbrev dktJ8_checkFromIndexSize_0 : List UInt8 := dkwJ8_checkFromIndexSize_0 ++ dktJ8_checkFromIndexSize_1
theorem dksJ8_checkFromIndexSize_0 : cJ8_checkFromIndexSize.data.toList.drop 0 = dktJ8_checkFromIndexSize_0 := by decide +kernel
theorem dksJ8_checkFromIndexSize_1 : cJ8_checkFromIndexSize.data.toList.drop 24 = dktJ8_checkFromIndexSize_1 := dk_seg dksJ8_checkFromIndexSize_0 24 rfl rfl
theorem dJ8_checkFromIndexSize_0 : decode cJ8_checkFromIndexSize 0 = .ok (.iload_n 2, 1) := dk_28 (dk_at dksJ8_checkFromIndexSize_0 0 rfl rfl)
theorem dJ8_checkFromIndexSize_1 : decode cJ8_checkFromIndexSize 1 = .ok (.iload_n 0, 1) := dk_26 (dk_at dksJ8_checkFromIndexSize_0 1 rfl rfl)
theorem dJ8_checkFromIndexSize_2 : decode cJ8_checkFromIndexSize 2 = .ok (.ior, 1) := dk_128 (dk_at dksJ8_checkFromIndexSize_0 2 rfl rfl)
theorem dJ8_checkFromIndexSize_3 : decode cJ8_checkFromIndexSize 3 = .ok (.iload_n 1, 1) := dk_27 (dk_at dksJ8_checkFromIndexSize_0 3 rfl rfl)
theorem dJ8_checkFromIndexSize_4 : decode cJ8_checkFromIndexSize 4 = .ok (.ior, 1) := dk_128 (dk_at dksJ8_checkFromIndexSize_0 4 rfl rfl)
theorem dJ8_checkFromIndexSize_5 : decode cJ8_checkFromIndexSize 5 = .ok (.ifCond .lt 10, 3) := dk_155 0 10 (dk_at dksJ8_checkFromIndexSize_0 5 rfl rfl)
theorem dJ8_checkFromIndexSize_8 : decode cJ8_checkFromIndexSize 8 = .ok (.iload_n 1, 1) := dk_27 (dk_at dksJ8_checkFromIndexSize_0 8 rfl rfl)
theorem dJ8_checkFromIndexSize_9 : decode cJ8_checkFromIndexSize 9 = .ok (.iload_n 2, 1) := dk_28 (dk_at dksJ8_checkFromIndexSize_0 9 rfl rfl)
theorem dJ8_checkFromIndexSize_10 : decode cJ8_checkFromIndexSize 10 = .ok (.iload_n 0, 1) := dk_26 (dk_at dksJ8_checkFromIndexSize_0 10 rfl rfl)
theorem dJ8_checkFromIndexSize_11 : decode cJ8_checkFromIndexSize 11 = .ok (.isub, 1) := dk_100 (dk_at dksJ8_checkFromIndexSize_0 11 rfl rfl)
theorem dJ8_checkFromIndexSize_12 : decode cJ8_checkFromIndexSize 12 = .ok (.if_icmp .le 11, 3) := dk_164 0 11 (dk_at dksJ8_checkFromIndexSize_0 12 rfl rfl)
theorem dJ8_checkFromIndexSize_15 : decode cJ8_checkFromIndexSize 15 = .ok (.aload_n 3, 1) := dk_45 (dk_at dksJ8_checkFromIndexSize_0 15 rfl rfl)
theorem dJ8_checkFromIndexSize_16 : decode cJ8_checkFromIndexSize 16 = .ok (.iload_n 0, 1) := dk_26 (dk_at dksJ8_checkFromIndexSize_0 16 rfl rfl)
theorem dJ8_checkFromIndexSize_17 : decode cJ8_checkFromIndexSize 17 = .ok (.iload_n 1, 1) := dk_27 (dk_at dksJ8_checkFromIndexSize_0 17 rfl rfl)
theorem dJ8_checkFromIndexSize_18 : decode cJ8_checkFromIndexSize 18 = .ok (.iload_n 2, 1) := dk_28 (dk_at dksJ8_checkFromIndexSize_0 18 rfl rfl)
theorem dJ8_checkFromIndexSize_19 : decode cJ8_checkFromIndexSize 19 = .ok (.invokestatic 103, 3) := dk_184 0 103 (dk_at dksJ8_checkFromIndexSize_0 19 rfl rfl)
theorem dJ8_checkFromIndexSize_22 : decode cJ8_checkFromIndexSize 22 = .ok (.athrow, 1) := dk_191 (dk_at dksJ8_checkFromIndexSize_0 22 rfl rfl)
theorem dJ8_checkFromIndexSize_23 : decode cJ8_checkFromIndexSize 23 = .ok (.iload_n 0, 1) := dk_26 (dk_at dksJ8_checkFromIndexSize_0 23 rfl rfl)
theorem dJ8_checkFromIndexSize_24 : decode cJ8_checkFromIndexSize 24 = .ok (.ireturn, 1) := dk_172 (dk_at dksJ8_checkFromIndexSize_1 0 rfl rfl)
abbrev cJ8_checkIndex : ByteArray := prog_61_method_11_code
def yJ8_checkIndex : MethodName := ⟨RJ8, "checkIndex", "(IILjava/util/function/BiFunction;)I"⟩
def dkwJ8_checkIndex_0 : List UInt8 := [26, 155, 0, 8, 26, 27, 161, 0, 10, 44, 26, 27, 184, 0, 95, 191, 26, 172]
abbrev dktJ8_checkIndex_0 : List UInt8 := dkwJ8_checkIndex_0 ++ []
theorem dksJ8_checkIndex_0 : cJ8_checkIndex.data.toList.drop 0 = dktJ8_checkIndex_0 := by decide +kernel
theorem dJ8_checkIndex_0 : decode cJ8_checkIndex 0 = .ok (.iload_n 0, 1) := dk_26 (dk_at dksJ8_checkIndex_0 0 rfl rfl)
theorem dJ8_checkIndex_1 : decode cJ8_checkIndex 1 = .ok (.ifCond .lt 8, 3) := dk_155 0 8 (dk_at dksJ8_checkIndex_0 1 rfl rfl)
theorem dJ8_checkIndex_4 : decode cJ8_checkIndex 4 = .ok (.iload_n 0, 1) := dk_26 (dk_at dksJ8_checkIndex_0 4 rfl rfl)
theorem dJ8_checkIndex_5 : decode cJ8_checkIndex 5 = .ok (.iload_n 1, 1) := dk_27 (dk_at dksJ8_checkIndex_0 5 rfl rfl)
theorem dJ8_checkIndex_6 : decode cJ8_checkIndex 6 = .ok (.if_icmp .lt 10, 3) := dk_161 0 10 (dk_at dksJ8_checkIndex_0 6 rfl rfl)
theorem dJ8_checkIndex_9 : decode cJ8_checkIndex 9 = .ok (.aload_n 2, 1) := dk_44 (dk_at dksJ8_checkIndex_0 9 rfl rfl)
theorem dJ8_checkIndex_10 : decode cJ8_checkIndex 10 = .ok (.iload_n 0, 1) := dk_26 (dk_at dksJ8_checkIndex_0 10 rfl rfl)
theorem dJ8_checkIndex_11 : decode cJ8_checkIndex 11 = .ok (.iload_n 1, 1) := dk_27 (dk_at dksJ8_checkIndex_0 11 rfl rfl)
theorem dJ8_checkIndex_12 : decode cJ8_checkIndex 12 = .ok (.invokestatic 95, 3) := dk_184 0 95 (dk_at dksJ8_checkIndex_0 12 rfl rfl)
theorem dJ8_checkIndex_15 : decode cJ8_checkIndex 15 = .ok (.athrow, 1) := dk_191 (dk_at dksJ8_checkIndex_0 15 rfl rfl)
theorem dJ8_checkIndex_16 : decode cJ8_checkIndex 16 = .ok (.iload_n 0, 1) := dk_26 (dk_at dksJ8_checkIndex_0 16 rfl rfl)
theorem dJ8_checkIndex_17 : decode cJ8_checkIndex 17 = .ok (.ireturn, 1) := dk_172 (dk_at dksJ8_checkIndex_0 17 rfl rfl)
abbrev cJ8_checkFromToIndex : ByteArray := prog_61_method_12_code
def yJ8_checkFromToIndex : MethodName := ⟨RJ8, "checkFromToIndex", "(IIILjava/util/function/BiFunction;)I"⟩
def dkwJ8_checkFromToIndex_0 : List UInt8 := [26, 155, 0, 13, 26, 27, 163, 0, 8, 27, 28, 164, 0, 11, 45, 26, 27, 28, 184, 0, 99, 191, 26, 172]
abbrev dktJ8_checkFromToIndex_0 : List UInt8 := dkwJ8_checkFromToIndex_0 ++ []
theorem dksJ8_checkFromToIndex_0 : cJ8_checkFromToIndex.data.toList.drop 0 = dktJ8_checkFromToIndex_0 := by decide +kernel
theorem dJ8_checkFromToIndex_0 : decode cJ8_checkFromToIndex 0 = .ok (.iload_n 0, 1) := dk_26 (dk_at dksJ8_checkFromToIndex_0 0 rfl rfl)
theorem dJ8_checkFromToIndex_1 : decode cJ8_checkFromToIndex 1 = .ok (.ifCond .lt 13, 3) := dk_155 0 13 (dk_at dksJ8_checkFromToIndex_0 1 rfl rfl)
theorem dJ8_checkFromToIndex_4 : decode cJ8_checkFromToIndex 4 = .ok (.iload_n 0, 1) := dk_26 (dk_at dksJ8_checkFromToIndex_0 4 rfl rfl)
theorem dJ8_checkFromToIndex_5 : decode cJ8_checkFromToIndex 5 = .ok (.iload_n 1, 1) := dk_27 (dk_at dksJ8_checkFromToIndex_0 5 rfl rfl)
theorem dJ8_checkFromToIndex_6 : decode cJ8_checkFromToIndex 6 = .ok (.if_icmp .gt 8, 3) := dk_163 0 8 (dk_at dksJ8_checkFromToIndex_0 6 rfl rfl)
theorem dJ8_checkFromToIndex_9 : decode cJ8_checkFromToIndex 9 = .ok (.iload_n 1, 1) := dk_27 (dk_at dksJ8_checkFromToIndex_0 9 rfl rfl)
theorem dJ8_checkFromToIndex_10 : decode cJ8_checkFromToIndex 10 = .ok (.iload_n 2, 1) := dk_28 (dk_at dksJ8_checkFromToIndex_0 10 rfl rfl)
theorem dJ8_checkFromToIndex_11 : decode cJ8_checkFromToIndex 11 = .ok (.if_icmp .le 11, 3) := dk_164 0 11 (dk_at dksJ8_checkFromToIndex_0 11 rfl rfl)
theorem dJ8_checkFromToIndex_14 : decode cJ8_checkFromToIndex 14 = .ok (.aload_n 3, 1) := dk_45 (dk_at dksJ8_checkFromToIndex_0 14 rfl rfl)
theorem dJ8_checkFromToIndex_15 : decode cJ8_checkFromToIndex 15 = .ok (.iload_n 0, 1) := dk_26 (dk_at dksJ8_checkFromToIndex_0 15 rfl rfl)
theorem dJ8_checkFromToIndex_16 : decode cJ8_checkFromToIndex 16 = .ok (.iload_n 1, 1) := dk_27 (dk_at dksJ8_checkFromToIndex_0 16 rfl rfl)
theorem dJ8_checkFromToIndex_17 : decode cJ8_checkFromToIndex 17 = .ok (.iload_n 2, 1) := dk_28 (dk_at dksJ8_checkFromToIndex_0 17 rfl rfl)
theorem dJ8_checkFromToIndex_18 : decode cJ8_checkFromToIndex 18 = .ok (.invokestatic 99, 3) := dk_184 0 99 (dk_at dksJ8_checkFromToIndex_0 18 rfl rfl)
theorem dJ8_checkFromToIndex_21 : decode cJ8_checkFromToIndex 21 = .ok (.athrow, 1) := dk_191 (dk_at dksJ8_checkFromToIndex_0 21 rfl rfl)
theorem dJ8_checkFromToIndex_22 : decode cJ8_checkFromToIndex 22 = .ok (.iload_n 0, 1) := dk_26 (dk_at dksJ8_checkFromToIndex_0 22 rfl rfl)
theorem dJ8_checkFromToIndex_23 : decode cJ8_checkFromToIndex 23 = .ok (.ireturn, 1) := dk_172 (dk_at dksJ8_checkFromToIndex_0 23 rfl rfl)
theorem q170 : (Jvm.Cond.initialized "jdk/internal/util/Preconditions") ∈ lw_all := lw_g (lw_at lw_m1 13 rfl) rfl
theorem q426 : (Jvm.Cond.laysStatic "jdk/internal/util/Preconditions" "SIOOBE_FORMATTER" "Ljava/util/function/BiFunction;") ∈ lw_tbl := lw_at lw_m2 29 rfl
theorem q428 : (Jvm.Cond.static ({ cls := "jdk/internal/util/Preconditions", name := "checkFromIndexSize", desc := "(IIILjava/util/function/BiFunction;)I" } : Jvm.MethodName)) ∈ lw_all := lw_g (lw_at lw_m2 31 rfl) rfl
theorem q429 : (Jvm.Cond.code ({ cls := "jdk/internal/util/Preconditions", name := "checkFromIndexSize", desc := "(IIILjava/util/function/BiFunction;)I" } : Jvm.MethodName) prog_61_method_13_code (4 : Nat) (Option.some Jvm.ClassFile.FieldType.int)) ∈ lw_all := lw_g (lw_at lw_m2 32 rfl) rfl
theorem q449 : (Jvm.Cond.static ({ cls := "jdk/internal/util/Preconditions", name := "checkIndex", desc := "(IILjava/util/function/BiFunction;)I" } : Jvm.MethodName)) ∈ lw_all := lw_g (lw_at lw_m2 52 rfl) rfl
theorem q450 : (Jvm.Cond.code ({ cls := "jdk/internal/util/Preconditions", name := "checkIndex", desc := "(IILjava/util/function/BiFunction;)I" } : Jvm.MethodName) prog_61_method_11_code (3 : Nat) (Option.some Jvm.ClassFile.FieldType.int)) ∈ lw_all := lw_g (lw_at lw_m2 53 rfl) rfl
theorem q562 : (Jvm.Cond.static ({ cls := "jdk/internal/util/Preconditions", name := "checkFromToIndex", desc := "(IIILjava/util/function/BiFunction;)I" } : Jvm.MethodName)) ∈ lw_all := lw_g (lw_at lw_m2 165 rfl) rfl
theorem q563 : (Jvm.Cond.code ({ cls := "jdk/internal/util/Preconditions", name := "checkFromToIndex", desc := "(IIILjava/util/function/BiFunction;)I" } : Jvm.MethodName) prog_61_method_12_code (4 : Nat) (Option.some Jvm.ClassFile.FieldType.int)) ∈ lw_all := lw_g (lw_at lw_m2 166 rfl) rfl
/-! java/lang/Character -/
set_option maxRecDepth 100000
def RJ9 : String := "java/lang/Character"
abbrev cJ9_isValidCodePoint : ByteArray := prog_28_method_11_code
def yJ9_isValidCodePoint : MethodName := ⟨RJ9, "isValidCodePoint", "(I)Z"⟩
def dkwJ9_isValidCodePoint_0 : List UInt8 := [26, 16, 16, 124, 60, 27, 16, 17, 162, 0, 7, 4, 167, 0, 4, 3, 172]
abbrev dktJ9_isValidCodePoint_0 : List UInt8 := dkwJ9_isValidCodePoint_0 ++ []
theorem dksJ9_isValidCodePoint_0 : cJ9_isValidCodePoint.data.toList.drop 0 = dktJ9_isValidCodePoint_0 := by decide +kernel
theorem dJ9_isValidCodePoint_0 : decode cJ9_isValidCodePoint 0 = .ok (.iload_n 0, 1) := dk_26 (dk_at dksJ9_isValidCodePoint_0 0 rfl rfl)
theorem dJ9_isValidCodePoint_1 : decode cJ9_isValidCodePoint 1 = .ok (.bipush 16, 2) := dk_16 16 (dk_at dksJ9_isValidCodePoint_0 1 rfl rfl)
theorem dJ9_isValidCodePoint_3 : decode cJ9_isValidCodePoint 3 = .ok (.iushr, 1) := dk_124 (dk_at dksJ9_isValidCodePoint_0 3 rfl rfl)
theorem dJ9_isValidCodePoint_4 : decode cJ9_isValidCodePoint 4 = .ok (.istore_n 1, 1) := dk_60 (dk_at dksJ9_isValidCodePoint_0 4 rfl rfl)
theorem dJ9_isValidCodePoint_5 : decode cJ9_isValidCodePoint 5 = .ok (.iload_n 1, 1) := dk_27 (dk_at dksJ9_isValidCodePoint_0 5 rfl rfl)
theorem dJ9_isValidCodePoint_6 : decode cJ9_isValidCodePoint 6 = .ok (.bipush 17, 2) := dk_16 17 (dk_at dksJ9_isValidCodePoint_0 6 rfl rfl)
theorem dJ9_isValidCodePoint_8 : decode cJ9_isValidCodePoint 8 = .ok (.if_icmp .ge 7, 3) := dk_162 0 7 (dk_at dksJ9_isValidCodePoint_0 8 rfl rfl)
theorem dJ9_isValidCodePoint_11 : decode cJ9_isValidCodePoint 11 = .ok (.iconst 1, 1) := dk_4 (dk_at dksJ9_isValidCodePoint_0 11 rfl rfl)
theorem dJ9_isValidCodePoint_12 : decode cJ9_isValidCodePoint 12 = .ok (.goto 4, 3) := dk_167 0 4 (dk_at dksJ9_isValidCodePoint_0 12 rfl rfl)
theorem dJ9_isValidCodePoint_15 : decode cJ9_isValidCodePoint 15 = .ok (.iconst 0, 1) := dk_3 (dk_at dksJ9_isValidCodePoint_0 15 rfl rfl)
theorem dJ9_isValidCodePoint_16 : decode cJ9_isValidCodePoint 16 = .ok (.ireturn, 1) := dk_172 (dk_at dksJ9_isValidCodePoint_0 16 rfl rfl)
abbrev cJ9_highSurrogate : ByteArray := prog_28_method_28_code
def yJ9_highSurrogate : MethodName := ⟨RJ9, "highSurrogate", "(I)C"⟩
def dkwJ9_highSurrogate_0 : List UInt8 := [26, 16, 10, 124, 18, 110, 96, 146, 172]
abbrev dktJ9_highSurrogate_0 : List UInt8 := dkwJ9_highSurrogate_0 ++ []
theorem dksJ9_highSurrogate_0 : cJ9_highSurrogate.data.toList.drop 0 = dktJ9_highSurrogate_0 := by decide +kernel
theorem dJ9_highSurrogate_0 : decode cJ9_highSurrogate 0 = .ok (.iload_n 0, 1) := dk_26 (dk_at dksJ9_highSurrogate_0 0 rfl rfl)
theorem dJ9_highSurrogate_1 : decode cJ9_highSurrogate 1 = .ok (.bipush 10, 2) := dk_16 10 (dk_at dksJ9_highSurrogate_0 1 rfl rfl)
theorem dJ9_highSurrogate_3 : decode cJ9_highSurrogate 3 = .ok (.iushr, 1) := dk_124 (dk_at dksJ9_highSurrogate_0 3 rfl rfl)
theorem dJ9_highSurrogate_4 : decode cJ9_highSurrogate 4 = .ok (.ldc 110, 2) := dk_18 110 (dk_at dksJ9_highSurrogate_0 4 rfl rfl)
theorem dJ9_highSurrogate_6 : decode cJ9_highSurrogate 6 = .ok (.iadd, 1) := dk_96 (dk_at dksJ9_highSurrogate_0 6 rfl rfl)
theorem dJ9_highSurrogate_7 : decode cJ9_highSurrogate 7 = .ok (.i2c, 1) := dk_146 (dk_at dksJ9_highSurrogate_0 7 rfl rfl)
theorem dJ9_highSurrogate_8 : decode cJ9_highSurrogate 8 = .ok (.ireturn, 1) := dk_172 (dk_at dksJ9_highSurrogate_0 8 rfl rfl)
abbrev cJ9_lowSurrogate : ByteArray := prog_28_method_29_code
def yJ9_lowSurrogate : MethodName := ⟨RJ9, "lowSurrogate", "(I)C"⟩
def dkwJ9_lowSurrogate_0 : List UInt8 := [26, 17, 3, 255, 126, 18, 76, 96, 146, 172]
abbrev dktJ9_lowSurrogate_0 : List UInt8 := dkwJ9_lowSurrogate_0 ++ []
theorem dksJ9_lowSurrogate_0 : cJ9_lowSurrogate.data.toList.drop 0 = dktJ9_lowSurrogate_0 := by decide +kernel
theorem dJ9_lowSurrogate_0 : decode cJ9_lowSurrogate 0 = .ok (.iload_n 0, 1) := dk_26 (dk_at dksJ9_lowSurrogate_0 0 rfl rfl)
theorem dJ9_lowSurrogate_1 : decode cJ9_lowSurrogate 1 = .ok (.sipush 1023, 3) := dk_17 3 255 (dk_at dksJ9_lowSurrogate_0 1 rfl rfl)
theorem dJ9_lowSurrogate_4 : decode cJ9_lowSurrogate 4 = .ok (.iand, 1) := dk_126 (dk_at dksJ9_lowSurrogate_0 4 rfl rfl)
theorem dJ9_lowSurrogate_5 : decode cJ9_lowSurrogate 5 = .ok (.ldc 76, 2) := dk_18 76 (dk_at dksJ9_lowSurrogate_0 5 rfl rfl)
theorem dJ9_lowSurrogate_7 : decode cJ9_lowSurrogate 7 = .ok (.iadd, 1) := dk_96 (dk_at dksJ9_lowSurrogate_0 7 rfl rfl)
theorem dJ9_lowSurrogate_8 : decode cJ9_lowSurrogate 8 = .ok (.i2c, 1) := dk_146 (dk_at dksJ9_lowSurrogate_0 8 rfl rfl)
theorem dJ9_lowSurrogate_9 : decode cJ9_lowSurrogate 9 = .ok (.ireturn, 1) := dk_172 (dk_at dksJ9_lowSurrogate_0 9 rfl rfl)
theorem q171 : (Jvm.Cond.initialized "java/lang/Character") ∈ lw_all := lw_g (lw_at lw_m1 14 rfl) rfl
theorem q571 : (Jvm.Cond.static ({ cls := "java/lang/Character", name := "isValidCodePoint", desc := "(I)Z" } : Jvm.MethodName)) ∈ lw_all := lw_g (lw_at lw_m2 174 rfl) rfl
theorem q572 : (Jvm.Cond.code ({ cls := "java/lang/Character", name := "isValidCodePoint", desc := "(I)Z" } : Jvm.MethodName) prog_28_method_11_code (2 : Nat) (Option.some Jvm.ClassFile.FieldType.boolean)) ∈ lw_all := lw_g (lw_at lw_m2 175 rfl) rfl
theorem q574 : (Jvm.Cond.static ({ cls := "java/lang/Character", name := "highSurrogate", desc := "(I)C" } : Jvm.MethodName)) ∈ lw_all := lw_g (lw_at lw_m2 177 rfl) rfl
theorem q575 : (Jvm.Cond.code ({ cls := "java/lang/Character", name := "highSurrogate", desc := "(I)C" } : Jvm.MethodName) prog_28_method_28_code (1 : Nat) (Option.some Jvm.ClassFile.FieldType.char)) ∈ lw_all := lw_g (lw_at lw_m2 178 rfl) rfl
theorem q576 : (Jvm.Cond.constant "java/lang/Character" (110 : Nat) (55232 : Int32)) ∈ lw_all := lw_g (lw_at lw_m2 179 rfl) rfl
theorem q578 : (Jvm.Cond.static ({ cls := "java/lang/Character", name := "lowSurrogate", desc := "(I)C" } : Jvm.MethodName)) ∈ lw_all := lw_g (lw_at lw_m2 181 rfl) rfl
theorem q579 : (Jvm.Cond.code ({ cls := "java/lang/Character", name := "lowSurrogate", desc := "(I)C" } : Jvm.MethodName) prog_28_method_29_code (1 : Nat) (Option.some Jvm.ClassFile.FieldType.char)) ∈ lw_all := lw_g (lw_at lw_m2 182 rfl) rfl
theorem q580 : (Jvm.Cond.constant "java/lang/Character" (76 : Nat) (56320 : Int32)) ∈ lw_all := lw_g (lw_at lw_m2 183 rfl) rfl
/-! java/util/AbstractCollection -/
set_option maxRecDepth 100000
def RJ10 : String := "java/util/AbstractCollection"
abbrev cJ10_init : ByteArray := prog_47_method_1_code
def yJ10_init : MethodName := ⟨RJ10, "<init>", "()V"⟩
theorem dJ10_init_0 : decode cJ10_init 0 = .ok (.aload_n 0, 1) := by decide +kernel
theorem dJ10_init_1 : decode cJ10_init 1 = .ok (.invokespecial 1, 3) := by decide +kernel
theorem dJ10_init_4 : decode cJ10_init 4 = .ok (.return_, 1) := by decide +kernel
theorem q173 : (Jvm.Cond.initialized "java/util/AbstractCollection") ∈ lw_all := lw_g (lw_at lw_m1 16 rfl) rfl
theorem q642 : (Jvm.Cond.instanceMethod ({ cls := "java/util/AbstractCollection", name := "<init>", desc := "()V" } : Jvm.MethodName)) ∈ lw_all := lw_g (lw_at lw_m3 5 rfl) rfl
theorem q643 : (Jvm.Cond.code ({ cls := "java/util/AbstractCollection", name := "<init>", desc := "()V" } : Jvm.MethodName) prog_47_method_1_code (1 : Nat) (Option.none : Option Jvm.ClassFile.FieldType)) ∈ lw_all := lw_g (lw_at lw_m3 6 rfl) rfl
theorem q644 : (Jvm.Cond.methodLink "java/util/AbstractCollection" (1 : Nat) ({ cls := "java/lang/Object", name := "<init>", desc := "()V" } : Jvm.MethodName)) ∈ lw_all := lw_g (lw_at lw_m3 7 rfl) rfl
/-! java/util/AbstractList -/
set_option maxRecDepth 100000
def RJ11 : String := "java/util/AbstractList"
abbrev cJ11_init : ByteArray := prog_48_method_1_code
def yJ11_init : MethodName := ⟨RJ11, "<init>", "()V"⟩
def dkwJ11_init_0 : List UInt8 := [42, 183, 0, 1, 42, 3, 181, 0, 7, 177]
abbrev dktJ11_init_0 : List UInt8 := dkwJ11_init_0 ++ []
theorem dksJ11_init_0 : cJ11_init.data.toList.drop 0 = dktJ11_init_0 := by decide +kernel
theorem dJ11_init_0 : decode cJ11_init 0 = .ok (.aload_n 0, 1) := dk_42 (dk_at dksJ11_init_0 0 rfl rfl)
theorem dJ11_init_1 : decode cJ11_init 1 = .ok (.invokespecial 1, 3) := dk_183 0 1 (dk_at dksJ11_init_0 1 rfl rfl)
theorem dJ11_init_4 : decode cJ11_init 4 = .ok (.aload_n 0, 1) := dk_42 (dk_at dksJ11_init_0 4 rfl rfl)
theorem dJ11_init_5 : decode cJ11_init 5 = .ok (.iconst 0, 1) := dk_3 (dk_at dksJ11_init_0 5 rfl rfl)
theorem dJ11_init_6 : decode cJ11_init 6 = .ok (.putfield 7, 3) := dk_181 0 7 (dk_at dksJ11_init_0 6 rfl rfl)
theorem dJ11_init_9 : decode cJ11_init 9 = .ok (.return_, 1) := dk_177 (dk_at dksJ11_init_0 9 rfl rfl)
theorem q174 : (Jvm.Cond.initialized "java/util/AbstractList") ∈ lw_all := lw_g (lw_at lw_m1 17 rfl) rfl
theorem q639 : (Jvm.Cond.instanceMethod ({ cls := "java/util/AbstractList", name := "<init>", desc := "()V" } : Jvm.MethodName)) ∈ lw_all := lw_g (lw_at lw_m3 2 rfl) rfl
theorem q640 : (Jvm.Cond.code ({ cls := "java/util/AbstractList", name := "<init>", desc := "()V" } : Jvm.MethodName) prog_48_method_1_code (1 : Nat) (Option.none : Option Jvm.ClassFile.FieldType)) ∈ lw_all := lw_g (lw_at lw_m3 3 rfl) rfl
theorem q641 : (Jvm.Cond.methodLink "java/util/AbstractList" (1 : Nat) ({ cls := "java/util/AbstractCollection", name := "<init>", desc := "()V" } : Jvm.MethodName)) ∈ lw_all := lw_g (lw_at lw_m3 4 rfl) rfl
theorem q653 : (Jvm.Cond.fieldLink "java/util/AbstractList" (7 : Nat) "java/util/AbstractList" "modCount" "I") ∈ lw_all := lw_g (lw_at lw_m3 16 rfl) rfl
theorem q662 : (Jvm.Cond.soleField "java/util/AbstractList" "modCount") ∈ lw_all := lw_g (lw_at lw_m3 25 rfl) rfl
/-! java/util/ArrayList -/
set_option maxRecDepth 100000
def RJ12 : String := "java/util/ArrayList"
def TJ12 : u_T := fun k => match k with
  | 0 => ("java/util/AbstractList", "modCount", "I", false)
  | 1 => ("java/util/ArrayList", "elementData", "[Ljava/lang/Object;", false)
  | _ => ("java/util/ArrayList", "size", "I", false)
def tyJ12 : Nat → FieldType := fun k => match k with
  | 0 => .int
  | 1 => .array (.object "java/lang/Object")
  | _ => .int
abbrev wsJ120 : List Cond := u_ws RJ12 TJ12 3
theorem nmJ12 : ∀ a, a < 3 → ∀ b, b < 3 → a ≠ b → (TJ12 a).2.1 ≠ (TJ12 b).2.1 := by decide +kernel
theorem tyJ12_ok : ∀ k, k < 3 → parseFieldDescriptor (TJ12 k).2.2.1 = some (tyJ12 k) := by decide +kernel
abbrev cJ12_init : ByteArray := prog_49_method_1_code
def yJ12_init : MethodName := ⟨RJ12, "<init>", "(I)V"⟩
def dkwJ12_init_2 : List UInt8 := [182, 0, 25, 27, 182, 0, 29, 182, 0, 32, 183, 0, 36, 191, 177]
abbrev dktJ12_init_2 : List UInt8 := dkwJ12_init_2 ++ []
def dkwJ12_init_1 : List UInt8 := [178, 0, 15, 181, 0, 9, 167, 0, 30, 187, 0, 18, 89, 187, 0, 20, 89, 183, 0, 22, 18, 23]
abbrev dktJ12_init_1 : List UInt8 := dkwJ12_init_1 ++ dktJ12_init_2
def dkwJ12_init_0 : List UInt8 := [42, 183, 0, 1, 27, 158, 0, 14, 42, 27, 189, 0, 7, 181, 0, 9, 167, 0, 44, 27, 154, 0, 13, 42]
abbrev dktJ12_init_0 : List UInt8 := dkwJ12_init_0 ++ dktJ12_init_1
theorem dksJ12_init_0 : cJ12_init.data.toList.drop 0 = dktJ12_init_0 := by decide +kernel
theorem dksJ12_init_1 : cJ12_init.data.toList.drop 24 = dktJ12_init_1 := dk_seg dksJ12_init_0 24 rfl rfl
theorem dksJ12_init_2 : cJ12_init.data.toList.drop 46 = dktJ12_init_2 := dk_seg dksJ12_init_1 22 rfl rfl
theorem dJ12_init_0 : decode cJ12_init 0 = .ok (.aload_n 0, 1) := dk_42 (dk_at dksJ12_init_0 0 rfl rfl)
theorem dJ12_init_1 : decode cJ12_init 1 = .ok (.invokespecial 1, 3) := dk_183 0 1 (dk_at dksJ12_init_0 1 rfl rfl)
theorem dJ12_init_4 : decode cJ12_init 4 = .ok (.iload_n 1, 1) := dk_27 (dk_at dksJ12_init_0 4 rfl rfl)
theorem dJ12_init_5 : decode cJ12_init 5 = .ok (.ifCond .le 14, 3) := dk_158 0 14 (dk_at dksJ12_init_0 5 rfl rfl)
theorem dJ12_init_8 : decode cJ12_init 8 = .ok (.aload_n 0, 1) := dk_42 (dk_at dksJ12_init_0 8 rfl rfl)
theorem dJ12_init_9 : decode cJ12_init 9 = .ok (.iload_n 1, 1) := dk_27 (dk_at dksJ12_init_0 9 rfl rfl)
theorem dJ12_init_10 : decode cJ12_init 10 = .ok (.anewarray 7, 3) := dk_189 0 7 (dk_at dksJ12_init_0 10 rfl rfl)
theorem dJ12_init_13 : decode cJ12_init 13 = .ok (.putfield 9, 3) := dk_181 0 9 (dk_at dksJ12_init_0 13 rfl rfl)
theorem dJ12_init_16 : decode cJ12_init 16 = .ok (.goto 44, 3) := dk_167 0 44 (dk_at dksJ12_init_0 16 rfl rfl)
theorem dJ12_init_19 : decode cJ12_init 19 = .ok (.iload_n 1, 1) := dk_27 (dk_at dksJ12_init_0 19 rfl rfl)
theorem dJ12_init_20 : decode cJ12_init 20 = .ok (.ifCond .ne 13, 3) := dk_154 0 13 (dk_at dksJ12_init_0 20 rfl rfl)
theorem dJ12_init_23 : decode cJ12_init 23 = .ok (.aload_n 0, 1) := dk_42 (dk_at dksJ12_init_0 23 rfl rfl)
theorem dJ12_init_24 : decode cJ12_init 24 = .ok (.getstatic 15, 3) := dk_178 0 15 (dk_at dksJ12_init_1 0 rfl rfl)
theorem dJ12_init_27 : decode cJ12_init 27 = .ok (.putfield 9, 3) := dk_181 0 9 (dk_at dksJ12_init_1 3 rfl rfl)
theorem dJ12_init_30 : decode cJ12_init 30 = .ok (.goto 30, 3) := dk_167 0 30 (dk_at dksJ12_init_1 6 rfl rfl)
theorem dJ12_init_33 : decode cJ12_init 33 = .ok (.new 18, 3) := dk_187 0 18 (dk_at dksJ12_init_1 9 rfl rfl)
theorem dJ12_init_36 : decode cJ12_init 36 = .ok (.dup, 1) := dk_89 (dk_at dksJ12_init_1 12 rfl rfl)
theorem dJ12_init_37 : decode cJ12_init 37 = .ok (.new 20, 3) := dk_187 0 20 (dk_at dksJ12_init_1 13 rfl rfl)
theorem dJ12_init_40 : decode cJ12_init 40 = .ok (.dup, 1) := dk_89 (dk_at dksJ12_init_1 16 rfl rfl)
theorem dJ12_init_41 : decode cJ12_init 41 = .ok (.invokespecial 22, 3) := dk_183 0 22 (dk_at dksJ12_init_1 17 rfl rfl)
theorem dJ12_init_44 : decode cJ12_init 44 = .ok (.ldc 23, 2) := dk_18 23 (dk_at dksJ12_init_1 20 rfl rfl)
theorem dJ12_init_46 : decode cJ12_init 46 = .ok (.invokevirtual 25, 3) := dk_182 0 25 (dk_at dksJ12_init_2 0 rfl rfl)
theorem dJ12_init_49 : decode cJ12_init 49 = .ok (.iload_n 1, 1) := dk_27 (dk_at dksJ12_init_2 3 rfl rfl)
theorem dJ12_init_50 : decode cJ12_init 50 = .ok (.invokevirtual 29, 3) := dk_182 0 29 (dk_at dksJ12_init_2 4 rfl rfl)
theorem dJ12_init_53 : decode cJ12_init 53 = .ok (.invokevirtual 32, 3) := dk_182 0 32 (dk_at dksJ12_init_2 7 rfl rfl)
theorem dJ12_init_56 : decode cJ12_init 56 = .ok (.invokespecial 36, 3) := dk_183 0 36 (dk_at dksJ12_init_2 10 rfl rfl)
theorem dJ12_init_59 : decode cJ12_init 59 = .ok (.athrow, 1) := dk_191 (dk_at dksJ12_init_2 13 rfl rfl)
theorem dJ12_init_60 : decode cJ12_init 60 = .ok (.return_, 1) := dk_177 (dk_at dksJ12_init_2 14 rfl rfl)
abbrev cJ12_size : ByteArray := prog_49_method_8_code
def yJ12_size : MethodName := ⟨RJ12, "size", "()I"⟩
theorem dJ12_size_0 : decode cJ12_size 0 = .ok (.aload_n 0, 1) := by decide +kernel
theorem dJ12_size_1 : decode cJ12_size 1 = .ok (.getfield 48, 3) := by decide +kernel
theorem dJ12_size_4 : decode cJ12_size 4 = .ok (.ireturn, 1) := by decide +kernel
abbrev cJ12_get : ByteArray := prog_49_method_20_code
def yJ12_get : MethodName := ⟨RJ12, "get", "(I)Ljava/lang/Object;"⟩
def dkwJ12_get_0 : List UInt8 := [27, 42, 180, 0, 48, 184, 0, 118, 87, 42, 27, 182, 0, 123, 176]
abbrev dktJ12_get_0 : List UInt8 := dkwJ12_get_0 ++ []
theorem dksJ12_get_0 : cJ12_get.data.toList.drop 0 = dktJ12_get_0 := by decide +kernel
theorem dJ12_get_0 : decode cJ12_get 0 = .ok (.iload_n 1, 1) := dk_27 (dk_at dksJ12_get_0 0 rfl rfl)
theorem dJ12_get_1 : decode cJ12_get 1 = .ok (.aload_n 0, 1) := dk_42 (dk_at dksJ12_get_0 1 rfl rfl)
theorem dJ12_get_2 : decode cJ12_get 2 = .ok (.getfield 48, 3) := dk_180 0 48 (dk_at dksJ12_get_0 2 rfl rfl)
theorem dJ12_get_5 : decode cJ12_get 5 = .ok (.invokestatic 118, 3) := dk_184 0 118 (dk_at dksJ12_get_0 5 rfl rfl)
theorem dJ12_get_8 : decode cJ12_get 8 = .ok (.pop, 1) := dk_87 (dk_at dksJ12_get_0 8 rfl rfl)
theorem dJ12_get_9 : decode cJ12_get 9 = .ok (.aload_n 0, 1) := dk_42 (dk_at dksJ12_get_0 9 rfl rfl)
theorem dJ12_get_10 : decode cJ12_get 10 = .ok (.iload_n 1, 1) := dk_27 (dk_at dksJ12_get_0 10 rfl rfl)
theorem dJ12_get_11 : decode cJ12_get 11 = .ok (.invokevirtual 123, 3) := dk_182 0 123 (dk_at dksJ12_get_0 11 rfl rfl)
theorem dJ12_get_14 : decode cJ12_get 14 = .ok (.areturn, 1) := dk_176 (dk_at dksJ12_get_0 14 rfl rfl)
abbrev cJ12_elementData : ByteArray := prog_49_method_18_code
def yJ12_elementData : MethodName := ⟨RJ12, "elementData", "(I)Ljava/lang/Object;"⟩
def dkwJ12_elementData_0 : List UInt8 := [42, 180, 0, 9, 27, 50, 176]
abbrev dktJ12_elementData_0 : List UInt8 := dkwJ12_elementData_0 ++ []
theorem dksJ12_elementData_0 : cJ12_elementData.data.toList.drop 0 = dktJ12_elementData_0 := by decide +kernel
theorem dJ12_elementData_0 : decode cJ12_elementData 0 = .ok (.aload_n 0, 1) := dk_42 (dk_at dksJ12_elementData_0 0 rfl rfl)
theorem dJ12_elementData_1 : decode cJ12_elementData 1 = .ok (.getfield 9, 3) := dk_180 0 9 (dk_at dksJ12_elementData_0 1 rfl rfl)
theorem dJ12_elementData_4 : decode cJ12_elementData 4 = .ok (.iload_n 1, 1) := dk_27 (dk_at dksJ12_elementData_0 4 rfl rfl)
theorem dJ12_elementData_5 : decode cJ12_elementData 5 = .ok (.aaload, 1) := dk_50 (dk_at dksJ12_elementData_0 5 rfl rfl)
theorem dJ12_elementData_6 : decode cJ12_elementData 6 = .ok (.areturn, 1) := dk_176 (dk_at dksJ12_elementData_0 6 rfl rfl)
abbrev cJ12_contains : ByteArray := prog_49_method_10_code
def yJ12_contains : MethodName := ⟨RJ12, "contains", "(Ljava/lang/Object;)Z"⟩
def dkwJ12_contains_0 : List UInt8 := [42, 43, 182, 0, 85, 155, 0, 7, 4, 167, 0, 4, 3, 172]
abbrev dktJ12_contains_0 : List UInt8 := dkwJ12_contains_0 ++ []
theorem dksJ12_contains_0 : cJ12_contains.data.toList.drop 0 = dktJ12_contains_0 := by decide +kernel
theorem dJ12_contains_0 : decode cJ12_contains 0 = .ok (.aload_n 0, 1) := dk_42 (dk_at dksJ12_contains_0 0 rfl rfl)
theorem dJ12_contains_1 : decode cJ12_contains 1 = .ok (.aload_n 1, 1) := dk_43 (dk_at dksJ12_contains_0 1 rfl rfl)
theorem dJ12_contains_2 : decode cJ12_contains 2 = .ok (.invokevirtual 85, 3) := dk_182 0 85 (dk_at dksJ12_contains_0 2 rfl rfl)
theorem dJ12_contains_5 : decode cJ12_contains 5 = .ok (.ifCond .lt 7, 3) := dk_155 0 7 (dk_at dksJ12_contains_0 5 rfl rfl)
theorem dJ12_contains_8 : decode cJ12_contains 8 = .ok (.iconst 1, 1) := dk_4 (dk_at dksJ12_contains_0 8 rfl rfl)
theorem dJ12_contains_9 : decode cJ12_contains 9 = .ok (.goto 4, 3) := dk_167 0 4 (dk_at dksJ12_contains_0 9 rfl rfl)
theorem dJ12_contains_12 : decode cJ12_contains 12 = .ok (.iconst 0, 1) := dk_3 (dk_at dksJ12_contains_0 12 rfl rfl)
theorem dJ12_contains_13 : decode cJ12_contains 13 = .ok (.ireturn, 1) := dk_172 (dk_at dksJ12_contains_0 13 rfl rfl)
abbrev cJ12_indexOf : ByteArray := prog_49_method_11_code
def yJ12_indexOf : MethodName := ⟨RJ12, "indexOf", "(Ljava/lang/Object;)I"⟩
def dkwJ12_indexOf_0 : List UInt8 := [42, 43, 3, 42, 180, 0, 48, 182, 0, 89, 172]
abbrev dktJ12_indexOf_0 : List UInt8 := dkwJ12_indexOf_0 ++ []
theorem dksJ12_indexOf_0 : cJ12_indexOf.data.toList.drop 0 = dktJ12_indexOf_0 := by decide +kernel
theorem dJ12_indexOf_0 : decode cJ12_indexOf 0 = .ok (.aload_n 0, 1) := dk_42 (dk_at dksJ12_indexOf_0 0 rfl rfl)
theorem dJ12_indexOf_1 : decode cJ12_indexOf 1 = .ok (.aload_n 1, 1) := dk_43 (dk_at dksJ12_indexOf_0 1 rfl rfl)
theorem dJ12_indexOf_2 : decode cJ12_indexOf 2 = .ok (.iconst 0, 1) := dk_3 (dk_at dksJ12_indexOf_0 2 rfl rfl)
theorem dJ12_indexOf_3 : decode cJ12_indexOf 3 = .ok (.aload_n 0, 1) := dk_42 (dk_at dksJ12_indexOf_0 3 rfl rfl)
theorem dJ12_indexOf_4 : decode cJ12_indexOf 4 = .ok (.getfield 48, 3) := dk_180 0 48 (dk_at dksJ12_indexOf_0 4 rfl rfl)
theorem dJ12_indexOf_7 : decode cJ12_indexOf 7 = .ok (.invokevirtual 89, 3) := dk_182 0 89 (dk_at dksJ12_indexOf_0 7 rfl rfl)
theorem dJ12_indexOf_10 : decode cJ12_indexOf 10 = .ok (.ireturn, 1) := dk_172 (dk_at dksJ12_indexOf_0 10 rfl rfl)
abbrev cJ12_indexOfRange : ByteArray := prog_49_method_12_code
def yJ12_indexOfRange : MethodName := ⟨RJ12, "indexOfRange", "(Ljava/lang/Object;II)I"⟩
def dkwJ12_indexOfRange_2 : List UInt8 := [43, 25, 4, 21, 5, 50, 182, 0, 93, 153, 0, 6, 21, 5, 172, 132, 5, 1, 167, 255, 232, 2, 172]
abbrev dktJ12_indexOfRange_2 : List UInt8 := dkwJ12_indexOfRange_2 ++ []
def dkwJ12_indexOfRange_1 : List UInt8 := [199, 0, 6, 21, 5, 172, 132, 5, 1, 167, 255, 236, 167, 0, 33, 28, 54, 5, 21, 5, 29, 162, 0, 24]
abbrev dktJ12_indexOfRange_1 : List UInt8 := dkwJ12_indexOfRange_1 ++ dktJ12_indexOfRange_2
def dkwJ12_indexOfRange_0 : List UInt8 := [42, 180, 0, 9, 58, 4, 43, 199, 0, 32, 28, 54, 5, 21, 5, 29, 162, 0, 20, 25, 4, 21, 5, 50]
abbrev dktJ12_indexOfRange_0 : List UInt8 := dkwJ12_indexOfRange_0 ++ dktJ12_indexOfRange_1
theorem dksJ12_indexOfRange_0 : cJ12_indexOfRange.data.toList.drop 0 = dktJ12_indexOfRange_0 := by decide +kernel
theorem dksJ12_indexOfRange_1 : cJ12_indexOfRange.data.toList.drop 24 = dktJ12_indexOfRange_1 := dk_seg dksJ12_indexOfRange_0 24 rfl rfl
theorem dksJ12_indexOfRange_2 : cJ12_indexOfRange.data.toList.drop 48 = dktJ12_indexOfRange_2 := dk_seg dksJ12_indexOfRange_1 24 rfl rfl
theorem dJ12_indexOfRange_0 : decode cJ12_indexOfRange 0 = .ok (.aload_n 0, 1) := dk_42 (dk_at dksJ12_indexOfRange_0 0 rfl rfl)
theorem dJ12_indexOfRange_1 : decode cJ12_indexOfRange 1 = .ok (.getfield 9, 3) := dk_180 0 9 (dk_at dksJ12_indexOfRange_0 1 rfl rfl)
theorem dJ12_indexOfRange_4 : decode cJ12_indexOfRange 4 = .ok (.astore 4, 2) := dk_58 4 (dk_at dksJ12_indexOfRange_0 4 rfl rfl)
theorem dJ12_indexOfRange_6 : decode cJ12_indexOfRange 6 = .ok (.aload_n 1, 1) := dk_43 (dk_at dksJ12_indexOfRange_0 6 rfl rfl)
theorem dJ12_indexOfRange_7 : decode cJ12_indexOfRange 7 = .ok (.ifnonnull 32, 3) := dk_199 0 32 (dk_at dksJ12_indexOfRange_0 7 rfl rfl)
theorem dJ12_indexOfRange_10 : decode cJ12_indexOfRange 10 = .ok (.iload_n 2, 1) := dk_28 (dk_at dksJ12_indexOfRange_0 10 rfl rfl)
theorem dJ12_indexOfRange_11 : decode cJ12_indexOfRange 11 = .ok (.istore 5, 2) := dk_54 5 (dk_at dksJ12_indexOfRange_0 11 rfl rfl)
theorem dJ12_indexOfRange_13 : decode cJ12_indexOfRange 13 = .ok (.iload 5, 2) := dk_21 5 (dk_at dksJ12_indexOfRange_0 13 rfl rfl)
theorem dJ12_indexOfRange_15 : decode cJ12_indexOfRange 15 = .ok (.iload_n 3, 1) := dk_29 (dk_at dksJ12_indexOfRange_0 15 rfl rfl)
theorem dJ12_indexOfRange_16 : decode cJ12_indexOfRange 16 = .ok (.if_icmp .ge 20, 3) := dk_162 0 20 (dk_at dksJ12_indexOfRange_0 16 rfl rfl)
theorem dJ12_indexOfRange_19 : decode cJ12_indexOfRange 19 = .ok (.aload 4, 2) := dk_25 4 (dk_at dksJ12_indexOfRange_0 19 rfl rfl)
theorem dJ12_indexOfRange_21 : decode cJ12_indexOfRange 21 = .ok (.iload 5, 2) := dk_21 5 (dk_at dksJ12_indexOfRange_0 21 rfl rfl)
theorem dJ12_indexOfRange_23 : decode cJ12_indexOfRange 23 = .ok (.aaload, 1) := dk_50 (dk_at dksJ12_indexOfRange_0 23 rfl rfl)
theorem dJ12_indexOfRange_24 : decode cJ12_indexOfRange 24 = .ok (.ifnonnull 6, 3) := dk_199 0 6 (dk_at dksJ12_indexOfRange_1 0 rfl rfl)
theorem dJ12_indexOfRange_27 : decode cJ12_indexOfRange 27 = .ok (.iload 5, 2) := dk_21 5 (dk_at dksJ12_indexOfRange_1 3 rfl rfl)
theorem dJ12_indexOfRange_29 : decode cJ12_indexOfRange 29 = .ok (.ireturn, 1) := dk_172 (dk_at dksJ12_indexOfRange_1 5 rfl rfl)
theorem dJ12_indexOfRange_30 : decode cJ12_indexOfRange 30 = .ok (.iinc 5 1, 3) := dk_132 5 1 (dk_at dksJ12_indexOfRange_1 6 rfl rfl)
theorem dJ12_indexOfRange_33 : decode cJ12_indexOfRange 33 = .ok (.goto (-20), 3) := dk_167 255 236 (dk_at dksJ12_indexOfRange_1 9 rfl rfl)
theorem dJ12_indexOfRange_36 : decode cJ12_indexOfRange 36 = .ok (.goto 33, 3) := dk_167 0 33 (dk_at dksJ12_indexOfRange_1 12 rfl rfl)
theorem dJ12_indexOfRange_39 : decode cJ12_indexOfRange 39 = .ok (.iload_n 2, 1) := dk_28 (dk_at dksJ12_indexOfRange_1 15 rfl rfl)
theorem dJ12_indexOfRange_40 : decode cJ12_indexOfRange 40 = .ok (.istore 5, 2) := dk_54 5 (dk_at dksJ12_indexOfRange_1 16 rfl rfl)
theorem dJ12_indexOfRange_42 : decode cJ12_indexOfRange 42 = .ok (.iload 5, 2) := dk_21 5 (dk_at dksJ12_indexOfRange_1 18 rfl rfl)
theorem dJ12_indexOfRange_44 : decode cJ12_indexOfRange 44 = .ok (.iload_n 3, 1) := dk_29 (dk_at dksJ12_indexOfRange_1 20 rfl rfl)
theorem dJ12_indexOfRange_45 : decode cJ12_indexOfRange 45 = .ok (.if_icmp .ge 24, 3) := dk_162 0 24 (dk_at dksJ12_indexOfRange_1 21 rfl rfl)
theorem dJ12_indexOfRange_48 : decode cJ12_indexOfRange 48 = .ok (.aload_n 1, 1) := dk_43 (dk_at dksJ12_indexOfRange_2 0 rfl rfl)
theorem dJ12_indexOfRange_49 : decode cJ12_indexOfRange 49 = .ok (.aload 4, 2) := dk_25 4 (dk_at dksJ12_indexOfRange_2 1 rfl rfl)
theorem dJ12_indexOfRange_51 : decode cJ12_indexOfRange 51 = .ok (.iload 5, 2) := dk_21 5 (dk_at dksJ12_indexOfRange_2 3 rfl rfl)
theorem dJ12_indexOfRange_53 : decode cJ12_indexOfRange 53 = .ok (.aaload, 1) := dk_50 (dk_at dksJ12_indexOfRange_2 5 rfl rfl)
theorem dJ12_indexOfRange_54 : decode cJ12_indexOfRange 54 = .ok (.invokevirtual 93, 3) := dk_182 0 93 (dk_at dksJ12_indexOfRange_2 6 rfl rfl)
theorem dJ12_indexOfRange_57 : decode cJ12_indexOfRange 57 = .ok (.ifCond .eq 6, 3) := dk_153 0 6 (dk_at dksJ12_indexOfRange_2 9 rfl rfl)
theorem dJ12_indexOfRange_60 : decode cJ12_indexOfRange 60 = .ok (.iload 5, 2) := dk_21 5 (dk_at dksJ12_indexOfRange_2 12 rfl rfl)
theorem dJ12_indexOfRange_62 : decode cJ12_indexOfRange 62 = .ok (.ireturn, 1) := dk_172 (dk_at dksJ12_indexOfRange_2 14 rfl rfl)
theorem dJ12_indexOfRange_63 : decode cJ12_indexOfRange 63 = .ok (.iinc 5 1, 3) := dk_132 5 1 (dk_at dksJ12_indexOfRange_2 15 rfl rfl)
theorem dJ12_indexOfRange_66 : decode cJ12_indexOfRange 66 = .ok (.goto (-24), 3) := dk_167 255 232 (dk_at dksJ12_indexOfRange_2 18 rfl rfl)
theorem dJ12_indexOfRange_69 : decode cJ12_indexOfRange 69 = .ok (.iconst (-1), 1) := dk_2 (dk_at dksJ12_indexOfRange_2 21 rfl rfl)
theorem dJ12_indexOfRange_70 : decode cJ12_indexOfRange 70 = .ok (.ireturn, 1) := dk_172 (dk_at dksJ12_indexOfRange_2 22 rfl rfl)
abbrev cJ12_add : ByteArray := prog_49_method_25_code
def yJ12_add : MethodName := ⟨RJ12, "add", "(Ljava/lang/Object;)Z"⟩
def dkwJ12_add_1 : List UInt8 := [172]
abbrev dktJ12_add_1 : List UInt8 := dkwJ12_add_1 ++ []
def dkwJ12_add_0 : List UInt8 := [42, 89, 180, 0, 63, 4, 96, 181, 0, 63, 42, 43, 42, 180, 0, 9, 42, 180, 0, 48, 182, 0, 131, 4]
abbrev dktJ12_add_0 : List UInt8 := dkwJ12_add_0 ++ dktJ12_add_1
theorem dksJ12_add_0 : cJ12_add.data.toList.drop 0 = dktJ12_add_0 := by decide +kernel
theorem dksJ12_add_1 : cJ12_add.data.toList.drop 24 = dktJ12_add_1 := dk_seg dksJ12_add_0 24 rfl rfl
theorem dJ12_add_0 : decode cJ12_add 0 = .ok (.aload_n 0, 1) := dk_42 (dk_at dksJ12_add_0 0 rfl rfl)
theorem dJ12_add_1 : decode cJ12_add 1 = .ok (.dup, 1) := dk_89 (dk_at dksJ12_add_0 1 rfl rfl)
theorem dJ12_add_2 : decode cJ12_add 2 = .ok (.getfield 63, 3) := dk_180 0 63 (dk_at dksJ12_add_0 2 rfl rfl)
theorem dJ12_add_5 : decode cJ12_add 5 = .ok (.iconst 1, 1) := dk_4 (dk_at dksJ12_add_0 5 rfl rfl)
theorem dJ12_add_6 : decode cJ12_add 6 = .ok (.iadd, 1) := dk_96 (dk_at dksJ12_add_0 6 rfl rfl)
theorem dJ12_add_7 : decode cJ12_add 7 = .ok (.putfield 63, 3) := dk_181 0 63 (dk_at dksJ12_add_0 7 rfl rfl)
theorem dJ12_add_10 : decode cJ12_add 10 = .ok (.aload_n 0, 1) := dk_42 (dk_at dksJ12_add_0 10 rfl rfl)
theorem dJ12_add_11 : decode cJ12_add 11 = .ok (.aload_n 1, 1) := dk_43 (dk_at dksJ12_add_0 11 rfl rfl)
theorem dJ12_add_12 : decode cJ12_add 12 = .ok (.aload_n 0, 1) := dk_42 (dk_at dksJ12_add_0 12 rfl rfl)
theorem dJ12_add_13 : decode cJ12_add 13 = .ok (.getfield 9, 3) := dk_180 0 9 (dk_at dksJ12_add_0 13 rfl rfl)
theorem dJ12_add_16 : decode cJ12_add 16 = .ok (.aload_n 0, 1) := dk_42 (dk_at dksJ12_add_0 16 rfl rfl)
theorem dJ12_add_17 : decode cJ12_add 17 = .ok (.getfield 48, 3) := dk_180 0 48 (dk_at dksJ12_add_0 17 rfl rfl)
theorem dJ12_add_20 : decode cJ12_add 20 = .ok (.invokevirtual 131, 3) := dk_182 0 131 (dk_at dksJ12_add_0 20 rfl rfl)
theorem dJ12_add_23 : decode cJ12_add 23 = .ok (.iconst 1, 1) := dk_4 (dk_at dksJ12_add_0 23 rfl rfl)
theorem dJ12_add_24 : decode cJ12_add 24 = .ok (.ireturn, 1) := dk_172 (dk_at dksJ12_add_1 0 rfl rfl)
abbrev cJ12_add_2 : ByteArray := prog_49_method_24_code
def yJ12_add_2 : MethodName := ⟨RJ12, "add", "(Ljava/lang/Object;[Ljava/lang/Object;I)V"⟩
def dkwJ12_add_2_0 : List UInt8 := [29, 44, 190, 160, 0, 8, 42, 182, 0, 129, 77, 44, 29, 43, 83, 42, 29, 4, 96, 181, 0, 48, 177]
abbrev dktJ12_add_2_0 : List UInt8 := dkwJ12_add_2_0 ++ []
theorem dksJ12_add_2_0 : cJ12_add_2.data.toList.drop 0 = dktJ12_add_2_0 := by decide +kernel
theorem dJ12_add_2_0 : decode cJ12_add_2 0 = .ok (.iload_n 3, 1) := dk_29 (dk_at dksJ12_add_2_0 0 rfl rfl)
theorem dJ12_add_2_1 : decode cJ12_add_2 1 = .ok (.aload_n 2, 1) := dk_44 (dk_at dksJ12_add_2_0 1 rfl rfl)
theorem dJ12_add_2_2 : decode cJ12_add_2 2 = .ok (.arraylength, 1) := dk_190 (dk_at dksJ12_add_2_0 2 rfl rfl)
theorem dJ12_add_2_3 : decode cJ12_add_2 3 = .ok (.if_icmp .ne 8, 3) := dk_160 0 8 (dk_at dksJ12_add_2_0 3 rfl rfl)
theorem dJ12_add_2_6 : decode cJ12_add_2 6 = .ok (.aload_n 0, 1) := dk_42 (dk_at dksJ12_add_2_0 6 rfl rfl)
theorem dJ12_add_2_7 : decode cJ12_add_2 7 = .ok (.invokevirtual 129, 3) := dk_182 0 129 (dk_at dksJ12_add_2_0 7 rfl rfl)
theorem dJ12_add_2_10 : decode cJ12_add_2 10 = .ok (.astore_n 2, 1) := dk_77 (dk_at dksJ12_add_2_0 10 rfl rfl)
theorem dJ12_add_2_11 : decode cJ12_add_2 11 = .ok (.aload_n 2, 1) := dk_44 (dk_at dksJ12_add_2_0 11 rfl rfl)
theorem dJ12_add_2_12 : decode cJ12_add_2 12 = .ok (.iload_n 3, 1) := dk_29 (dk_at dksJ12_add_2_0 12 rfl rfl)
theorem dJ12_add_2_13 : decode cJ12_add_2 13 = .ok (.aload_n 1, 1) := dk_43 (dk_at dksJ12_add_2_0 13 rfl rfl)
theorem dJ12_add_2_14 : decode cJ12_add_2 14 = .ok (.aastore, 1) := dk_83 (dk_at dksJ12_add_2_0 14 rfl rfl)
theorem dJ12_add_2_15 : decode cJ12_add_2 15 = .ok (.aload_n 0, 1) := dk_42 (dk_at dksJ12_add_2_0 15 rfl rfl)
theorem dJ12_add_2_16 : decode cJ12_add_2 16 = .ok (.iload_n 3, 1) := dk_29 (dk_at dksJ12_add_2_0 16 rfl rfl)
theorem dJ12_add_2_17 : decode cJ12_add_2 17 = .ok (.iconst 1, 1) := dk_4 (dk_at dksJ12_add_2_0 17 rfl rfl)
theorem dJ12_add_2_18 : decode cJ12_add_2 18 = .ok (.iadd, 1) := dk_96 (dk_at dksJ12_add_2_0 18 rfl rfl)
theorem dJ12_add_2_19 : decode cJ12_add_2 19 = .ok (.putfield 48, 3) := dk_181 0 48 (dk_at dksJ12_add_2_0 19 rfl rfl)
theorem dJ12_add_2_22 : decode cJ12_add_2 22 = .ok (.return_, 1) := dk_177 (dk_at dksJ12_add_2_0 22 rfl rfl)
abbrev cJ12_grow : ByteArray := prog_49_method_7_code
def yJ12_grow : MethodName := ⟨RJ12, "grow", "()[Ljava/lang/Object;"⟩
def dkwJ12_grow_0 : List UInt8 := [42, 42, 180, 0, 48, 4, 96, 182, 0, 69, 176]
abbrev dktJ12_grow_0 : List UInt8 := dkwJ12_grow_0 ++ []
theorem dksJ12_grow_0 : cJ12_grow.data.toList.drop 0 = dktJ12_grow_0 := by decide +kernel
theorem dJ12_grow_0 : decode cJ12_grow 0 = .ok (.aload_n 0, 1) := dk_42 (dk_at dksJ12_grow_0 0 rfl rfl)
theorem dJ12_grow_1 : decode cJ12_grow 1 = .ok (.aload_n 0, 1) := dk_42 (dk_at dksJ12_grow_0 1 rfl rfl)
theorem dJ12_grow_2 : decode cJ12_grow 2 = .ok (.getfield 48, 3) := dk_180 0 48 (dk_at dksJ12_grow_0 2 rfl rfl)
theorem dJ12_grow_5 : decode cJ12_grow 5 = .ok (.iconst 1, 1) := dk_4 (dk_at dksJ12_grow_0 5 rfl rfl)
theorem dJ12_grow_6 : decode cJ12_grow 6 = .ok (.iadd, 1) := dk_96 (dk_at dksJ12_grow_0 6 rfl rfl)
theorem dJ12_grow_7 : decode cJ12_grow 7 = .ok (.invokevirtual 69, 3) := dk_182 0 69 (dk_at dksJ12_grow_0 7 rfl rfl)
theorem dJ12_grow_10 : decode cJ12_grow 10 = .ok (.areturn, 1) := dk_176 (dk_at dksJ12_grow_0 10 rfl rfl)
abbrev cJ12_grow_2 : ByteArray := prog_49_method_6_code
def yJ12_grow_2 : MethodName := ⟨RJ12, "grow", "(I)[Ljava/lang/Object;"⟩
def dkwJ12_grow_2_2 : List UInt8 := [27, 184, 0, 79, 189, 0, 7, 90, 181, 0, 9, 176]
abbrev dktJ12_grow_2_2 : List UInt8 := dkwJ12_grow_2_2 ++ []
def dkwJ12_grow_2_1 : List UInt8 := [28, 4, 122, 184, 0, 73, 62, 42, 42, 180, 0, 9, 29, 184, 0, 66, 90, 181, 0, 9, 176, 42, 16, 10]
abbrev dktJ12_grow_2_1 : List UInt8 := dkwJ12_grow_2_1 ++ dktJ12_grow_2_2
def dkwJ12_grow_2_0 : List UInt8 := [42, 180, 0, 9, 190, 61, 28, 157, 0, 13, 42, 180, 0, 9, 178, 0, 39, 165, 0, 28, 28, 27, 28, 100]
abbrev dktJ12_grow_2_0 : List UInt8 := dkwJ12_grow_2_0 ++ dktJ12_grow_2_1
theorem dksJ12_grow_2_0 : cJ12_grow_2.data.toList.drop 0 = dktJ12_grow_2_0 := by decide +kernel
theorem dksJ12_grow_2_1 : cJ12_grow_2.data.toList.drop 24 = dktJ12_grow_2_1 := dk_seg dksJ12_grow_2_0 24 rfl rfl
theorem dksJ12_grow_2_2 : cJ12_grow_2.data.toList.drop 48 = dktJ12_grow_2_2 := dk_seg dksJ12_grow_2_1 24 rfl rfl
theorem dJ12_grow_2_0 : decode cJ12_grow_2 0 = .ok (.aload_n 0, 1) := dk_42 (dk_at dksJ12_grow_2_0 0 rfl rfl)
theorem dJ12_grow_2_1 : decode cJ12_grow_2 1 = .ok (.getfield 9, 3) := dk_180 0 9 (dk_at dksJ12_grow_2_0 1 rfl rfl)
theorem dJ12_grow_2_4 : decode cJ12_grow_2 4 = .ok (.arraylength, 1) := dk_190 (dk_at dksJ12_grow_2_0 4 rfl rfl)
theorem dJ12_grow_2_5 : decode cJ12_grow_2 5 = .ok (.istore_n 2, 1) := dk_61 (dk_at dksJ12_grow_2_0 5 rfl rfl)
theorem dJ12_grow_2_6 : decode cJ12_grow_2 6 = .ok (.iload_n 2, 1) := dk_28 (dk_at dksJ12_grow_2_0 6 rfl rfl)
theorem dJ12_grow_2_7 : decode cJ12_grow_2 7 = .ok (.ifCond .gt 13, 3) := dk_157 0 13 (dk_at dksJ12_grow_2_0 7 rfl rfl)
theorem dJ12_grow_2_10 : decode cJ12_grow_2 10 = .ok (.aload_n 0, 1) := dk_42 (dk_at dksJ12_grow_2_0 10 rfl rfl)
theorem dJ12_grow_2_11 : decode cJ12_grow_2 11 = .ok (.getfield 9, 3) := dk_180 0 9 (dk_at dksJ12_grow_2_0 11 rfl rfl)
theorem dJ12_grow_2_14 : decode cJ12_grow_2 14 = .ok (.getstatic 39, 3) := dk_178 0 39 (dk_at dksJ12_grow_2_0 14 rfl rfl)
theorem dJ12_grow_2_17 : decode cJ12_grow_2 17 = .ok (.if_acmp .eq 28, 3) := dk_165 0 28 (dk_at dksJ12_grow_2_0 17 rfl rfl)
theorem dJ12_grow_2_20 : decode cJ12_grow_2 20 = .ok (.iload_n 2, 1) := dk_28 (dk_at dksJ12_grow_2_0 20 rfl rfl)
theorem dJ12_grow_2_21 : decode cJ12_grow_2 21 = .ok (.iload_n 1, 1) := dk_27 (dk_at dksJ12_grow_2_0 21 rfl rfl)
theorem dJ12_grow_2_22 : decode cJ12_grow_2 22 = .ok (.iload_n 2, 1) := dk_28 (dk_at dksJ12_grow_2_0 22 rfl rfl)
theorem dJ12_grow_2_23 : decode cJ12_grow_2 23 = .ok (.isub, 1) := dk_100 (dk_at dksJ12_grow_2_0 23 rfl rfl)
theorem dJ12_grow_2_24 : decode cJ12_grow_2 24 = .ok (.iload_n 2, 1) := dk_28 (dk_at dksJ12_grow_2_1 0 rfl rfl)
theorem dJ12_grow_2_25 : decode cJ12_grow_2 25 = .ok (.iconst 1, 1) := dk_4 (dk_at dksJ12_grow_2_1 1 rfl rfl)
theorem dJ12_grow_2_26 : decode cJ12_grow_2 26 = .ok (.ishr, 1) := dk_122 (dk_at dksJ12_grow_2_1 2 rfl rfl)
theorem dJ12_grow_2_27 : decode cJ12_grow_2 27 = .ok (.invokestatic 73, 3) := dk_184 0 73 (dk_at dksJ12_grow_2_1 3 rfl rfl)
theorem dJ12_grow_2_30 : decode cJ12_grow_2 30 = .ok (.istore_n 3, 1) := dk_62 (dk_at dksJ12_grow_2_1 6 rfl rfl)
theorem dJ12_grow_2_31 : decode cJ12_grow_2 31 = .ok (.aload_n 0, 1) := dk_42 (dk_at dksJ12_grow_2_1 7 rfl rfl)
theorem dJ12_grow_2_32 : decode cJ12_grow_2 32 = .ok (.aload_n 0, 1) := dk_42 (dk_at dksJ12_grow_2_1 8 rfl rfl)
theorem dJ12_grow_2_33 : decode cJ12_grow_2 33 = .ok (.getfield 9, 3) := dk_180 0 9 (dk_at dksJ12_grow_2_1 9 rfl rfl)
theorem dJ12_grow_2_36 : decode cJ12_grow_2 36 = .ok (.iload_n 3, 1) := dk_29 (dk_at dksJ12_grow_2_1 12 rfl rfl)
theorem dJ12_grow_2_37 : decode cJ12_grow_2 37 = .ok (.invokestatic 66, 3) := dk_184 0 66 (dk_at dksJ12_grow_2_1 13 rfl rfl)
theorem dJ12_grow_2_40 : decode cJ12_grow_2 40 = .ok (.dup_x1, 1) := dk_90 (dk_at dksJ12_grow_2_1 16 rfl rfl)
theorem dJ12_grow_2_41 : decode cJ12_grow_2 41 = .ok (.putfield 9, 3) := dk_181 0 9 (dk_at dksJ12_grow_2_1 17 rfl rfl)
theorem dJ12_grow_2_44 : decode cJ12_grow_2 44 = .ok (.areturn, 1) := dk_176 (dk_at dksJ12_grow_2_1 20 rfl rfl)
theorem dJ12_grow_2_45 : decode cJ12_grow_2 45 = .ok (.aload_n 0, 1) := dk_42 (dk_at dksJ12_grow_2_1 21 rfl rfl)
theorem dJ12_grow_2_46 : decode cJ12_grow_2 46 = .ok (.bipush 10, 2) := dk_16 10 (dk_at dksJ12_grow_2_1 22 rfl rfl)
theorem dJ12_grow_2_48 : decode cJ12_grow_2 48 = .ok (.iload_n 1, 1) := dk_27 (dk_at dksJ12_grow_2_2 0 rfl rfl)
theorem dJ12_grow_2_49 : decode cJ12_grow_2 49 = .ok (.invokestatic 79, 3) := dk_184 0 79 (dk_at dksJ12_grow_2_2 1 rfl rfl)
theorem dJ12_grow_2_52 : decode cJ12_grow_2 52 = .ok (.anewarray 7, 3) := dk_189 0 7 (dk_at dksJ12_grow_2_2 4 rfl rfl)
theorem dJ12_grow_2_55 : decode cJ12_grow_2 55 = .ok (.dup_x1, 1) := dk_90 (dk_at dksJ12_grow_2_2 7 rfl rfl)
theorem dJ12_grow_2_56 : decode cJ12_grow_2 56 = .ok (.putfield 9, 3) := dk_181 0 9 (dk_at dksJ12_grow_2_2 8 rfl rfl)
theorem dJ12_grow_2_59 : decode cJ12_grow_2 59 = .ok (.areturn, 1) := dk_176 (dk_at dksJ12_grow_2_2 11 rfl rfl)
abbrev cJ12_iterator : ByteArray := prog_49_method_55_code
def yJ12_iterator : MethodName := ⟨RJ12, "iterator", "()Ljava/util/Iterator;"⟩
def dkwJ12_iterator_0 : List UInt8 := [187, 1, 11, 89, 42, 183, 1, 13, 176]
abbrev dktJ12_iterator_0 : List UInt8 := dkwJ12_iterator_0 ++ []
theorem dksJ12_iterator_0 : cJ12_iterator.data.toList.drop 0 = dktJ12_iterator_0 := by decide +kernel
theorem dJ12_iterator_0 : decode cJ12_iterator 0 = .ok (.new 267, 3) := dk_187 1 11 (dk_at dksJ12_iterator_0 0 rfl rfl)
theorem dJ12_iterator_3 : decode cJ12_iterator 3 = .ok (.dup, 1) := dk_89 (dk_at dksJ12_iterator_0 3 rfl rfl)
theorem dJ12_iterator_4 : decode cJ12_iterator 4 = .ok (.aload_n 0, 1) := dk_42 (dk_at dksJ12_iterator_0 4 rfl rfl)
theorem dJ12_iterator_5 : decode cJ12_iterator 5 = .ok (.invokespecial 269, 3) := dk_183 1 13 (dk_at dksJ12_iterator_0 5 rfl rfl)
theorem dJ12_iterator_8 : decode cJ12_iterator 8 = .ok (.areturn, 1) := dk_176 (dk_at dksJ12_iterator_0 8 rfl rfl)
abbrev cJ12_clear : ByteArray := prog_49_method_40_code
def yJ12_clear : MethodName := ⟨RJ12, "clear", "()V"⟩
def dkwJ12_clear_1 : List UInt8 := [181, 0, 48, 62, 29, 28, 162, 0, 13, 43, 29, 1, 83, 132, 3, 1, 167, 255, 244, 177]
abbrev dktJ12_clear_1 : List UInt8 := dkwJ12_clear_1 ++ []
def dkwJ12_clear_0 : List UInt8 := [42, 89, 180, 0, 63, 4, 96, 181, 0, 63, 42, 180, 0, 9, 76, 42, 180, 0, 48, 61, 42, 3, 90]
abbrev dktJ12_clear_0 : List UInt8 := dkwJ12_clear_0 ++ dktJ12_clear_1
theorem dksJ12_clear_0 : cJ12_clear.data.toList.drop 0 = dktJ12_clear_0 := by decide +kernel
theorem dksJ12_clear_1 : cJ12_clear.data.toList.drop 23 = dktJ12_clear_1 := dk_seg dksJ12_clear_0 23 rfl rfl
theorem dJ12_clear_0 : decode cJ12_clear 0 = .ok (.aload_n 0, 1) := dk_42 (dk_at dksJ12_clear_0 0 rfl rfl)
theorem dJ12_clear_1 : decode cJ12_clear 1 = .ok (.dup, 1) := dk_89 (dk_at dksJ12_clear_0 1 rfl rfl)
theorem dJ12_clear_2 : decode cJ12_clear 2 = .ok (.getfield 63, 3) := dk_180 0 63 (dk_at dksJ12_clear_0 2 rfl rfl)
theorem dJ12_clear_5 : decode cJ12_clear 5 = .ok (.iconst 1, 1) := dk_4 (dk_at dksJ12_clear_0 5 rfl rfl)
theorem dJ12_clear_6 : decode cJ12_clear 6 = .ok (.iadd, 1) := dk_96 (dk_at dksJ12_clear_0 6 rfl rfl)
theorem dJ12_clear_7 : decode cJ12_clear 7 = .ok (.putfield 63, 3) := dk_181 0 63 (dk_at dksJ12_clear_0 7 rfl rfl)
theorem dJ12_clear_10 : decode cJ12_clear 10 = .ok (.aload_n 0, 1) := dk_42 (dk_at dksJ12_clear_0 10 rfl rfl)
theorem dJ12_clear_11 : decode cJ12_clear 11 = .ok (.getfield 9, 3) := dk_180 0 9 (dk_at dksJ12_clear_0 11 rfl rfl)
theorem dJ12_clear_14 : decode cJ12_clear 14 = .ok (.astore_n 1, 1) := dk_76 (dk_at dksJ12_clear_0 14 rfl rfl)
theorem dJ12_clear_15 : decode cJ12_clear 15 = .ok (.aload_n 0, 1) := dk_42 (dk_at dksJ12_clear_0 15 rfl rfl)
theorem dJ12_clear_16 : decode cJ12_clear 16 = .ok (.getfield 48, 3) := dk_180 0 48 (dk_at dksJ12_clear_0 16 rfl rfl)
theorem dJ12_clear_19 : decode cJ12_clear 19 = .ok (.istore_n 2, 1) := dk_61 (dk_at dksJ12_clear_0 19 rfl rfl)
theorem dJ12_clear_20 : decode cJ12_clear 20 = .ok (.aload_n 0, 1) := dk_42 (dk_at dksJ12_clear_0 20 rfl rfl)
theorem dJ12_clear_21 : decode cJ12_clear 21 = .ok (.iconst 0, 1) := dk_3 (dk_at dksJ12_clear_0 21 rfl rfl)
theorem dJ12_clear_22 : decode cJ12_clear 22 = .ok (.dup_x1, 1) := dk_90 (dk_at dksJ12_clear_0 22 rfl rfl)
theorem dJ12_clear_23 : decode cJ12_clear 23 = .ok (.putfield 48, 3) := dk_181 0 48 (dk_at dksJ12_clear_1 0 rfl rfl)
theorem dJ12_clear_26 : decode cJ12_clear 26 = .ok (.istore_n 3, 1) := dk_62 (dk_at dksJ12_clear_1 3 rfl rfl)
theorem dJ12_clear_27 : decode cJ12_clear 27 = .ok (.iload_n 3, 1) := dk_29 (dk_at dksJ12_clear_1 4 rfl rfl)
theorem dJ12_clear_28 : decode cJ12_clear 28 = .ok (.iload_n 2, 1) := dk_28 (dk_at dksJ12_clear_1 5 rfl rfl)
theorem dJ12_clear_29 : decode cJ12_clear 29 = .ok (.if_icmp .ge 13, 3) := dk_162 0 13 (dk_at dksJ12_clear_1 6 rfl rfl)
theorem dJ12_clear_32 : decode cJ12_clear 32 = .ok (.aload_n 1, 1) := dk_43 (dk_at dksJ12_clear_1 9 rfl rfl)
theorem dJ12_clear_33 : decode cJ12_clear 33 = .ok (.iload_n 3, 1) := dk_29 (dk_at dksJ12_clear_1 10 rfl rfl)
theorem dJ12_clear_34 : decode cJ12_clear 34 = .ok (.aconst_null, 1) := dk_1 (dk_at dksJ12_clear_1 11 rfl rfl)
theorem dJ12_clear_35 : decode cJ12_clear 35 = .ok (.aastore, 1) := dk_83 (dk_at dksJ12_clear_1 12 rfl rfl)
theorem dJ12_clear_36 : decode cJ12_clear 36 = .ok (.iinc 3 1, 3) := dk_132 3 1 (dk_at dksJ12_clear_1 13 rfl rfl)
theorem dJ12_clear_39 : decode cJ12_clear 39 = .ok (.goto (-12), 3) := dk_167 255 244 (dk_at dksJ12_clear_1 16 rfl rfl)
theorem dJ12_clear_42 : decode cJ12_clear 42 = .ok (.return_, 1) := dk_177 (dk_at dksJ12_clear_1 19 rfl rfl)
abbrev cJ12_remove : ByteArray := prog_49_method_38_code
def yJ12_remove : MethodName := ⟨RJ12, "remove", "(Ljava/lang/Object;)Z"⟩
def dkwJ12_remove_3 : List UInt8 := [182, 0, 144, 4, 172]
abbrev dktJ12_remove_3 : List UInt8 := dkwJ12_remove_3 ++ []
def dkwJ12_remove_2 : List UInt8 := [21, 4, 50, 182, 0, 93, 153, 0, 6, 167, 0, 11, 132, 4, 1, 167, 255, 233, 3, 172, 42, 44, 21, 4]
abbrev dktJ12_remove_2 : List UInt8 := dkwJ12_remove_2 ++ dktJ12_remove_3
def dkwJ12_remove_1 : List UInt8 := [21, 4, 50, 199, 0, 6, 167, 0, 37, 132, 4, 1, 167, 255, 237, 21, 4, 29, 162, 0, 23, 43, 44]
abbrev dktJ12_remove_1 : List UInt8 := dkwJ12_remove_1 ++ dktJ12_remove_2
def dkwJ12_remove_0 : List UInt8 := [42, 180, 0, 9, 77, 42, 180, 0, 48, 62, 3, 54, 4, 43, 199, 0, 25, 21, 4, 29, 162, 0, 45, 44]
abbrev dktJ12_remove_0 : List UInt8 := dkwJ12_remove_0 ++ dktJ12_remove_1
theorem dksJ12_remove_0 : cJ12_remove.data.toList.drop 0 = dktJ12_remove_0 := by decide +kernel
theorem dksJ12_remove_1 : cJ12_remove.data.toList.drop 24 = dktJ12_remove_1 := dk_seg dksJ12_remove_0 24 rfl rfl
theorem dksJ12_remove_2 : cJ12_remove.data.toList.drop 47 = dktJ12_remove_2 := dk_seg dksJ12_remove_1 23 rfl rfl
theorem dksJ12_remove_3 : cJ12_remove.data.toList.drop 71 = dktJ12_remove_3 := dk_seg dksJ12_remove_2 24 rfl rfl
theorem dJ12_remove_0 : decode cJ12_remove 0 = .ok (.aload_n 0, 1) := dk_42 (dk_at dksJ12_remove_0 0 rfl rfl)
theorem dJ12_remove_1 : decode cJ12_remove 1 = .ok (.getfield 9, 3) := dk_180 0 9 (dk_at dksJ12_remove_0 1 rfl rfl)
theorem dJ12_remove_4 : decode cJ12_remove 4 = .ok (.astore_n 2, 1) := dk_77 (dk_at dksJ12_remove_0 4 rfl rfl)
theorem dJ12_remove_5 : decode cJ12_remove 5 = .ok (.aload_n 0, 1) := dk_42 (dk_at dksJ12_remove_0 5 rfl rfl)
theorem dJ12_remove_6 : decode cJ12_remove 6 = .ok (.getfield 48, 3) := dk_180 0 48 (dk_at dksJ12_remove_0 6 rfl rfl)
theorem dJ12_remove_9 : decode cJ12_remove 9 = .ok (.istore_n 3, 1) := dk_62 (dk_at dksJ12_remove_0 9 rfl rfl)
theorem dJ12_remove_10 : decode cJ12_remove 10 = .ok (.iconst 0, 1) := dk_3 (dk_at dksJ12_remove_0 10 rfl rfl)
theorem dJ12_remove_11 : decode cJ12_remove 11 = .ok (.istore 4, 2) := dk_54 4 (dk_at dksJ12_remove_0 11 rfl rfl)
theorem dJ12_remove_13 : decode cJ12_remove 13 = .ok (.aload_n 1, 1) := dk_43 (dk_at dksJ12_remove_0 13 rfl rfl)
theorem dJ12_remove_14 : decode cJ12_remove 14 = .ok (.ifnonnull 25, 3) := dk_199 0 25 (dk_at dksJ12_remove_0 14 rfl rfl)
theorem dJ12_remove_17 : decode cJ12_remove 17 = .ok (.iload 4, 2) := dk_21 4 (dk_at dksJ12_remove_0 17 rfl rfl)
theorem dJ12_remove_19 : decode cJ12_remove 19 = .ok (.iload_n 3, 1) := dk_29 (dk_at dksJ12_remove_0 19 rfl rfl)
theorem dJ12_remove_20 : decode cJ12_remove 20 = .ok (.if_icmp .ge 45, 3) := dk_162 0 45 (dk_at dksJ12_remove_0 20 rfl rfl)
theorem dJ12_remove_23 : decode cJ12_remove 23 = .ok (.aload_n 2, 1) := dk_44 (dk_at dksJ12_remove_0 23 rfl rfl)
theorem dJ12_remove_24 : decode cJ12_remove 24 = .ok (.iload 4, 2) := dk_21 4 (dk_at dksJ12_remove_1 0 rfl rfl)
theorem dJ12_remove_26 : decode cJ12_remove 26 = .ok (.aaload, 1) := dk_50 (dk_at dksJ12_remove_1 2 rfl rfl)
theorem dJ12_remove_27 : decode cJ12_remove 27 = .ok (.ifnonnull 6, 3) := dk_199 0 6 (dk_at dksJ12_remove_1 3 rfl rfl)
theorem dJ12_remove_30 : decode cJ12_remove 30 = .ok (.goto 37, 3) := dk_167 0 37 (dk_at dksJ12_remove_1 6 rfl rfl)
theorem dJ12_remove_33 : decode cJ12_remove 33 = .ok (.iinc 4 1, 3) := dk_132 4 1 (dk_at dksJ12_remove_1 9 rfl rfl)
theorem dJ12_remove_36 : decode cJ12_remove 36 = .ok (.goto (-19), 3) := dk_167 255 237 (dk_at dksJ12_remove_1 12 rfl rfl)
theorem dJ12_remove_39 : decode cJ12_remove 39 = .ok (.iload 4, 2) := dk_21 4 (dk_at dksJ12_remove_1 15 rfl rfl)
theorem dJ12_remove_41 : decode cJ12_remove 41 = .ok (.iload_n 3, 1) := dk_29 (dk_at dksJ12_remove_1 17 rfl rfl)
theorem dJ12_remove_42 : decode cJ12_remove 42 = .ok (.if_icmp .ge 23, 3) := dk_162 0 23 (dk_at dksJ12_remove_1 18 rfl rfl)
theorem dJ12_remove_45 : decode cJ12_remove 45 = .ok (.aload_n 1, 1) := dk_43 (dk_at dksJ12_remove_1 21 rfl rfl)
theorem dJ12_remove_46 : decode cJ12_remove 46 = .ok (.aload_n 2, 1) := dk_44 (dk_at dksJ12_remove_1 22 rfl rfl)
theorem dJ12_remove_47 : decode cJ12_remove 47 = .ok (.iload 4, 2) := dk_21 4 (dk_at dksJ12_remove_2 0 rfl rfl)
theorem dJ12_remove_49 : decode cJ12_remove 49 = .ok (.aaload, 1) := dk_50 (dk_at dksJ12_remove_2 2 rfl rfl)
theorem dJ12_remove_50 : decode cJ12_remove 50 = .ok (.invokevirtual 93, 3) := dk_182 0 93 (dk_at dksJ12_remove_2 3 rfl rfl)
theorem dJ12_remove_53 : decode cJ12_remove 53 = .ok (.ifCond .eq 6, 3) := dk_153 0 6 (dk_at dksJ12_remove_2 6 rfl rfl)
theorem dJ12_remove_56 : decode cJ12_remove 56 = .ok (.goto 11, 3) := dk_167 0 11 (dk_at dksJ12_remove_2 9 rfl rfl)
theorem dJ12_remove_59 : decode cJ12_remove 59 = .ok (.iinc 4 1, 3) := dk_132 4 1 (dk_at dksJ12_remove_2 12 rfl rfl)
theorem dJ12_remove_62 : decode cJ12_remove 62 = .ok (.goto (-23), 3) := dk_167 255 233 (dk_at dksJ12_remove_2 15 rfl rfl)
theorem dJ12_remove_65 : decode cJ12_remove 65 = .ok (.iconst 0, 1) := dk_3 (dk_at dksJ12_remove_2 18 rfl rfl)
theorem dJ12_remove_66 : decode cJ12_remove 66 = .ok (.ireturn, 1) := dk_172 (dk_at dksJ12_remove_2 19 rfl rfl)
theorem dJ12_remove_67 : decode cJ12_remove 67 = .ok (.aload_n 0, 1) := dk_42 (dk_at dksJ12_remove_2 20 rfl rfl)
theorem dJ12_remove_68 : decode cJ12_remove 68 = .ok (.aload_n 2, 1) := dk_44 (dk_at dksJ12_remove_2 21 rfl rfl)
theorem dJ12_remove_69 : decode cJ12_remove 69 = .ok (.iload 4, 2) := dk_21 4 (dk_at dksJ12_remove_2 22 rfl rfl)
theorem dJ12_remove_71 : decode cJ12_remove 71 = .ok (.invokevirtual 144, 3) := dk_182 0 144 (dk_at dksJ12_remove_3 0 rfl rfl)
theorem dJ12_remove_74 : decode cJ12_remove 74 = .ok (.iconst 1, 1) := dk_4 (dk_at dksJ12_remove_3 3 rfl rfl)
theorem dJ12_remove_75 : decode cJ12_remove 75 = .ok (.ireturn, 1) := dk_172 (dk_at dksJ12_remove_3 4 rfl rfl)
abbrev cJ12_fastRemove : ByteArray := prog_49_method_39_code
def yJ12_fastRemove : MethodName := ⟨RJ12, "fastRemove", "([Ljava/lang/Object;I)V"⟩
def dkwJ12_fastRemove_1 : List UInt8 := [4, 96, 43, 28, 29, 28, 100, 184, 0, 112, 43, 42, 29, 90, 181, 0, 48, 1, 83, 177]
abbrev dktJ12_fastRemove_1 : List UInt8 := dkwJ12_fastRemove_1 ++ []
def dkwJ12_fastRemove_0 : List UInt8 := [42, 89, 180, 0, 63, 4, 96, 181, 0, 63, 42, 180, 0, 48, 4, 100, 89, 62, 28, 164, 0, 15, 43, 28]
abbrev dktJ12_fastRemove_0 : List UInt8 := dkwJ12_fastRemove_0 ++ dktJ12_fastRemove_1
theorem dksJ12_fastRemove_0 : cJ12_fastRemove.data.toList.drop 0 = dktJ12_fastRemove_0 := by decide +kernel
theorem dksJ12_fastRemove_1 : cJ12_fastRemove.data.toList.drop 24 = dktJ12_fastRemove_1 := dk_seg dksJ12_fastRemove_0 24 rfl rfl
theorem dJ12_fastRemove_0 : decode cJ12_fastRemove 0 = .ok (.aload_n 0, 1) := dk_42 (dk_at dksJ12_fastRemove_0 0 rfl rfl)
theorem dJ12_fastRemove_1 : decode cJ12_fastRemove 1 = .ok (.dup, 1) := dk_89 (dk_at dksJ12_fastRemove_0 1 rfl rfl)
theorem dJ12_fastRemove_2 : decode cJ12_fastRemove 2 = .ok (.getfield 63, 3) := dk_180 0 63 (dk_at dksJ12_fastRemove_0 2 rfl rfl)
theorem dJ12_fastRemove_5 : decode cJ12_fastRemove 5 = .ok (.iconst 1, 1) := dk_4 (dk_at dksJ12_fastRemove_0 5 rfl rfl)
theorem dJ12_fastRemove_6 : decode cJ12_fastRemove 6 = .ok (.iadd, 1) := dk_96 (dk_at dksJ12_fastRemove_0 6 rfl rfl)
theorem dJ12_fastRemove_7 : decode cJ12_fastRemove 7 = .ok (.putfield 63, 3) := dk_181 0 63 (dk_at dksJ12_fastRemove_0 7 rfl rfl)
theorem dJ12_fastRemove_10 : decode cJ12_fastRemove 10 = .ok (.aload_n 0, 1) := dk_42 (dk_at dksJ12_fastRemove_0 10 rfl rfl)
theorem dJ12_fastRemove_11 : decode cJ12_fastRemove 11 = .ok (.getfield 48, 3) := dk_180 0 48 (dk_at dksJ12_fastRemove_0 11 rfl rfl)
theorem dJ12_fastRemove_14 : decode cJ12_fastRemove 14 = .ok (.iconst 1, 1) := dk_4 (dk_at dksJ12_fastRemove_0 14 rfl rfl)
theorem dJ12_fastRemove_15 : decode cJ12_fastRemove 15 = .ok (.isub, 1) := dk_100 (dk_at dksJ12_fastRemove_0 15 rfl rfl)
theorem dJ12_fastRemove_16 : decode cJ12_fastRemove 16 = .ok (.dup, 1) := dk_89 (dk_at dksJ12_fastRemove_0 16 rfl rfl)
theorem dJ12_fastRemove_17 : decode cJ12_fastRemove 17 = .ok (.istore_n 3, 1) := dk_62 (dk_at dksJ12_fastRemove_0 17 rfl rfl)
theorem dJ12_fastRemove_18 : decode cJ12_fastRemove 18 = .ok (.iload_n 2, 1) := dk_28 (dk_at dksJ12_fastRemove_0 18 rfl rfl)
theorem dJ12_fastRemove_19 : decode cJ12_fastRemove 19 = .ok (.if_icmp .le 15, 3) := dk_164 0 15 (dk_at dksJ12_fastRemove_0 19 rfl rfl)
theorem dJ12_fastRemove_22 : decode cJ12_fastRemove 22 = .ok (.aload_n 1, 1) := dk_43 (dk_at dksJ12_fastRemove_0 22 rfl rfl)
theorem dJ12_fastRemove_23 : decode cJ12_fastRemove 23 = .ok (.iload_n 2, 1) := dk_28 (dk_at dksJ12_fastRemove_0 23 rfl rfl)
theorem dJ12_fastRemove_24 : decode cJ12_fastRemove 24 = .ok (.iconst 1, 1) := dk_4 (dk_at dksJ12_fastRemove_1 0 rfl rfl)
theorem dJ12_fastRemove_25 : decode cJ12_fastRemove 25 = .ok (.iadd, 1) := dk_96 (dk_at dksJ12_fastRemove_1 1 rfl rfl)
theorem dJ12_fastRemove_26 : decode cJ12_fastRemove 26 = .ok (.aload_n 1, 1) := dk_43 (dk_at dksJ12_fastRemove_1 2 rfl rfl)
theorem dJ12_fastRemove_27 : decode cJ12_fastRemove 27 = .ok (.iload_n 2, 1) := dk_28 (dk_at dksJ12_fastRemove_1 3 rfl rfl)
theorem dJ12_fastRemove_28 : decode cJ12_fastRemove 28 = .ok (.iload_n 3, 1) := dk_29 (dk_at dksJ12_fastRemove_1 4 rfl rfl)
theorem dJ12_fastRemove_29 : decode cJ12_fastRemove 29 = .ok (.iload_n 2, 1) := dk_28 (dk_at dksJ12_fastRemove_1 5 rfl rfl)
theorem dJ12_fastRemove_30 : decode cJ12_fastRemove 30 = .ok (.isub, 1) := dk_100 (dk_at dksJ12_fastRemove_1 6 rfl rfl)
theorem dJ12_fastRemove_31 : decode cJ12_fastRemove 31 = .ok (.invokestatic 112, 3) := dk_184 0 112 (dk_at dksJ12_fastRemove_1 7 rfl rfl)
theorem dJ12_fastRemove_34 : decode cJ12_fastRemove 34 = .ok (.aload_n 1, 1) := dk_43 (dk_at dksJ12_fastRemove_1 10 rfl rfl)
theorem dJ12_fastRemove_35 : decode cJ12_fastRemove 35 = .ok (.aload_n 0, 1) := dk_42 (dk_at dksJ12_fastRemove_1 11 rfl rfl)
theorem dJ12_fastRemove_36 : decode cJ12_fastRemove 36 = .ok (.iload_n 3, 1) := dk_29 (dk_at dksJ12_fastRemove_1 12 rfl rfl)
theorem dJ12_fastRemove_37 : decode cJ12_fastRemove 37 = .ok (.dup_x1, 1) := dk_90 (dk_at dksJ12_fastRemove_1 13 rfl rfl)
theorem dJ12_fastRemove_38 : decode cJ12_fastRemove 38 = .ok (.putfield 48, 3) := dk_181 0 48 (dk_at dksJ12_fastRemove_1 14 rfl rfl)
theorem dJ12_fastRemove_41 : decode cJ12_fastRemove 41 = .ok (.aconst_null, 1) := dk_1 (dk_at dksJ12_fastRemove_1 17 rfl rfl)
theorem dJ12_fastRemove_42 : decode cJ12_fastRemove 42 = .ok (.aastore, 1) := dk_83 (dk_at dksJ12_fastRemove_1 18 rfl rfl)
theorem dJ12_fastRemove_43 : decode cJ12_fastRemove 43 = .ok (.return_, 1) := dk_177 (dk_at dksJ12_fastRemove_1 19 rfl rfl)
abbrev cJ12_set : ByteArray := prog_49_method_23_code
def yJ12_set : MethodName := ⟨RJ12, "set", "(ILjava/lang/Object;)Ljava/lang/Object;"⟩
def dkwJ12_set_0 : List UInt8 := [27, 42, 180, 0, 48, 184, 0, 118, 87, 42, 27, 182, 0, 123, 78, 42, 180, 0, 9, 27, 44, 83, 45, 176]
abbrev dktJ12_set_0 : List UInt8 := dkwJ12_set_0 ++ []
theorem dksJ12_set_0 : cJ12_set.data.toList.drop 0 = dktJ12_set_0 := by decide +kernel
theorem dJ12_set_0 : decode cJ12_set 0 = .ok (.iload_n 1, 1) := dk_27 (dk_at dksJ12_set_0 0 rfl rfl)
theorem dJ12_set_1 : decode cJ12_set 1 = .ok (.aload_n 0, 1) := dk_42 (dk_at dksJ12_set_0 1 rfl rfl)
theorem dJ12_set_2 : decode cJ12_set 2 = .ok (.getfield 48, 3) := dk_180 0 48 (dk_at dksJ12_set_0 2 rfl rfl)
theorem dJ12_set_5 : decode cJ12_set 5 = .ok (.invokestatic 118, 3) := dk_184 0 118 (dk_at dksJ12_set_0 5 rfl rfl)
theorem dJ12_set_8 : decode cJ12_set 8 = .ok (.pop, 1) := dk_87 (dk_at dksJ12_set_0 8 rfl rfl)
theorem dJ12_set_9 : decode cJ12_set 9 = .ok (.aload_n 0, 1) := dk_42 (dk_at dksJ12_set_0 9 rfl rfl)
theorem dJ12_set_10 : decode cJ12_set 10 = .ok (.iload_n 1, 1) := dk_27 (dk_at dksJ12_set_0 10 rfl rfl)
theorem dJ12_set_11 : decode cJ12_set 11 = .ok (.invokevirtual 123, 3) := dk_182 0 123 (dk_at dksJ12_set_0 11 rfl rfl)
theorem dJ12_set_14 : decode cJ12_set 14 = .ok (.astore_n 3, 1) := dk_78 (dk_at dksJ12_set_0 14 rfl rfl)
theorem dJ12_set_15 : decode cJ12_set 15 = .ok (.aload_n 0, 1) := dk_42 (dk_at dksJ12_set_0 15 rfl rfl)
theorem dJ12_set_16 : decode cJ12_set 16 = .ok (.getfield 9, 3) := dk_180 0 9 (dk_at dksJ12_set_0 16 rfl rfl)
theorem dJ12_set_19 : decode cJ12_set 19 = .ok (.iload_n 1, 1) := dk_27 (dk_at dksJ12_set_0 19 rfl rfl)
theorem dJ12_set_20 : decode cJ12_set 20 = .ok (.aload_n 2, 1) := dk_44 (dk_at dksJ12_set_0 20 rfl rfl)
theorem dJ12_set_21 : decode cJ12_set 21 = .ok (.aastore, 1) := dk_83 (dk_at dksJ12_set_0 21 rfl rfl)
theorem dJ12_set_22 : decode cJ12_set 22 = .ok (.aload_n 3, 1) := dk_45 (dk_at dksJ12_set_0 22 rfl rfl)
theorem dJ12_set_23 : decode cJ12_set 23 = .ok (.areturn, 1) := dk_176 (dk_at dksJ12_set_0 23 rfl rfl)
theorem q175 : (Jvm.Cond.initialized "java/util/ArrayList") ∈ lw_all := lw_g (lw_at lw_m1 18 rfl) rfl
theorem q634 : (Jvm.Cond.instantiable "java/util/ArrayList" (3 : Nat)) ∈ lw_all := lw_g (lw_at lw_m2 237 rfl) rfl
theorem q636 : (Jvm.Cond.instanceMethod ({ cls := "java/util/ArrayList", name := "<init>", desc := "(I)V" } : Jvm.MethodName)) ∈ lw_all := lw_g (lw_at lw_m2 239 rfl) rfl
theorem q637 : (Jvm.Cond.code ({ cls := "java/util/ArrayList", name := "<init>", desc := "(I)V" } : Jvm.MethodName) prog_49_method_1_code (2 : Nat) (Option.none : Option Jvm.ClassFile.FieldType)) ∈ lw_all := lw_g (lw_at lw_m3 0 rfl) rfl
theorem q638 : (Jvm.Cond.methodLink "java/util/ArrayList" (1 : Nat) ({ cls := "java/util/AbstractList", name := "<init>", desc := "()V" } : Jvm.MethodName)) ∈ lw_all := lw_g (lw_at lw_m3 1 rfl) rfl
theorem q645 : (Jvm.Cond.classLink "java/util/ArrayList" (7 : Nat) "java/lang/Object") ∈ lw_all := lw_g (lw_at lw_m3 8 rfl) rfl
theorem q647 : (Jvm.Cond.fieldLink "java/util/ArrayList" (15 : Nat) "java/util/ArrayList" "EMPTY_ELEMENTDATA" "[Ljava/lang/Object;") ∈ lw_all := lw_g (lw_at lw_m3 10 rfl) rfl
theorem q648 : (Jvm.Cond.laysStatic "java/util/ArrayList" "EMPTY_ELEMENTDATA" "[Ljava/lang/Object;") ∈ lw_tbl := lw_at lw_m3 11 rfl
theorem q649 : (Jvm.Cond.fieldLink "java/util/ArrayList" (9 : Nat) "java/util/ArrayList" "elementData" "[Ljava/lang/Object;") ∈ lw_all := lw_g (lw_at lw_m3 12 rfl) rfl
theorem q652 : (Jvm.Cond.fieldLink "java/util/ArrayList" (48 : Nat) "java/util/ArrayList" "size" "I") ∈ lw_all := lw_g (lw_at lw_m3 15 rfl) rfl
theorem q655 : (Jvm.Cond.sameField "java/util/ArrayList" "java/util/AbstractList" "modCount" "I") ∈ lw_all := lw_g (lw_at lw_m3 18 rfl) rfl
theorem q656 : (Jvm.Cond.fieldLink "java/util/ArrayList" (63 : Nat) "java/util/ArrayList" "modCount" "I") ∈ lw_all := lw_g (lw_at lw_m3 19 rfl) rfl
theorem q657 : (Jvm.Cond.lays "java/util/ArrayList" "java/util/ArrayList" "elementData" "[Ljava/lang/Object;") ∈ lw_all := lw_g (lw_at lw_m3 20 rfl) rfl
theorem q658 : (Jvm.Cond.soleField "java/util/ArrayList" "elementData") ∈ lw_all := lw_g (lw_at lw_m3 21 rfl) rfl
theorem q659 : (Jvm.Cond.lays "java/util/ArrayList" "java/util/ArrayList" "size" "I") ∈ lw_all := lw_g (lw_at lw_m3 22 rfl) rfl
theorem q660 : (Jvm.Cond.soleField "java/util/ArrayList" "size") ∈ lw_all := lw_g (lw_at lw_m3 23 rfl) rfl
theorem q661 : (Jvm.Cond.lays "java/util/ArrayList" "java/util/AbstractList" "modCount" "I") ∈ lw_all := lw_g (lw_at lw_m3 24 rfl) rfl
theorem q663 : (Jvm.Cond.superclass "java/util/ArrayList" "java/util/AbstractList") ∈ lw_all := lw_g (lw_at lw_m3 26 rfl) rfl
theorem q710 : (Jvm.Cond.instanceMethod ({ cls := "java/util/ArrayList", name := "size", desc := "()I" } : Jvm.MethodName)) ∈ lw_all := lw_g (lw_at lw_m3 73 rfl) rfl
theorem q711 : (Jvm.Cond.selects "java/util/ArrayList" ({ cls := "java/util/ArrayList", name := "size", desc := "()I" } : Jvm.MethodName) ({ cls := "java/util/ArrayList", name := "size", desc := "()I" } : Jvm.MethodName)) ∈ lw_all := lw_g (lw_at lw_m3 74 rfl) rfl
theorem q712 : (Jvm.Cond.code ({ cls := "java/util/ArrayList", name := "size", desc := "()I" } : Jvm.MethodName) prog_49_method_8_code (1 : Nat) (Option.some Jvm.ClassFile.FieldType.int)) ∈ lw_all := lw_g (lw_at lw_m3 75 rfl) rfl
theorem q856 : (Jvm.Cond.instanceMethod ({ cls := "java/util/ArrayList", name := "get", desc := "(I)Ljava/lang/Object;" } : Jvm.MethodName)) ∈ lw_all := lw_g (lw_at lw_m3 219 rfl) rfl
theorem q857 : (Jvm.Cond.selects "java/util/ArrayList" ({ cls := "java/util/ArrayList", name := "get", desc := "(I)Ljava/lang/Object;" } : Jvm.MethodName) ({ cls := "java/util/ArrayList", name := "get", desc := "(I)Ljava/lang/Object;" } : Jvm.MethodName)) ∈ lw_all := lw_g (lw_at lw_m3 220 rfl) rfl
theorem q858 : (Jvm.Cond.code ({ cls := "java/util/ArrayList", name := "get", desc := "(I)Ljava/lang/Object;" } : Jvm.MethodName) prog_49_method_20_code (2 : Nat) (Option.some (Jvm.ClassFile.FieldType.object "java/lang/Object"))) ∈ lw_all := lw_g (lw_at lw_m3 221 rfl) rfl
theorem q859 : (Jvm.Cond.methodLink "java/util/ArrayList" (118 : Nat) ({ cls := "java/util/Objects", name := "checkIndex", desc := "(II)I" } : Jvm.MethodName)) ∈ lw_all := lw_g (lw_at lw_m3 222 rfl) rfl
theorem q863 : (Jvm.Cond.methodLink "java/util/ArrayList" (123 : Nat) ({ cls := "java/util/ArrayList", name := "elementData", desc := "(I)Ljava/lang/Object;" } : Jvm.MethodName)) ∈ lw_all := lw_g (lw_at lw_m3 226 rfl) rfl
theorem q864 : (Jvm.Cond.instanceMethod ({ cls := "java/util/ArrayList", name := "elementData", desc := "(I)Ljava/lang/Object;" } : Jvm.MethodName)) ∈ lw_all := lw_g (lw_at lw_m3 227 rfl) rfl
theorem q865 : (Jvm.Cond.selects "java/util/ArrayList" ({ cls := "java/util/ArrayList", name := "elementData", desc := "(I)Ljava/lang/Object;" } : Jvm.MethodName) ({ cls := "java/util/ArrayList", name := "elementData", desc := "(I)Ljava/lang/Object;" } : Jvm.MethodName)) ∈ lw_all := lw_g (lw_at lw_m3 228 rfl) rfl
theorem q866 : (Jvm.Cond.code ({ cls := "java/util/ArrayList", name := "elementData", desc := "(I)Ljava/lang/Object;" } : Jvm.MethodName) prog_49_method_18_code (2 : Nat) (Option.some (Jvm.ClassFile.FieldType.object "java/lang/Object"))) ∈ lw_all := lw_g (lw_at lw_m3 229 rfl) rfl
theorem q926 : (Jvm.Cond.instanceMethod ({ cls := "java/util/ArrayList", name := "contains", desc := "(Ljava/lang/Object;)Z" } : Jvm.MethodName)) ∈ lw_all := lw_g (lw_at lw_m4 49 rfl) rfl
theorem q927 : (Jvm.Cond.selects "java/util/ArrayList" ({ cls := "java/util/ArrayList", name := "contains", desc := "(Ljava/lang/Object;)Z" } : Jvm.MethodName) ({ cls := "java/util/ArrayList", name := "contains", desc := "(Ljava/lang/Object;)Z" } : Jvm.MethodName)) ∈ lw_all := lw_g (lw_at lw_m4 50 rfl) rfl
theorem q928 : (Jvm.Cond.code ({ cls := "java/util/ArrayList", name := "contains", desc := "(Ljava/lang/Object;)Z" } : Jvm.MethodName) prog_49_method_10_code (2 : Nat) (Option.some Jvm.ClassFile.FieldType.boolean)) ∈ lw_all := lw_g (lw_at lw_m4 51 rfl) rfl
theorem q929 : (Jvm.Cond.methodLink "java/util/ArrayList" (85 : Nat) ({ cls := "java/util/ArrayList", name := "indexOf", desc := "(Ljava/lang/Object;)I" } : Jvm.MethodName)) ∈ lw_all := lw_g (lw_at lw_m4 52 rfl) rfl
theorem q930 : (Jvm.Cond.instanceMethod ({ cls := "java/util/ArrayList", name := "indexOf", desc := "(Ljava/lang/Object;)I" } : Jvm.MethodName)) ∈ lw_all := lw_g (lw_at lw_m4 53 rfl) rfl
theorem q931 : (Jvm.Cond.selects "java/util/ArrayList" ({ cls := "java/util/ArrayList", name := "indexOf", desc := "(Ljava/lang/Object;)I" } : Jvm.MethodName) ({ cls := "java/util/ArrayList", name := "indexOf", desc := "(Ljava/lang/Object;)I" } : Jvm.MethodName)) ∈ lw_all := lw_g (lw_at lw_m4 54 rfl) rfl
theorem q932 : (Jvm.Cond.code ({ cls := "java/util/ArrayList", name := "indexOf", desc := "(Ljava/lang/Object;)I" } : Jvm.MethodName) prog_49_method_11_code (2 : Nat) (Option.some Jvm.ClassFile.FieldType.int)) ∈ lw_all := lw_g (lw_at lw_m4 55 rfl) rfl
theorem q933 : (Jvm.Cond.methodLink "java/util/ArrayList" (89 : Nat) ({ cls := "java/util/ArrayList", name := "indexOfRange", desc := "(Ljava/lang/Object;II)I" } : Jvm.MethodName)) ∈ lw_all := lw_g (lw_at lw_m4 56 rfl) rfl
theorem q934 : (Jvm.Cond.instanceMethod ({ cls := "java/util/ArrayList", name := "indexOfRange", desc := "(Ljava/lang/Object;II)I" } : Jvm.MethodName)) ∈ lw_all := lw_g (lw_at lw_m4 57 rfl) rfl
theorem q935 : (Jvm.Cond.selects "java/util/ArrayList" ({ cls := "java/util/ArrayList", name := "indexOfRange", desc := "(Ljava/lang/Object;II)I" } : Jvm.MethodName) ({ cls := "java/util/ArrayList", name := "indexOfRange", desc := "(Ljava/lang/Object;II)I" } : Jvm.MethodName)) ∈ lw_all := lw_g (lw_at lw_m4 58 rfl) rfl
theorem q936 : (Jvm.Cond.code ({ cls := "java/util/ArrayList", name := "indexOfRange", desc := "(Ljava/lang/Object;II)I" } : Jvm.MethodName) prog_49_method_12_code (6 : Nat) (Option.some Jvm.ClassFile.FieldType.int)) ∈ lw_all := lw_g (lw_at lw_m4 59 rfl) rfl
theorem q938 : (Jvm.Cond.methodLink "java/util/ArrayList" (93 : Nat) ({ cls := "java/lang/Object", name := "equals", desc := "(Ljava/lang/Object;)Z" } : Jvm.MethodName)) ∈ lw_all := lw_g (lw_at lw_m4 61 rfl) rfl
theorem q974 : (Jvm.Cond.instanceMethod ({ cls := "java/util/ArrayList", name := "add", desc := "(Ljava/lang/Object;)Z" } : Jvm.MethodName)) ∈ lw_all := lw_g (lw_at lw_m4 97 rfl) rfl
theorem q975 : (Jvm.Cond.selects "java/util/ArrayList" ({ cls := "java/util/ArrayList", name := "add", desc := "(Ljava/lang/Object;)Z" } : Jvm.MethodName) ({ cls := "java/util/ArrayList", name := "add", desc := "(Ljava/lang/Object;)Z" } : Jvm.MethodName)) ∈ lw_all := lw_g (lw_at lw_m4 98 rfl) rfl
theorem q976 : (Jvm.Cond.code ({ cls := "java/util/ArrayList", name := "add", desc := "(Ljava/lang/Object;)Z" } : Jvm.MethodName) prog_49_method_25_code (2 : Nat) (Option.some Jvm.ClassFile.FieldType.boolean)) ∈ lw_all := lw_g (lw_at lw_m4 99 rfl) rfl
theorem q977 : (Jvm.Cond.methodLink "java/util/ArrayList" (131 : Nat) ({ cls := "java/util/ArrayList", name := "add", desc := "(Ljava/lang/Object;[Ljava/lang/Object;I)V" } : Jvm.MethodName)) ∈ lw_all := lw_g (lw_at lw_m4 100 rfl) rfl
theorem q978 : (Jvm.Cond.privateMethod ({ cls := "java/util/ArrayList", name := "add", desc := "(Ljava/lang/Object;[Ljava/lang/Object;I)V" } : Jvm.MethodName)) ∈ lw_tbl := lw_at lw_m4 101 rfl
theorem q979 : (Jvm.Cond.instanceMethod ({ cls := "java/util/ArrayList", name := "add", desc := "(Ljava/lang/Object;[Ljava/lang/Object;I)V" } : Jvm.MethodName)) ∈ lw_all := lw_g (lw_at lw_m4 102 rfl) rfl
theorem q980 : (Jvm.Cond.code ({ cls := "java/util/ArrayList", name := "add", desc := "(Ljava/lang/Object;[Ljava/lang/Object;I)V" } : Jvm.MethodName) prog_49_method_24_code (4 : Nat) (Option.none : Option Jvm.ClassFile.FieldType)) ∈ lw_all := lw_g (lw_at lw_m4 103 rfl) rfl
theorem q981 : (Jvm.Cond.methodLink "java/util/ArrayList" (129 : Nat) ({ cls := "java/util/ArrayList", name := "grow", desc := "()[Ljava/lang/Object;" } : Jvm.MethodName)) ∈ lw_all := lw_g (lw_at lw_m4 104 rfl) rfl
theorem q982 : (Jvm.Cond.privateMethod ({ cls := "java/util/ArrayList", name := "grow", desc := "()[Ljava/lang/Object;" } : Jvm.MethodName)) ∈ lw_tbl := lw_at lw_m4 105 rfl
theorem q983 : (Jvm.Cond.instanceMethod ({ cls := "java/util/ArrayList", name := "grow", desc := "()[Ljava/lang/Object;" } : Jvm.MethodName)) ∈ lw_all := lw_g (lw_at lw_m4 106 rfl) rfl
theorem q984 : (Jvm.Cond.code ({ cls := "java/util/ArrayList", name := "grow", desc := "()[Ljava/lang/Object;" } : Jvm.MethodName) prog_49_method_7_code (1 : Nat) (Option.some (Jvm.ClassFile.FieldType.array (Jvm.ClassFile.FieldType.object "java/lang/Object")))) ∈ lw_all := lw_g (lw_at lw_m4 107 rfl) rfl
theorem q985 : (Jvm.Cond.methodLink "java/util/ArrayList" (69 : Nat) ({ cls := "java/util/ArrayList", name := "grow", desc := "(I)[Ljava/lang/Object;" } : Jvm.MethodName)) ∈ lw_all := lw_g (lw_at lw_m4 108 rfl) rfl
theorem q986 : (Jvm.Cond.privateMethod ({ cls := "java/util/ArrayList", name := "grow", desc := "(I)[Ljava/lang/Object;" } : Jvm.MethodName)) ∈ lw_tbl := lw_at lw_m4 109 rfl
theorem q987 : (Jvm.Cond.instanceMethod ({ cls := "java/util/ArrayList", name := "grow", desc := "(I)[Ljava/lang/Object;" } : Jvm.MethodName)) ∈ lw_all := lw_g (lw_at lw_m4 110 rfl) rfl
theorem q988 : (Jvm.Cond.code ({ cls := "java/util/ArrayList", name := "grow", desc := "(I)[Ljava/lang/Object;" } : Jvm.MethodName) prog_49_method_6_code (4 : Nat) (Option.some (Jvm.ClassFile.FieldType.array (Jvm.ClassFile.FieldType.object "java/lang/Object")))) ∈ lw_all := lw_g (lw_at lw_m4 111 rfl) rfl
theorem q989 : (Jvm.Cond.fieldLink "java/util/ArrayList" (39 : Nat) "java/util/ArrayList" "DEFAULTCAPACITY_EMPTY_ELEMENTDATA" "[Ljava/lang/Object;") ∈ lw_all := lw_g (lw_at lw_m4 112 rfl) rfl
theorem q990 : (Jvm.Cond.laysStatic "java/util/ArrayList" "DEFAULTCAPACITY_EMPTY_ELEMENTDATA" "[Ljava/lang/Object;") ∈ lw_tbl := lw_at lw_m4 113 rfl
theorem q991 : (Jvm.Cond.methodLink "java/util/ArrayList" (73 : Nat) ({ cls := "jdk/internal/util/ArraysSupport", name := "newLength", desc := "(III)I" } : Jvm.MethodName)) ∈ lw_all := lw_g (lw_at lw_m4 114 rfl) rfl
theorem q992 : (Jvm.Cond.methodLink "java/util/ArrayList" (66 : Nat) ({ cls := "java/util/Arrays", name := "copyOf", desc := "([Ljava/lang/Object;I)[Ljava/lang/Object;" } : Jvm.MethodName)) ∈ lw_all := lw_g (lw_at lw_m4 115 rfl) rfl
theorem q1022 : (Jvm.Cond.selects "java/util/ArrayList" ({ cls := "java/lang/Object", name := "getClass", desc := "()Ljava/lang/Class;" } : Jvm.MethodName) ({ cls := "java/lang/Object", name := "getClass", desc := "()Ljava/lang/Class;" } : Jvm.MethodName)) ∈ lw_all := lw_g (lw_at lw_m4 145 rfl) rfl
theorem q1031 : (Jvm.Cond.methodLink "java/util/ArrayList" (79 : Nat) ({ cls := "java/lang/Math", name := "max", desc := "(II)I" } : Jvm.MethodName)) ∈ lw_all := lw_g (lw_at lw_m4 154 rfl) rfl
theorem q1285 : (Jvm.Cond.instanceMethod ({ cls := "java/util/ArrayList", name := "iterator", desc := "()Ljava/util/Iterator;" } : Jvm.MethodName)) ∈ lw_all := lw_g (lw_at lw_m5 168 rfl) rfl
theorem q1286 : (Jvm.Cond.selects "java/util/ArrayList" ({ cls := "java/util/ArrayList", name := "iterator", desc := "()Ljava/util/Iterator;" } : Jvm.MethodName) ({ cls := "java/util/ArrayList", name := "iterator", desc := "()Ljava/util/Iterator;" } : Jvm.MethodName)) ∈ lw_all := lw_g (lw_at lw_m5 169 rfl) rfl
theorem q1287 : (Jvm.Cond.code ({ cls := "java/util/ArrayList", name := "iterator", desc := "()Ljava/util/Iterator;" } : Jvm.MethodName) prog_49_method_55_code (1 : Nat) (Option.some (Jvm.ClassFile.FieldType.object "java/util/Iterator"))) ∈ lw_all := lw_g (lw_at lw_m5 170 rfl) rfl
theorem q1288 : (Jvm.Cond.classLink "java/util/ArrayList" (267 : Nat) "java/util/ArrayList$Itr") ∈ lw_all := lw_g (lw_at lw_m5 171 rfl) rfl
theorem q1290 : (Jvm.Cond.methodLink "java/util/ArrayList" (269 : Nat) ({ cls := "java/util/ArrayList$Itr", name := "<init>", desc := "(Ljava/util/ArrayList;)V" } : Jvm.MethodName)) ∈ lw_all := lw_g (lw_at lw_m5 173 rfl) rfl
theorem q1791 : (Jvm.Cond.instanceMethod ({ cls := "java/util/ArrayList", name := "clear", desc := "()V" } : Jvm.MethodName)) ∈ lw_all := lw_g (lw_at lw_m7 194 rfl) rfl
theorem q1792 : (Jvm.Cond.selects "java/util/ArrayList" ({ cls := "java/util/ArrayList", name := "clear", desc := "()V" } : Jvm.MethodName) ({ cls := "java/util/ArrayList", name := "clear", desc := "()V" } : Jvm.MethodName)) ∈ lw_all := lw_g (lw_at lw_m7 195 rfl) rfl
theorem q1793 : (Jvm.Cond.code ({ cls := "java/util/ArrayList", name := "clear", desc := "()V" } : Jvm.MethodName) prog_49_method_40_code (4 : Nat) (Option.none : Option Jvm.ClassFile.FieldType)) ∈ lw_all := lw_g (lw_at lw_m7 196 rfl) rfl
theorem q2155 : (Jvm.Cond.castable "java/util/ArrayList" "java/lang/Iterable") ∈ lw_tbl := lw_at lw_m9 78 rfl
theorem q2156 : (Jvm.Cond.selects "java/util/ArrayList" ({ cls := "java/lang/Iterable", name := "iterator", desc := "()Ljava/util/Iterator;" } : Jvm.MethodName) ({ cls := "java/util/ArrayList", name := "iterator", desc := "()Ljava/util/Iterator;" } : Jvm.MethodName)) ∈ lw_all := lw_g (lw_at lw_m9 79 rfl) rfl
theorem q2157 : (Jvm.Cond.unhidden "java/util/ArrayList" "iterator" "()Ljava/util/Iterator;") ∈ lw_tbl := lw_at lw_m9 80 rfl
theorem q2158 : (Jvm.Cond.publicMethod ({ cls := "java/util/ArrayList", name := "iterator", desc := "()Ljava/util/Iterator;" } : Jvm.MethodName)) ∈ lw_tbl := lw_at lw_m9 81 rfl
theorem q2161 : (Jvm.Cond.instanceMethod ({ cls := "java/util/ArrayList", name := "remove", desc := "(Ljava/lang/Object;)Z" } : Jvm.MethodName)) ∈ lw_all := lw_g (lw_at lw_m9 84 rfl) rfl
theorem q2162 : (Jvm.Cond.selects "java/util/ArrayList" ({ cls := "java/util/ArrayList", name := "remove", desc := "(Ljava/lang/Object;)Z" } : Jvm.MethodName) ({ cls := "java/util/ArrayList", name := "remove", desc := "(Ljava/lang/Object;)Z" } : Jvm.MethodName)) ∈ lw_all := lw_g (lw_at lw_m9 85 rfl) rfl
theorem q2163 : (Jvm.Cond.code ({ cls := "java/util/ArrayList", name := "remove", desc := "(Ljava/lang/Object;)Z" } : Jvm.MethodName) prog_49_method_38_code (5 : Nat) (Option.some Jvm.ClassFile.FieldType.boolean)) ∈ lw_all := lw_g (lw_at lw_m9 86 rfl) rfl
theorem q2164 : (Jvm.Cond.methodLink "java/util/ArrayList" (144 : Nat) ({ cls := "java/util/ArrayList", name := "fastRemove", desc := "([Ljava/lang/Object;I)V" } : Jvm.MethodName)) ∈ lw_all := lw_g (lw_at lw_m9 87 rfl) rfl
theorem q2165 : (Jvm.Cond.privateMethod ({ cls := "java/util/ArrayList", name := "fastRemove", desc := "([Ljava/lang/Object;I)V" } : Jvm.MethodName)) ∈ lw_tbl := lw_at lw_m9 88 rfl
theorem q2166 : (Jvm.Cond.instanceMethod ({ cls := "java/util/ArrayList", name := "fastRemove", desc := "([Ljava/lang/Object;I)V" } : Jvm.MethodName)) ∈ lw_all := lw_g (lw_at lw_m9 89 rfl) rfl
theorem q2167 : (Jvm.Cond.code ({ cls := "java/util/ArrayList", name := "fastRemove", desc := "([Ljava/lang/Object;I)V" } : Jvm.MethodName) prog_49_method_39_code (4 : Nat) (Option.none : Option Jvm.ClassFile.FieldType)) ∈ lw_all := lw_g (lw_at lw_m9 90 rfl) rfl
theorem q2168 : (Jvm.Cond.methodLink "java/util/ArrayList" (112 : Nat) ({ cls := "java/lang/System", name := "arraycopy", desc := "(Ljava/lang/Object;ILjava/lang/Object;II)V" } : Jvm.MethodName)) ∈ lw_all := lw_g (lw_at lw_m9 91 rfl) rfl
theorem q2170 : (Jvm.Cond.instanceMethod ({ cls := "java/util/ArrayList", name := "set", desc := "(ILjava/lang/Object;)Ljava/lang/Object;" } : Jvm.MethodName)) ∈ lw_all := lw_g (lw_at lw_m9 93 rfl) rfl
theorem q2171 : (Jvm.Cond.selects "java/util/ArrayList" ({ cls := "java/util/ArrayList", name := "set", desc := "(ILjava/lang/Object;)Ljava/lang/Object;" } : Jvm.MethodName) ({ cls := "java/util/ArrayList", name := "set", desc := "(ILjava/lang/Object;)Ljava/lang/Object;" } : Jvm.MethodName)) ∈ lw_all := lw_g (lw_at lw_m9 94 rfl) rfl
theorem q2172 : (Jvm.Cond.code ({ cls := "java/util/ArrayList", name := "set", desc := "(ILjava/lang/Object;)Ljava/lang/Object;" } : Jvm.MethodName) prog_49_method_23_code (4 : Nat) (Option.some (Jvm.ClassFile.FieldType.object "java/lang/Object"))) ∈ lw_all := lw_g (lw_at lw_m9 95 rfl) rfl
theorem q2936 : (Jvm.Cond.castable "java/util/ArrayList" "java/lang/Object") ∈ lw_tbl := lw_at lw_m12 139 rfl
theorem in_J12 : ∀ w ∈ wsJ120, w ∈ lw_all := lw_in wsJ120 [661, 657, 659] (by decide +kernel) (by decide +kernel)
/-! java/lang/Throwable -/
set_option maxRecDepth 100000
def RJ13 : String := "java/lang/Throwable"
def TJ13 : u_T := fun k => match k with
  | 0 => ("java/lang/Throwable", "cause", "Ljava/lang/Throwable;", false)
  | 1 => ("java/lang/Throwable", "stackTrace", "[Ljava/lang/StackTraceElement;", false)
  | 2 => ("java/lang/Throwable", "suppressedExceptions", "Ljava/util/List;", false)
  | 3 => ("java/lang/Throwable", "detailMessage", "Ljava/lang/String;", false)
  | _ => ("java/lang/Throwable", "backtrace", "Ljava/lang/Object;", false)
def tyJ13 : Nat → FieldType := fun k => match k with
  | 0 => .object "java/lang/Throwable"
  | 1 => .array (.object "java/lang/StackTraceElement")
  | 2 => .object "java/util/List"
  | 3 => .object "java/lang/String"
  | _ => .object "java/lang/Object"
abbrev wsJ130 : List Cond := u_ws RJ13 TJ13 5
theorem nmJ13 : ∀ a, a < 5 → ∀ b, b < 5 → a ≠ b → (TJ13 a).2.1 ≠ (TJ13 b).2.1 := by decide +kernel
theorem tyJ13_ok : ∀ k, k < 5 → parseFieldDescriptor (TJ13 k).2.2.1 = some (tyJ13 k) := by decide +kernel
abbrev cJ13_init : ByteArray := prog_44_method_1_code
def yJ13_init : MethodName := ⟨RJ13, "<init>", "()V"⟩
def dkwJ13_init_1 : List UInt8 := [182, 0, 27, 87, 177]
abbrev dktJ13_init_1 : List UInt8 := dkwJ13_init_1 ++ []
def dkwJ13_init_0 : List UInt8 := [42, 183, 0, 1, 42, 42, 181, 0, 7, 42, 178, 0, 13, 181, 0, 17, 42, 178, 0, 20, 181, 0, 24, 42]
abbrev dktJ13_init_0 : List UInt8 := dkwJ13_init_0 ++ dktJ13_init_1
theorem dksJ13_init_0 : cJ13_init.data.toList.drop 0 = dktJ13_init_0 := by decide +kernel
theorem dksJ13_init_1 : cJ13_init.data.toList.drop 24 = dktJ13_init_1 := dk_seg dksJ13_init_0 24 rfl rfl
theorem dJ13_init_0 : decode cJ13_init 0 = .ok (.aload_n 0, 1) := dk_42 (dk_at dksJ13_init_0 0 rfl rfl)
theorem dJ13_init_1 : decode cJ13_init 1 = .ok (.invokespecial 1, 3) := dk_183 0 1 (dk_at dksJ13_init_0 1 rfl rfl)
theorem dJ13_init_4 : decode cJ13_init 4 = .ok (.aload_n 0, 1) := dk_42 (dk_at dksJ13_init_0 4 rfl rfl)
theorem dJ13_init_5 : decode cJ13_init 5 = .ok (.aload_n 0, 1) := dk_42 (dk_at dksJ13_init_0 5 rfl rfl)
theorem dJ13_init_6 : decode cJ13_init 6 = .ok (.putfield 7, 3) := dk_181 0 7 (dk_at dksJ13_init_0 6 rfl rfl)
theorem dJ13_init_9 : decode cJ13_init 9 = .ok (.aload_n 0, 1) := dk_42 (dk_at dksJ13_init_0 9 rfl rfl)
theorem dJ13_init_10 : decode cJ13_init 10 = .ok (.getstatic 13, 3) := dk_178 0 13 (dk_at dksJ13_init_0 10 rfl rfl)
theorem dJ13_init_13 : decode cJ13_init 13 = .ok (.putfield 17, 3) := dk_181 0 17 (dk_at dksJ13_init_0 13 rfl rfl)
theorem dJ13_init_16 : decode cJ13_init 16 = .ok (.aload_n 0, 1) := dk_42 (dk_at dksJ13_init_0 16 rfl rfl)
theorem dJ13_init_17 : decode cJ13_init 17 = .ok (.getstatic 20, 3) := dk_178 0 20 (dk_at dksJ13_init_0 17 rfl rfl)
theorem dJ13_init_20 : decode cJ13_init 20 = .ok (.putfield 24, 3) := dk_181 0 24 (dk_at dksJ13_init_0 20 rfl rfl)
theorem dJ13_init_23 : decode cJ13_init 23 = .ok (.aload_n 0, 1) := dk_42 (dk_at dksJ13_init_0 23 rfl rfl)
theorem dJ13_init_24 : decode cJ13_init 24 = .ok (.invokevirtual 27, 3) := dk_182 0 27 (dk_at dksJ13_init_1 0 rfl rfl)
theorem dJ13_init_27 : decode cJ13_init 27 = .ok (.pop, 1) := dk_87 (dk_at dksJ13_init_1 3 rfl rfl)
theorem dJ13_init_28 : decode cJ13_init 28 = .ok (.return_, 1) := dk_177 (dk_at dksJ13_init_1 4 rfl rfl)
abbrev cJ13_init_2 : ByteArray := prog_44_method_5_code
def yJ13_init_2 : MethodName := ⟨RJ13, "<init>", "(Ljava/lang/String;Ljava/lang/Throwable;ZZ)V"⟩
def dkwJ13_init_2_2 : List UInt8 := [44, 181, 0, 7, 29, 154, 0, 8, 42, 1, 181, 0, 24, 177]
abbrev dktJ13_init_2_2 : List UInt8 := dkwJ13_init_2_2 ++ []
def dkwJ13_init_2_1 : List UInt8 := [21, 4, 153, 0, 11, 42, 182, 0, 27, 87, 167, 0, 8, 42, 1, 181, 0, 17, 42, 43, 181, 0, 31, 42]
abbrev dktJ13_init_2_1 : List UInt8 := dkwJ13_init_2_1 ++ dktJ13_init_2_2
def dkwJ13_init_2_0 : List UInt8 := [42, 183, 0, 1, 42, 42, 181, 0, 7, 42, 178, 0, 13, 181, 0, 17, 42, 178, 0, 20, 181, 0, 24]
abbrev dktJ13_init_2_0 : List UInt8 := dkwJ13_init_2_0 ++ dktJ13_init_2_1
theorem dksJ13_init_2_0 : cJ13_init_2.data.toList.drop 0 = dktJ13_init_2_0 := by decide +kernel
theorem dksJ13_init_2_1 : cJ13_init_2.data.toList.drop 23 = dktJ13_init_2_1 := dk_seg dksJ13_init_2_0 23 rfl rfl
theorem dksJ13_init_2_2 : cJ13_init_2.data.toList.drop 47 = dktJ13_init_2_2 := dk_seg dksJ13_init_2_1 24 rfl rfl
theorem dJ13_init_2_0 : decode cJ13_init_2 0 = .ok (.aload_n 0, 1) := dk_42 (dk_at dksJ13_init_2_0 0 rfl rfl)
theorem dJ13_init_2_1 : decode cJ13_init_2 1 = .ok (.invokespecial 1, 3) := dk_183 0 1 (dk_at dksJ13_init_2_0 1 rfl rfl)
theorem dJ13_init_2_4 : decode cJ13_init_2 4 = .ok (.aload_n 0, 1) := dk_42 (dk_at dksJ13_init_2_0 4 rfl rfl)
theorem dJ13_init_2_5 : decode cJ13_init_2 5 = .ok (.aload_n 0, 1) := dk_42 (dk_at dksJ13_init_2_0 5 rfl rfl)
theorem dJ13_init_2_6 : decode cJ13_init_2 6 = .ok (.putfield 7, 3) := dk_181 0 7 (dk_at dksJ13_init_2_0 6 rfl rfl)
theorem dJ13_init_2_9 : decode cJ13_init_2 9 = .ok (.aload_n 0, 1) := dk_42 (dk_at dksJ13_init_2_0 9 rfl rfl)
theorem dJ13_init_2_10 : decode cJ13_init_2 10 = .ok (.getstatic 13, 3) := dk_178 0 13 (dk_at dksJ13_init_2_0 10 rfl rfl)
theorem dJ13_init_2_13 : decode cJ13_init_2 13 = .ok (.putfield 17, 3) := dk_181 0 17 (dk_at dksJ13_init_2_0 13 rfl rfl)
theorem dJ13_init_2_16 : decode cJ13_init_2 16 = .ok (.aload_n 0, 1) := dk_42 (dk_at dksJ13_init_2_0 16 rfl rfl)
theorem dJ13_init_2_17 : decode cJ13_init_2 17 = .ok (.getstatic 20, 3) := dk_178 0 20 (dk_at dksJ13_init_2_0 17 rfl rfl)
theorem dJ13_init_2_20 : decode cJ13_init_2 20 = .ok (.putfield 24, 3) := dk_181 0 24 (dk_at dksJ13_init_2_0 20 rfl rfl)
theorem dJ13_init_2_23 : decode cJ13_init_2 23 = .ok (.iload 4, 2) := dk_21 4 (dk_at dksJ13_init_2_1 0 rfl rfl)
theorem dJ13_init_2_25 : decode cJ13_init_2 25 = .ok (.ifCond .eq 11, 3) := dk_153 0 11 (dk_at dksJ13_init_2_1 2 rfl rfl)
theorem dJ13_init_2_28 : decode cJ13_init_2 28 = .ok (.aload_n 0, 1) := dk_42 (dk_at dksJ13_init_2_1 5 rfl rfl)
theorem dJ13_init_2_29 : decode cJ13_init_2 29 = .ok (.invokevirtual 27, 3) := dk_182 0 27 (dk_at dksJ13_init_2_1 6 rfl rfl)
theorem dJ13_init_2_32 : decode cJ13_init_2 32 = .ok (.pop, 1) := dk_87 (dk_at dksJ13_init_2_1 9 rfl rfl)
theorem dJ13_init_2_33 : decode cJ13_init_2 33 = .ok (.goto 8, 3) := dk_167 0 8 (dk_at dksJ13_init_2_1 10 rfl rfl)
theorem dJ13_init_2_36 : decode cJ13_init_2 36 = .ok (.aload_n 0, 1) := dk_42 (dk_at dksJ13_init_2_1 13 rfl rfl)
theorem dJ13_init_2_37 : decode cJ13_init_2 37 = .ok (.aconst_null, 1) := dk_1 (dk_at dksJ13_init_2_1 14 rfl rfl)
theorem dJ13_init_2_38 : decode cJ13_init_2 38 = .ok (.putfield 17, 3) := dk_181 0 17 (dk_at dksJ13_init_2_1 15 rfl rfl)
theorem dJ13_init_2_41 : decode cJ13_init_2 41 = .ok (.aload_n 0, 1) := dk_42 (dk_at dksJ13_init_2_1 18 rfl rfl)
theorem dJ13_init_2_42 : decode cJ13_init_2 42 = .ok (.aload_n 1, 1) := dk_43 (dk_at dksJ13_init_2_1 19 rfl rfl)
theorem dJ13_init_2_43 : decode cJ13_init_2 43 = .ok (.putfield 31, 3) := dk_181 0 31 (dk_at dksJ13_init_2_1 20 rfl rfl)
theorem dJ13_init_2_46 : decode cJ13_init_2 46 = .ok (.aload_n 0, 1) := dk_42 (dk_at dksJ13_init_2_1 23 rfl rfl)
theorem dJ13_init_2_47 : decode cJ13_init_2 47 = .ok (.aload_n 2, 1) := dk_44 (dk_at dksJ13_init_2_2 0 rfl rfl)
theorem dJ13_init_2_48 : decode cJ13_init_2 48 = .ok (.putfield 7, 3) := dk_181 0 7 (dk_at dksJ13_init_2_2 1 rfl rfl)
theorem dJ13_init_2_51 : decode cJ13_init_2 51 = .ok (.iload_n 3, 1) := dk_29 (dk_at dksJ13_init_2_2 4 rfl rfl)
theorem dJ13_init_2_52 : decode cJ13_init_2 52 = .ok (.ifCond .ne 8, 3) := dk_154 0 8 (dk_at dksJ13_init_2_2 5 rfl rfl)
theorem dJ13_init_2_55 : decode cJ13_init_2 55 = .ok (.aload_n 0, 1) := dk_42 (dk_at dksJ13_init_2_2 8 rfl rfl)
theorem dJ13_init_2_56 : decode cJ13_init_2 56 = .ok (.aconst_null, 1) := dk_1 (dk_at dksJ13_init_2_2 9 rfl rfl)
theorem dJ13_init_2_57 : decode cJ13_init_2 57 = .ok (.putfield 24, 3) := dk_181 0 24 (dk_at dksJ13_init_2_2 10 rfl rfl)
theorem dJ13_init_2_60 : decode cJ13_init_2 60 = .ok (.return_, 1) := dk_177 (dk_at dksJ13_init_2_2 13 rfl rfl)
theorem q176 : (Jvm.Cond.initialized "java/lang/Throwable") ∈ lw_all := lw_g (lw_at lw_m1 19 rfl) rfl
theorem q722 : (Jvm.Cond.declares ({ cls := "java/lang/Throwable", name := "<init>", desc := "()V" } : Jvm.MethodName)) ∈ lw_tbl := lw_at lw_m3 85 rfl
theorem q723 : (Jvm.Cond.declares ({ cls := "java/lang/Throwable", name := "<init>", desc := "(Ljava/lang/String;)V" } : Jvm.MethodName)) ∈ lw_tbl := lw_at lw_m3 86 rfl
theorem q727 : (Jvm.Cond.lays "java/lang/Throwable" "java/lang/Throwable" "cause" "Ljava/lang/Throwable;") ∈ lw_all := lw_g (lw_at lw_m3 90 rfl) rfl
theorem q729 : (Jvm.Cond.lays "java/lang/Throwable" "java/lang/Throwable" "stackTrace" "[Ljava/lang/StackTraceElement;") ∈ lw_all := lw_g (lw_at lw_m3 92 rfl) rfl
theorem q731 : (Jvm.Cond.lays "java/lang/Throwable" "java/lang/Throwable" "suppressedExceptions" "Ljava/util/List;") ∈ lw_all := lw_g (lw_at lw_m3 94 rfl) rfl
theorem q733 : (Jvm.Cond.lays "java/lang/Throwable" "java/lang/Throwable" "detailMessage" "Ljava/lang/String;") ∈ lw_all := lw_g (lw_at lw_m3 96 rfl) rfl
theorem q735 : (Jvm.Cond.lays "java/lang/Throwable" "java/lang/Throwable" "backtrace" "Ljava/lang/Object;") ∈ lw_all := lw_g (lw_at lw_m3 98 rfl) rfl
theorem q736 : (Jvm.Cond.fieldLink "java/lang/Throwable" (198 : Nat) "java/lang/Throwable" "backtrace" "Ljava/lang/Object;") ∈ lw_all := lw_g (lw_at lw_m3 99 rfl) rfl
theorem q737 : (Jvm.Cond.superclass "java/lang/Throwable" "java/lang/Object") ∈ lw_all := lw_g (lw_at lw_m3 100 rfl) rfl
theorem q738 : (Jvm.Cond.instanceMethod ({ cls := "java/lang/Throwable", name := "<init>", desc := "()V" } : Jvm.MethodName)) ∈ lw_all := lw_g (lw_at lw_m3 101 rfl) rfl
theorem q739 : (Jvm.Cond.code ({ cls := "java/lang/Throwable", name := "<init>", desc := "()V" } : Jvm.MethodName) prog_44_method_1_code (1 : Nat) (Option.none : Option Jvm.ClassFile.FieldType)) ∈ lw_all := lw_g (lw_at lw_m3 102 rfl) rfl
theorem q740 : (Jvm.Cond.methodLink "java/lang/Throwable" (1 : Nat) ({ cls := "java/lang/Object", name := "<init>", desc := "()V" } : Jvm.MethodName)) ∈ lw_all := lw_g (lw_at lw_m3 103 rfl) rfl
theorem q741 : (Jvm.Cond.fieldLink "java/lang/Throwable" (13 : Nat) "java/lang/Throwable" "UNASSIGNED_STACK" "[Ljava/lang/StackTraceElement;") ∈ lw_all := lw_g (lw_at lw_m3 104 rfl) rfl
theorem q742 : (Jvm.Cond.laysStatic "java/lang/Throwable" "UNASSIGNED_STACK" "[Ljava/lang/StackTraceElement;") ∈ lw_tbl := lw_at lw_m3 105 rfl
theorem q743 : (Jvm.Cond.fieldLink "java/lang/Throwable" (20 : Nat) "java/lang/Throwable" "SUPPRESSED_SENTINEL" "Ljava/util/List;") ∈ lw_all := lw_g (lw_at lw_m3 106 rfl) rfl
theorem q744 : (Jvm.Cond.laysStatic "java/lang/Throwable" "SUPPRESSED_SENTINEL" "Ljava/util/List;") ∈ lw_tbl := lw_at lw_m3 107 rfl
theorem q745 : (Jvm.Cond.methodLink "java/lang/Throwable" (27 : Nat) ({ cls := "java/lang/Throwable", name := "fillInStackTrace", desc := "()Ljava/lang/Throwable;" } : Jvm.MethodName)) ∈ lw_all := lw_g (lw_at lw_m3 108 rfl) rfl
theorem q746 : (Jvm.Cond.instanceMethod ({ cls := "java/lang/Throwable", name := "fillInStackTrace", desc := "()Ljava/lang/Throwable;" } : Jvm.MethodName)) ∈ lw_all := lw_g (lw_at lw_m3 109 rfl) rfl
theorem q747 : (Jvm.Cond.sameMethod "java/lang/Throwable" "java/lang/Throwable" "fillInStackTrace" "()Ljava/lang/Throwable;") ∈ lw_all := lw_g (lw_at lw_m3 110 rfl) rfl
theorem q749 : (Jvm.Cond.codeSync ({ cls := "java/lang/Throwable", name := "fillInStackTrace", desc := "()Ljava/lang/Throwable;" } : Jvm.MethodName) prog_44_method_18_code (1 : Nat) (Option.some (Jvm.ClassFile.FieldType.object "java/lang/Throwable"))) ∈ lw_all := lw_g (lw_at lw_m3 112 rfl) rfl
theorem q750 : (Jvm.Cond.methodLink "java/lang/Throwable" (202 : Nat) ({ cls := "java/lang/Throwable", name := "fillInStackTrace", desc := "(I)Ljava/lang/Throwable;" } : Jvm.MethodName)) ∈ lw_all := lw_g (lw_at lw_m3 113 rfl) rfl
theorem q751 : (Jvm.Cond.privateMethod ({ cls := "java/lang/Throwable", name := "fillInStackTrace", desc := "(I)Ljava/lang/Throwable;" } : Jvm.MethodName)) ∈ lw_tbl := lw_at lw_m3 114 rfl
theorem q752 : (Jvm.Cond.instanceMethod ({ cls := "java/lang/Throwable", name := "fillInStackTrace", desc := "(I)Ljava/lang/Throwable;" } : Jvm.MethodName)) ∈ lw_all := lw_g (lw_at lw_m3 115 rfl) rfl
theorem q753 : (Jvm.Cond.instantiable "java/lang/Throwable" (6 : Nat)) ∈ lw_all := lw_g (lw_at lw_m3 116 rfl) rfl
theorem q754 : (Jvm.Cond.native ({ cls := "java/lang/Throwable", name := "fillInStackTrace", desc := "(I)Ljava/lang/Throwable;" } : Jvm.MethodName)) ∈ lw_all := lw_g (lw_at lw_m3 117 rfl) rfl
theorem q762 : (Jvm.Cond.instanceMethod ({ cls := "java/lang/Throwable", name := "<init>", desc := "(Ljava/lang/String;Ljava/lang/Throwable;ZZ)V" } : Jvm.MethodName)) ∈ lw_all := lw_g (lw_at lw_m3 125 rfl) rfl
theorem q763 : (Jvm.Cond.code ({ cls := "java/lang/Throwable", name := "<init>", desc := "(Ljava/lang/String;Ljava/lang/Throwable;ZZ)V" } : Jvm.MethodName) prog_44_method_5_code (5 : Nat) (Option.none : Option Jvm.ClassFile.FieldType)) ∈ lw_all := lw_g (lw_at lw_m3 126 rfl) rfl
theorem q768 : (Jvm.Cond.fieldLink "java/lang/Throwable" (198 : Nat) "java/lang/Throwable" "backtrace" "Ljava/lang/Object;") ∈ lw_all := lw_g (lw_at lw_m3 131 rfl) rfl
theorem q769 : (Jvm.Cond.fieldLink "java/lang/Throwable" (31 : Nat) "java/lang/Throwable" "detailMessage" "Ljava/lang/String;") ∈ lw_all := lw_g (lw_at lw_m3 132 rfl) rfl
theorem q770 : (Jvm.Cond.fieldLink "java/lang/Throwable" (7 : Nat) "java/lang/Throwable" "cause" "Ljava/lang/Throwable;") ∈ lw_all := lw_g (lw_at lw_m3 133 rfl) rfl
theorem q771 : (Jvm.Cond.fieldLink "java/lang/Throwable" (17 : Nat) "java/lang/Throwable" "stackTrace" "[Ljava/lang/StackTraceElement;") ∈ lw_all := lw_g (lw_at lw_m3 134 rfl) rfl
theorem q772 : (Jvm.Cond.fieldLink "java/lang/Throwable" (24 : Nat) "java/lang/Throwable" "suppressedExceptions" "Ljava/util/List;") ∈ lw_all := lw_g (lw_at lw_m3 135 rfl) rfl
theorem q777 : (Jvm.Cond.soleField "java/lang/Throwable" "backtrace") ∈ lw_all := lw_g (lw_at lw_m3 140 rfl) rfl
theorem q778 : (Jvm.Cond.soleField "java/lang/Throwable" "detailMessage") ∈ lw_all := lw_g (lw_at lw_m3 141 rfl) rfl
theorem q779 : (Jvm.Cond.soleField "java/lang/Throwable" "cause") ∈ lw_all := lw_g (lw_at lw_m3 142 rfl) rfl
theorem q780 : (Jvm.Cond.soleField "java/lang/Throwable" "stackTrace") ∈ lw_all := lw_g (lw_at lw_m3 143 rfl) rfl
theorem q782 : (Jvm.Cond.soleField "java/lang/Throwable" "depth") ∈ lw_all := lw_g (lw_at lw_m3 145 rfl) rfl
theorem q783 : (Jvm.Cond.soleField "java/lang/Throwable" "suppressedExceptions") ∈ lw_all := lw_g (lw_at lw_m3 146 rfl) rfl
theorem q2925 : (Jvm.Cond.sameMethod "java/lang/Throwable" "java/lang/Throwable" "fillInStackTrace" "(I)Ljava/lang/Throwable;") ∈ lw_all := lw_g (lw_at lw_m12 128 rfl) rfl
theorem q2957 : (Jvm.Cond.castable "java/lang/Throwable" "java/lang/Object") ∈ lw_tbl := lw_at lw_m12 160 rfl
theorem in_J13 : ∀ w ∈ wsJ130, w ∈ lw_all := lw_in wsJ130 [727, 729, 731, 733, 735] (by decide +kernel) (by decide +kernel)
/-! java/lang/Exception -/
set_option maxRecDepth 100000
def RJ14 : String := "java/lang/Exception"
abbrev cJ14_init : ByteArray := prog_31_method_5_code
def yJ14_init : MethodName := ⟨RJ14, "<init>", "(Ljava/lang/String;Ljava/lang/Throwable;ZZ)V"⟩
def dkwJ14_init_0 : List UInt8 := [42, 43, 44, 29, 21, 4, 183, 0, 16, 177]
abbrev dktJ14_init_0 : List UInt8 := dkwJ14_init_0 ++ []
theorem dksJ14_init_0 : cJ14_init.data.toList.drop 0 = dktJ14_init_0 := by decide +kernel
theorem dJ14_init_0 : decode cJ14_init 0 = .ok (.aload_n 0, 1) := dk_42 (dk_at dksJ14_init_0 0 rfl rfl)
theorem dJ14_init_1 : decode cJ14_init 1 = .ok (.aload_n 1, 1) := dk_43 (dk_at dksJ14_init_0 1 rfl rfl)
theorem dJ14_init_2 : decode cJ14_init 2 = .ok (.aload_n 2, 1) := dk_44 (dk_at dksJ14_init_0 2 rfl rfl)
theorem dJ14_init_3 : decode cJ14_init 3 = .ok (.iload_n 3, 1) := dk_29 (dk_at dksJ14_init_0 3 rfl rfl)
theorem dJ14_init_4 : decode cJ14_init 4 = .ok (.iload 4, 2) := dk_21 4 (dk_at dksJ14_init_0 4 rfl rfl)
theorem dJ14_init_6 : decode cJ14_init 6 = .ok (.invokespecial 16, 3) := dk_183 0 16 (dk_at dksJ14_init_0 6 rfl rfl)
theorem dJ14_init_9 : decode cJ14_init 9 = .ok (.return_, 1) := dk_177 (dk_at dksJ14_init_0 9 rfl rfl)
abbrev cJ14_init_2 : ByteArray := prog_31_method_1_code
def yJ14_init_2 : MethodName := ⟨RJ14, "<init>", "()V"⟩
theorem dJ14_init_2_0 : decode cJ14_init_2 0 = .ok (.aload_n 0, 1) := by decide +kernel
theorem dJ14_init_2_1 : decode cJ14_init_2 1 = .ok (.invokespecial 1, 3) := by decide +kernel
theorem dJ14_init_2_4 : decode cJ14_init_2 4 = .ok (.return_, 1) := by decide +kernel
theorem q177 : (Jvm.Cond.initialized "java/lang/Exception") ∈ lw_all := lw_g (lw_at lw_m1 20 rfl) rfl
theorem q720 : (Jvm.Cond.declares ({ cls := "java/lang/Exception", name := "<init>", desc := "()V" } : Jvm.MethodName)) ∈ lw_tbl := lw_at lw_m3 83 rfl
theorem q721 : (Jvm.Cond.declares ({ cls := "java/lang/Exception", name := "<init>", desc := "(Ljava/lang/String;)V" } : Jvm.MethodName)) ∈ lw_tbl := lw_at lw_m3 84 rfl
theorem q759 : (Jvm.Cond.instanceMethod ({ cls := "java/lang/Exception", name := "<init>", desc := "(Ljava/lang/String;Ljava/lang/Throwable;ZZ)V" } : Jvm.MethodName)) ∈ lw_all := lw_g (lw_at lw_m3 122 rfl) rfl
theorem q760 : (Jvm.Cond.code ({ cls := "java/lang/Exception", name := "<init>", desc := "(Ljava/lang/String;Ljava/lang/Throwable;ZZ)V" } : Jvm.MethodName) prog_31_method_5_code (5 : Nat) (Option.none : Option Jvm.ClassFile.FieldType)) ∈ lw_all := lw_g (lw_at lw_m3 123 rfl) rfl
theorem q761 : (Jvm.Cond.methodLink "java/lang/Exception" (16 : Nat) ({ cls := "java/lang/Throwable", name := "<init>", desc := "(Ljava/lang/String;Ljava/lang/Throwable;ZZ)V" } : Jvm.MethodName)) ∈ lw_all := lw_g (lw_at lw_m3 124 rfl) rfl
theorem q1358 : (Jvm.Cond.instanceMethod ({ cls := "java/lang/Exception", name := "<init>", desc := "()V" } : Jvm.MethodName)) ∈ lw_all := lw_g (lw_at lw_m6 1 rfl) rfl
theorem q1359 : (Jvm.Cond.code ({ cls := "java/lang/Exception", name := "<init>", desc := "()V" } : Jvm.MethodName) prog_31_method_1_code (1 : Nat) (Option.none : Option Jvm.ClassFile.FieldType)) ∈ lw_all := lw_g (lw_at lw_m6 2 rfl) rfl
theorem q1360 : (Jvm.Cond.methodLink "java/lang/Exception" (1 : Nat) ({ cls := "java/lang/Throwable", name := "<init>", desc := "()V" } : Jvm.MethodName)) ∈ lw_all := lw_g (lw_at lw_m6 3 rfl) rfl
/-! java/util/Objects -/
set_option maxRecDepth 100000
def RJ15 : String := "java/util/Objects"
abbrev cJ15_checkIndex : ByteArray := prog_56_method_17_code
def yJ15_checkIndex : MethodName := ⟨RJ15, "checkIndex", "(II)I"⟩
def dkwJ15_checkIndex_0 : List UInt8 := [26, 27, 1, 184, 0, 105, 172]
abbrev dktJ15_checkIndex_0 : List UInt8 := dkwJ15_checkIndex_0 ++ []
theorem dksJ15_checkIndex_0 : cJ15_checkIndex.data.toList.drop 0 = dktJ15_checkIndex_0 := by decide +kernel
theorem dJ15_checkIndex_0 : decode cJ15_checkIndex 0 = .ok (.iload_n 0, 1) := dk_26 (dk_at dksJ15_checkIndex_0 0 rfl rfl)
theorem dJ15_checkIndex_1 : decode cJ15_checkIndex 1 = .ok (.iload_n 1, 1) := dk_27 (dk_at dksJ15_checkIndex_0 1 rfl rfl)
theorem dJ15_checkIndex_2 : decode cJ15_checkIndex 2 = .ok (.aconst_null, 1) := dk_1 (dk_at dksJ15_checkIndex_0 2 rfl rfl)
theorem dJ15_checkIndex_3 : decode cJ15_checkIndex 3 = .ok (.invokestatic 105, 3) := dk_184 0 105 (dk_at dksJ15_checkIndex_0 3 rfl rfl)
theorem dJ15_checkIndex_6 : decode cJ15_checkIndex 6 = .ok (.ireturn, 1) := dk_172 (dk_at dksJ15_checkIndex_0 6 rfl rfl)
theorem q179 : (Jvm.Cond.initialized "java/util/Objects") ∈ lw_all := lw_g (lw_at lw_m1 22 rfl) rfl
theorem q860 : (Jvm.Cond.static ({ cls := "java/util/Objects", name := "checkIndex", desc := "(II)I" } : Jvm.MethodName)) ∈ lw_all := lw_g (lw_at lw_m3 223 rfl) rfl
theorem q861 : (Jvm.Cond.code ({ cls := "java/util/Objects", name := "checkIndex", desc := "(II)I" } : Jvm.MethodName) prog_56_method_17_code (2 : Nat) (Option.some Jvm.ClassFile.FieldType.int)) ∈ lw_all := lw_g (lw_at lw_m3 224 rfl) rfl
theorem q862 : (Jvm.Cond.methodLink "java/util/Objects" (105 : Nat) ({ cls := "jdk/internal/util/Preconditions", name := "checkIndex", desc := "(IILjava/util/function/BiFunction;)I" } : Jvm.MethodName)) ∈ lw_all := lw_g (lw_at lw_m3 225 rfl) rfl
/-! java/util/ArrayList$Itr -/
set_option maxRecDepth 100000
def RJ16 : String := "java/util/ArrayList$Itr"
def TJ16 : u_T := fun k => match k with
  | 0 => ("java/util/ArrayList$Itr", "cursor", "I", false)
  | 1 => ("java/util/ArrayList$Itr", "lastRet", "I", false)
  | 2 => ("java/util/ArrayList$Itr", "expectedModCount", "I", false)
  | _ => ("java/util/ArrayList$Itr", "this$0", "Ljava/util/ArrayList;", true)
def tyJ16 : Nat → FieldType := fun k => match k with
  | 0 => .int
  | 1 => .int
  | 2 => .int
  | _ => .object "java/util/ArrayList"
abbrev wsJ160 : List Cond := u_ws RJ16 TJ16 4
theorem nmJ16 : ∀ a, a < 4 → ∀ b, b < 4 → a ≠ b → (TJ16 a).2.1 ≠ (TJ16 b).2.1 := by decide +kernel
theorem tyJ16_ok : ∀ k, k < 4 → parseFieldDescriptor (TJ16 k).2.2.1 = some (tyJ16 k) := by decide +kernel
abbrev cJ16_init : ByteArray := prog_50_method_1_code
def yJ16_init : MethodName := ⟨RJ16, "<init>", "(Ljava/util/ArrayList;)V"⟩
def dkwJ16_init_1 : List UInt8 := [181, 0, 22, 177]
abbrev dktJ16_init_1 : List UInt8 := dkwJ16_init_1 ++ []
def dkwJ16_init_0 : List UInt8 := [42, 43, 181, 0, 1, 42, 183, 0, 7, 42, 2, 181, 0, 13, 42, 42, 180, 0, 1, 180, 0, 17]
abbrev dktJ16_init_0 : List UInt8 := dkwJ16_init_0 ++ dktJ16_init_1
theorem dksJ16_init_0 : cJ16_init.data.toList.drop 0 = dktJ16_init_0 := by decide +kernel
theorem dksJ16_init_1 : cJ16_init.data.toList.drop 22 = dktJ16_init_1 := dk_seg dksJ16_init_0 22 rfl rfl
theorem dJ16_init_0 : decode cJ16_init 0 = .ok (.aload_n 0, 1) := dk_42 (dk_at dksJ16_init_0 0 rfl rfl)
theorem dJ16_init_1 : decode cJ16_init 1 = .ok (.aload_n 1, 1) := dk_43 (dk_at dksJ16_init_0 1 rfl rfl)
theorem dJ16_init_2 : decode cJ16_init 2 = .ok (.putfield 1, 3) := dk_181 0 1 (dk_at dksJ16_init_0 2 rfl rfl)
theorem dJ16_init_5 : decode cJ16_init 5 = .ok (.aload_n 0, 1) := dk_42 (dk_at dksJ16_init_0 5 rfl rfl)
theorem dJ16_init_6 : decode cJ16_init 6 = .ok (.invokespecial 7, 3) := dk_183 0 7 (dk_at dksJ16_init_0 6 rfl rfl)
theorem dJ16_init_9 : decode cJ16_init 9 = .ok (.aload_n 0, 1) := dk_42 (dk_at dksJ16_init_0 9 rfl rfl)
theorem dJ16_init_10 : decode cJ16_init 10 = .ok (.iconst (-1), 1) := dk_2 (dk_at dksJ16_init_0 10 rfl rfl)
theorem dJ16_init_11 : decode cJ16_init 11 = .ok (.putfield 13, 3) := dk_181 0 13 (dk_at dksJ16_init_0 11 rfl rfl)
theorem dJ16_init_14 : decode cJ16_init 14 = .ok (.aload_n 0, 1) := dk_42 (dk_at dksJ16_init_0 14 rfl rfl)
theorem dJ16_init_15 : decode cJ16_init 15 = .ok (.aload_n 0, 1) := dk_42 (dk_at dksJ16_init_0 15 rfl rfl)
theorem dJ16_init_16 : decode cJ16_init 16 = .ok (.getfield 1, 3) := dk_180 0 1 (dk_at dksJ16_init_0 16 rfl rfl)
theorem dJ16_init_19 : decode cJ16_init 19 = .ok (.getfield 17, 3) := dk_180 0 17 (dk_at dksJ16_init_0 19 rfl rfl)
theorem dJ16_init_22 : decode cJ16_init 22 = .ok (.putfield 22, 3) := dk_181 0 22 (dk_at dksJ16_init_1 0 rfl rfl)
theorem dJ16_init_25 : decode cJ16_init 25 = .ok (.return_, 1) := dk_177 (dk_at dksJ16_init_1 3 rfl rfl)
abbrev cJ16_hasNext : ByteArray := prog_50_method_2_code
def yJ16_hasNext : MethodName := ⟨RJ16, "hasNext", "()Z"⟩
def dkwJ16_hasNext_0 : List UInt8 := [42, 180, 0, 25, 42, 180, 0, 1, 180, 0, 28, 159, 0, 7, 4, 167, 0, 4, 3, 172]
abbrev dktJ16_hasNext_0 : List UInt8 := dkwJ16_hasNext_0 ++ []
theorem dksJ16_hasNext_0 : cJ16_hasNext.data.toList.drop 0 = dktJ16_hasNext_0 := by decide +kernel
theorem dJ16_hasNext_0 : decode cJ16_hasNext 0 = .ok (.aload_n 0, 1) := dk_42 (dk_at dksJ16_hasNext_0 0 rfl rfl)
theorem dJ16_hasNext_1 : decode cJ16_hasNext 1 = .ok (.getfield 25, 3) := dk_180 0 25 (dk_at dksJ16_hasNext_0 1 rfl rfl)
theorem dJ16_hasNext_4 : decode cJ16_hasNext 4 = .ok (.aload_n 0, 1) := dk_42 (dk_at dksJ16_hasNext_0 4 rfl rfl)
theorem dJ16_hasNext_5 : decode cJ16_hasNext 5 = .ok (.getfield 1, 3) := dk_180 0 1 (dk_at dksJ16_hasNext_0 5 rfl rfl)
theorem dJ16_hasNext_8 : decode cJ16_hasNext 8 = .ok (.getfield 28, 3) := dk_180 0 28 (dk_at dksJ16_hasNext_0 8 rfl rfl)
theorem dJ16_hasNext_11 : decode cJ16_hasNext 11 = .ok (.if_icmp .eq 7, 3) := dk_159 0 7 (dk_at dksJ16_hasNext_0 11 rfl rfl)
theorem dJ16_hasNext_14 : decode cJ16_hasNext 14 = .ok (.iconst 1, 1) := dk_4 (dk_at dksJ16_hasNext_0 14 rfl rfl)
theorem dJ16_hasNext_15 : decode cJ16_hasNext 15 = .ok (.goto 4, 3) := dk_167 0 4 (dk_at dksJ16_hasNext_0 15 rfl rfl)
theorem dJ16_hasNext_18 : decode cJ16_hasNext 18 = .ok (.iconst 0, 1) := dk_3 (dk_at dksJ16_hasNext_0 18 rfl rfl)
theorem dJ16_hasNext_19 : decode cJ16_hasNext 19 = .ok (.ireturn, 1) := dk_172 (dk_at dksJ16_hasNext_0 19 rfl rfl)
abbrev cJ16_next : ByteArray := prog_50_method_3_code
def yJ16_next : MethodName := ⟨RJ16, "next", "()Ljava/lang/Object;"⟩
def dkwJ16_next_2 : List UInt8 := [183, 0, 43, 191, 42, 27, 4, 96, 181, 0, 25, 44, 42, 27, 90, 181, 0, 13, 50, 176]
abbrev dktJ16_next_2 : List UInt8 := dkwJ16_next_2 ++ []
def dkwJ16_next_1 : List UInt8 := [183, 0, 36, 191, 42, 180, 0, 1, 180, 0, 37, 77, 27, 44, 190, 161, 0, 11, 187, 0, 41, 89]
abbrev dktJ16_next_1 : List UInt8 := dkwJ16_next_1 ++ dktJ16_next_2
def dkwJ16_next_0 : List UInt8 := [42, 182, 0, 31, 42, 180, 0, 25, 60, 27, 42, 180, 0, 1, 180, 0, 28, 161, 0, 11, 187, 0, 34, 89]
abbrev dktJ16_next_0 : List UInt8 := dkwJ16_next_0 ++ dktJ16_next_1
theorem dksJ16_next_0 : cJ16_next.data.toList.drop 0 = dktJ16_next_0 := by decide +kernel
theorem dksJ16_next_1 : cJ16_next.data.toList.drop 24 = dktJ16_next_1 := dk_seg dksJ16_next_0 24 rfl rfl
theorem dksJ16_next_2 : cJ16_next.data.toList.drop 46 = dktJ16_next_2 := dk_seg dksJ16_next_1 22 rfl rfl
theorem dJ16_next_0 : decode cJ16_next 0 = .ok (.aload_n 0, 1) := dk_42 (dk_at dksJ16_next_0 0 rfl rfl)
theorem dJ16_next_1 : decode cJ16_next 1 = .ok (.invokevirtual 31, 3) := dk_182 0 31 (dk_at dksJ16_next_0 1 rfl rfl)
theorem dJ16_next_4 : decode cJ16_next 4 = .ok (.aload_n 0, 1) := dk_42 (dk_at dksJ16_next_0 4 rfl rfl)
theorem dJ16_next_5 : decode cJ16_next 5 = .ok (.getfield 25, 3) := dk_180 0 25 (dk_at dksJ16_next_0 5 rfl rfl)
theorem dJ16_next_8 : decode cJ16_next 8 = .ok (.istore_n 1, 1) := dk_60 (dk_at dksJ16_next_0 8 rfl rfl)
theorem dJ16_next_9 : decode cJ16_next 9 = .ok (.iload_n 1, 1) := dk_27 (dk_at dksJ16_next_0 9 rfl rfl)
theorem dJ16_next_10 : decode cJ16_next 10 = .ok (.aload_n 0, 1) := dk_42 (dk_at dksJ16_next_0 10 rfl rfl)
theorem dJ16_next_11 : decode cJ16_next 11 = .ok (.getfield 1, 3) := dk_180 0 1 (dk_at dksJ16_next_0 11 rfl rfl)
theorem dJ16_next_14 : decode cJ16_next 14 = .ok (.getfield 28, 3) := dk_180 0 28 (dk_at dksJ16_next_0 14 rfl rfl)
theorem dJ16_next_17 : decode cJ16_next 17 = .ok (.if_icmp .lt 11, 3) := dk_161 0 11 (dk_at dksJ16_next_0 17 rfl rfl)
theorem dJ16_next_20 : decode cJ16_next 20 = .ok (.new 34, 3) := dk_187 0 34 (dk_at dksJ16_next_0 20 rfl rfl)
theorem dJ16_next_23 : decode cJ16_next 23 = .ok (.dup, 1) := dk_89 (dk_at dksJ16_next_0 23 rfl rfl)
theorem dJ16_next_24 : decode cJ16_next 24 = .ok (.invokespecial 36, 3) := dk_183 0 36 (dk_at dksJ16_next_1 0 rfl rfl)
theorem dJ16_next_27 : decode cJ16_next 27 = .ok (.athrow, 1) := dk_191 (dk_at dksJ16_next_1 3 rfl rfl)
theorem dJ16_next_28 : decode cJ16_next 28 = .ok (.aload_n 0, 1) := dk_42 (dk_at dksJ16_next_1 4 rfl rfl)
theorem dJ16_next_29 : decode cJ16_next 29 = .ok (.getfield 1, 3) := dk_180 0 1 (dk_at dksJ16_next_1 5 rfl rfl)
theorem dJ16_next_32 : decode cJ16_next 32 = .ok (.getfield 37, 3) := dk_180 0 37 (dk_at dksJ16_next_1 8 rfl rfl)
theorem dJ16_next_35 : decode cJ16_next 35 = .ok (.astore_n 2, 1) := dk_77 (dk_at dksJ16_next_1 11 rfl rfl)
theorem dJ16_next_36 : decode cJ16_next 36 = .ok (.iload_n 1, 1) := dk_27 (dk_at dksJ16_next_1 12 rfl rfl)
theorem dJ16_next_37 : decode cJ16_next 37 = .ok (.aload_n 2, 1) := dk_44 (dk_at dksJ16_next_1 13 rfl rfl)
theorem dJ16_next_38 : decode cJ16_next 38 = .ok (.arraylength, 1) := dk_190 (dk_at dksJ16_next_1 14 rfl rfl)
theorem dJ16_next_39 : decode cJ16_next 39 = .ok (.if_icmp .lt 11, 3) := dk_161 0 11 (dk_at dksJ16_next_1 15 rfl rfl)
theorem dJ16_next_42 : decode cJ16_next 42 = .ok (.new 41, 3) := dk_187 0 41 (dk_at dksJ16_next_1 18 rfl rfl)
theorem dJ16_next_45 : decode cJ16_next 45 = .ok (.dup, 1) := dk_89 (dk_at dksJ16_next_1 21 rfl rfl)
theorem dJ16_next_46 : decode cJ16_next 46 = .ok (.invokespecial 43, 3) := dk_183 0 43 (dk_at dksJ16_next_2 0 rfl rfl)
theorem dJ16_next_49 : decode cJ16_next 49 = .ok (.athrow, 1) := dk_191 (dk_at dksJ16_next_2 3 rfl rfl)
theorem dJ16_next_50 : decode cJ16_next 50 = .ok (.aload_n 0, 1) := dk_42 (dk_at dksJ16_next_2 4 rfl rfl)
theorem dJ16_next_51 : decode cJ16_next 51 = .ok (.iload_n 1, 1) := dk_27 (dk_at dksJ16_next_2 5 rfl rfl)
theorem dJ16_next_52 : decode cJ16_next 52 = .ok (.iconst 1, 1) := dk_4 (dk_at dksJ16_next_2 6 rfl rfl)
theorem dJ16_next_53 : decode cJ16_next 53 = .ok (.iadd, 1) := dk_96 (dk_at dksJ16_next_2 7 rfl rfl)
theorem dJ16_next_54 : decode cJ16_next 54 = .ok (.putfield 25, 3) := dk_181 0 25 (dk_at dksJ16_next_2 8 rfl rfl)
theorem dJ16_next_57 : decode cJ16_next 57 = .ok (.aload_n 2, 1) := dk_44 (dk_at dksJ16_next_2 11 rfl rfl)
theorem dJ16_next_58 : decode cJ16_next 58 = .ok (.aload_n 0, 1) := dk_42 (dk_at dksJ16_next_2 12 rfl rfl)
theorem dJ16_next_59 : decode cJ16_next 59 = .ok (.iload_n 1, 1) := dk_27 (dk_at dksJ16_next_2 13 rfl rfl)
theorem dJ16_next_60 : decode cJ16_next 60 = .ok (.dup_x1, 1) := dk_90 (dk_at dksJ16_next_2 14 rfl rfl)
theorem dJ16_next_61 : decode cJ16_next 61 = .ok (.putfield 13, 3) := dk_181 0 13 (dk_at dksJ16_next_2 15 rfl rfl)
theorem dJ16_next_64 : decode cJ16_next 64 = .ok (.aaload, 1) := dk_50 (dk_at dksJ16_next_2 18 rfl rfl)
theorem dJ16_next_65 : decode cJ16_next 65 = .ok (.areturn, 1) := dk_176 (dk_at dksJ16_next_2 19 rfl rfl)
abbrev cJ16_checkForComodification : ByteArray := prog_50_method_6_code
def yJ16_checkForComodification : MethodName := ⟨RJ16, "checkForComodification", "()V"⟩
def dkwJ16_checkForComodification_0 : List UInt8 := [42, 180, 0, 1, 180, 0, 17, 42, 180, 0, 22, 159, 0, 11, 187, 0, 41, 89, 183, 0, 43, 191, 177]
abbrev dktJ16_checkForComodification_0 : List UInt8 := dkwJ16_checkForComodification_0 ++ []
theorem dksJ16_checkForComodification_0 : cJ16_checkForComodification.data.toList.drop 0 = dktJ16_checkForComodification_0 := by decide +kernel
theorem dJ16_checkForComodification_0 : decode cJ16_checkForComodification 0 = .ok (.aload_n 0, 1) := dk_42 (dk_at dksJ16_checkForComodification_0 0 rfl rfl)
theorem dJ16_checkForComodification_1 : decode cJ16_checkForComodification 1 = .ok (.getfield 1, 3) := dk_180 0 1 (dk_at dksJ16_checkForComodification_0 1 rfl rfl)
theorem dJ16_checkForComodification_4 : decode cJ16_checkForComodification 4 = .ok (.getfield 17, 3) := dk_180 0 17 (dk_at dksJ16_checkForComodification_0 4 rfl rfl)
theorem dJ16_checkForComodification_7 : decode cJ16_checkForComodification 7 = .ok (.aload_n 0, 1) := dk_42 (dk_at dksJ16_checkForComodification_0 7 rfl rfl)
theorem dJ16_checkForComodification_8 : decode cJ16_checkForComodification 8 = .ok (.getfield 22, 3) := dk_180 0 22 (dk_at dksJ16_checkForComodification_0 8 rfl rfl)
theorem dJ16_checkForComodification_11 : decode cJ16_checkForComodification 11 = .ok (.if_icmp .eq 11, 3) := dk_159 0 11 (dk_at dksJ16_checkForComodification_0 11 rfl rfl)
theorem dJ16_checkForComodification_14 : decode cJ16_checkForComodification 14 = .ok (.new 41, 3) := dk_187 0 41 (dk_at dksJ16_checkForComodification_0 14 rfl rfl)
theorem dJ16_checkForComodification_17 : decode cJ16_checkForComodification 17 = .ok (.dup, 1) := dk_89 (dk_at dksJ16_checkForComodification_0 17 rfl rfl)
theorem dJ16_checkForComodification_18 : decode cJ16_checkForComodification 18 = .ok (.invokespecial 43, 3) := dk_183 0 43 (dk_at dksJ16_checkForComodification_0 18 rfl rfl)
theorem dJ16_checkForComodification_21 : decode cJ16_checkForComodification 21 = .ok (.athrow, 1) := dk_191 (dk_at dksJ16_checkForComodification_0 21 rfl rfl)
theorem dJ16_checkForComodification_22 : decode cJ16_checkForComodification 22 = .ok (.return_, 1) := dk_177 (dk_at dksJ16_checkForComodification_0 22 rfl rfl)
theorem q188 : (Jvm.Cond.initialized "java/util/ArrayList$Itr") ∈ lw_all := lw_g (lw_at lw_m1 31 rfl) rfl
theorem q650 : (Jvm.Cond.fieldLink "java/util/ArrayList$Itr" (37 : Nat) "java/util/ArrayList" "elementData" "[Ljava/lang/Object;") ∈ lw_all := lw_g (lw_at lw_m3 13 rfl) rfl
theorem q651 : (Jvm.Cond.fieldLinkNest "java/util/ArrayList$Itr" (28 : Nat) "java/util/ArrayList" "size" "I" "java/util/ArrayList") ∈ lw_tbl := lw_at lw_m3 14 rfl
theorem q654 : (Jvm.Cond.fieldLink "java/util/ArrayList$Itr" (17 : Nat) "java/util/ArrayList" "modCount" "I") ∈ lw_all := lw_g (lw_at lw_m3 17 rfl) rfl
theorem q1023 : (Jvm.Cond.selects "java/util/ArrayList$Itr" ({ cls := "java/lang/Object", name := "getClass", desc := "()Ljava/lang/Class;" } : Jvm.MethodName) ({ cls := "java/lang/Object", name := "getClass", desc := "()Ljava/lang/Class;" } : Jvm.MethodName)) ∈ lw_all := lw_g (lw_at lw_m4 146 rfl) rfl
theorem q1289 : (Jvm.Cond.instantiable "java/util/ArrayList$Itr" (4 : Nat)) ∈ lw_all := lw_g (lw_at lw_m5 172 rfl) rfl
theorem q1291 : (Jvm.Cond.instanceMethod ({ cls := "java/util/ArrayList$Itr", name := "<init>", desc := "(Ljava/util/ArrayList;)V" } : Jvm.MethodName)) ∈ lw_all := lw_g (lw_at lw_m5 174 rfl) rfl
theorem q1292 : (Jvm.Cond.code ({ cls := "java/util/ArrayList$Itr", name := "<init>", desc := "(Ljava/util/ArrayList;)V" } : Jvm.MethodName) prog_50_method_1_code (2 : Nat) (Option.none : Option Jvm.ClassFile.FieldType)) ∈ lw_all := lw_g (lw_at lw_m5 175 rfl) rfl
theorem q1293 : (Jvm.Cond.methodLink "java/util/ArrayList$Itr" (7 : Nat) ({ cls := "java/lang/Object", name := "<init>", desc := "()V" } : Jvm.MethodName)) ∈ lw_all := lw_g (lw_at lw_m5 176 rfl) rfl
theorem q1294 : (Jvm.Cond.fieldLink "java/util/ArrayList$Itr" (25 : Nat) "java/util/ArrayList$Itr" "cursor" "I") ∈ lw_all := lw_g (lw_at lw_m5 177 rfl) rfl
theorem q1295 : (Jvm.Cond.fieldLink "java/util/ArrayList$Itr" (13 : Nat) "java/util/ArrayList$Itr" "lastRet" "I") ∈ lw_all := lw_g (lw_at lw_m5 178 rfl) rfl
theorem q1296 : (Jvm.Cond.fieldLink "java/util/ArrayList$Itr" (22 : Nat) "java/util/ArrayList$Itr" "expectedModCount" "I") ∈ lw_all := lw_g (lw_at lw_m5 179 rfl) rfl
theorem q1297 : (Jvm.Cond.fieldLink "java/util/ArrayList$Itr" (1 : Nat) "java/util/ArrayList$Itr" "this$0" "Ljava/util/ArrayList;") ∈ lw_all := lw_g (lw_at lw_m5 180 rfl) rfl
theorem q1298 : (Jvm.Cond.lays "java/util/ArrayList$Itr" "java/util/ArrayList$Itr" "cursor" "I") ∈ lw_all := lw_g (lw_at lw_m5 181 rfl) rfl
theorem q1299 : (Jvm.Cond.soleField "java/util/ArrayList$Itr" "cursor") ∈ lw_all := lw_g (lw_at lw_m5 182 rfl) rfl
theorem q1300 : (Jvm.Cond.lays "java/util/ArrayList$Itr" "java/util/ArrayList$Itr" "lastRet" "I") ∈ lw_all := lw_g (lw_at lw_m5 183 rfl) rfl
theorem q1301 : (Jvm.Cond.soleField "java/util/ArrayList$Itr" "lastRet") ∈ lw_all := lw_g (lw_at lw_m5 184 rfl) rfl
theorem q1302 : (Jvm.Cond.lays "java/util/ArrayList$Itr" "java/util/ArrayList$Itr" "expectedModCount" "I") ∈ lw_all := lw_g (lw_at lw_m5 185 rfl) rfl
theorem q1303 : (Jvm.Cond.soleField "java/util/ArrayList$Itr" "expectedModCount") ∈ lw_all := lw_g (lw_at lw_m5 186 rfl) rfl
theorem q1304 : (Jvm.Cond.laysFinal "java/util/ArrayList$Itr" "java/util/ArrayList$Itr" "this$0" "Ljava/util/ArrayList;") ∈ lw_all := lw_g (lw_at lw_m5 187 rfl) rfl
theorem q1305 : (Jvm.Cond.soleField "java/util/ArrayList$Itr" "this$0") ∈ lw_all := lw_g (lw_at lw_m5 188 rfl) rfl
theorem q1306 : (Jvm.Cond.superclass "java/util/ArrayList$Itr" "java/lang/Object") ∈ lw_all := lw_g (lw_at lw_m5 189 rfl) rfl
theorem q1320 : (Jvm.Cond.castable "java/util/ArrayList$Itr" "java/util/Iterator") ∈ lw_tbl := lw_at lw_m5 203 rfl
theorem q1321 : (Jvm.Cond.selects "java/util/ArrayList$Itr" ({ cls := "java/util/Iterator", name := "hasNext", desc := "()Z" } : Jvm.MethodName) ({ cls := "java/util/ArrayList$Itr", name := "hasNext", desc := "()Z" } : Jvm.MethodName)) ∈ lw_all := lw_g (lw_at lw_m5 204 rfl) rfl
theorem q1322 : (Jvm.Cond.unhidden "java/util/ArrayList$Itr" "hasNext" "()Z") ∈ lw_tbl := lw_at lw_m5 205 rfl
theorem q1323 : (Jvm.Cond.instanceMethod ({ cls := "java/util/ArrayList$Itr", name := "hasNext", desc := "()Z" } : Jvm.MethodName)) ∈ lw_all := lw_g (lw_at lw_m5 206 rfl) rfl
theorem q1324 : (Jvm.Cond.publicMethod ({ cls := "java/util/ArrayList$Itr", name := "hasNext", desc := "()Z" } : Jvm.MethodName)) ∈ lw_tbl := lw_at lw_m5 207 rfl
theorem q1325 : (Jvm.Cond.code ({ cls := "java/util/ArrayList$Itr", name := "hasNext", desc := "()Z" } : Jvm.MethodName) prog_50_method_2_code (1 : Nat) (Option.some Jvm.ClassFile.FieldType.boolean)) ∈ lw_all := lw_g (lw_at lw_m5 208 rfl) rfl
theorem q1363 : (Jvm.Cond.selects "java/util/ArrayList$Itr" ({ cls := "java/util/Iterator", name := "next", desc := "()Ljava/lang/Object;" } : Jvm.MethodName) ({ cls := "java/util/ArrayList$Itr", name := "next", desc := "()Ljava/lang/Object;" } : Jvm.MethodName)) ∈ lw_all := lw_g (lw_at lw_m6 6 rfl) rfl
theorem q1364 : (Jvm.Cond.unhidden "java/util/ArrayList$Itr" "next" "()Ljava/lang/Object;") ∈ lw_tbl := lw_at lw_m6 7 rfl
theorem q1365 : (Jvm.Cond.instanceMethod ({ cls := "java/util/ArrayList$Itr", name := "next", desc := "()Ljava/lang/Object;" } : Jvm.MethodName)) ∈ lw_all := lw_g (lw_at lw_m6 8 rfl) rfl
theorem q1366 : (Jvm.Cond.publicMethod ({ cls := "java/util/ArrayList$Itr", name := "next", desc := "()Ljava/lang/Object;" } : Jvm.MethodName)) ∈ lw_tbl := lw_at lw_m6 9 rfl
theorem q1367 : (Jvm.Cond.code ({ cls := "java/util/ArrayList$Itr", name := "next", desc := "()Ljava/lang/Object;" } : Jvm.MethodName) prog_50_method_3_code (3 : Nat) (Option.some (Jvm.ClassFile.FieldType.object "java/lang/Object"))) ∈ lw_all := lw_g (lw_at lw_m6 10 rfl) rfl
theorem q1368 : (Jvm.Cond.methodLink "java/util/ArrayList$Itr" (31 : Nat) ({ cls := "java/util/ArrayList$Itr", name := "checkForComodification", desc := "()V" } : Jvm.MethodName)) ∈ lw_all := lw_g (lw_at lw_m6 11 rfl) rfl
theorem q1369 : (Jvm.Cond.instanceMethod ({ cls := "java/util/ArrayList$Itr", name := "checkForComodification", desc := "()V" } : Jvm.MethodName)) ∈ lw_all := lw_g (lw_at lw_m6 12 rfl) rfl
theorem q1370 : (Jvm.Cond.selects "java/util/ArrayList$Itr" ({ cls := "java/util/ArrayList$Itr", name := "checkForComodification", desc := "()V" } : Jvm.MethodName) ({ cls := "java/util/ArrayList$Itr", name := "checkForComodification", desc := "()V" } : Jvm.MethodName)) ∈ lw_all := lw_g (lw_at lw_m6 13 rfl) rfl
theorem q1371 : (Jvm.Cond.code ({ cls := "java/util/ArrayList$Itr", name := "checkForComodification", desc := "()V" } : Jvm.MethodName) prog_50_method_6_code (1 : Nat) (Option.none : Option Jvm.ClassFile.FieldType)) ∈ lw_all := lw_g (lw_at lw_m6 14 rfl) rfl
theorem q2946 : (Jvm.Cond.castable "java/util/ArrayList$Itr" "java/lang/Object") ∈ lw_tbl := lw_at lw_m12 149 rfl
theorem in_J16 : ∀ w ∈ wsJ160, w ∈ lw_all := lw_in wsJ160 [1298, 1300, 1302, 1304] (by decide +kernel) (by decide +kernel)
/-! java/lang/RuntimeException -/
set_option maxRecDepth 100000
def RJ17 : String := "java/lang/RuntimeException"
abbrev cJ17_init : ByteArray := prog_37_method_1_code
def yJ17_init : MethodName := ⟨RJ17, "<init>", "()V"⟩
theorem dJ17_init_0 : decode cJ17_init 0 = .ok (.aload_n 0, 1) := by decide +kernel
theorem dJ17_init_1 : decode cJ17_init 1 = .ok (.invokespecial 1, 3) := by decide +kernel
theorem dJ17_init_4 : decode cJ17_init 4 = .ok (.return_, 1) := by decide +kernel
theorem q189 : (Jvm.Cond.initialized "java/lang/RuntimeException") ∈ lw_all := lw_g (lw_at lw_m1 32 rfl) rfl
theorem q1343 : (Jvm.Cond.declares ({ cls := "java/lang/RuntimeException", name := "<init>", desc := "()V" } : Jvm.MethodName)) ∈ lw_tbl := lw_at lw_m5 226 rfl
theorem q1344 : (Jvm.Cond.declares ({ cls := "java/lang/RuntimeException", name := "<init>", desc := "(Ljava/lang/String;)V" } : Jvm.MethodName)) ∈ lw_tbl := lw_at lw_m5 227 rfl
theorem q1355 : (Jvm.Cond.instanceMethod ({ cls := "java/lang/RuntimeException", name := "<init>", desc := "()V" } : Jvm.MethodName)) ∈ lw_all := lw_g (lw_at lw_m5 238 rfl) rfl
theorem q1356 : (Jvm.Cond.code ({ cls := "java/lang/RuntimeException", name := "<init>", desc := "()V" } : Jvm.MethodName) prog_37_method_1_code (1 : Nat) (Option.none : Option Jvm.ClassFile.FieldType)) ∈ lw_all := lw_g (lw_at lw_m5 239 rfl) rfl
theorem q1357 : (Jvm.Cond.methodLink "java/lang/RuntimeException" (1 : Nat) ({ cls := "java/lang/Exception", name := "<init>", desc := "()V" } : Jvm.MethodName)) ∈ lw_all := lw_g (lw_at lw_m6 0 rfl) rfl
/-! java/util/NoSuchElementException -/
set_option maxRecDepth 100000
def RJ18 : String := "java/util/NoSuchElementException"
def TJ18 : u_T := fun k => match k with
  | 0 => ("java/lang/Throwable", "cause", "Ljava/lang/Throwable;", false)
  | 1 => ("java/lang/Throwable", "stackTrace", "[Ljava/lang/StackTraceElement;", false)
  | 2 => ("java/lang/Throwable", "suppressedExceptions", "Ljava/util/List;", false)
  | 3 => ("java/lang/Throwable", "detailMessage", "Ljava/lang/String;", false)
  | 4 => ("java/lang/Throwable", "backtrace", "Ljava/lang/Object;", false)
  | _ => ("java/lang/Throwable", "depth", "I", false)
def tyJ18 : Nat → FieldType := fun k => match k with
  | 0 => .object "java/lang/Throwable"
  | 1 => .array (.object "java/lang/StackTraceElement")
  | 2 => .object "java/util/List"
  | 3 => .object "java/lang/String"
  | 4 => .object "java/lang/Object"
  | _ => .int
abbrev wsJ180 : List Cond := u_ws RJ18 TJ18 6
theorem nmJ18 : ∀ a, a < 6 → ∀ b, b < 6 → a ≠ b → (TJ18 a).2.1 ≠ (TJ18 b).2.1 := by decide +kernel
theorem tyJ18_ok : ∀ k, k < 6 → parseFieldDescriptor (TJ18 k).2.2.1 = some (tyJ18 k) := by decide +kernel
abbrev cJ18_init : ByteArray := prog_55_method_1_code
def yJ18_init : MethodName := ⟨RJ18, "<init>", "()V"⟩
theorem dJ18_init_0 : decode cJ18_init 0 = .ok (.aload_n 0, 1) := by decide +kernel
theorem dJ18_init_1 : decode cJ18_init 1 = .ok (.invokespecial 1, 3) := by decide +kernel
theorem dJ18_init_4 : decode cJ18_init 4 = .ok (.return_, 1) := by decide +kernel
theorem q190 : (Jvm.Cond.initialized "java/util/NoSuchElementException") ∈ lw_all := lw_g (lw_at lw_m1 33 rfl) rfl
theorem q748 : (Jvm.Cond.selects "java/util/NoSuchElementException" ({ cls := "java/lang/Throwable", name := "fillInStackTrace", desc := "()Ljava/lang/Throwable;" } : Jvm.MethodName) ({ cls := "java/lang/Throwable", name := "fillInStackTrace", desc := "()Ljava/lang/Throwable;" } : Jvm.MethodName)) ∈ lw_all := lw_g (lw_at lw_m3 111 rfl) rfl
theorem q1024 : (Jvm.Cond.selects "java/util/NoSuchElementException" ({ cls := "java/lang/Object", name := "getClass", desc := "()Ljava/lang/Class;" } : Jvm.MethodName) ({ cls := "java/lang/Object", name := "getClass", desc := "()Ljava/lang/Class;" } : Jvm.MethodName)) ∈ lw_all := lw_g (lw_at lw_m4 147 rfl) rfl
theorem q1341 : (Jvm.Cond.instantiable "java/util/NoSuchElementException" (6 : Nat)) ∈ lw_all := lw_g (lw_at lw_m5 224 rfl) rfl
theorem q1342 : (Jvm.Cond.castable "java/util/NoSuchElementException" "java/util/NoSuchElementException") ∈ lw_tbl := lw_at lw_m5 225 rfl
theorem q1345 : (Jvm.Cond.selects "java/util/NoSuchElementException" ({ cls := "java/lang/Throwable", name := "fillInStackTrace", desc := "(I)Ljava/lang/Throwable;" } : Jvm.MethodName) ({ cls := "java/lang/Throwable", name := "fillInStackTrace", desc := "(I)Ljava/lang/Throwable;" } : Jvm.MethodName)) ∈ lw_all := lw_g (lw_at lw_m5 228 rfl) rfl
theorem q1346 : (Jvm.Cond.lays "java/util/NoSuchElementException" "java/lang/Throwable" "cause" "Ljava/lang/Throwable;") ∈ lw_all := lw_g (lw_at lw_m5 229 rfl) rfl
theorem q1347 : (Jvm.Cond.lays "java/util/NoSuchElementException" "java/lang/Throwable" "stackTrace" "[Ljava/lang/StackTraceElement;") ∈ lw_all := lw_g (lw_at lw_m5 230 rfl) rfl
theorem q1348 : (Jvm.Cond.lays "java/util/NoSuchElementException" "java/lang/Throwable" "suppressedExceptions" "Ljava/util/List;") ∈ lw_all := lw_g (lw_at lw_m5 231 rfl) rfl
theorem q1349 : (Jvm.Cond.lays "java/util/NoSuchElementException" "java/lang/Throwable" "detailMessage" "Ljava/lang/String;") ∈ lw_all := lw_g (lw_at lw_m5 232 rfl) rfl
theorem q1350 : (Jvm.Cond.lays "java/util/NoSuchElementException" "java/lang/Throwable" "backtrace" "Ljava/lang/Object;") ∈ lw_all := lw_g (lw_at lw_m5 233 rfl) rfl
theorem q1352 : (Jvm.Cond.instanceMethod ({ cls := "java/util/NoSuchElementException", name := "<init>", desc := "()V" } : Jvm.MethodName)) ∈ lw_all := lw_g (lw_at lw_m5 235 rfl) rfl
theorem q1353 : (Jvm.Cond.code ({ cls := "java/util/NoSuchElementException", name := "<init>", desc := "()V" } : Jvm.MethodName) prog_55_method_1_code (1 : Nat) (Option.none : Option Jvm.ClassFile.FieldType)) ∈ lw_all := lw_g (lw_at lw_m5 236 rfl) rfl
theorem q1354 : (Jvm.Cond.methodLink "java/util/NoSuchElementException" (1 : Nat) ({ cls := "java/lang/RuntimeException", name := "<init>", desc := "()V" } : Jvm.MethodName)) ∈ lw_all := lw_g (lw_at lw_m5 237 rfl) rfl
theorem q1361 : (Jvm.Cond.lays "java/util/NoSuchElementException" "java/lang/Throwable" "depth" "I") ∈ lw_all := lw_g (lw_at lw_m6 4 rfl) rfl
theorem q1362 : (Jvm.Cond.superclass "java/util/NoSuchElementException" "java/lang/RuntimeException") ∈ lw_all := lw_g (lw_at lw_m6 5 rfl) rfl
theorem q2956 : (Jvm.Cond.castable "java/util/NoSuchElementException" "java/lang/Object") ∈ lw_tbl := lw_at lw_m12 159 rfl
theorem in_J18 : ∀ w ∈ wsJ180, w ∈ lw_all := lw_in wsJ180 [1346, 1347, 1348, 1349, 1350, 1361] (by decide +kernel) (by decide +kernel)
/-! java/lang/Number -/
set_option maxRecDepth 100000
def RJ19 : String := "java/lang/Number"
abbrev cJ19_init : ByteArray := prog_36_method_1_code
def yJ19_init : MethodName := ⟨RJ19, "<init>", "()V"⟩
theorem dJ19_init_0 : decode cJ19_init 0 = .ok (.aload_n 0, 1) := by decide +kernel
theorem dJ19_init_1 : decode cJ19_init 1 = .ok (.invokespecial 1, 3) := by decide +kernel
theorem dJ19_init_4 : decode cJ19_init 4 = .ok (.return_, 1) := by decide +kernel
theorem q192 : (Jvm.Cond.initialized "java/lang/Number") ∈ lw_all := lw_g (lw_at lw_m1 35 rfl) rfl
theorem q1576 : (Jvm.Cond.instanceMethod ({ cls := "java/lang/Number", name := "<init>", desc := "()V" } : Jvm.MethodName)) ∈ lw_all := lw_g (lw_at lw_m6 219 rfl) rfl
theorem q1577 : (Jvm.Cond.code ({ cls := "java/lang/Number", name := "<init>", desc := "()V" } : Jvm.MethodName) prog_36_method_1_code (1 : Nat) (Option.none : Option Jvm.ClassFile.FieldType)) ∈ lw_all := lw_g (lw_at lw_m6 220 rfl) rfl
theorem q1578 : (Jvm.Cond.methodLink "java/lang/Number" (1 : Nat) ({ cls := "java/lang/Object", name := "<init>", desc := "()V" } : Jvm.MethodName)) ∈ lw_all := lw_g (lw_at lw_m6 221 rfl) rfl
/-! java/lang/Integer -/
set_option maxRecDepth 100000
def RJ20 : String := "java/lang/Integer"
def TJ20 : u_T := fun k => match k with
  | _ => ("java/lang/Integer", "value", "I", true)
def tyJ20 : Nat → FieldType := fun k => match k with
  | _ => .int
abbrev wsJ200 : List Cond := u_ws RJ20 TJ20 1
theorem nmJ20 : ∀ a, a < 1 → ∀ b, b < 1 → a ≠ b → (TJ20 a).2.1 ≠ (TJ20 b).2.1 := by decide +kernel
theorem tyJ20_ok : ∀ k, k < 1 → parseFieldDescriptor (TJ20 k).2.2.1 = some (tyJ20 k) := by decide +kernel
abbrev cJ20_equals : ByteArray := prog_32_method_34_code
def yJ20_equals : MethodName := ⟨RJ20, "equals", "(Ljava/lang/Object;)Z"⟩
def dkwJ20_equals_1 : List UInt8 := [167, 0, 4, 3, 172, 3, 172]
abbrev dktJ20_equals_1 : List UInt8 := dkwJ20_equals_1 ++ []
def dkwJ20_equals_0 : List UInt8 := [43, 193, 0, 1, 153, 0, 23, 42, 180, 0, 205, 43, 192, 0, 1, 182, 0, 211, 160, 0, 7, 4]
abbrev dktJ20_equals_0 : List UInt8 := dkwJ20_equals_0 ++ dktJ20_equals_1
theorem dksJ20_equals_0 : cJ20_equals.data.toList.drop 0 = dktJ20_equals_0 := by decide +kernel
theorem dksJ20_equals_1 : cJ20_equals.data.toList.drop 22 = dktJ20_equals_1 := dk_seg dksJ20_equals_0 22 rfl rfl
theorem dJ20_equals_0 : decode cJ20_equals 0 = .ok (.aload_n 1, 1) := dk_43 (dk_at dksJ20_equals_0 0 rfl rfl)
theorem dJ20_equals_1 : decode cJ20_equals 1 = .ok (.instanceof 1, 3) := dk_193 0 1 (dk_at dksJ20_equals_0 1 rfl rfl)
theorem dJ20_equals_4 : decode cJ20_equals 4 = .ok (.ifCond .eq 23, 3) := dk_153 0 23 (dk_at dksJ20_equals_0 4 rfl rfl)
theorem dJ20_equals_7 : decode cJ20_equals 7 = .ok (.aload_n 0, 1) := dk_42 (dk_at dksJ20_equals_0 7 rfl rfl)
theorem dJ20_equals_8 : decode cJ20_equals 8 = .ok (.getfield 205, 3) := dk_180 0 205 (dk_at dksJ20_equals_0 8 rfl rfl)
theorem dJ20_equals_11 : decode cJ20_equals 11 = .ok (.aload_n 1, 1) := dk_43 (dk_at dksJ20_equals_0 11 rfl rfl)
theorem dJ20_equals_12 : decode cJ20_equals 12 = .ok (.checkcast 1, 3) := dk_192 0 1 (dk_at dksJ20_equals_0 12 rfl rfl)
theorem dJ20_equals_15 : decode cJ20_equals 15 = .ok (.invokevirtual 211, 3) := dk_182 0 211 (dk_at dksJ20_equals_0 15 rfl rfl)
theorem dJ20_equals_18 : decode cJ20_equals 18 = .ok (.if_icmp .ne 7, 3) := dk_160 0 7 (dk_at dksJ20_equals_0 18 rfl rfl)
theorem dJ20_equals_21 : decode cJ20_equals 21 = .ok (.iconst 1, 1) := dk_4 (dk_at dksJ20_equals_0 21 rfl rfl)
theorem dJ20_equals_22 : decode cJ20_equals 22 = .ok (.goto 4, 3) := dk_167 0 4 (dk_at dksJ20_equals_1 0 rfl rfl)
theorem dJ20_equals_25 : decode cJ20_equals 25 = .ok (.iconst 0, 1) := dk_3 (dk_at dksJ20_equals_1 3 rfl rfl)
theorem dJ20_equals_26 : decode cJ20_equals 26 = .ok (.ireturn, 1) := dk_172 (dk_at dksJ20_equals_1 4 rfl rfl)
theorem dJ20_equals_27 : decode cJ20_equals 27 = .ok (.iconst 0, 1) := dk_3 (dk_at dksJ20_equals_1 5 rfl rfl)
theorem dJ20_equals_28 : decode cJ20_equals 28 = .ok (.ireturn, 1) := dk_172 (dk_at dksJ20_equals_1 6 rfl rfl)
abbrev cJ20_intValue : ByteArray := prog_32_method_27_code
def yJ20_intValue : MethodName := ⟨RJ20, "intValue", "()I"⟩
theorem dJ20_intValue_0 : decode cJ20_intValue 0 = .ok (.aload_n 0, 1) := by decide +kernel
theorem dJ20_intValue_1 : decode cJ20_intValue 1 = .ok (.getfield 205, 3) := by decide +kernel
theorem dJ20_intValue_4 : decode cJ20_intValue 4 = .ok (.ireturn, 1) := by decide +kernel
abbrev cJ20_valueOf : ByteArray := prog_32_method_22_code
def yJ20_valueOf : MethodName := ⟨RJ20, "valueOf", "(I)Ljava/lang/Integer;"⟩
def dkwJ20_valueOf_1 : List UInt8 := [187, 0, 1, 89, 26, 183, 0, 199, 176]
abbrev dktJ20_valueOf_1 : List UInt8 := dkwJ20_valueOf_1 ++ []
def dkwJ20_valueOf_0 : List UInt8 := [26, 16, 128, 161, 0, 20, 26, 178, 0, 191, 163, 0, 13, 178, 0, 195, 26, 17, 0, 128, 96, 50, 176]
abbrev dktJ20_valueOf_0 : List UInt8 := dkwJ20_valueOf_0 ++ dktJ20_valueOf_1
theorem dksJ20_valueOf_0 : cJ20_valueOf.data.toList.drop 0 = dktJ20_valueOf_0 := by decide +kernel
theorem dksJ20_valueOf_1 : cJ20_valueOf.data.toList.drop 23 = dktJ20_valueOf_1 := dk_seg dksJ20_valueOf_0 23 rfl rfl
theorem dJ20_valueOf_0 : decode cJ20_valueOf 0 = .ok (.iload_n 0, 1) := dk_26 (dk_at dksJ20_valueOf_0 0 rfl rfl)
theorem dJ20_valueOf_1 : decode cJ20_valueOf 1 = .ok (.bipush (-128), 2) := dk_16 128 (dk_at dksJ20_valueOf_0 1 rfl rfl)
theorem dJ20_valueOf_3 : decode cJ20_valueOf 3 = .ok (.if_icmp .lt 20, 3) := dk_161 0 20 (dk_at dksJ20_valueOf_0 3 rfl rfl)
theorem dJ20_valueOf_6 : decode cJ20_valueOf 6 = .ok (.iload_n 0, 1) := dk_26 (dk_at dksJ20_valueOf_0 6 rfl rfl)
theorem dJ20_valueOf_7 : decode cJ20_valueOf 7 = .ok (.getstatic 191, 3) := dk_178 0 191 (dk_at dksJ20_valueOf_0 7 rfl rfl)
theorem dJ20_valueOf_10 : decode cJ20_valueOf 10 = .ok (.if_icmp .gt 13, 3) := dk_163 0 13 (dk_at dksJ20_valueOf_0 10 rfl rfl)
theorem dJ20_valueOf_13 : decode cJ20_valueOf 13 = .ok (.getstatic 195, 3) := dk_178 0 195 (dk_at dksJ20_valueOf_0 13 rfl rfl)
theorem dJ20_valueOf_16 : decode cJ20_valueOf 16 = .ok (.iload_n 0, 1) := dk_26 (dk_at dksJ20_valueOf_0 16 rfl rfl)
theorem dJ20_valueOf_17 : decode cJ20_valueOf 17 = .ok (.sipush 128, 3) := dk_17 0 128 (dk_at dksJ20_valueOf_0 17 rfl rfl)
theorem dJ20_valueOf_20 : decode cJ20_valueOf 20 = .ok (.iadd, 1) := dk_96 (dk_at dksJ20_valueOf_0 20 rfl rfl)
theorem dJ20_valueOf_21 : decode cJ20_valueOf 21 = .ok (.aaload, 1) := dk_50 (dk_at dksJ20_valueOf_0 21 rfl rfl)
theorem dJ20_valueOf_22 : decode cJ20_valueOf 22 = .ok (.areturn, 1) := dk_176 (dk_at dksJ20_valueOf_0 22 rfl rfl)
theorem dJ20_valueOf_23 : decode cJ20_valueOf 23 = .ok (.new 1, 3) := dk_187 0 1 (dk_at dksJ20_valueOf_1 0 rfl rfl)
theorem dJ20_valueOf_26 : decode cJ20_valueOf 26 = .ok (.dup, 1) := dk_89 (dk_at dksJ20_valueOf_1 3 rfl rfl)
theorem dJ20_valueOf_27 : decode cJ20_valueOf 27 = .ok (.iload_n 0, 1) := dk_26 (dk_at dksJ20_valueOf_1 4 rfl rfl)
theorem dJ20_valueOf_28 : decode cJ20_valueOf 28 = .ok (.invokespecial 199, 3) := dk_183 0 199 (dk_at dksJ20_valueOf_1 5 rfl rfl)
theorem dJ20_valueOf_31 : decode cJ20_valueOf 31 = .ok (.areturn, 1) := dk_176 (dk_at dksJ20_valueOf_1 8 rfl rfl)
abbrev cJ20_init : ByteArray := prog_32_method_23_code
def yJ20_init : MethodName := ⟨RJ20, "<init>", "(I)V"⟩
def dkwJ20_init_0 : List UInt8 := [42, 183, 0, 202, 42, 27, 181, 0, 205, 177]
abbrev dktJ20_init_0 : List UInt8 := dkwJ20_init_0 ++ []
theorem dksJ20_init_0 : cJ20_init.data.toList.drop 0 = dktJ20_init_0 := by decide +kernel
theorem dJ20_init_0 : decode cJ20_init 0 = .ok (.aload_n 0, 1) := dk_42 (dk_at dksJ20_init_0 0 rfl rfl)
theorem dJ20_init_1 : decode cJ20_init 1 = .ok (.invokespecial 202, 3) := dk_183 0 202 (dk_at dksJ20_init_0 1 rfl rfl)
theorem dJ20_init_4 : decode cJ20_init 4 = .ok (.aload_n 0, 1) := dk_42 (dk_at dksJ20_init_0 4 rfl rfl)
theorem dJ20_init_5 : decode cJ20_init 5 = .ok (.iload_n 1, 1) := dk_27 (dk_at dksJ20_init_0 5 rfl rfl)
theorem dJ20_init_6 : decode cJ20_init 6 = .ok (.putfield 205, 3) := dk_181 0 205 (dk_at dksJ20_init_0 6 rfl rfl)
theorem dJ20_init_9 : decode cJ20_init 9 = .ok (.return_, 1) := dk_177 (dk_at dksJ20_init_0 9 rfl rfl)
theorem q193 : (Jvm.Cond.initialized "java/lang/Integer") ∈ lw_all := lw_g (lw_at lw_m1 36 rfl) rfl
theorem q961 : (Jvm.Cond.selects "java/lang/Integer" ({ cls := "java/lang/Object", name := "equals", desc := "(Ljava/lang/Object;)Z" } : Jvm.MethodName) ({ cls := "java/lang/Integer", name := "equals", desc := "(Ljava/lang/Object;)Z" } : Jvm.MethodName)) ∈ lw_all := lw_g (lw_at lw_m4 84 rfl) rfl
theorem q962 : (Jvm.Cond.instanceMethod ({ cls := "java/lang/Integer", name := "equals", desc := "(Ljava/lang/Object;)Z" } : Jvm.MethodName)) ∈ lw_all := lw_g (lw_at lw_m4 85 rfl) rfl
theorem q963 : (Jvm.Cond.code ({ cls := "java/lang/Integer", name := "equals", desc := "(Ljava/lang/Object;)Z" } : Jvm.MethodName) prog_32_method_34_code (2 : Nat) (Option.some Jvm.ClassFile.FieldType.boolean)) ∈ lw_all := lw_g (lw_at lw_m4 86 rfl) rfl
theorem q964 : (Jvm.Cond.classLink "java/lang/Integer" (1 : Nat) "java/lang/Integer") ∈ lw_all := lw_g (lw_at lw_m4 87 rfl) rfl
theorem q965 : (Jvm.Cond.methodLink "java/lang/Integer" (211 : Nat) ({ cls := "java/lang/Integer", name := "intValue", desc := "()I" } : Jvm.MethodName)) ∈ lw_all := lw_g (lw_at lw_m4 88 rfl) rfl
theorem q966 : (Jvm.Cond.instanceMethod ({ cls := "java/lang/Integer", name := "intValue", desc := "()I" } : Jvm.MethodName)) ∈ lw_all := lw_g (lw_at lw_m4 89 rfl) rfl
theorem q967 : (Jvm.Cond.selects "java/lang/Integer" ({ cls := "java/lang/Integer", name := "intValue", desc := "()I" } : Jvm.MethodName) ({ cls := "java/lang/Integer", name := "intValue", desc := "()I" } : Jvm.MethodName)) ∈ lw_all := lw_g (lw_at lw_m4 90 rfl) rfl
theorem q968 : (Jvm.Cond.code ({ cls := "java/lang/Integer", name := "intValue", desc := "()I" } : Jvm.MethodName) prog_32_method_27_code (1 : Nat) (Option.some Jvm.ClassFile.FieldType.int)) ∈ lw_all := lw_g (lw_at lw_m4 91 rfl) rfl
theorem q1018 : (Jvm.Cond.selects "java/lang/Integer" ({ cls := "java/lang/Object", name := "getClass", desc := "()Ljava/lang/Class;" } : Jvm.MethodName) ({ cls := "java/lang/Object", name := "getClass", desc := "()Ljava/lang/Class;" } : Jvm.MethodName)) ∈ lw_all := lw_g (lw_at lw_m4 141 rfl) rfl
theorem q1565 : (Jvm.Cond.static ({ cls := "java/lang/Integer", name := "valueOf", desc := "(I)Ljava/lang/Integer;" } : Jvm.MethodName)) ∈ lw_all := lw_g (lw_at lw_m6 208 rfl) rfl
theorem q1566 : (Jvm.Cond.code ({ cls := "java/lang/Integer", name := "valueOf", desc := "(I)Ljava/lang/Integer;" } : Jvm.MethodName) prog_32_method_22_code (1 : Nat) (Option.some (Jvm.ClassFile.FieldType.object "java/lang/Integer"))) ∈ lw_all := lw_g (lw_at lw_m6 209 rfl) rfl
theorem q1567 : (Jvm.Cond.fieldLink "java/lang/Integer" (191 : Nat) "java/lang/Integer$IntegerCache" "high" "I") ∈ lw_all := lw_g (lw_at lw_m6 210 rfl) rfl
theorem q1569 : (Jvm.Cond.fieldLink "java/lang/Integer" (195 : Nat) "java/lang/Integer$IntegerCache" "cache" "[Ljava/lang/Integer;") ∈ lw_all := lw_g (lw_at lw_m6 212 rfl) rfl
theorem q1571 : (Jvm.Cond.instantiable "java/lang/Integer" (1 : Nat)) ∈ lw_all := lw_g (lw_at lw_m6 214 rfl) rfl
theorem q1572 : (Jvm.Cond.methodLink "java/lang/Integer" (199 : Nat) ({ cls := "java/lang/Integer", name := "<init>", desc := "(I)V" } : Jvm.MethodName)) ∈ lw_all := lw_g (lw_at lw_m6 215 rfl) rfl
theorem q1573 : (Jvm.Cond.instanceMethod ({ cls := "java/lang/Integer", name := "<init>", desc := "(I)V" } : Jvm.MethodName)) ∈ lw_all := lw_g (lw_at lw_m6 216 rfl) rfl
theorem q1574 : (Jvm.Cond.code ({ cls := "java/lang/Integer", name := "<init>", desc := "(I)V" } : Jvm.MethodName) prog_32_method_23_code (2 : Nat) (Option.none : Option Jvm.ClassFile.FieldType)) ∈ lw_all := lw_g (lw_at lw_m6 217 rfl) rfl
theorem q1575 : (Jvm.Cond.methodLink "java/lang/Integer" (202 : Nat) ({ cls := "java/lang/Number", name := "<init>", desc := "()V" } : Jvm.MethodName)) ∈ lw_all := lw_g (lw_at lw_m6 218 rfl) rfl
theorem q1579 : (Jvm.Cond.fieldLink "java/lang/Integer" (205 : Nat) "java/lang/Integer" "value" "I") ∈ lw_all := lw_g (lw_at lw_m6 222 rfl) rfl
theorem q1580 : (Jvm.Cond.laysFinal "java/lang/Integer" "java/lang/Integer" "value" "I") ∈ lw_all := lw_g (lw_at lw_m6 223 rfl) rfl
theorem q1581 : (Jvm.Cond.soleField "java/lang/Integer" "value") ∈ lw_all := lw_g (lw_at lw_m6 224 rfl) rfl
theorem q1582 : (Jvm.Cond.superclass "java/lang/Integer" "java/lang/Number") ∈ lw_all := lw_g (lw_at lw_m6 225 rfl) rfl
theorem q2948 : (Jvm.Cond.castable "java/lang/Integer" "java/lang/Object") ∈ lw_tbl := lw_at lw_m12 151 rfl
theorem in_J20 : ∀ w ∈ wsJ200, w ∈ lw_all := lw_in wsJ200 [1580] (by decide +kernel) (by decide +kernel)
/-! java/lang/Object -/
set_option maxRecDepth 100000
def RJ21 : String := "java/lang/Object"
abbrev cJ21_init : ByteArray := object_method_1_code
def yJ21_init : MethodName := ⟨RJ21, "<init>", "()V"⟩
theorem dJ21_init_0 : decode cJ21_init 0 = .ok (.return_, 1) := by decide +kernel
abbrev cJ21_equals : ByteArray := object_method_4_code
def yJ21_equals : MethodName := ⟨RJ21, "equals", "(Ljava/lang/Object;)Z"⟩
def dkwJ21_equals_0 : List UInt8 := [42, 43, 166, 0, 7, 4, 167, 0, 4, 3, 172]
abbrev dktJ21_equals_0 : List UInt8 := dkwJ21_equals_0 ++ []
theorem dksJ21_equals_0 : cJ21_equals.data.toList.drop 0 = dktJ21_equals_0 := by decide +kernel
theorem dJ21_equals_0 : decode cJ21_equals 0 = .ok (.aload_n 0, 1) := dk_42 (dk_at dksJ21_equals_0 0 rfl rfl)
theorem dJ21_equals_1 : decode cJ21_equals 1 = .ok (.aload_n 1, 1) := dk_43 (dk_at dksJ21_equals_0 1 rfl rfl)
theorem dJ21_equals_2 : decode cJ21_equals 2 = .ok (.if_acmp .ne 7, 3) := dk_166 0 7 (dk_at dksJ21_equals_0 2 rfl rfl)
theorem dJ21_equals_5 : decode cJ21_equals 5 = .ok (.iconst 1, 1) := dk_4 (dk_at dksJ21_equals_0 5 rfl rfl)
theorem dJ21_equals_6 : decode cJ21_equals 6 = .ok (.goto 4, 3) := dk_167 0 4 (dk_at dksJ21_equals_0 6 rfl rfl)
theorem dJ21_equals_9 : decode cJ21_equals 9 = .ok (.iconst 0, 1) := dk_3 (dk_at dksJ21_equals_0 9 rfl rfl)
theorem dJ21_equals_10 : decode cJ21_equals 10 = .ok (.ireturn, 1) := dk_172 (dk_at dksJ21_equals_0 10 rfl rfl)
theorem q208 : (Jvm.Cond.instanceMethod ({ cls := "java/lang/Object", name := "<init>", desc := "()V" } : Jvm.MethodName)) ∈ lw_all := lw_g (lw_at lw_m1 51 rfl) rfl
theorem q209 : (Jvm.Cond.code ({ cls := "java/lang/Object", name := "<init>", desc := "()V" } : Jvm.MethodName) object_method_1_code (1 : Nat) (Option.none : Option Jvm.ClassFile.FieldType)) ∈ lw_all := lw_g (lw_at lw_m1 52 rfl) rfl
theorem q387 : (Jvm.Cond.native ({ cls := "java/lang/Object", name := "clone", desc := "()Ljava/lang/Object;" } : Jvm.MethodName)) ∈ lw_all := lw_g (lw_at lw_m1 230 rfl) rfl
theorem q388 : (Jvm.Cond.instanceMethod ({ cls := "java/lang/Object", name := "clone", desc := "()Ljava/lang/Object;" } : Jvm.MethodName)) ∈ lw_all := lw_g (lw_at lw_m1 231 rfl) rfl
theorem q937 : (Jvm.Cond.declares ({ cls := "java/lang/Object", name := "equals", desc := "(Ljava/lang/Object;)Z" } : Jvm.MethodName)) ∈ lw_tbl := lw_at lw_m4 60 rfl
theorem q939 : (Jvm.Cond.instanceMethod ({ cls := "java/lang/Object", name := "equals", desc := "(Ljava/lang/Object;)Z" } : Jvm.MethodName)) ∈ lw_all := lw_g (lw_at lw_m4 62 rfl) rfl
theorem q940 : (Jvm.Cond.sameMethod "java/lang/Object" "java/lang/Object" "equals" "(Ljava/lang/Object;)Z") ∈ lw_all := lw_g (lw_at lw_m4 63 rfl) rfl
theorem q972 : (Jvm.Cond.code ({ cls := "java/lang/Object", name := "equals", desc := "(Ljava/lang/Object;)Z" } : Jvm.MethodName) object_method_4_code (2 : Nat) (Option.some Jvm.ClassFile.FieldType.boolean)) ∈ lw_all := lw_g (lw_at lw_m4 95 rfl) rfl
theorem q996 : (Jvm.Cond.instanceMethod ({ cls := "java/lang/Object", name := "getClass", desc := "()Ljava/lang/Class;" } : Jvm.MethodName)) ∈ lw_all := lw_g (lw_at lw_m4 119 rfl) rfl
theorem q997 : (Jvm.Cond.sameMethod "java/lang/Object" "java/lang/Object" "getClass" "()Ljava/lang/Class;") ∈ lw_all := lw_g (lw_at lw_m4 120 rfl) rfl
theorem q1025 : (Jvm.Cond.native ({ cls := "java/lang/Object", name := "getClass", desc := "()Ljava/lang/Class;" } : Jvm.MethodName)) ∈ lw_all := lw_g (lw_at lw_m4 148 rfl) rfl
theorem q2965 : (Jvm.Cond.declares ({ cls := "java/lang/Object", name := "getClass", desc := "()Ljava/lang/Class;" } : Jvm.MethodName)) ∈ lw_tbl := lw_at lw_m12 168 rfl
/-! java/lang/System$2 -/
set_option maxRecDepth 100000
def RJ22 : String := "java/lang/System$2"
abbrev cJ22_getUTF16Char : ByteArray := prog_43_method_45_code
def yJ22_getUTF16Char : MethodName := ⟨RJ22, "getUTF16Char", "([BI)C"⟩
def dkwJ22_getUTF16Char_0 : List UInt8 := [43, 28, 184, 0, 185, 172]
abbrev dktJ22_getUTF16Char_0 : List UInt8 := dkwJ22_getUTF16Char_0 ++ []
theorem dksJ22_getUTF16Char_0 : cJ22_getUTF16Char.data.toList.drop 0 = dktJ22_getUTF16Char_0 := by decide +kernel
theorem dJ22_getUTF16Char_0 : decode cJ22_getUTF16Char 0 = .ok (.aload_n 1, 1) := dk_43 (dk_at dksJ22_getUTF16Char_0 0 rfl rfl)
theorem dJ22_getUTF16Char_1 : decode cJ22_getUTF16Char 1 = .ok (.iload_n 2, 1) := dk_28 (dk_at dksJ22_getUTF16Char_0 1 rfl rfl)
theorem dJ22_getUTF16Char_2 : decode cJ22_getUTF16Char 2 = .ok (.invokestatic 185, 3) := dk_184 0 185 (dk_at dksJ22_getUTF16Char_0 2 rfl rfl)
theorem dJ22_getUTF16Char_5 : decode cJ22_getUTF16Char 5 = .ok (.ireturn, 1) := dk_172 (dk_at dksJ22_getUTF16Char_0 5 rfl rfl)
theorem q816 : (Jvm.Cond.castable "java/lang/System$2" "jdk/internal/access/JavaLangAccess") ∈ lw_tbl := lw_at lw_m3 179 rfl
theorem q817 : (Jvm.Cond.selects "java/lang/System$2" ({ cls := "jdk/internal/access/JavaLangAccess", name := "getUTF16Char", desc := "([BI)C" } : Jvm.MethodName) ({ cls := "java/lang/System$2", name := "getUTF16Char", desc := "([BI)C" } : Jvm.MethodName)) ∈ lw_all := lw_g (lw_at lw_m3 180 rfl) rfl
theorem q818 : (Jvm.Cond.unhidden "java/lang/System$2" "getUTF16Char" "([BI)C") ∈ lw_tbl := lw_at lw_m3 181 rfl
theorem q819 : (Jvm.Cond.instanceMethod ({ cls := "java/lang/System$2", name := "getUTF16Char", desc := "([BI)C" } : Jvm.MethodName)) ∈ lw_all := lw_g (lw_at lw_m3 182 rfl) rfl
theorem q820 : (Jvm.Cond.publicMethod ({ cls := "java/lang/System$2", name := "getUTF16Char", desc := "([BI)C" } : Jvm.MethodName)) ∈ lw_tbl := lw_at lw_m3 183 rfl
theorem q821 : (Jvm.Cond.code ({ cls := "java/lang/System$2", name := "getUTF16Char", desc := "([BI)C" } : Jvm.MethodName) prog_43_method_45_code (3 : Nat) (Option.some Jvm.ClassFile.FieldType.char)) ∈ lw_all := lw_g (lw_at lw_m3 184 rfl) rfl
theorem q822 : (Jvm.Cond.methodLink "java/lang/System$2" (185 : Nat) ({ cls := "java/lang/StringUTF16", name := "getChar", desc := "([BI)C" } : Jvm.MethodName)) ∈ lw_all := lw_g (lw_at lw_m3 185 rfl) rfl
theorem q971 : (Jvm.Cond.selects "java/lang/System$2" ({ cls := "java/lang/Object", name := "equals", desc := "(Ljava/lang/Object;)Z" } : Jvm.MethodName) ({ cls := "java/lang/Object", name := "equals", desc := "(Ljava/lang/Object;)Z" } : Jvm.MethodName)) ∈ lw_all := lw_g (lw_at lw_m4 94 rfl) rfl
theorem q1021 : (Jvm.Cond.selects "java/lang/System$2" ({ cls := "java/lang/Object", name := "getClass", desc := "()Ljava/lang/Class;" } : Jvm.MethodName) ({ cls := "java/lang/Object", name := "getClass", desc := "()Ljava/lang/Class;" } : Jvm.MethodName)) ∈ lw_all := lw_g (lw_at lw_m4 144 rfl) rfl
theorem q2938 : (Jvm.Cond.castable "java/lang/System$2" "java/lang/Object") ∈ lw_tbl := lw_at lw_m12 141 rfl
/-! the law's own entry -/
set_option maxRecDepth 100000
abbrev cL_law : ByteArray := code
def dkwL_law_37 : List UInt8 := [182, 0, 123, 44, 182, 0, 126, 159, 0, 5, 3, 172, 132, 3, 6, 167, 252, 72, 4, 172]
abbrev dktL_law_37 : List UInt8 := dkwL_law_37 ++ []
def dkwL_law_36 : List UInt8 := [42, 29, 4, 96, 46, 182, 0, 119, 44, 42, 29, 4, 96, 46, 182, 0, 122, 159, 0, 18, 3, 172, 43]
abbrev dktL_law_36 : List UInt8 := dkwL_law_36 ++ dktL_law_37
def dkwL_law_35 : List UInt8 := [46, 182, 0, 115, 44, 42, 29, 4, 96, 46, 42, 29, 5, 96, 46, 182, 0, 118, 159, 0, 41, 3, 172, 43]
abbrev dktL_law_35 : List UInt8 := dkwL_law_35 ++ dktL_law_36
def dkwL_law_34 : List UInt8 := [46, 42, 29, 5, 96, 46, 182, 0, 114, 159, 0, 74, 3, 172, 43, 42, 29, 4, 96, 46, 42, 29, 5, 96]
abbrev dktL_law_34 : List UInt8 := dkwL_law_34 ++ dktL_law_35
def dkwL_law_33 : List UInt8 := [159, 0, 107, 3, 172, 43, 42, 29, 4, 96, 46, 42, 29, 5, 96, 46, 182, 0, 111, 44, 42, 29, 4, 96]
abbrev dktL_law_33 : List UInt8 := dkwL_law_33 ++ dktL_law_34
def dkwL_law_32 : List UInt8 := [42, 29, 5, 96, 46, 182, 0, 107, 44, 42, 29, 4, 96, 46, 42, 29, 5, 96, 46, 182, 0, 110]
abbrev dktL_law_32 : List UInt8 := dkwL_law_32 ++ dktL_law_33
def dkwL_law_31 : List UInt8 := [159, 0, 153, 3, 172, 43, 182, 0, 103, 44, 182, 0, 106, 159, 0, 140, 3, 172, 43, 42, 29, 4, 96, 46]
abbrev dktL_law_31 : List UInt8 := dkwL_law_31 ++ dktL_law_32
def dkwL_law_30 : List UInt8 := [159, 0, 176, 3, 172, 43, 42, 29, 4, 96, 46, 182, 0, 99, 44, 42, 29, 4, 96, 46, 182, 0, 102]
abbrev dktL_law_30 : List UInt8 := dkwL_law_30 ++ dktL_law_31
def dkwL_law_29 : List UInt8 := [182, 0, 95, 44, 42, 29, 4, 96, 46, 42, 29, 5, 96, 46, 42, 29, 6, 96, 46, 182, 0, 98]
abbrev dktL_law_29 : List UInt8 := dkwL_law_29 ++ dktL_law_30
def dkwL_law_28 : List UInt8 := [182, 0, 94, 159, 0, 219, 3, 172, 43, 42, 29, 4, 96, 46, 42, 29, 5, 96, 46, 42, 29, 6, 96, 46]
abbrev dktL_law_28 : List UInt8 := dkwL_law_28 ++ dktL_law_29
def dkwL_law_27 : List UInt8 := [6, 96, 46, 182, 0, 91, 44, 42, 29, 4, 96, 46, 42, 29, 5, 96, 46, 42, 29, 6, 96, 46]
abbrev dktL_law_27 : List UInt8 := dkwL_law_27 ++ dktL_law_28
def dkwL_law_26 : List UInt8 := [5, 96, 46, 182, 0, 90, 159, 1, 6, 3, 172, 43, 42, 29, 4, 96, 46, 42, 29, 5, 96, 46, 42, 29]
abbrev dktL_law_26 : List UInt8 := dkwL_law_26 ++ dktL_law_27
def dkwL_law_25 : List UInt8 := [3, 172, 43, 42, 29, 4, 96, 46, 42, 29, 5, 96, 46, 182, 0, 87, 44, 42, 29, 4, 96, 46, 42, 29]
abbrev dktL_law_25 : List UInt8 := dkwL_law_25 ++ dktL_law_26
def dkwL_law_24 : List UInt8 := [29, 5, 96, 46, 182, 0, 83, 44, 42, 29, 4, 96, 46, 42, 29, 5, 96, 46, 182, 0, 86, 159, 1, 39]
abbrev dktL_law_24 : List UInt8 := dkwL_law_24 ++ dktL_law_25
def dkwL_law_23 : List UInt8 := [182, 0, 79, 44, 42, 29, 4, 96, 46, 182, 0, 82, 159, 1, 72, 3, 172, 43, 42, 29, 4, 96, 46, 42]
abbrev dktL_law_23 : List UInt8 := dkwL_law_23 ++ dktL_law_24
def dkwL_law_22 : List UInt8 := [182, 0, 75, 44, 42, 29, 4, 96, 46, 182, 0, 78, 159, 1, 95, 3, 172, 43, 42, 29, 4, 96, 46]
abbrev dktL_law_22 : List UInt8 := dkwL_law_22 ++ dktL_law_23
def dkwL_law_21 : List UInt8 := [182, 0, 71, 44, 42, 29, 4, 96, 46, 182, 0, 74, 159, 1, 118, 3, 172, 43, 42, 29, 4, 96, 46]
abbrev dktL_law_21 : List UInt8 := dkwL_law_21 ++ dktL_law_22
def dkwL_law_20 : List UInt8 := [29, 4, 96, 46, 42, 29, 5, 96, 46, 182, 0, 70, 159, 1, 141, 3, 172, 43, 42, 29, 4, 96, 46]
abbrev dktL_law_20 : List UInt8 := dkwL_law_20 ++ dktL_law_21
def dkwL_law_19 : List UInt8 := [182, 0, 66, 159, 1, 174, 3, 172, 43, 42, 29, 4, 96, 46, 42, 29, 5, 96, 46, 182, 0, 67, 44, 42]
abbrev dktL_law_19 : List UInt8 := dkwL_law_19 ++ dktL_law_20
def dkwL_law_18 : List UInt8 := [182, 0, 62, 159, 1, 197, 3, 172, 43, 42, 29, 4, 96, 46, 182, 0, 63, 44, 42, 29, 4, 96, 46]
abbrev dktL_law_18 : List UInt8 := dkwL_law_18 ++ dktL_law_19
def dkwL_law_17 : List UInt8 := [42, 29, 4, 96, 46, 42, 29, 5, 96, 46, 182, 0, 59, 44, 42, 29, 4, 96, 46, 42, 29, 5, 96, 46]
abbrev dktL_law_17 : List UInt8 := dkwL_law_17 ++ dktL_law_18
def dkwL_law_16 : List UInt8 := [43, 42, 29, 4, 96, 46, 182, 0, 55, 44, 42, 29, 4, 96, 46, 182, 0, 58, 159, 1, 230, 3, 172, 43]
abbrev dktL_law_16 : List UInt8 := dkwL_law_16 ++ dktL_law_17
def dkwL_law_15 : List UInt8 := [44, 42, 29, 4, 96, 46, 42, 29, 5, 96, 46, 42, 29, 6, 96, 46, 182, 0, 54, 159, 1, 253, 3, 172]
abbrev dktL_law_15 : List UInt8 := dkwL_law_15 ++ dktL_law_16
def dkwL_law_14 : List UInt8 := [159, 2, 40, 3, 172, 43, 42, 29, 4, 96, 46, 42, 29, 5, 96, 46, 42, 29, 6, 96, 46, 182, 0, 50]
abbrev dktL_law_14 : List UInt8 := dkwL_law_14 ++ dktL_law_15
def dkwL_law_13 : List UInt8 := [42, 29, 4, 96, 46, 42, 29, 5, 96, 46, 42, 29, 6, 96, 46, 42, 29, 7, 96, 46, 182, 0, 49]
abbrev dktL_law_13 : List UInt8 := dkwL_law_13 ++ dktL_law_14
def dkwL_law_12 : List UInt8 := [42, 29, 4, 96, 46, 42, 29, 5, 96, 46, 42, 29, 6, 96, 46, 42, 29, 7, 96, 46, 182, 0, 45, 44]
abbrev dktL_law_12 : List UInt8 := dkwL_law_12 ++ dktL_law_13
def dkwL_law_11 : List UInt8 := [46, 182, 0, 41, 44, 42, 29, 4, 96, 46, 42, 29, 5, 96, 46, 182, 0, 44, 159, 2, 93, 3, 172, 43]
abbrev dktL_law_11 : List UInt8 := dkwL_law_11 ++ dktL_law_12
def dkwL_law_10 : List UInt8 := [46, 42, 29, 5, 96, 46, 182, 0, 40, 159, 2, 126, 3, 172, 43, 42, 29, 4, 96, 46, 42, 29, 5, 96]
abbrev dktL_law_10 : List UInt8 := dkwL_law_10 ++ dktL_law_11
def dkwL_law_9 : List UInt8 := [159, 2, 159, 3, 172, 43, 42, 29, 4, 96, 46, 42, 29, 5, 96, 46, 182, 0, 36, 44, 42, 29, 4, 96]
abbrev dktL_law_9 : List UInt8 := dkwL_law_9 ++ dktL_law_10
def dkwL_law_8 : List UInt8 := [159, 2, 182, 3, 172, 43, 42, 29, 4, 96, 46, 182, 0, 32, 44, 42, 29, 4, 96, 46, 182, 0, 35]
abbrev dktL_law_8 : List UInt8 := dkwL_law_8 ++ dktL_law_9
def dkwL_law_7 : List UInt8 := [159, 2, 205, 3, 172, 43, 42, 29, 4, 96, 46, 182, 0, 28, 44, 42, 29, 4, 96, 46, 182, 0, 31]
abbrev dktL_law_7 : List UInt8 := dkwL_law_7 ++ dktL_law_8
def dkwL_law_6 : List UInt8 := [159, 2, 228, 3, 172, 43, 42, 29, 4, 96, 46, 182, 0, 23, 44, 42, 29, 4, 96, 46, 182, 0, 27]
abbrev dktL_law_6 : List UInt8 := dkwL_law_6 ++ dktL_law_7
def dkwL_law_5 : List UInt8 := [42, 29, 5, 96, 46, 42, 29, 6, 96, 46, 42, 29, 7, 96, 46, 42, 29, 8, 96, 46, 182, 0, 22]
abbrev dktL_law_5 : List UInt8 := dkwL_law_5 ++ dktL_law_6
def dkwL_law_4 : List UInt8 := [42, 29, 6, 96, 46, 42, 29, 7, 96, 46, 42, 29, 8, 96, 46, 182, 0, 18, 44, 42, 29, 4, 96, 46]
abbrev dktL_law_4 : List UInt8 := dkwL_law_4 ++ dktL_law_5
def dkwL_law_3 : List UInt8 := [43, 182, 0, 13, 44, 182, 0, 17, 159, 3, 35, 3, 172, 43, 42, 29, 4, 96, 46, 42, 29, 5, 96, 46]
abbrev dktL_law_3 : List UInt8 := dkwL_law_3 ++ dktL_law_4
def dkwL_law_2 : List UInt8 := [170, 0, 0, 0, 0, 3, 166, 0, 0, 0, 0, 0, 0, 0, 26, 0, 0, 0, 123, 0, 0, 0, 136, 0, 0, 0, 199, 0, 0, 0, 222, 0, 0, 0, 245, 0, 0, 1, 12, 0, 0, 1, 45, 0, 0, 1, 78, 0, 0, 1, 131, 0, 0, 1, 174, 0, 0, 1, 197, 0, 0, 1, 230, 0, 0, 1, 253, 0, 0, 2, 30, 0, 0, 2, 53, 0, 0, 2, 76, 0, 0, 2, 99, 0, 0, 2, 132, 0, 0, 2, 165, 0, 0, 2, 208, 0, 0, 2, 251, 0, 0, 3, 18, 0, 0, 3, 31, 0, 0, 3, 64, 0, 0, 3, 97, 0, 0, 3, 130, 0, 0, 3, 153]
abbrev dktL_law_2 : List UInt8 := dkwL_law_2 ++ dktL_law_3
def dkwL_law_1 : List UInt8 := [163, 3, 181, 42, 29, 46, 16, 31, 126]
abbrev dktL_law_1 : List UInt8 := dkwL_law_1 ++ dktL_law_2
def dkwL_law_0 : List UInt8 := [187, 0, 7, 89, 183, 0, 9, 76, 187, 0, 10, 89, 183, 0, 12, 77, 3, 62, 29, 42, 190, 16, 6, 100]
abbrev dktL_law_0 : List UInt8 := dkwL_law_0 ++ dktL_law_1
theorem dksL_law_0 : cL_law.data.toList.drop 0 = dktL_law_0 := by decide +kernel
theorem dksL_law_1 : cL_law.data.toList.drop 24 = dktL_law_1 := dk_seg dksL_law_0 24 rfl rfl
theorem dksL_law_2 : cL_law.data.toList.drop 33 = dktL_law_2 := dk_seg dksL_law_1 9 rfl rfl
theorem dksL_law_3 : cL_law.data.toList.drop 156 = dktL_law_3 := dk_seg dksL_law_2 123 rfl rfl
theorem dksL_law_4 : cL_law.data.toList.drop 180 = dktL_law_4 := dk_seg dksL_law_3 24 rfl rfl
theorem dksL_law_5 : cL_law.data.toList.drop 204 = dktL_law_5 := dk_seg dksL_law_4 24 rfl rfl
theorem dksL_law_6 : cL_law.data.toList.drop 227 = dktL_law_6 := dk_seg dksL_law_5 23 rfl rfl
theorem dksL_law_7 : cL_law.data.toList.drop 250 = dktL_law_7 := dk_seg dksL_law_6 23 rfl rfl
theorem dksL_law_8 : cL_law.data.toList.drop 273 = dktL_law_8 := dk_seg dksL_law_7 23 rfl rfl
theorem dksL_law_9 : cL_law.data.toList.drop 296 = dktL_law_9 := dk_seg dksL_law_8 23 rfl rfl
theorem dksL_law_10 : cL_law.data.toList.drop 320 = dktL_law_10 := dk_seg dksL_law_9 24 rfl rfl
theorem dksL_law_11 : cL_law.data.toList.drop 344 = dktL_law_11 := dk_seg dksL_law_10 24 rfl rfl
theorem dksL_law_12 : cL_law.data.toList.drop 368 = dktL_law_12 := dk_seg dksL_law_11 24 rfl rfl
theorem dksL_law_13 : cL_law.data.toList.drop 392 = dktL_law_13 := dk_seg dksL_law_12 24 rfl rfl
theorem dksL_law_14 : cL_law.data.toList.drop 415 = dktL_law_14 := dk_seg dksL_law_13 23 rfl rfl
theorem dksL_law_15 : cL_law.data.toList.drop 439 = dktL_law_15 := dk_seg dksL_law_14 24 rfl rfl
theorem dksL_law_16 : cL_law.data.toList.drop 463 = dktL_law_16 := dk_seg dksL_law_15 24 rfl rfl
theorem dksL_law_17 : cL_law.data.toList.drop 487 = dktL_law_17 := dk_seg dksL_law_16 24 rfl rfl
theorem dksL_law_18 : cL_law.data.toList.drop 511 = dktL_law_18 := dk_seg dksL_law_17 24 rfl rfl
theorem dksL_law_19 : cL_law.data.toList.drop 534 = dktL_law_19 := dk_seg dksL_law_18 23 rfl rfl
theorem dksL_law_20 : cL_law.data.toList.drop 558 = dktL_law_20 := dk_seg dksL_law_19 24 rfl rfl
theorem dksL_law_21 : cL_law.data.toList.drop 581 = dktL_law_21 := dk_seg dksL_law_20 23 rfl rfl
theorem dksL_law_22 : cL_law.data.toList.drop 604 = dktL_law_22 := dk_seg dksL_law_21 23 rfl rfl
theorem dksL_law_23 : cL_law.data.toList.drop 627 = dktL_law_23 := dk_seg dksL_law_22 23 rfl rfl
theorem dksL_law_24 : cL_law.data.toList.drop 651 = dktL_law_24 := dk_seg dksL_law_23 24 rfl rfl
theorem dksL_law_25 : cL_law.data.toList.drop 675 = dktL_law_25 := dk_seg dksL_law_24 24 rfl rfl
theorem dksL_law_26 : cL_law.data.toList.drop 699 = dktL_law_26 := dk_seg dksL_law_25 24 rfl rfl
theorem dksL_law_27 : cL_law.data.toList.drop 723 = dktL_law_27 := dk_seg dksL_law_26 24 rfl rfl
theorem dksL_law_28 : cL_law.data.toList.drop 745 = dktL_law_28 := dk_seg dksL_law_27 22 rfl rfl
theorem dksL_law_29 : cL_law.data.toList.drop 769 = dktL_law_29 := dk_seg dksL_law_28 24 rfl rfl
theorem dksL_law_30 : cL_law.data.toList.drop 791 = dktL_law_30 := dk_seg dksL_law_29 22 rfl rfl
theorem dksL_law_31 : cL_law.data.toList.drop 814 = dktL_law_31 := dk_seg dksL_law_30 23 rfl rfl
theorem dksL_law_32 : cL_law.data.toList.drop 838 = dktL_law_32 := dk_seg dksL_law_31 24 rfl rfl
theorem dksL_law_33 : cL_law.data.toList.drop 860 = dktL_law_33 := dk_seg dksL_law_32 22 rfl rfl
theorem dksL_law_34 : cL_law.data.toList.drop 884 = dktL_law_34 := dk_seg dksL_law_33 24 rfl rfl
theorem dksL_law_35 : cL_law.data.toList.drop 908 = dktL_law_35 := dk_seg dksL_law_34 24 rfl rfl
theorem dksL_law_36 : cL_law.data.toList.drop 932 = dktL_law_36 := dk_seg dksL_law_35 24 rfl rfl
theorem dksL_law_37 : cL_law.data.toList.drop 955 = dktL_law_37 := dk_seg dksL_law_36 23 rfl rfl
theorem dL_law_0 : decode cL_law 0 = .ok (.new 7, 3) := dk_187 0 7 (dk_at dksL_law_0 0 rfl rfl)
theorem dL_law_3 : decode cL_law 3 = .ok (.dup, 1) := dk_89 (dk_at dksL_law_0 3 rfl rfl)
theorem dL_law_4 : decode cL_law 4 = .ok (.invokespecial 9, 3) := dk_183 0 9 (dk_at dksL_law_0 4 rfl rfl)
theorem dL_law_7 : decode cL_law 7 = .ok (.astore_n 1, 1) := dk_76 (dk_at dksL_law_0 7 rfl rfl)
theorem dL_law_8 : decode cL_law 8 = .ok (.new 10, 3) := dk_187 0 10 (dk_at dksL_law_0 8 rfl rfl)
theorem dL_law_11 : decode cL_law 11 = .ok (.dup, 1) := dk_89 (dk_at dksL_law_0 11 rfl rfl)
theorem dL_law_12 : decode cL_law 12 = .ok (.invokespecial 12, 3) := dk_183 0 12 (dk_at dksL_law_0 12 rfl rfl)
theorem dL_law_15 : decode cL_law 15 = .ok (.astore_n 2, 1) := dk_77 (dk_at dksL_law_0 15 rfl rfl)
theorem dL_law_16 : decode cL_law 16 = .ok (.iconst 0, 1) := dk_3 (dk_at dksL_law_0 16 rfl rfl)
theorem dL_law_17 : decode cL_law 17 = .ok (.istore_n 3, 1) := dk_62 (dk_at dksL_law_0 17 rfl rfl)
theorem dL_law_18 : decode cL_law 18 = .ok (.iload_n 3, 1) := dk_29 (dk_at dksL_law_0 18 rfl rfl)
theorem dL_law_19 : decode cL_law 19 = .ok (.aload_n 0, 1) := dk_42 (dk_at dksL_law_0 19 rfl rfl)
theorem dL_law_20 : decode cL_law 20 = .ok (.arraylength, 1) := dk_190 (dk_at dksL_law_0 20 rfl rfl)
theorem dL_law_21 : decode cL_law 21 = .ok (.bipush 6, 2) := dk_16 6 (dk_at dksL_law_0 21 rfl rfl)
theorem dL_law_23 : decode cL_law 23 = .ok (.isub, 1) := dk_100 (dk_at dksL_law_0 23 rfl rfl)
theorem dL_law_24 : decode cL_law 24 = .ok (.if_icmp .gt 949, 3) := dk_163 3 181 (dk_at dksL_law_1 0 rfl rfl)
theorem dL_law_27 : decode cL_law 27 = .ok (.aload_n 0, 1) := dk_42 (dk_at dksL_law_1 3 rfl rfl)
theorem dL_law_28 : decode cL_law 28 = .ok (.iload_n 3, 1) := dk_29 (dk_at dksL_law_1 4 rfl rfl)
theorem dL_law_29 : decode cL_law 29 = .ok (.iaload, 1) := dk_46 (dk_at dksL_law_1 5 rfl rfl)
theorem dL_law_30 : decode cL_law 30 = .ok (.bipush 31, 2) := dk_16 31 (dk_at dksL_law_1 6 rfl rfl)
theorem dL_law_32 : decode cL_law 32 = .ok (.iand, 1) := dk_126 (dk_at dksL_law_1 8 rfl rfl)
theorem dL_law_33 : decode cL_law 33 = .ok (.tableswitch 934 0 26 #[123, 136, 199, 222, 245, 268, 301, 334, 387, 430, 453, 486, 509, 542, 565, 588, 611, 644, 677, 720, 763, 786, 799, 832, 865, 898, 921], 123) := by decide +kernel
theorem dL_law_156 : decode cL_law 156 = .ok (.aload_n 1, 1) := dk_43 (dk_at dksL_law_3 0 rfl rfl)
theorem dL_law_157 : decode cL_law 157 = .ok (.invokevirtual 13, 3) := dk_182 0 13 (dk_at dksL_law_3 1 rfl rfl)
theorem dL_law_160 : decode cL_law 160 = .ok (.aload_n 2, 1) := dk_44 (dk_at dksL_law_3 4 rfl rfl)
theorem dL_law_161 : decode cL_law 161 = .ok (.invokevirtual 17, 3) := dk_182 0 17 (dk_at dksL_law_3 5 rfl rfl)
theorem dL_law_164 : decode cL_law 164 = .ok (.if_icmp .eq 803, 3) := dk_159 3 35 (dk_at dksL_law_3 8 rfl rfl)
theorem dL_law_167 : decode cL_law 167 = .ok (.iconst 0, 1) := dk_3 (dk_at dksL_law_3 11 rfl rfl)
theorem dL_law_168 : decode cL_law 168 = .ok (.ireturn, 1) := dk_172 (dk_at dksL_law_3 12 rfl rfl)
theorem dL_law_169 : decode cL_law 169 = .ok (.aload_n 1, 1) := dk_43 (dk_at dksL_law_3 13 rfl rfl)
theorem dL_law_170 : decode cL_law 170 = .ok (.aload_n 0, 1) := dk_42 (dk_at dksL_law_3 14 rfl rfl)
theorem dL_law_171 : decode cL_law 171 = .ok (.iload_n 3, 1) := dk_29 (dk_at dksL_law_3 15 rfl rfl)
theorem dL_law_172 : decode cL_law 172 = .ok (.iconst 1, 1) := dk_4 (dk_at dksL_law_3 16 rfl rfl)
theorem dL_law_173 : decode cL_law 173 = .ok (.iadd, 1) := dk_96 (dk_at dksL_law_3 17 rfl rfl)
theorem dL_law_174 : decode cL_law 174 = .ok (.iaload, 1) := dk_46 (dk_at dksL_law_3 18 rfl rfl)
theorem dL_law_175 : decode cL_law 175 = .ok (.aload_n 0, 1) := dk_42 (dk_at dksL_law_3 19 rfl rfl)
theorem dL_law_176 : decode cL_law 176 = .ok (.iload_n 3, 1) := dk_29 (dk_at dksL_law_3 20 rfl rfl)
theorem dL_law_177 : decode cL_law 177 = .ok (.iconst 2, 1) := dk_5 (dk_at dksL_law_3 21 rfl rfl)
theorem dL_law_178 : decode cL_law 178 = .ok (.iadd, 1) := dk_96 (dk_at dksL_law_3 22 rfl rfl)
theorem dL_law_179 : decode cL_law 179 = .ok (.iaload, 1) := dk_46 (dk_at dksL_law_3 23 rfl rfl)
theorem dL_law_180 : decode cL_law 180 = .ok (.aload_n 0, 1) := dk_42 (dk_at dksL_law_4 0 rfl rfl)
theorem dL_law_181 : decode cL_law 181 = .ok (.iload_n 3, 1) := dk_29 (dk_at dksL_law_4 1 rfl rfl)
theorem dL_law_182 : decode cL_law 182 = .ok (.iconst 3, 1) := dk_6 (dk_at dksL_law_4 2 rfl rfl)
theorem dL_law_183 : decode cL_law 183 = .ok (.iadd, 1) := dk_96 (dk_at dksL_law_4 3 rfl rfl)
theorem dL_law_184 : decode cL_law 184 = .ok (.iaload, 1) := dk_46 (dk_at dksL_law_4 4 rfl rfl)
theorem dL_law_185 : decode cL_law 185 = .ok (.aload_n 0, 1) := dk_42 (dk_at dksL_law_4 5 rfl rfl)
theorem dL_law_186 : decode cL_law 186 = .ok (.iload_n 3, 1) := dk_29 (dk_at dksL_law_4 6 rfl rfl)
theorem dL_law_187 : decode cL_law 187 = .ok (.iconst 4, 1) := dk_7 (dk_at dksL_law_4 7 rfl rfl)
theorem dL_law_188 : decode cL_law 188 = .ok (.iadd, 1) := dk_96 (dk_at dksL_law_4 8 rfl rfl)
theorem dL_law_189 : decode cL_law 189 = .ok (.iaload, 1) := dk_46 (dk_at dksL_law_4 9 rfl rfl)
theorem dL_law_190 : decode cL_law 190 = .ok (.aload_n 0, 1) := dk_42 (dk_at dksL_law_4 10 rfl rfl)
theorem dL_law_191 : decode cL_law 191 = .ok (.iload_n 3, 1) := dk_29 (dk_at dksL_law_4 11 rfl rfl)
theorem dL_law_192 : decode cL_law 192 = .ok (.iconst 5, 1) := dk_8 (dk_at dksL_law_4 12 rfl rfl)
theorem dL_law_193 : decode cL_law 193 = .ok (.iadd, 1) := dk_96 (dk_at dksL_law_4 13 rfl rfl)
theorem dL_law_194 : decode cL_law 194 = .ok (.iaload, 1) := dk_46 (dk_at dksL_law_4 14 rfl rfl)
theorem dL_law_195 : decode cL_law 195 = .ok (.invokevirtual 18, 3) := dk_182 0 18 (dk_at dksL_law_4 15 rfl rfl)
theorem dL_law_198 : decode cL_law 198 = .ok (.aload_n 2, 1) := dk_44 (dk_at dksL_law_4 18 rfl rfl)
theorem dL_law_199 : decode cL_law 199 = .ok (.aload_n 0, 1) := dk_42 (dk_at dksL_law_4 19 rfl rfl)
theorem dL_law_200 : decode cL_law 200 = .ok (.iload_n 3, 1) := dk_29 (dk_at dksL_law_4 20 rfl rfl)
theorem dL_law_201 : decode cL_law 201 = .ok (.iconst 1, 1) := dk_4 (dk_at dksL_law_4 21 rfl rfl)
theorem dL_law_202 : decode cL_law 202 = .ok (.iadd, 1) := dk_96 (dk_at dksL_law_4 22 rfl rfl)
theorem dL_law_203 : decode cL_law 203 = .ok (.iaload, 1) := dk_46 (dk_at dksL_law_4 23 rfl rfl)
theorem dL_law_204 : decode cL_law 204 = .ok (.aload_n 0, 1) := dk_42 (dk_at dksL_law_5 0 rfl rfl)
theorem dL_law_205 : decode cL_law 205 = .ok (.iload_n 3, 1) := dk_29 (dk_at dksL_law_5 1 rfl rfl)
theorem dL_law_206 : decode cL_law 206 = .ok (.iconst 2, 1) := dk_5 (dk_at dksL_law_5 2 rfl rfl)
theorem dL_law_207 : decode cL_law 207 = .ok (.iadd, 1) := dk_96 (dk_at dksL_law_5 3 rfl rfl)
theorem dL_law_208 : decode cL_law 208 = .ok (.iaload, 1) := dk_46 (dk_at dksL_law_5 4 rfl rfl)
theorem dL_law_209 : decode cL_law 209 = .ok (.aload_n 0, 1) := dk_42 (dk_at dksL_law_5 5 rfl rfl)
theorem dL_law_210 : decode cL_law 210 = .ok (.iload_n 3, 1) := dk_29 (dk_at dksL_law_5 6 rfl rfl)
theorem dL_law_211 : decode cL_law 211 = .ok (.iconst 3, 1) := dk_6 (dk_at dksL_law_5 7 rfl rfl)
theorem dL_law_212 : decode cL_law 212 = .ok (.iadd, 1) := dk_96 (dk_at dksL_law_5 8 rfl rfl)
theorem dL_law_213 : decode cL_law 213 = .ok (.iaload, 1) := dk_46 (dk_at dksL_law_5 9 rfl rfl)
theorem dL_law_214 : decode cL_law 214 = .ok (.aload_n 0, 1) := dk_42 (dk_at dksL_law_5 10 rfl rfl)
theorem dL_law_215 : decode cL_law 215 = .ok (.iload_n 3, 1) := dk_29 (dk_at dksL_law_5 11 rfl rfl)
theorem dL_law_216 : decode cL_law 216 = .ok (.iconst 4, 1) := dk_7 (dk_at dksL_law_5 12 rfl rfl)
theorem dL_law_217 : decode cL_law 217 = .ok (.iadd, 1) := dk_96 (dk_at dksL_law_5 13 rfl rfl)
theorem dL_law_218 : decode cL_law 218 = .ok (.iaload, 1) := dk_46 (dk_at dksL_law_5 14 rfl rfl)
theorem dL_law_219 : decode cL_law 219 = .ok (.aload_n 0, 1) := dk_42 (dk_at dksL_law_5 15 rfl rfl)
theorem dL_law_220 : decode cL_law 220 = .ok (.iload_n 3, 1) := dk_29 (dk_at dksL_law_5 16 rfl rfl)
theorem dL_law_221 : decode cL_law 221 = .ok (.iconst 5, 1) := dk_8 (dk_at dksL_law_5 17 rfl rfl)
theorem dL_law_222 : decode cL_law 222 = .ok (.iadd, 1) := dk_96 (dk_at dksL_law_5 18 rfl rfl)
theorem dL_law_223 : decode cL_law 223 = .ok (.iaload, 1) := dk_46 (dk_at dksL_law_5 19 rfl rfl)
theorem dL_law_224 : decode cL_law 224 = .ok (.invokevirtual 22, 3) := dk_182 0 22 (dk_at dksL_law_5 20 rfl rfl)
theorem dL_law_227 : decode cL_law 227 = .ok (.if_icmp .eq 740, 3) := dk_159 2 228 (dk_at dksL_law_6 0 rfl rfl)
theorem dL_law_230 : decode cL_law 230 = .ok (.iconst 0, 1) := dk_3 (dk_at dksL_law_6 3 rfl rfl)
theorem dL_law_231 : decode cL_law 231 = .ok (.ireturn, 1) := dk_172 (dk_at dksL_law_6 4 rfl rfl)
theorem dL_law_232 : decode cL_law 232 = .ok (.aload_n 1, 1) := dk_43 (dk_at dksL_law_6 5 rfl rfl)
theorem dL_law_233 : decode cL_law 233 = .ok (.aload_n 0, 1) := dk_42 (dk_at dksL_law_6 6 rfl rfl)
theorem dL_law_234 : decode cL_law 234 = .ok (.iload_n 3, 1) := dk_29 (dk_at dksL_law_6 7 rfl rfl)
theorem dL_law_235 : decode cL_law 235 = .ok (.iconst 1, 1) := dk_4 (dk_at dksL_law_6 8 rfl rfl)
theorem dL_law_236 : decode cL_law 236 = .ok (.iadd, 1) := dk_96 (dk_at dksL_law_6 9 rfl rfl)
theorem dL_law_237 : decode cL_law 237 = .ok (.iaload, 1) := dk_46 (dk_at dksL_law_6 10 rfl rfl)
theorem dL_law_238 : decode cL_law 238 = .ok (.invokevirtual 23, 3) := dk_182 0 23 (dk_at dksL_law_6 11 rfl rfl)
theorem dL_law_241 : decode cL_law 241 = .ok (.aload_n 2, 1) := dk_44 (dk_at dksL_law_6 14 rfl rfl)
theorem dL_law_242 : decode cL_law 242 = .ok (.aload_n 0, 1) := dk_42 (dk_at dksL_law_6 15 rfl rfl)
theorem dL_law_243 : decode cL_law 243 = .ok (.iload_n 3, 1) := dk_29 (dk_at dksL_law_6 16 rfl rfl)
theorem dL_law_244 : decode cL_law 244 = .ok (.iconst 1, 1) := dk_4 (dk_at dksL_law_6 17 rfl rfl)
theorem dL_law_245 : decode cL_law 245 = .ok (.iadd, 1) := dk_96 (dk_at dksL_law_6 18 rfl rfl)
theorem dL_law_246 : decode cL_law 246 = .ok (.iaload, 1) := dk_46 (dk_at dksL_law_6 19 rfl rfl)
theorem dL_law_247 : decode cL_law 247 = .ok (.invokevirtual 27, 3) := dk_182 0 27 (dk_at dksL_law_6 20 rfl rfl)
theorem dL_law_250 : decode cL_law 250 = .ok (.if_icmp .eq 717, 3) := dk_159 2 205 (dk_at dksL_law_7 0 rfl rfl)
theorem dL_law_253 : decode cL_law 253 = .ok (.iconst 0, 1) := dk_3 (dk_at dksL_law_7 3 rfl rfl)
theorem dL_law_254 : decode cL_law 254 = .ok (.ireturn, 1) := dk_172 (dk_at dksL_law_7 4 rfl rfl)
theorem dL_law_255 : decode cL_law 255 = .ok (.aload_n 1, 1) := dk_43 (dk_at dksL_law_7 5 rfl rfl)
theorem dL_law_256 : decode cL_law 256 = .ok (.aload_n 0, 1) := dk_42 (dk_at dksL_law_7 6 rfl rfl)
theorem dL_law_257 : decode cL_law 257 = .ok (.iload_n 3, 1) := dk_29 (dk_at dksL_law_7 7 rfl rfl)
theorem dL_law_258 : decode cL_law 258 = .ok (.iconst 1, 1) := dk_4 (dk_at dksL_law_7 8 rfl rfl)
theorem dL_law_259 : decode cL_law 259 = .ok (.iadd, 1) := dk_96 (dk_at dksL_law_7 9 rfl rfl)
theorem dL_law_260 : decode cL_law 260 = .ok (.iaload, 1) := dk_46 (dk_at dksL_law_7 10 rfl rfl)
theorem dL_law_261 : decode cL_law 261 = .ok (.invokevirtual 28, 3) := dk_182 0 28 (dk_at dksL_law_7 11 rfl rfl)
theorem dL_law_264 : decode cL_law 264 = .ok (.aload_n 2, 1) := dk_44 (dk_at dksL_law_7 14 rfl rfl)
theorem dL_law_265 : decode cL_law 265 = .ok (.aload_n 0, 1) := dk_42 (dk_at dksL_law_7 15 rfl rfl)
theorem dL_law_266 : decode cL_law 266 = .ok (.iload_n 3, 1) := dk_29 (dk_at dksL_law_7 16 rfl rfl)
theorem dL_law_267 : decode cL_law 267 = .ok (.iconst 1, 1) := dk_4 (dk_at dksL_law_7 17 rfl rfl)
theorem dL_law_268 : decode cL_law 268 = .ok (.iadd, 1) := dk_96 (dk_at dksL_law_7 18 rfl rfl)
theorem dL_law_269 : decode cL_law 269 = .ok (.iaload, 1) := dk_46 (dk_at dksL_law_7 19 rfl rfl)
theorem dL_law_270 : decode cL_law 270 = .ok (.invokevirtual 31, 3) := dk_182 0 31 (dk_at dksL_law_7 20 rfl rfl)
theorem dL_law_273 : decode cL_law 273 = .ok (.if_icmp .eq 694, 3) := dk_159 2 182 (dk_at dksL_law_8 0 rfl rfl)
theorem dL_law_276 : decode cL_law 276 = .ok (.iconst 0, 1) := dk_3 (dk_at dksL_law_8 3 rfl rfl)
theorem dL_law_277 : decode cL_law 277 = .ok (.ireturn, 1) := dk_172 (dk_at dksL_law_8 4 rfl rfl)
theorem dL_law_278 : decode cL_law 278 = .ok (.aload_n 1, 1) := dk_43 (dk_at dksL_law_8 5 rfl rfl)
theorem dL_law_279 : decode cL_law 279 = .ok (.aload_n 0, 1) := dk_42 (dk_at dksL_law_8 6 rfl rfl)
theorem dL_law_280 : decode cL_law 280 = .ok (.iload_n 3, 1) := dk_29 (dk_at dksL_law_8 7 rfl rfl)
theorem dL_law_281 : decode cL_law 281 = .ok (.iconst 1, 1) := dk_4 (dk_at dksL_law_8 8 rfl rfl)
theorem dL_law_282 : decode cL_law 282 = .ok (.iadd, 1) := dk_96 (dk_at dksL_law_8 9 rfl rfl)
theorem dL_law_283 : decode cL_law 283 = .ok (.iaload, 1) := dk_46 (dk_at dksL_law_8 10 rfl rfl)
theorem dL_law_284 : decode cL_law 284 = .ok (.invokevirtual 32, 3) := dk_182 0 32 (dk_at dksL_law_8 11 rfl rfl)
theorem dL_law_287 : decode cL_law 287 = .ok (.aload_n 2, 1) := dk_44 (dk_at dksL_law_8 14 rfl rfl)
theorem dL_law_288 : decode cL_law 288 = .ok (.aload_n 0, 1) := dk_42 (dk_at dksL_law_8 15 rfl rfl)
theorem dL_law_289 : decode cL_law 289 = .ok (.iload_n 3, 1) := dk_29 (dk_at dksL_law_8 16 rfl rfl)
theorem dL_law_290 : decode cL_law 290 = .ok (.iconst 1, 1) := dk_4 (dk_at dksL_law_8 17 rfl rfl)
theorem dL_law_291 : decode cL_law 291 = .ok (.iadd, 1) := dk_96 (dk_at dksL_law_8 18 rfl rfl)
theorem dL_law_292 : decode cL_law 292 = .ok (.iaload, 1) := dk_46 (dk_at dksL_law_8 19 rfl rfl)
theorem dL_law_293 : decode cL_law 293 = .ok (.invokevirtual 35, 3) := dk_182 0 35 (dk_at dksL_law_8 20 rfl rfl)
theorem dL_law_296 : decode cL_law 296 = .ok (.if_icmp .eq 671, 3) := dk_159 2 159 (dk_at dksL_law_9 0 rfl rfl)
theorem dL_law_299 : decode cL_law 299 = .ok (.iconst 0, 1) := dk_3 (dk_at dksL_law_9 3 rfl rfl)
theorem dL_law_300 : decode cL_law 300 = .ok (.ireturn, 1) := dk_172 (dk_at dksL_law_9 4 rfl rfl)
theorem dL_law_301 : decode cL_law 301 = .ok (.aload_n 1, 1) := dk_43 (dk_at dksL_law_9 5 rfl rfl)
theorem dL_law_302 : decode cL_law 302 = .ok (.aload_n 0, 1) := dk_42 (dk_at dksL_law_9 6 rfl rfl)
theorem dL_law_303 : decode cL_law 303 = .ok (.iload_n 3, 1) := dk_29 (dk_at dksL_law_9 7 rfl rfl)
theorem dL_law_304 : decode cL_law 304 = .ok (.iconst 1, 1) := dk_4 (dk_at dksL_law_9 8 rfl rfl)
theorem dL_law_305 : decode cL_law 305 = .ok (.iadd, 1) := dk_96 (dk_at dksL_law_9 9 rfl rfl)
theorem dL_law_306 : decode cL_law 306 = .ok (.iaload, 1) := dk_46 (dk_at dksL_law_9 10 rfl rfl)
theorem dL_law_307 : decode cL_law 307 = .ok (.aload_n 0, 1) := dk_42 (dk_at dksL_law_9 11 rfl rfl)
theorem dL_law_308 : decode cL_law 308 = .ok (.iload_n 3, 1) := dk_29 (dk_at dksL_law_9 12 rfl rfl)
theorem dL_law_309 : decode cL_law 309 = .ok (.iconst 2, 1) := dk_5 (dk_at dksL_law_9 13 rfl rfl)
theorem dL_law_310 : decode cL_law 310 = .ok (.iadd, 1) := dk_96 (dk_at dksL_law_9 14 rfl rfl)
theorem dL_law_311 : decode cL_law 311 = .ok (.iaload, 1) := dk_46 (dk_at dksL_law_9 15 rfl rfl)
theorem dL_law_312 : decode cL_law 312 = .ok (.invokevirtual 36, 3) := dk_182 0 36 (dk_at dksL_law_9 16 rfl rfl)
theorem dL_law_315 : decode cL_law 315 = .ok (.aload_n 2, 1) := dk_44 (dk_at dksL_law_9 19 rfl rfl)
theorem dL_law_316 : decode cL_law 316 = .ok (.aload_n 0, 1) := dk_42 (dk_at dksL_law_9 20 rfl rfl)
theorem dL_law_317 : decode cL_law 317 = .ok (.iload_n 3, 1) := dk_29 (dk_at dksL_law_9 21 rfl rfl)
theorem dL_law_318 : decode cL_law 318 = .ok (.iconst 1, 1) := dk_4 (dk_at dksL_law_9 22 rfl rfl)
theorem dL_law_319 : decode cL_law 319 = .ok (.iadd, 1) := dk_96 (dk_at dksL_law_9 23 rfl rfl)
theorem dL_law_320 : decode cL_law 320 = .ok (.iaload, 1) := dk_46 (dk_at dksL_law_10 0 rfl rfl)
theorem dL_law_321 : decode cL_law 321 = .ok (.aload_n 0, 1) := dk_42 (dk_at dksL_law_10 1 rfl rfl)
theorem dL_law_322 : decode cL_law 322 = .ok (.iload_n 3, 1) := dk_29 (dk_at dksL_law_10 2 rfl rfl)
theorem dL_law_323 : decode cL_law 323 = .ok (.iconst 2, 1) := dk_5 (dk_at dksL_law_10 3 rfl rfl)
theorem dL_law_324 : decode cL_law 324 = .ok (.iadd, 1) := dk_96 (dk_at dksL_law_10 4 rfl rfl)
theorem dL_law_325 : decode cL_law 325 = .ok (.iaload, 1) := dk_46 (dk_at dksL_law_10 5 rfl rfl)
theorem dL_law_326 : decode cL_law 326 = .ok (.invokevirtual 40, 3) := dk_182 0 40 (dk_at dksL_law_10 6 rfl rfl)
theorem dL_law_329 : decode cL_law 329 = .ok (.if_icmp .eq 638, 3) := dk_159 2 126 (dk_at dksL_law_10 9 rfl rfl)
theorem dL_law_332 : decode cL_law 332 = .ok (.iconst 0, 1) := dk_3 (dk_at dksL_law_10 12 rfl rfl)
theorem dL_law_333 : decode cL_law 333 = .ok (.ireturn, 1) := dk_172 (dk_at dksL_law_10 13 rfl rfl)
theorem dL_law_334 : decode cL_law 334 = .ok (.aload_n 1, 1) := dk_43 (dk_at dksL_law_10 14 rfl rfl)
theorem dL_law_335 : decode cL_law 335 = .ok (.aload_n 0, 1) := dk_42 (dk_at dksL_law_10 15 rfl rfl)
theorem dL_law_336 : decode cL_law 336 = .ok (.iload_n 3, 1) := dk_29 (dk_at dksL_law_10 16 rfl rfl)
theorem dL_law_337 : decode cL_law 337 = .ok (.iconst 1, 1) := dk_4 (dk_at dksL_law_10 17 rfl rfl)
theorem dL_law_338 : decode cL_law 338 = .ok (.iadd, 1) := dk_96 (dk_at dksL_law_10 18 rfl rfl)
theorem dL_law_339 : decode cL_law 339 = .ok (.iaload, 1) := dk_46 (dk_at dksL_law_10 19 rfl rfl)
theorem dL_law_340 : decode cL_law 340 = .ok (.aload_n 0, 1) := dk_42 (dk_at dksL_law_10 20 rfl rfl)
theorem dL_law_341 : decode cL_law 341 = .ok (.iload_n 3, 1) := dk_29 (dk_at dksL_law_10 21 rfl rfl)
theorem dL_law_342 : decode cL_law 342 = .ok (.iconst 2, 1) := dk_5 (dk_at dksL_law_10 22 rfl rfl)
theorem dL_law_343 : decode cL_law 343 = .ok (.iadd, 1) := dk_96 (dk_at dksL_law_10 23 rfl rfl)
theorem dL_law_344 : decode cL_law 344 = .ok (.iaload, 1) := dk_46 (dk_at dksL_law_11 0 rfl rfl)
theorem dL_law_345 : decode cL_law 345 = .ok (.invokevirtual 41, 3) := dk_182 0 41 (dk_at dksL_law_11 1 rfl rfl)
theorem dL_law_348 : decode cL_law 348 = .ok (.aload_n 2, 1) := dk_44 (dk_at dksL_law_11 4 rfl rfl)
theorem dL_law_349 : decode cL_law 349 = .ok (.aload_n 0, 1) := dk_42 (dk_at dksL_law_11 5 rfl rfl)
theorem dL_law_350 : decode cL_law 350 = .ok (.iload_n 3, 1) := dk_29 (dk_at dksL_law_11 6 rfl rfl)
theorem dL_law_351 : decode cL_law 351 = .ok (.iconst 1, 1) := dk_4 (dk_at dksL_law_11 7 rfl rfl)
theorem dL_law_352 : decode cL_law 352 = .ok (.iadd, 1) := dk_96 (dk_at dksL_law_11 8 rfl rfl)
theorem dL_law_353 : decode cL_law 353 = .ok (.iaload, 1) := dk_46 (dk_at dksL_law_11 9 rfl rfl)
theorem dL_law_354 : decode cL_law 354 = .ok (.aload_n 0, 1) := dk_42 (dk_at dksL_law_11 10 rfl rfl)
theorem dL_law_355 : decode cL_law 355 = .ok (.iload_n 3, 1) := dk_29 (dk_at dksL_law_11 11 rfl rfl)
theorem dL_law_356 : decode cL_law 356 = .ok (.iconst 2, 1) := dk_5 (dk_at dksL_law_11 12 rfl rfl)
theorem dL_law_357 : decode cL_law 357 = .ok (.iadd, 1) := dk_96 (dk_at dksL_law_11 13 rfl rfl)
theorem dL_law_358 : decode cL_law 358 = .ok (.iaload, 1) := dk_46 (dk_at dksL_law_11 14 rfl rfl)
theorem dL_law_359 : decode cL_law 359 = .ok (.invokevirtual 44, 3) := dk_182 0 44 (dk_at dksL_law_11 15 rfl rfl)
theorem dL_law_362 : decode cL_law 362 = .ok (.if_icmp .eq 605, 3) := dk_159 2 93 (dk_at dksL_law_11 18 rfl rfl)
theorem dL_law_365 : decode cL_law 365 = .ok (.iconst 0, 1) := dk_3 (dk_at dksL_law_11 21 rfl rfl)
theorem dL_law_366 : decode cL_law 366 = .ok (.ireturn, 1) := dk_172 (dk_at dksL_law_11 22 rfl rfl)
theorem dL_law_367 : decode cL_law 367 = .ok (.aload_n 1, 1) := dk_43 (dk_at dksL_law_11 23 rfl rfl)
theorem dL_law_368 : decode cL_law 368 = .ok (.aload_n 0, 1) := dk_42 (dk_at dksL_law_12 0 rfl rfl)
theorem dL_law_369 : decode cL_law 369 = .ok (.iload_n 3, 1) := dk_29 (dk_at dksL_law_12 1 rfl rfl)
theorem dL_law_370 : decode cL_law 370 = .ok (.iconst 1, 1) := dk_4 (dk_at dksL_law_12 2 rfl rfl)
theorem dL_law_371 : decode cL_law 371 = .ok (.iadd, 1) := dk_96 (dk_at dksL_law_12 3 rfl rfl)
theorem dL_law_372 : decode cL_law 372 = .ok (.iaload, 1) := dk_46 (dk_at dksL_law_12 4 rfl rfl)
theorem dL_law_373 : decode cL_law 373 = .ok (.aload_n 0, 1) := dk_42 (dk_at dksL_law_12 5 rfl rfl)
theorem dL_law_374 : decode cL_law 374 = .ok (.iload_n 3, 1) := dk_29 (dk_at dksL_law_12 6 rfl rfl)
theorem dL_law_375 : decode cL_law 375 = .ok (.iconst 2, 1) := dk_5 (dk_at dksL_law_12 7 rfl rfl)
theorem dL_law_376 : decode cL_law 376 = .ok (.iadd, 1) := dk_96 (dk_at dksL_law_12 8 rfl rfl)
theorem dL_law_377 : decode cL_law 377 = .ok (.iaload, 1) := dk_46 (dk_at dksL_law_12 9 rfl rfl)
theorem dL_law_378 : decode cL_law 378 = .ok (.aload_n 0, 1) := dk_42 (dk_at dksL_law_12 10 rfl rfl)
theorem dL_law_379 : decode cL_law 379 = .ok (.iload_n 3, 1) := dk_29 (dk_at dksL_law_12 11 rfl rfl)
theorem dL_law_380 : decode cL_law 380 = .ok (.iconst 3, 1) := dk_6 (dk_at dksL_law_12 12 rfl rfl)
theorem dL_law_381 : decode cL_law 381 = .ok (.iadd, 1) := dk_96 (dk_at dksL_law_12 13 rfl rfl)
theorem dL_law_382 : decode cL_law 382 = .ok (.iaload, 1) := dk_46 (dk_at dksL_law_12 14 rfl rfl)
theorem dL_law_383 : decode cL_law 383 = .ok (.aload_n 0, 1) := dk_42 (dk_at dksL_law_12 15 rfl rfl)
theorem dL_law_384 : decode cL_law 384 = .ok (.iload_n 3, 1) := dk_29 (dk_at dksL_law_12 16 rfl rfl)
theorem dL_law_385 : decode cL_law 385 = .ok (.iconst 4, 1) := dk_7 (dk_at dksL_law_12 17 rfl rfl)
theorem dL_law_386 : decode cL_law 386 = .ok (.iadd, 1) := dk_96 (dk_at dksL_law_12 18 rfl rfl)
theorem dL_law_387 : decode cL_law 387 = .ok (.iaload, 1) := dk_46 (dk_at dksL_law_12 19 rfl rfl)
theorem dL_law_388 : decode cL_law 388 = .ok (.invokevirtual 45, 3) := dk_182 0 45 (dk_at dksL_law_12 20 rfl rfl)
theorem dL_law_391 : decode cL_law 391 = .ok (.aload_n 2, 1) := dk_44 (dk_at dksL_law_12 23 rfl rfl)
theorem dL_law_392 : decode cL_law 392 = .ok (.aload_n 0, 1) := dk_42 (dk_at dksL_law_13 0 rfl rfl)
theorem dL_law_393 : decode cL_law 393 = .ok (.iload_n 3, 1) := dk_29 (dk_at dksL_law_13 1 rfl rfl)
theorem dL_law_394 : decode cL_law 394 = .ok (.iconst 1, 1) := dk_4 (dk_at dksL_law_13 2 rfl rfl)
theorem dL_law_395 : decode cL_law 395 = .ok (.iadd, 1) := dk_96 (dk_at dksL_law_13 3 rfl rfl)
theorem dL_law_396 : decode cL_law 396 = .ok (.iaload, 1) := dk_46 (dk_at dksL_law_13 4 rfl rfl)
theorem dL_law_397 : decode cL_law 397 = .ok (.aload_n 0, 1) := dk_42 (dk_at dksL_law_13 5 rfl rfl)
theorem dL_law_398 : decode cL_law 398 = .ok (.iload_n 3, 1) := dk_29 (dk_at dksL_law_13 6 rfl rfl)
theorem dL_law_399 : decode cL_law 399 = .ok (.iconst 2, 1) := dk_5 (dk_at dksL_law_13 7 rfl rfl)
theorem dL_law_400 : decode cL_law 400 = .ok (.iadd, 1) := dk_96 (dk_at dksL_law_13 8 rfl rfl)
theorem dL_law_401 : decode cL_law 401 = .ok (.iaload, 1) := dk_46 (dk_at dksL_law_13 9 rfl rfl)
theorem dL_law_402 : decode cL_law 402 = .ok (.aload_n 0, 1) := dk_42 (dk_at dksL_law_13 10 rfl rfl)
theorem dL_law_403 : decode cL_law 403 = .ok (.iload_n 3, 1) := dk_29 (dk_at dksL_law_13 11 rfl rfl)
theorem dL_law_404 : decode cL_law 404 = .ok (.iconst 3, 1) := dk_6 (dk_at dksL_law_13 12 rfl rfl)
theorem dL_law_405 : decode cL_law 405 = .ok (.iadd, 1) := dk_96 (dk_at dksL_law_13 13 rfl rfl)
theorem dL_law_406 : decode cL_law 406 = .ok (.iaload, 1) := dk_46 (dk_at dksL_law_13 14 rfl rfl)
theorem dL_law_407 : decode cL_law 407 = .ok (.aload_n 0, 1) := dk_42 (dk_at dksL_law_13 15 rfl rfl)
theorem dL_law_408 : decode cL_law 408 = .ok (.iload_n 3, 1) := dk_29 (dk_at dksL_law_13 16 rfl rfl)
theorem dL_law_409 : decode cL_law 409 = .ok (.iconst 4, 1) := dk_7 (dk_at dksL_law_13 17 rfl rfl)
theorem dL_law_410 : decode cL_law 410 = .ok (.iadd, 1) := dk_96 (dk_at dksL_law_13 18 rfl rfl)
theorem dL_law_411 : decode cL_law 411 = .ok (.iaload, 1) := dk_46 (dk_at dksL_law_13 19 rfl rfl)
theorem dL_law_412 : decode cL_law 412 = .ok (.invokevirtual 49, 3) := dk_182 0 49 (dk_at dksL_law_13 20 rfl rfl)
theorem dL_law_415 : decode cL_law 415 = .ok (.if_icmp .eq 552, 3) := dk_159 2 40 (dk_at dksL_law_14 0 rfl rfl)
theorem dL_law_418 : decode cL_law 418 = .ok (.iconst 0, 1) := dk_3 (dk_at dksL_law_14 3 rfl rfl)
theorem dL_law_419 : decode cL_law 419 = .ok (.ireturn, 1) := dk_172 (dk_at dksL_law_14 4 rfl rfl)
theorem dL_law_420 : decode cL_law 420 = .ok (.aload_n 1, 1) := dk_43 (dk_at dksL_law_14 5 rfl rfl)
theorem dL_law_421 : decode cL_law 421 = .ok (.aload_n 0, 1) := dk_42 (dk_at dksL_law_14 6 rfl rfl)
theorem dL_law_422 : decode cL_law 422 = .ok (.iload_n 3, 1) := dk_29 (dk_at dksL_law_14 7 rfl rfl)
theorem dL_law_423 : decode cL_law 423 = .ok (.iconst 1, 1) := dk_4 (dk_at dksL_law_14 8 rfl rfl)
theorem dL_law_424 : decode cL_law 424 = .ok (.iadd, 1) := dk_96 (dk_at dksL_law_14 9 rfl rfl)
theorem dL_law_425 : decode cL_law 425 = .ok (.iaload, 1) := dk_46 (dk_at dksL_law_14 10 rfl rfl)
theorem dL_law_426 : decode cL_law 426 = .ok (.aload_n 0, 1) := dk_42 (dk_at dksL_law_14 11 rfl rfl)
theorem dL_law_427 : decode cL_law 427 = .ok (.iload_n 3, 1) := dk_29 (dk_at dksL_law_14 12 rfl rfl)
theorem dL_law_428 : decode cL_law 428 = .ok (.iconst 2, 1) := dk_5 (dk_at dksL_law_14 13 rfl rfl)
theorem dL_law_429 : decode cL_law 429 = .ok (.iadd, 1) := dk_96 (dk_at dksL_law_14 14 rfl rfl)
theorem dL_law_430 : decode cL_law 430 = .ok (.iaload, 1) := dk_46 (dk_at dksL_law_14 15 rfl rfl)
theorem dL_law_431 : decode cL_law 431 = .ok (.aload_n 0, 1) := dk_42 (dk_at dksL_law_14 16 rfl rfl)
theorem dL_law_432 : decode cL_law 432 = .ok (.iload_n 3, 1) := dk_29 (dk_at dksL_law_14 17 rfl rfl)
theorem dL_law_433 : decode cL_law 433 = .ok (.iconst 3, 1) := dk_6 (dk_at dksL_law_14 18 rfl rfl)
theorem dL_law_434 : decode cL_law 434 = .ok (.iadd, 1) := dk_96 (dk_at dksL_law_14 19 rfl rfl)
theorem dL_law_435 : decode cL_law 435 = .ok (.iaload, 1) := dk_46 (dk_at dksL_law_14 20 rfl rfl)
theorem dL_law_436 : decode cL_law 436 = .ok (.invokevirtual 50, 3) := dk_182 0 50 (dk_at dksL_law_14 21 rfl rfl)
theorem dL_law_439 : decode cL_law 439 = .ok (.aload_n 2, 1) := dk_44 (dk_at dksL_law_15 0 rfl rfl)
theorem dL_law_440 : decode cL_law 440 = .ok (.aload_n 0, 1) := dk_42 (dk_at dksL_law_15 1 rfl rfl)
theorem dL_law_441 : decode cL_law 441 = .ok (.iload_n 3, 1) := dk_29 (dk_at dksL_law_15 2 rfl rfl)
theorem dL_law_442 : decode cL_law 442 = .ok (.iconst 1, 1) := dk_4 (dk_at dksL_law_15 3 rfl rfl)
theorem dL_law_443 : decode cL_law 443 = .ok (.iadd, 1) := dk_96 (dk_at dksL_law_15 4 rfl rfl)
theorem dL_law_444 : decode cL_law 444 = .ok (.iaload, 1) := dk_46 (dk_at dksL_law_15 5 rfl rfl)
theorem dL_law_445 : decode cL_law 445 = .ok (.aload_n 0, 1) := dk_42 (dk_at dksL_law_15 6 rfl rfl)
theorem dL_law_446 : decode cL_law 446 = .ok (.iload_n 3, 1) := dk_29 (dk_at dksL_law_15 7 rfl rfl)
theorem dL_law_447 : decode cL_law 447 = .ok (.iconst 2, 1) := dk_5 (dk_at dksL_law_15 8 rfl rfl)
theorem dL_law_448 : decode cL_law 448 = .ok (.iadd, 1) := dk_96 (dk_at dksL_law_15 9 rfl rfl)
theorem dL_law_449 : decode cL_law 449 = .ok (.iaload, 1) := dk_46 (dk_at dksL_law_15 10 rfl rfl)
theorem dL_law_450 : decode cL_law 450 = .ok (.aload_n 0, 1) := dk_42 (dk_at dksL_law_15 11 rfl rfl)
theorem dL_law_451 : decode cL_law 451 = .ok (.iload_n 3, 1) := dk_29 (dk_at dksL_law_15 12 rfl rfl)
theorem dL_law_452 : decode cL_law 452 = .ok (.iconst 3, 1) := dk_6 (dk_at dksL_law_15 13 rfl rfl)
theorem dL_law_453 : decode cL_law 453 = .ok (.iadd, 1) := dk_96 (dk_at dksL_law_15 14 rfl rfl)
theorem dL_law_454 : decode cL_law 454 = .ok (.iaload, 1) := dk_46 (dk_at dksL_law_15 15 rfl rfl)
theorem dL_law_455 : decode cL_law 455 = .ok (.invokevirtual 54, 3) := dk_182 0 54 (dk_at dksL_law_15 16 rfl rfl)
theorem dL_law_458 : decode cL_law 458 = .ok (.if_icmp .eq 509, 3) := dk_159 1 253 (dk_at dksL_law_15 19 rfl rfl)
theorem dL_law_461 : decode cL_law 461 = .ok (.iconst 0, 1) := dk_3 (dk_at dksL_law_15 22 rfl rfl)
theorem dL_law_462 : decode cL_law 462 = .ok (.ireturn, 1) := dk_172 (dk_at dksL_law_15 23 rfl rfl)
theorem dL_law_463 : decode cL_law 463 = .ok (.aload_n 1, 1) := dk_43 (dk_at dksL_law_16 0 rfl rfl)
theorem dL_law_464 : decode cL_law 464 = .ok (.aload_n 0, 1) := dk_42 (dk_at dksL_law_16 1 rfl rfl)
theorem dL_law_465 : decode cL_law 465 = .ok (.iload_n 3, 1) := dk_29 (dk_at dksL_law_16 2 rfl rfl)
theorem dL_law_466 : decode cL_law 466 = .ok (.iconst 1, 1) := dk_4 (dk_at dksL_law_16 3 rfl rfl)
theorem dL_law_467 : decode cL_law 467 = .ok (.iadd, 1) := dk_96 (dk_at dksL_law_16 4 rfl rfl)
theorem dL_law_468 : decode cL_law 468 = .ok (.iaload, 1) := dk_46 (dk_at dksL_law_16 5 rfl rfl)
theorem dL_law_469 : decode cL_law 469 = .ok (.invokevirtual 55, 3) := dk_182 0 55 (dk_at dksL_law_16 6 rfl rfl)
theorem dL_law_472 : decode cL_law 472 = .ok (.aload_n 2, 1) := dk_44 (dk_at dksL_law_16 9 rfl rfl)
theorem dL_law_473 : decode cL_law 473 = .ok (.aload_n 0, 1) := dk_42 (dk_at dksL_law_16 10 rfl rfl)
theorem dL_law_474 : decode cL_law 474 = .ok (.iload_n 3, 1) := dk_29 (dk_at dksL_law_16 11 rfl rfl)
theorem dL_law_475 : decode cL_law 475 = .ok (.iconst 1, 1) := dk_4 (dk_at dksL_law_16 12 rfl rfl)
theorem dL_law_476 : decode cL_law 476 = .ok (.iadd, 1) := dk_96 (dk_at dksL_law_16 13 rfl rfl)
theorem dL_law_477 : decode cL_law 477 = .ok (.iaload, 1) := dk_46 (dk_at dksL_law_16 14 rfl rfl)
theorem dL_law_478 : decode cL_law 478 = .ok (.invokevirtual 58, 3) := dk_182 0 58 (dk_at dksL_law_16 15 rfl rfl)
theorem dL_law_481 : decode cL_law 481 = .ok (.if_icmp .eq 486, 3) := dk_159 1 230 (dk_at dksL_law_16 18 rfl rfl)
theorem dL_law_484 : decode cL_law 484 = .ok (.iconst 0, 1) := dk_3 (dk_at dksL_law_16 21 rfl rfl)
theorem dL_law_485 : decode cL_law 485 = .ok (.ireturn, 1) := dk_172 (dk_at dksL_law_16 22 rfl rfl)
theorem dL_law_486 : decode cL_law 486 = .ok (.aload_n 1, 1) := dk_43 (dk_at dksL_law_16 23 rfl rfl)
theorem dL_law_487 : decode cL_law 487 = .ok (.aload_n 0, 1) := dk_42 (dk_at dksL_law_17 0 rfl rfl)
theorem dL_law_488 : decode cL_law 488 = .ok (.iload_n 3, 1) := dk_29 (dk_at dksL_law_17 1 rfl rfl)
theorem dL_law_489 : decode cL_law 489 = .ok (.iconst 1, 1) := dk_4 (dk_at dksL_law_17 2 rfl rfl)
theorem dL_law_490 : decode cL_law 490 = .ok (.iadd, 1) := dk_96 (dk_at dksL_law_17 3 rfl rfl)
theorem dL_law_491 : decode cL_law 491 = .ok (.iaload, 1) := dk_46 (dk_at dksL_law_17 4 rfl rfl)
theorem dL_law_492 : decode cL_law 492 = .ok (.aload_n 0, 1) := dk_42 (dk_at dksL_law_17 5 rfl rfl)
theorem dL_law_493 : decode cL_law 493 = .ok (.iload_n 3, 1) := dk_29 (dk_at dksL_law_17 6 rfl rfl)
theorem dL_law_494 : decode cL_law 494 = .ok (.iconst 2, 1) := dk_5 (dk_at dksL_law_17 7 rfl rfl)
theorem dL_law_495 : decode cL_law 495 = .ok (.iadd, 1) := dk_96 (dk_at dksL_law_17 8 rfl rfl)
theorem dL_law_496 : decode cL_law 496 = .ok (.iaload, 1) := dk_46 (dk_at dksL_law_17 9 rfl rfl)
theorem dL_law_497 : decode cL_law 497 = .ok (.invokevirtual 59, 3) := dk_182 0 59 (dk_at dksL_law_17 10 rfl rfl)
theorem dL_law_500 : decode cL_law 500 = .ok (.aload_n 2, 1) := dk_44 (dk_at dksL_law_17 13 rfl rfl)
theorem dL_law_501 : decode cL_law 501 = .ok (.aload_n 0, 1) := dk_42 (dk_at dksL_law_17 14 rfl rfl)
theorem dL_law_502 : decode cL_law 502 = .ok (.iload_n 3, 1) := dk_29 (dk_at dksL_law_17 15 rfl rfl)
theorem dL_law_503 : decode cL_law 503 = .ok (.iconst 1, 1) := dk_4 (dk_at dksL_law_17 16 rfl rfl)
theorem dL_law_504 : decode cL_law 504 = .ok (.iadd, 1) := dk_96 (dk_at dksL_law_17 17 rfl rfl)
theorem dL_law_505 : decode cL_law 505 = .ok (.iaload, 1) := dk_46 (dk_at dksL_law_17 18 rfl rfl)
theorem dL_law_506 : decode cL_law 506 = .ok (.aload_n 0, 1) := dk_42 (dk_at dksL_law_17 19 rfl rfl)
theorem dL_law_507 : decode cL_law 507 = .ok (.iload_n 3, 1) := dk_29 (dk_at dksL_law_17 20 rfl rfl)
theorem dL_law_508 : decode cL_law 508 = .ok (.iconst 2, 1) := dk_5 (dk_at dksL_law_17 21 rfl rfl)
theorem dL_law_509 : decode cL_law 509 = .ok (.iadd, 1) := dk_96 (dk_at dksL_law_17 22 rfl rfl)
theorem dL_law_510 : decode cL_law 510 = .ok (.iaload, 1) := dk_46 (dk_at dksL_law_17 23 rfl rfl)
theorem dL_law_511 : decode cL_law 511 = .ok (.invokevirtual 62, 3) := dk_182 0 62 (dk_at dksL_law_18 0 rfl rfl)
theorem dL_law_514 : decode cL_law 514 = .ok (.if_icmp .eq 453, 3) := dk_159 1 197 (dk_at dksL_law_18 3 rfl rfl)
theorem dL_law_517 : decode cL_law 517 = .ok (.iconst 0, 1) := dk_3 (dk_at dksL_law_18 6 rfl rfl)
theorem dL_law_518 : decode cL_law 518 = .ok (.ireturn, 1) := dk_172 (dk_at dksL_law_18 7 rfl rfl)
theorem dL_law_519 : decode cL_law 519 = .ok (.aload_n 1, 1) := dk_43 (dk_at dksL_law_18 8 rfl rfl)
theorem dL_law_520 : decode cL_law 520 = .ok (.aload_n 0, 1) := dk_42 (dk_at dksL_law_18 9 rfl rfl)
theorem dL_law_521 : decode cL_law 521 = .ok (.iload_n 3, 1) := dk_29 (dk_at dksL_law_18 10 rfl rfl)
theorem dL_law_522 : decode cL_law 522 = .ok (.iconst 1, 1) := dk_4 (dk_at dksL_law_18 11 rfl rfl)
theorem dL_law_523 : decode cL_law 523 = .ok (.iadd, 1) := dk_96 (dk_at dksL_law_18 12 rfl rfl)
theorem dL_law_524 : decode cL_law 524 = .ok (.iaload, 1) := dk_46 (dk_at dksL_law_18 13 rfl rfl)
theorem dL_law_525 : decode cL_law 525 = .ok (.invokevirtual 63, 3) := dk_182 0 63 (dk_at dksL_law_18 14 rfl rfl)
theorem dL_law_528 : decode cL_law 528 = .ok (.aload_n 2, 1) := dk_44 (dk_at dksL_law_18 17 rfl rfl)
theorem dL_law_529 : decode cL_law 529 = .ok (.aload_n 0, 1) := dk_42 (dk_at dksL_law_18 18 rfl rfl)
theorem dL_law_530 : decode cL_law 530 = .ok (.iload_n 3, 1) := dk_29 (dk_at dksL_law_18 19 rfl rfl)
theorem dL_law_531 : decode cL_law 531 = .ok (.iconst 1, 1) := dk_4 (dk_at dksL_law_18 20 rfl rfl)
theorem dL_law_532 : decode cL_law 532 = .ok (.iadd, 1) := dk_96 (dk_at dksL_law_18 21 rfl rfl)
theorem dL_law_533 : decode cL_law 533 = .ok (.iaload, 1) := dk_46 (dk_at dksL_law_18 22 rfl rfl)
theorem dL_law_534 : decode cL_law 534 = .ok (.invokevirtual 66, 3) := dk_182 0 66 (dk_at dksL_law_19 0 rfl rfl)
theorem dL_law_537 : decode cL_law 537 = .ok (.if_icmp .eq 430, 3) := dk_159 1 174 (dk_at dksL_law_19 3 rfl rfl)
theorem dL_law_540 : decode cL_law 540 = .ok (.iconst 0, 1) := dk_3 (dk_at dksL_law_19 6 rfl rfl)
theorem dL_law_541 : decode cL_law 541 = .ok (.ireturn, 1) := dk_172 (dk_at dksL_law_19 7 rfl rfl)
theorem dL_law_542 : decode cL_law 542 = .ok (.aload_n 1, 1) := dk_43 (dk_at dksL_law_19 8 rfl rfl)
theorem dL_law_543 : decode cL_law 543 = .ok (.aload_n 0, 1) := dk_42 (dk_at dksL_law_19 9 rfl rfl)
theorem dL_law_544 : decode cL_law 544 = .ok (.iload_n 3, 1) := dk_29 (dk_at dksL_law_19 10 rfl rfl)
theorem dL_law_545 : decode cL_law 545 = .ok (.iconst 1, 1) := dk_4 (dk_at dksL_law_19 11 rfl rfl)
theorem dL_law_546 : decode cL_law 546 = .ok (.iadd, 1) := dk_96 (dk_at dksL_law_19 12 rfl rfl)
theorem dL_law_547 : decode cL_law 547 = .ok (.iaload, 1) := dk_46 (dk_at dksL_law_19 13 rfl rfl)
theorem dL_law_548 : decode cL_law 548 = .ok (.aload_n 0, 1) := dk_42 (dk_at dksL_law_19 14 rfl rfl)
theorem dL_law_549 : decode cL_law 549 = .ok (.iload_n 3, 1) := dk_29 (dk_at dksL_law_19 15 rfl rfl)
theorem dL_law_550 : decode cL_law 550 = .ok (.iconst 2, 1) := dk_5 (dk_at dksL_law_19 16 rfl rfl)
theorem dL_law_551 : decode cL_law 551 = .ok (.iadd, 1) := dk_96 (dk_at dksL_law_19 17 rfl rfl)
theorem dL_law_552 : decode cL_law 552 = .ok (.iaload, 1) := dk_46 (dk_at dksL_law_19 18 rfl rfl)
theorem dL_law_553 : decode cL_law 553 = .ok (.invokevirtual 67, 3) := dk_182 0 67 (dk_at dksL_law_19 19 rfl rfl)
theorem dL_law_556 : decode cL_law 556 = .ok (.aload_n 2, 1) := dk_44 (dk_at dksL_law_19 22 rfl rfl)
theorem dL_law_557 : decode cL_law 557 = .ok (.aload_n 0, 1) := dk_42 (dk_at dksL_law_19 23 rfl rfl)
theorem dL_law_558 : decode cL_law 558 = .ok (.iload_n 3, 1) := dk_29 (dk_at dksL_law_20 0 rfl rfl)
theorem dL_law_559 : decode cL_law 559 = .ok (.iconst 1, 1) := dk_4 (dk_at dksL_law_20 1 rfl rfl)
theorem dL_law_560 : decode cL_law 560 = .ok (.iadd, 1) := dk_96 (dk_at dksL_law_20 2 rfl rfl)
theorem dL_law_561 : decode cL_law 561 = .ok (.iaload, 1) := dk_46 (dk_at dksL_law_20 3 rfl rfl)
theorem dL_law_562 : decode cL_law 562 = .ok (.aload_n 0, 1) := dk_42 (dk_at dksL_law_20 4 rfl rfl)
theorem dL_law_563 : decode cL_law 563 = .ok (.iload_n 3, 1) := dk_29 (dk_at dksL_law_20 5 rfl rfl)
theorem dL_law_564 : decode cL_law 564 = .ok (.iconst 2, 1) := dk_5 (dk_at dksL_law_20 6 rfl rfl)
theorem dL_law_565 : decode cL_law 565 = .ok (.iadd, 1) := dk_96 (dk_at dksL_law_20 7 rfl rfl)
theorem dL_law_566 : decode cL_law 566 = .ok (.iaload, 1) := dk_46 (dk_at dksL_law_20 8 rfl rfl)
theorem dL_law_567 : decode cL_law 567 = .ok (.invokevirtual 70, 3) := dk_182 0 70 (dk_at dksL_law_20 9 rfl rfl)
theorem dL_law_570 : decode cL_law 570 = .ok (.if_icmp .eq 397, 3) := dk_159 1 141 (dk_at dksL_law_20 12 rfl rfl)
theorem dL_law_573 : decode cL_law 573 = .ok (.iconst 0, 1) := dk_3 (dk_at dksL_law_20 15 rfl rfl)
theorem dL_law_574 : decode cL_law 574 = .ok (.ireturn, 1) := dk_172 (dk_at dksL_law_20 16 rfl rfl)
theorem dL_law_575 : decode cL_law 575 = .ok (.aload_n 1, 1) := dk_43 (dk_at dksL_law_20 17 rfl rfl)
theorem dL_law_576 : decode cL_law 576 = .ok (.aload_n 0, 1) := dk_42 (dk_at dksL_law_20 18 rfl rfl)
theorem dL_law_577 : decode cL_law 577 = .ok (.iload_n 3, 1) := dk_29 (dk_at dksL_law_20 19 rfl rfl)
theorem dL_law_578 : decode cL_law 578 = .ok (.iconst 1, 1) := dk_4 (dk_at dksL_law_20 20 rfl rfl)
theorem dL_law_579 : decode cL_law 579 = .ok (.iadd, 1) := dk_96 (dk_at dksL_law_20 21 rfl rfl)
theorem dL_law_580 : decode cL_law 580 = .ok (.iaload, 1) := dk_46 (dk_at dksL_law_20 22 rfl rfl)
theorem dL_law_581 : decode cL_law 581 = .ok (.invokevirtual 71, 3) := dk_182 0 71 (dk_at dksL_law_21 0 rfl rfl)
theorem dL_law_584 : decode cL_law 584 = .ok (.aload_n 2, 1) := dk_44 (dk_at dksL_law_21 3 rfl rfl)
theorem dL_law_585 : decode cL_law 585 = .ok (.aload_n 0, 1) := dk_42 (dk_at dksL_law_21 4 rfl rfl)
theorem dL_law_586 : decode cL_law 586 = .ok (.iload_n 3, 1) := dk_29 (dk_at dksL_law_21 5 rfl rfl)
theorem dL_law_587 : decode cL_law 587 = .ok (.iconst 1, 1) := dk_4 (dk_at dksL_law_21 6 rfl rfl)
theorem dL_law_588 : decode cL_law 588 = .ok (.iadd, 1) := dk_96 (dk_at dksL_law_21 7 rfl rfl)
theorem dL_law_589 : decode cL_law 589 = .ok (.iaload, 1) := dk_46 (dk_at dksL_law_21 8 rfl rfl)
theorem dL_law_590 : decode cL_law 590 = .ok (.invokevirtual 74, 3) := dk_182 0 74 (dk_at dksL_law_21 9 rfl rfl)
theorem dL_law_593 : decode cL_law 593 = .ok (.if_icmp .eq 374, 3) := dk_159 1 118 (dk_at dksL_law_21 12 rfl rfl)
theorem dL_law_596 : decode cL_law 596 = .ok (.iconst 0, 1) := dk_3 (dk_at dksL_law_21 15 rfl rfl)
theorem dL_law_597 : decode cL_law 597 = .ok (.ireturn, 1) := dk_172 (dk_at dksL_law_21 16 rfl rfl)
theorem dL_law_598 : decode cL_law 598 = .ok (.aload_n 1, 1) := dk_43 (dk_at dksL_law_21 17 rfl rfl)
theorem dL_law_599 : decode cL_law 599 = .ok (.aload_n 0, 1) := dk_42 (dk_at dksL_law_21 18 rfl rfl)
theorem dL_law_600 : decode cL_law 600 = .ok (.iload_n 3, 1) := dk_29 (dk_at dksL_law_21 19 rfl rfl)
theorem dL_law_601 : decode cL_law 601 = .ok (.iconst 1, 1) := dk_4 (dk_at dksL_law_21 20 rfl rfl)
theorem dL_law_602 : decode cL_law 602 = .ok (.iadd, 1) := dk_96 (dk_at dksL_law_21 21 rfl rfl)
theorem dL_law_603 : decode cL_law 603 = .ok (.iaload, 1) := dk_46 (dk_at dksL_law_21 22 rfl rfl)
theorem dL_law_604 : decode cL_law 604 = .ok (.invokevirtual 75, 3) := dk_182 0 75 (dk_at dksL_law_22 0 rfl rfl)
theorem dL_law_607 : decode cL_law 607 = .ok (.aload_n 2, 1) := dk_44 (dk_at dksL_law_22 3 rfl rfl)
theorem dL_law_608 : decode cL_law 608 = .ok (.aload_n 0, 1) := dk_42 (dk_at dksL_law_22 4 rfl rfl)
theorem dL_law_609 : decode cL_law 609 = .ok (.iload_n 3, 1) := dk_29 (dk_at dksL_law_22 5 rfl rfl)
theorem dL_law_610 : decode cL_law 610 = .ok (.iconst 1, 1) := dk_4 (dk_at dksL_law_22 6 rfl rfl)
theorem dL_law_611 : decode cL_law 611 = .ok (.iadd, 1) := dk_96 (dk_at dksL_law_22 7 rfl rfl)
theorem dL_law_612 : decode cL_law 612 = .ok (.iaload, 1) := dk_46 (dk_at dksL_law_22 8 rfl rfl)
theorem dL_law_613 : decode cL_law 613 = .ok (.invokevirtual 78, 3) := dk_182 0 78 (dk_at dksL_law_22 9 rfl rfl)
theorem dL_law_616 : decode cL_law 616 = .ok (.if_icmp .eq 351, 3) := dk_159 1 95 (dk_at dksL_law_22 12 rfl rfl)
theorem dL_law_619 : decode cL_law 619 = .ok (.iconst 0, 1) := dk_3 (dk_at dksL_law_22 15 rfl rfl)
theorem dL_law_620 : decode cL_law 620 = .ok (.ireturn, 1) := dk_172 (dk_at dksL_law_22 16 rfl rfl)
theorem dL_law_621 : decode cL_law 621 = .ok (.aload_n 1, 1) := dk_43 (dk_at dksL_law_22 17 rfl rfl)
theorem dL_law_622 : decode cL_law 622 = .ok (.aload_n 0, 1) := dk_42 (dk_at dksL_law_22 18 rfl rfl)
theorem dL_law_623 : decode cL_law 623 = .ok (.iload_n 3, 1) := dk_29 (dk_at dksL_law_22 19 rfl rfl)
theorem dL_law_624 : decode cL_law 624 = .ok (.iconst 1, 1) := dk_4 (dk_at dksL_law_22 20 rfl rfl)
theorem dL_law_625 : decode cL_law 625 = .ok (.iadd, 1) := dk_96 (dk_at dksL_law_22 21 rfl rfl)
theorem dL_law_626 : decode cL_law 626 = .ok (.iaload, 1) := dk_46 (dk_at dksL_law_22 22 rfl rfl)
theorem dL_law_627 : decode cL_law 627 = .ok (.invokevirtual 79, 3) := dk_182 0 79 (dk_at dksL_law_23 0 rfl rfl)
theorem dL_law_630 : decode cL_law 630 = .ok (.aload_n 2, 1) := dk_44 (dk_at dksL_law_23 3 rfl rfl)
theorem dL_law_631 : decode cL_law 631 = .ok (.aload_n 0, 1) := dk_42 (dk_at dksL_law_23 4 rfl rfl)
theorem dL_law_632 : decode cL_law 632 = .ok (.iload_n 3, 1) := dk_29 (dk_at dksL_law_23 5 rfl rfl)
theorem dL_law_633 : decode cL_law 633 = .ok (.iconst 1, 1) := dk_4 (dk_at dksL_law_23 6 rfl rfl)
theorem dL_law_634 : decode cL_law 634 = .ok (.iadd, 1) := dk_96 (dk_at dksL_law_23 7 rfl rfl)
theorem dL_law_635 : decode cL_law 635 = .ok (.iaload, 1) := dk_46 (dk_at dksL_law_23 8 rfl rfl)
theorem dL_law_636 : decode cL_law 636 = .ok (.invokevirtual 82, 3) := dk_182 0 82 (dk_at dksL_law_23 9 rfl rfl)
theorem dL_law_639 : decode cL_law 639 = .ok (.if_icmp .eq 328, 3) := dk_159 1 72 (dk_at dksL_law_23 12 rfl rfl)
theorem dL_law_642 : decode cL_law 642 = .ok (.iconst 0, 1) := dk_3 (dk_at dksL_law_23 15 rfl rfl)
theorem dL_law_643 : decode cL_law 643 = .ok (.ireturn, 1) := dk_172 (dk_at dksL_law_23 16 rfl rfl)
theorem dL_law_644 : decode cL_law 644 = .ok (.aload_n 1, 1) := dk_43 (dk_at dksL_law_23 17 rfl rfl)
theorem dL_law_645 : decode cL_law 645 = .ok (.aload_n 0, 1) := dk_42 (dk_at dksL_law_23 18 rfl rfl)
theorem dL_law_646 : decode cL_law 646 = .ok (.iload_n 3, 1) := dk_29 (dk_at dksL_law_23 19 rfl rfl)
theorem dL_law_647 : decode cL_law 647 = .ok (.iconst 1, 1) := dk_4 (dk_at dksL_law_23 20 rfl rfl)
theorem dL_law_648 : decode cL_law 648 = .ok (.iadd, 1) := dk_96 (dk_at dksL_law_23 21 rfl rfl)
theorem dL_law_649 : decode cL_law 649 = .ok (.iaload, 1) := dk_46 (dk_at dksL_law_23 22 rfl rfl)
theorem dL_law_650 : decode cL_law 650 = .ok (.aload_n 0, 1) := dk_42 (dk_at dksL_law_23 23 rfl rfl)
theorem dL_law_651 : decode cL_law 651 = .ok (.iload_n 3, 1) := dk_29 (dk_at dksL_law_24 0 rfl rfl)
theorem dL_law_652 : decode cL_law 652 = .ok (.iconst 2, 1) := dk_5 (dk_at dksL_law_24 1 rfl rfl)
theorem dL_law_653 : decode cL_law 653 = .ok (.iadd, 1) := dk_96 (dk_at dksL_law_24 2 rfl rfl)
theorem dL_law_654 : decode cL_law 654 = .ok (.iaload, 1) := dk_46 (dk_at dksL_law_24 3 rfl rfl)
theorem dL_law_655 : decode cL_law 655 = .ok (.invokevirtual 83, 3) := dk_182 0 83 (dk_at dksL_law_24 4 rfl rfl)
theorem dL_law_658 : decode cL_law 658 = .ok (.aload_n 2, 1) := dk_44 (dk_at dksL_law_24 7 rfl rfl)
theorem dL_law_659 : decode cL_law 659 = .ok (.aload_n 0, 1) := dk_42 (dk_at dksL_law_24 8 rfl rfl)
theorem dL_law_660 : decode cL_law 660 = .ok (.iload_n 3, 1) := dk_29 (dk_at dksL_law_24 9 rfl rfl)
theorem dL_law_661 : decode cL_law 661 = .ok (.iconst 1, 1) := dk_4 (dk_at dksL_law_24 10 rfl rfl)
theorem dL_law_662 : decode cL_law 662 = .ok (.iadd, 1) := dk_96 (dk_at dksL_law_24 11 rfl rfl)
theorem dL_law_663 : decode cL_law 663 = .ok (.iaload, 1) := dk_46 (dk_at dksL_law_24 12 rfl rfl)
theorem dL_law_664 : decode cL_law 664 = .ok (.aload_n 0, 1) := dk_42 (dk_at dksL_law_24 13 rfl rfl)
theorem dL_law_665 : decode cL_law 665 = .ok (.iload_n 3, 1) := dk_29 (dk_at dksL_law_24 14 rfl rfl)
theorem dL_law_666 : decode cL_law 666 = .ok (.iconst 2, 1) := dk_5 (dk_at dksL_law_24 15 rfl rfl)
theorem dL_law_667 : decode cL_law 667 = .ok (.iadd, 1) := dk_96 (dk_at dksL_law_24 16 rfl rfl)
theorem dL_law_668 : decode cL_law 668 = .ok (.iaload, 1) := dk_46 (dk_at dksL_law_24 17 rfl rfl)
theorem dL_law_669 : decode cL_law 669 = .ok (.invokevirtual 86, 3) := dk_182 0 86 (dk_at dksL_law_24 18 rfl rfl)
theorem dL_law_672 : decode cL_law 672 = .ok (.if_icmp .eq 295, 3) := dk_159 1 39 (dk_at dksL_law_24 21 rfl rfl)
theorem dL_law_675 : decode cL_law 675 = .ok (.iconst 0, 1) := dk_3 (dk_at dksL_law_25 0 rfl rfl)
theorem dL_law_676 : decode cL_law 676 = .ok (.ireturn, 1) := dk_172 (dk_at dksL_law_25 1 rfl rfl)
theorem dL_law_677 : decode cL_law 677 = .ok (.aload_n 1, 1) := dk_43 (dk_at dksL_law_25 2 rfl rfl)
theorem dL_law_678 : decode cL_law 678 = .ok (.aload_n 0, 1) := dk_42 (dk_at dksL_law_25 3 rfl rfl)
theorem dL_law_679 : decode cL_law 679 = .ok (.iload_n 3, 1) := dk_29 (dk_at dksL_law_25 4 rfl rfl)
theorem dL_law_680 : decode cL_law 680 = .ok (.iconst 1, 1) := dk_4 (dk_at dksL_law_25 5 rfl rfl)
theorem dL_law_681 : decode cL_law 681 = .ok (.iadd, 1) := dk_96 (dk_at dksL_law_25 6 rfl rfl)
theorem dL_law_682 : decode cL_law 682 = .ok (.iaload, 1) := dk_46 (dk_at dksL_law_25 7 rfl rfl)
theorem dL_law_683 : decode cL_law 683 = .ok (.aload_n 0, 1) := dk_42 (dk_at dksL_law_25 8 rfl rfl)
theorem dL_law_684 : decode cL_law 684 = .ok (.iload_n 3, 1) := dk_29 (dk_at dksL_law_25 9 rfl rfl)
theorem dL_law_685 : decode cL_law 685 = .ok (.iconst 2, 1) := dk_5 (dk_at dksL_law_25 10 rfl rfl)
theorem dL_law_686 : decode cL_law 686 = .ok (.iadd, 1) := dk_96 (dk_at dksL_law_25 11 rfl rfl)
theorem dL_law_687 : decode cL_law 687 = .ok (.iaload, 1) := dk_46 (dk_at dksL_law_25 12 rfl rfl)
theorem dL_law_688 : decode cL_law 688 = .ok (.invokevirtual 87, 3) := dk_182 0 87 (dk_at dksL_law_25 13 rfl rfl)
theorem dL_law_691 : decode cL_law 691 = .ok (.aload_n 2, 1) := dk_44 (dk_at dksL_law_25 16 rfl rfl)
theorem dL_law_692 : decode cL_law 692 = .ok (.aload_n 0, 1) := dk_42 (dk_at dksL_law_25 17 rfl rfl)
theorem dL_law_693 : decode cL_law 693 = .ok (.iload_n 3, 1) := dk_29 (dk_at dksL_law_25 18 rfl rfl)
theorem dL_law_694 : decode cL_law 694 = .ok (.iconst 1, 1) := dk_4 (dk_at dksL_law_25 19 rfl rfl)
theorem dL_law_695 : decode cL_law 695 = .ok (.iadd, 1) := dk_96 (dk_at dksL_law_25 20 rfl rfl)
theorem dL_law_696 : decode cL_law 696 = .ok (.iaload, 1) := dk_46 (dk_at dksL_law_25 21 rfl rfl)
theorem dL_law_697 : decode cL_law 697 = .ok (.aload_n 0, 1) := dk_42 (dk_at dksL_law_25 22 rfl rfl)
theorem dL_law_698 : decode cL_law 698 = .ok (.iload_n 3, 1) := dk_29 (dk_at dksL_law_25 23 rfl rfl)
theorem dL_law_699 : decode cL_law 699 = .ok (.iconst 2, 1) := dk_5 (dk_at dksL_law_26 0 rfl rfl)
theorem dL_law_700 : decode cL_law 700 = .ok (.iadd, 1) := dk_96 (dk_at dksL_law_26 1 rfl rfl)
theorem dL_law_701 : decode cL_law 701 = .ok (.iaload, 1) := dk_46 (dk_at dksL_law_26 2 rfl rfl)
theorem dL_law_702 : decode cL_law 702 = .ok (.invokevirtual 90, 3) := dk_182 0 90 (dk_at dksL_law_26 3 rfl rfl)
theorem dL_law_705 : decode cL_law 705 = .ok (.if_icmp .eq 262, 3) := dk_159 1 6 (dk_at dksL_law_26 6 rfl rfl)
theorem dL_law_708 : decode cL_law 708 = .ok (.iconst 0, 1) := dk_3 (dk_at dksL_law_26 9 rfl rfl)
theorem dL_law_709 : decode cL_law 709 = .ok (.ireturn, 1) := dk_172 (dk_at dksL_law_26 10 rfl rfl)
theorem dL_law_710 : decode cL_law 710 = .ok (.aload_n 1, 1) := dk_43 (dk_at dksL_law_26 11 rfl rfl)
theorem dL_law_711 : decode cL_law 711 = .ok (.aload_n 0, 1) := dk_42 (dk_at dksL_law_26 12 rfl rfl)
theorem dL_law_712 : decode cL_law 712 = .ok (.iload_n 3, 1) := dk_29 (dk_at dksL_law_26 13 rfl rfl)
theorem dL_law_713 : decode cL_law 713 = .ok (.iconst 1, 1) := dk_4 (dk_at dksL_law_26 14 rfl rfl)
theorem dL_law_714 : decode cL_law 714 = .ok (.iadd, 1) := dk_96 (dk_at dksL_law_26 15 rfl rfl)
theorem dL_law_715 : decode cL_law 715 = .ok (.iaload, 1) := dk_46 (dk_at dksL_law_26 16 rfl rfl)
theorem dL_law_716 : decode cL_law 716 = .ok (.aload_n 0, 1) := dk_42 (dk_at dksL_law_26 17 rfl rfl)
theorem dL_law_717 : decode cL_law 717 = .ok (.iload_n 3, 1) := dk_29 (dk_at dksL_law_26 18 rfl rfl)
theorem dL_law_718 : decode cL_law 718 = .ok (.iconst 2, 1) := dk_5 (dk_at dksL_law_26 19 rfl rfl)
theorem dL_law_719 : decode cL_law 719 = .ok (.iadd, 1) := dk_96 (dk_at dksL_law_26 20 rfl rfl)
theorem dL_law_720 : decode cL_law 720 = .ok (.iaload, 1) := dk_46 (dk_at dksL_law_26 21 rfl rfl)
theorem dL_law_721 : decode cL_law 721 = .ok (.aload_n 0, 1) := dk_42 (dk_at dksL_law_26 22 rfl rfl)
theorem dL_law_722 : decode cL_law 722 = .ok (.iload_n 3, 1) := dk_29 (dk_at dksL_law_26 23 rfl rfl)
theorem dL_law_723 : decode cL_law 723 = .ok (.iconst 3, 1) := dk_6 (dk_at dksL_law_27 0 rfl rfl)
theorem dL_law_724 : decode cL_law 724 = .ok (.iadd, 1) := dk_96 (dk_at dksL_law_27 1 rfl rfl)
theorem dL_law_725 : decode cL_law 725 = .ok (.iaload, 1) := dk_46 (dk_at dksL_law_27 2 rfl rfl)
theorem dL_law_726 : decode cL_law 726 = .ok (.invokevirtual 91, 3) := dk_182 0 91 (dk_at dksL_law_27 3 rfl rfl)
theorem dL_law_729 : decode cL_law 729 = .ok (.aload_n 2, 1) := dk_44 (dk_at dksL_law_27 6 rfl rfl)
theorem dL_law_730 : decode cL_law 730 = .ok (.aload_n 0, 1) := dk_42 (dk_at dksL_law_27 7 rfl rfl)
theorem dL_law_731 : decode cL_law 731 = .ok (.iload_n 3, 1) := dk_29 (dk_at dksL_law_27 8 rfl rfl)
theorem dL_law_732 : decode cL_law 732 = .ok (.iconst 1, 1) := dk_4 (dk_at dksL_law_27 9 rfl rfl)
theorem dL_law_733 : decode cL_law 733 = .ok (.iadd, 1) := dk_96 (dk_at dksL_law_27 10 rfl rfl)
theorem dL_law_734 : decode cL_law 734 = .ok (.iaload, 1) := dk_46 (dk_at dksL_law_27 11 rfl rfl)
theorem dL_law_735 : decode cL_law 735 = .ok (.aload_n 0, 1) := dk_42 (dk_at dksL_law_27 12 rfl rfl)
theorem dL_law_736 : decode cL_law 736 = .ok (.iload_n 3, 1) := dk_29 (dk_at dksL_law_27 13 rfl rfl)
theorem dL_law_737 : decode cL_law 737 = .ok (.iconst 2, 1) := dk_5 (dk_at dksL_law_27 14 rfl rfl)
theorem dL_law_738 : decode cL_law 738 = .ok (.iadd, 1) := dk_96 (dk_at dksL_law_27 15 rfl rfl)
theorem dL_law_739 : decode cL_law 739 = .ok (.iaload, 1) := dk_46 (dk_at dksL_law_27 16 rfl rfl)
theorem dL_law_740 : decode cL_law 740 = .ok (.aload_n 0, 1) := dk_42 (dk_at dksL_law_27 17 rfl rfl)
theorem dL_law_741 : decode cL_law 741 = .ok (.iload_n 3, 1) := dk_29 (dk_at dksL_law_27 18 rfl rfl)
theorem dL_law_742 : decode cL_law 742 = .ok (.iconst 3, 1) := dk_6 (dk_at dksL_law_27 19 rfl rfl)
theorem dL_law_743 : decode cL_law 743 = .ok (.iadd, 1) := dk_96 (dk_at dksL_law_27 20 rfl rfl)
theorem dL_law_744 : decode cL_law 744 = .ok (.iaload, 1) := dk_46 (dk_at dksL_law_27 21 rfl rfl)
theorem dL_law_745 : decode cL_law 745 = .ok (.invokevirtual 94, 3) := dk_182 0 94 (dk_at dksL_law_28 0 rfl rfl)
theorem dL_law_748 : decode cL_law 748 = .ok (.if_icmp .eq 219, 3) := dk_159 0 219 (dk_at dksL_law_28 3 rfl rfl)
theorem dL_law_751 : decode cL_law 751 = .ok (.iconst 0, 1) := dk_3 (dk_at dksL_law_28 6 rfl rfl)
theorem dL_law_752 : decode cL_law 752 = .ok (.ireturn, 1) := dk_172 (dk_at dksL_law_28 7 rfl rfl)
theorem dL_law_753 : decode cL_law 753 = .ok (.aload_n 1, 1) := dk_43 (dk_at dksL_law_28 8 rfl rfl)
theorem dL_law_754 : decode cL_law 754 = .ok (.aload_n 0, 1) := dk_42 (dk_at dksL_law_28 9 rfl rfl)
theorem dL_law_755 : decode cL_law 755 = .ok (.iload_n 3, 1) := dk_29 (dk_at dksL_law_28 10 rfl rfl)
theorem dL_law_756 : decode cL_law 756 = .ok (.iconst 1, 1) := dk_4 (dk_at dksL_law_28 11 rfl rfl)
theorem dL_law_757 : decode cL_law 757 = .ok (.iadd, 1) := dk_96 (dk_at dksL_law_28 12 rfl rfl)
theorem dL_law_758 : decode cL_law 758 = .ok (.iaload, 1) := dk_46 (dk_at dksL_law_28 13 rfl rfl)
theorem dL_law_759 : decode cL_law 759 = .ok (.aload_n 0, 1) := dk_42 (dk_at dksL_law_28 14 rfl rfl)
theorem dL_law_760 : decode cL_law 760 = .ok (.iload_n 3, 1) := dk_29 (dk_at dksL_law_28 15 rfl rfl)
theorem dL_law_761 : decode cL_law 761 = .ok (.iconst 2, 1) := dk_5 (dk_at dksL_law_28 16 rfl rfl)
theorem dL_law_762 : decode cL_law 762 = .ok (.iadd, 1) := dk_96 (dk_at dksL_law_28 17 rfl rfl)
theorem dL_law_763 : decode cL_law 763 = .ok (.iaload, 1) := dk_46 (dk_at dksL_law_28 18 rfl rfl)
theorem dL_law_764 : decode cL_law 764 = .ok (.aload_n 0, 1) := dk_42 (dk_at dksL_law_28 19 rfl rfl)
theorem dL_law_765 : decode cL_law 765 = .ok (.iload_n 3, 1) := dk_29 (dk_at dksL_law_28 20 rfl rfl)
theorem dL_law_766 : decode cL_law 766 = .ok (.iconst 3, 1) := dk_6 (dk_at dksL_law_28 21 rfl rfl)
theorem dL_law_767 : decode cL_law 767 = .ok (.iadd, 1) := dk_96 (dk_at dksL_law_28 22 rfl rfl)
theorem dL_law_768 : decode cL_law 768 = .ok (.iaload, 1) := dk_46 (dk_at dksL_law_28 23 rfl rfl)
theorem dL_law_769 : decode cL_law 769 = .ok (.invokevirtual 95, 3) := dk_182 0 95 (dk_at dksL_law_29 0 rfl rfl)
theorem dL_law_772 : decode cL_law 772 = .ok (.aload_n 2, 1) := dk_44 (dk_at dksL_law_29 3 rfl rfl)
theorem dL_law_773 : decode cL_law 773 = .ok (.aload_n 0, 1) := dk_42 (dk_at dksL_law_29 4 rfl rfl)
theorem dL_law_774 : decode cL_law 774 = .ok (.iload_n 3, 1) := dk_29 (dk_at dksL_law_29 5 rfl rfl)
theorem dL_law_775 : decode cL_law 775 = .ok (.iconst 1, 1) := dk_4 (dk_at dksL_law_29 6 rfl rfl)
theorem dL_law_776 : decode cL_law 776 = .ok (.iadd, 1) := dk_96 (dk_at dksL_law_29 7 rfl rfl)
theorem dL_law_777 : decode cL_law 777 = .ok (.iaload, 1) := dk_46 (dk_at dksL_law_29 8 rfl rfl)
theorem dL_law_778 : decode cL_law 778 = .ok (.aload_n 0, 1) := dk_42 (dk_at dksL_law_29 9 rfl rfl)
theorem dL_law_779 : decode cL_law 779 = .ok (.iload_n 3, 1) := dk_29 (dk_at dksL_law_29 10 rfl rfl)
theorem dL_law_780 : decode cL_law 780 = .ok (.iconst 2, 1) := dk_5 (dk_at dksL_law_29 11 rfl rfl)
theorem dL_law_781 : decode cL_law 781 = .ok (.iadd, 1) := dk_96 (dk_at dksL_law_29 12 rfl rfl)
theorem dL_law_782 : decode cL_law 782 = .ok (.iaload, 1) := dk_46 (dk_at dksL_law_29 13 rfl rfl)
theorem dL_law_783 : decode cL_law 783 = .ok (.aload_n 0, 1) := dk_42 (dk_at dksL_law_29 14 rfl rfl)
theorem dL_law_784 : decode cL_law 784 = .ok (.iload_n 3, 1) := dk_29 (dk_at dksL_law_29 15 rfl rfl)
theorem dL_law_785 : decode cL_law 785 = .ok (.iconst 3, 1) := dk_6 (dk_at dksL_law_29 16 rfl rfl)
theorem dL_law_786 : decode cL_law 786 = .ok (.iadd, 1) := dk_96 (dk_at dksL_law_29 17 rfl rfl)
theorem dL_law_787 : decode cL_law 787 = .ok (.iaload, 1) := dk_46 (dk_at dksL_law_29 18 rfl rfl)
theorem dL_law_788 : decode cL_law 788 = .ok (.invokevirtual 98, 3) := dk_182 0 98 (dk_at dksL_law_29 19 rfl rfl)
theorem dL_law_791 : decode cL_law 791 = .ok (.if_icmp .eq 176, 3) := dk_159 0 176 (dk_at dksL_law_30 0 rfl rfl)
theorem dL_law_794 : decode cL_law 794 = .ok (.iconst 0, 1) := dk_3 (dk_at dksL_law_30 3 rfl rfl)
theorem dL_law_795 : decode cL_law 795 = .ok (.ireturn, 1) := dk_172 (dk_at dksL_law_30 4 rfl rfl)
theorem dL_law_796 : decode cL_law 796 = .ok (.aload_n 1, 1) := dk_43 (dk_at dksL_law_30 5 rfl rfl)
theorem dL_law_797 : decode cL_law 797 = .ok (.aload_n 0, 1) := dk_42 (dk_at dksL_law_30 6 rfl rfl)
theorem dL_law_798 : decode cL_law 798 = .ok (.iload_n 3, 1) := dk_29 (dk_at dksL_law_30 7 rfl rfl)
theorem dL_law_799 : decode cL_law 799 = .ok (.iconst 1, 1) := dk_4 (dk_at dksL_law_30 8 rfl rfl)
theorem dL_law_800 : decode cL_law 800 = .ok (.iadd, 1) := dk_96 (dk_at dksL_law_30 9 rfl rfl)
theorem dL_law_801 : decode cL_law 801 = .ok (.iaload, 1) := dk_46 (dk_at dksL_law_30 10 rfl rfl)
theorem dL_law_802 : decode cL_law 802 = .ok (.invokevirtual 99, 3) := dk_182 0 99 (dk_at dksL_law_30 11 rfl rfl)
theorem dL_law_805 : decode cL_law 805 = .ok (.aload_n 2, 1) := dk_44 (dk_at dksL_law_30 14 rfl rfl)
theorem dL_law_806 : decode cL_law 806 = .ok (.aload_n 0, 1) := dk_42 (dk_at dksL_law_30 15 rfl rfl)
theorem dL_law_807 : decode cL_law 807 = .ok (.iload_n 3, 1) := dk_29 (dk_at dksL_law_30 16 rfl rfl)
theorem dL_law_808 : decode cL_law 808 = .ok (.iconst 1, 1) := dk_4 (dk_at dksL_law_30 17 rfl rfl)
theorem dL_law_809 : decode cL_law 809 = .ok (.iadd, 1) := dk_96 (dk_at dksL_law_30 18 rfl rfl)
theorem dL_law_810 : decode cL_law 810 = .ok (.iaload, 1) := dk_46 (dk_at dksL_law_30 19 rfl rfl)
theorem dL_law_811 : decode cL_law 811 = .ok (.invokevirtual 102, 3) := dk_182 0 102 (dk_at dksL_law_30 20 rfl rfl)
theorem dL_law_814 : decode cL_law 814 = .ok (.if_icmp .eq 153, 3) := dk_159 0 153 (dk_at dksL_law_31 0 rfl rfl)
theorem dL_law_817 : decode cL_law 817 = .ok (.iconst 0, 1) := dk_3 (dk_at dksL_law_31 3 rfl rfl)
theorem dL_law_818 : decode cL_law 818 = .ok (.ireturn, 1) := dk_172 (dk_at dksL_law_31 4 rfl rfl)
theorem dL_law_819 : decode cL_law 819 = .ok (.aload_n 1, 1) := dk_43 (dk_at dksL_law_31 5 rfl rfl)
theorem dL_law_820 : decode cL_law 820 = .ok (.invokevirtual 103, 3) := dk_182 0 103 (dk_at dksL_law_31 6 rfl rfl)
theorem dL_law_823 : decode cL_law 823 = .ok (.aload_n 2, 1) := dk_44 (dk_at dksL_law_31 9 rfl rfl)
theorem dL_law_824 : decode cL_law 824 = .ok (.invokevirtual 106, 3) := dk_182 0 106 (dk_at dksL_law_31 10 rfl rfl)
theorem dL_law_827 : decode cL_law 827 = .ok (.if_icmp .eq 140, 3) := dk_159 0 140 (dk_at dksL_law_31 13 rfl rfl)
theorem dL_law_830 : decode cL_law 830 = .ok (.iconst 0, 1) := dk_3 (dk_at dksL_law_31 16 rfl rfl)
theorem dL_law_831 : decode cL_law 831 = .ok (.ireturn, 1) := dk_172 (dk_at dksL_law_31 17 rfl rfl)
theorem dL_law_832 : decode cL_law 832 = .ok (.aload_n 1, 1) := dk_43 (dk_at dksL_law_31 18 rfl rfl)
theorem dL_law_833 : decode cL_law 833 = .ok (.aload_n 0, 1) := dk_42 (dk_at dksL_law_31 19 rfl rfl)
theorem dL_law_834 : decode cL_law 834 = .ok (.iload_n 3, 1) := dk_29 (dk_at dksL_law_31 20 rfl rfl)
theorem dL_law_835 : decode cL_law 835 = .ok (.iconst 1, 1) := dk_4 (dk_at dksL_law_31 21 rfl rfl)
theorem dL_law_836 : decode cL_law 836 = .ok (.iadd, 1) := dk_96 (dk_at dksL_law_31 22 rfl rfl)
theorem dL_law_837 : decode cL_law 837 = .ok (.iaload, 1) := dk_46 (dk_at dksL_law_31 23 rfl rfl)
theorem dL_law_838 : decode cL_law 838 = .ok (.aload_n 0, 1) := dk_42 (dk_at dksL_law_32 0 rfl rfl)
theorem dL_law_839 : decode cL_law 839 = .ok (.iload_n 3, 1) := dk_29 (dk_at dksL_law_32 1 rfl rfl)
theorem dL_law_840 : decode cL_law 840 = .ok (.iconst 2, 1) := dk_5 (dk_at dksL_law_32 2 rfl rfl)
theorem dL_law_841 : decode cL_law 841 = .ok (.iadd, 1) := dk_96 (dk_at dksL_law_32 3 rfl rfl)
theorem dL_law_842 : decode cL_law 842 = .ok (.iaload, 1) := dk_46 (dk_at dksL_law_32 4 rfl rfl)
theorem dL_law_843 : decode cL_law 843 = .ok (.invokevirtual 107, 3) := dk_182 0 107 (dk_at dksL_law_32 5 rfl rfl)
theorem dL_law_846 : decode cL_law 846 = .ok (.aload_n 2, 1) := dk_44 (dk_at dksL_law_32 8 rfl rfl)
theorem dL_law_847 : decode cL_law 847 = .ok (.aload_n 0, 1) := dk_42 (dk_at dksL_law_32 9 rfl rfl)
theorem dL_law_848 : decode cL_law 848 = .ok (.iload_n 3, 1) := dk_29 (dk_at dksL_law_32 10 rfl rfl)
theorem dL_law_849 : decode cL_law 849 = .ok (.iconst 1, 1) := dk_4 (dk_at dksL_law_32 11 rfl rfl)
theorem dL_law_850 : decode cL_law 850 = .ok (.iadd, 1) := dk_96 (dk_at dksL_law_32 12 rfl rfl)
theorem dL_law_851 : decode cL_law 851 = .ok (.iaload, 1) := dk_46 (dk_at dksL_law_32 13 rfl rfl)
theorem dL_law_852 : decode cL_law 852 = .ok (.aload_n 0, 1) := dk_42 (dk_at dksL_law_32 14 rfl rfl)
theorem dL_law_853 : decode cL_law 853 = .ok (.iload_n 3, 1) := dk_29 (dk_at dksL_law_32 15 rfl rfl)
theorem dL_law_854 : decode cL_law 854 = .ok (.iconst 2, 1) := dk_5 (dk_at dksL_law_32 16 rfl rfl)
theorem dL_law_855 : decode cL_law 855 = .ok (.iadd, 1) := dk_96 (dk_at dksL_law_32 17 rfl rfl)
theorem dL_law_856 : decode cL_law 856 = .ok (.iaload, 1) := dk_46 (dk_at dksL_law_32 18 rfl rfl)
theorem dL_law_857 : decode cL_law 857 = .ok (.invokevirtual 110, 3) := dk_182 0 110 (dk_at dksL_law_32 19 rfl rfl)
theorem dL_law_860 : decode cL_law 860 = .ok (.if_icmp .eq 107, 3) := dk_159 0 107 (dk_at dksL_law_33 0 rfl rfl)
theorem dL_law_863 : decode cL_law 863 = .ok (.iconst 0, 1) := dk_3 (dk_at dksL_law_33 3 rfl rfl)
theorem dL_law_864 : decode cL_law 864 = .ok (.ireturn, 1) := dk_172 (dk_at dksL_law_33 4 rfl rfl)
theorem dL_law_865 : decode cL_law 865 = .ok (.aload_n 1, 1) := dk_43 (dk_at dksL_law_33 5 rfl rfl)
theorem dL_law_866 : decode cL_law 866 = .ok (.aload_n 0, 1) := dk_42 (dk_at dksL_law_33 6 rfl rfl)
theorem dL_law_867 : decode cL_law 867 = .ok (.iload_n 3, 1) := dk_29 (dk_at dksL_law_33 7 rfl rfl)
theorem dL_law_868 : decode cL_law 868 = .ok (.iconst 1, 1) := dk_4 (dk_at dksL_law_33 8 rfl rfl)
theorem dL_law_869 : decode cL_law 869 = .ok (.iadd, 1) := dk_96 (dk_at dksL_law_33 9 rfl rfl)
theorem dL_law_870 : decode cL_law 870 = .ok (.iaload, 1) := dk_46 (dk_at dksL_law_33 10 rfl rfl)
theorem dL_law_871 : decode cL_law 871 = .ok (.aload_n 0, 1) := dk_42 (dk_at dksL_law_33 11 rfl rfl)
theorem dL_law_872 : decode cL_law 872 = .ok (.iload_n 3, 1) := dk_29 (dk_at dksL_law_33 12 rfl rfl)
theorem dL_law_873 : decode cL_law 873 = .ok (.iconst 2, 1) := dk_5 (dk_at dksL_law_33 13 rfl rfl)
theorem dL_law_874 : decode cL_law 874 = .ok (.iadd, 1) := dk_96 (dk_at dksL_law_33 14 rfl rfl)
theorem dL_law_875 : decode cL_law 875 = .ok (.iaload, 1) := dk_46 (dk_at dksL_law_33 15 rfl rfl)
theorem dL_law_876 : decode cL_law 876 = .ok (.invokevirtual 111, 3) := dk_182 0 111 (dk_at dksL_law_33 16 rfl rfl)
theorem dL_law_879 : decode cL_law 879 = .ok (.aload_n 2, 1) := dk_44 (dk_at dksL_law_33 19 rfl rfl)
theorem dL_law_880 : decode cL_law 880 = .ok (.aload_n 0, 1) := dk_42 (dk_at dksL_law_33 20 rfl rfl)
theorem dL_law_881 : decode cL_law 881 = .ok (.iload_n 3, 1) := dk_29 (dk_at dksL_law_33 21 rfl rfl)
theorem dL_law_882 : decode cL_law 882 = .ok (.iconst 1, 1) := dk_4 (dk_at dksL_law_33 22 rfl rfl)
theorem dL_law_883 : decode cL_law 883 = .ok (.iadd, 1) := dk_96 (dk_at dksL_law_33 23 rfl rfl)
theorem dL_law_884 : decode cL_law 884 = .ok (.iaload, 1) := dk_46 (dk_at dksL_law_34 0 rfl rfl)
theorem dL_law_885 : decode cL_law 885 = .ok (.aload_n 0, 1) := dk_42 (dk_at dksL_law_34 1 rfl rfl)
theorem dL_law_886 : decode cL_law 886 = .ok (.iload_n 3, 1) := dk_29 (dk_at dksL_law_34 2 rfl rfl)
theorem dL_law_887 : decode cL_law 887 = .ok (.iconst 2, 1) := dk_5 (dk_at dksL_law_34 3 rfl rfl)
theorem dL_law_888 : decode cL_law 888 = .ok (.iadd, 1) := dk_96 (dk_at dksL_law_34 4 rfl rfl)
theorem dL_law_889 : decode cL_law 889 = .ok (.iaload, 1) := dk_46 (dk_at dksL_law_34 5 rfl rfl)
theorem dL_law_890 : decode cL_law 890 = .ok (.invokevirtual 114, 3) := dk_182 0 114 (dk_at dksL_law_34 6 rfl rfl)
theorem dL_law_893 : decode cL_law 893 = .ok (.if_icmp .eq 74, 3) := dk_159 0 74 (dk_at dksL_law_34 9 rfl rfl)
theorem dL_law_896 : decode cL_law 896 = .ok (.iconst 0, 1) := dk_3 (dk_at dksL_law_34 12 rfl rfl)
theorem dL_law_897 : decode cL_law 897 = .ok (.ireturn, 1) := dk_172 (dk_at dksL_law_34 13 rfl rfl)
theorem dL_law_898 : decode cL_law 898 = .ok (.aload_n 1, 1) := dk_43 (dk_at dksL_law_34 14 rfl rfl)
theorem dL_law_899 : decode cL_law 899 = .ok (.aload_n 0, 1) := dk_42 (dk_at dksL_law_34 15 rfl rfl)
theorem dL_law_900 : decode cL_law 900 = .ok (.iload_n 3, 1) := dk_29 (dk_at dksL_law_34 16 rfl rfl)
theorem dL_law_901 : decode cL_law 901 = .ok (.iconst 1, 1) := dk_4 (dk_at dksL_law_34 17 rfl rfl)
theorem dL_law_902 : decode cL_law 902 = .ok (.iadd, 1) := dk_96 (dk_at dksL_law_34 18 rfl rfl)
theorem dL_law_903 : decode cL_law 903 = .ok (.iaload, 1) := dk_46 (dk_at dksL_law_34 19 rfl rfl)
theorem dL_law_904 : decode cL_law 904 = .ok (.aload_n 0, 1) := dk_42 (dk_at dksL_law_34 20 rfl rfl)
theorem dL_law_905 : decode cL_law 905 = .ok (.iload_n 3, 1) := dk_29 (dk_at dksL_law_34 21 rfl rfl)
theorem dL_law_906 : decode cL_law 906 = .ok (.iconst 2, 1) := dk_5 (dk_at dksL_law_34 22 rfl rfl)
theorem dL_law_907 : decode cL_law 907 = .ok (.iadd, 1) := dk_96 (dk_at dksL_law_34 23 rfl rfl)
theorem dL_law_908 : decode cL_law 908 = .ok (.iaload, 1) := dk_46 (dk_at dksL_law_35 0 rfl rfl)
theorem dL_law_909 : decode cL_law 909 = .ok (.invokevirtual 115, 3) := dk_182 0 115 (dk_at dksL_law_35 1 rfl rfl)
theorem dL_law_912 : decode cL_law 912 = .ok (.aload_n 2, 1) := dk_44 (dk_at dksL_law_35 4 rfl rfl)
theorem dL_law_913 : decode cL_law 913 = .ok (.aload_n 0, 1) := dk_42 (dk_at dksL_law_35 5 rfl rfl)
theorem dL_law_914 : decode cL_law 914 = .ok (.iload_n 3, 1) := dk_29 (dk_at dksL_law_35 6 rfl rfl)
theorem dL_law_915 : decode cL_law 915 = .ok (.iconst 1, 1) := dk_4 (dk_at dksL_law_35 7 rfl rfl)
theorem dL_law_916 : decode cL_law 916 = .ok (.iadd, 1) := dk_96 (dk_at dksL_law_35 8 rfl rfl)
theorem dL_law_917 : decode cL_law 917 = .ok (.iaload, 1) := dk_46 (dk_at dksL_law_35 9 rfl rfl)
theorem dL_law_918 : decode cL_law 918 = .ok (.aload_n 0, 1) := dk_42 (dk_at dksL_law_35 10 rfl rfl)
theorem dL_law_919 : decode cL_law 919 = .ok (.iload_n 3, 1) := dk_29 (dk_at dksL_law_35 11 rfl rfl)
theorem dL_law_920 : decode cL_law 920 = .ok (.iconst 2, 1) := dk_5 (dk_at dksL_law_35 12 rfl rfl)
theorem dL_law_921 : decode cL_law 921 = .ok (.iadd, 1) := dk_96 (dk_at dksL_law_35 13 rfl rfl)
theorem dL_law_922 : decode cL_law 922 = .ok (.iaload, 1) := dk_46 (dk_at dksL_law_35 14 rfl rfl)
theorem dL_law_923 : decode cL_law 923 = .ok (.invokevirtual 118, 3) := dk_182 0 118 (dk_at dksL_law_35 15 rfl rfl)
theorem dL_law_926 : decode cL_law 926 = .ok (.if_icmp .eq 41, 3) := dk_159 0 41 (dk_at dksL_law_35 18 rfl rfl)
theorem dL_law_929 : decode cL_law 929 = .ok (.iconst 0, 1) := dk_3 (dk_at dksL_law_35 21 rfl rfl)
theorem dL_law_930 : decode cL_law 930 = .ok (.ireturn, 1) := dk_172 (dk_at dksL_law_35 22 rfl rfl)
theorem dL_law_931 : decode cL_law 931 = .ok (.aload_n 1, 1) := dk_43 (dk_at dksL_law_35 23 rfl rfl)
theorem dL_law_932 : decode cL_law 932 = .ok (.aload_n 0, 1) := dk_42 (dk_at dksL_law_36 0 rfl rfl)
theorem dL_law_933 : decode cL_law 933 = .ok (.iload_n 3, 1) := dk_29 (dk_at dksL_law_36 1 rfl rfl)
theorem dL_law_934 : decode cL_law 934 = .ok (.iconst 1, 1) := dk_4 (dk_at dksL_law_36 2 rfl rfl)
theorem dL_law_935 : decode cL_law 935 = .ok (.iadd, 1) := dk_96 (dk_at dksL_law_36 3 rfl rfl)
theorem dL_law_936 : decode cL_law 936 = .ok (.iaload, 1) := dk_46 (dk_at dksL_law_36 4 rfl rfl)
theorem dL_law_937 : decode cL_law 937 = .ok (.invokevirtual 119, 3) := dk_182 0 119 (dk_at dksL_law_36 5 rfl rfl)
theorem dL_law_940 : decode cL_law 940 = .ok (.aload_n 2, 1) := dk_44 (dk_at dksL_law_36 8 rfl rfl)
theorem dL_law_941 : decode cL_law 941 = .ok (.aload_n 0, 1) := dk_42 (dk_at dksL_law_36 9 rfl rfl)
theorem dL_law_942 : decode cL_law 942 = .ok (.iload_n 3, 1) := dk_29 (dk_at dksL_law_36 10 rfl rfl)
theorem dL_law_943 : decode cL_law 943 = .ok (.iconst 1, 1) := dk_4 (dk_at dksL_law_36 11 rfl rfl)
theorem dL_law_944 : decode cL_law 944 = .ok (.iadd, 1) := dk_96 (dk_at dksL_law_36 12 rfl rfl)
theorem dL_law_945 : decode cL_law 945 = .ok (.iaload, 1) := dk_46 (dk_at dksL_law_36 13 rfl rfl)
theorem dL_law_946 : decode cL_law 946 = .ok (.invokevirtual 122, 3) := dk_182 0 122 (dk_at dksL_law_36 14 rfl rfl)
theorem dL_law_949 : decode cL_law 949 = .ok (.if_icmp .eq 18, 3) := dk_159 0 18 (dk_at dksL_law_36 17 rfl rfl)
theorem dL_law_952 : decode cL_law 952 = .ok (.iconst 0, 1) := dk_3 (dk_at dksL_law_36 20 rfl rfl)
theorem dL_law_953 : decode cL_law 953 = .ok (.ireturn, 1) := dk_172 (dk_at dksL_law_36 21 rfl rfl)
theorem dL_law_954 : decode cL_law 954 = .ok (.aload_n 1, 1) := dk_43 (dk_at dksL_law_36 22 rfl rfl)
theorem dL_law_955 : decode cL_law 955 = .ok (.invokevirtual 123, 3) := dk_182 0 123 (dk_at dksL_law_37 0 rfl rfl)
theorem dL_law_958 : decode cL_law 958 = .ok (.aload_n 2, 1) := dk_44 (dk_at dksL_law_37 3 rfl rfl)
theorem dL_law_959 : decode cL_law 959 = .ok (.invokevirtual 126, 3) := dk_182 0 126 (dk_at dksL_law_37 4 rfl rfl)
theorem dL_law_962 : decode cL_law 962 = .ok (.if_icmp .eq 5, 3) := dk_159 0 5 (dk_at dksL_law_37 7 rfl rfl)
theorem dL_law_965 : decode cL_law 965 = .ok (.iconst 0, 1) := dk_3 (dk_at dksL_law_37 10 rfl rfl)
theorem dL_law_966 : decode cL_law 966 = .ok (.ireturn, 1) := dk_172 (dk_at dksL_law_37 11 rfl rfl)
theorem dL_law_967 : decode cL_law 967 = .ok (.iinc 3 6, 3) := dk_132 3 6 (dk_at dksL_law_37 12 rfl rfl)
theorem dL_law_970 : decode cL_law 970 = .ok (.goto (-952), 3) := dk_167 252 72 (dk_at dksL_law_37 15 rfl rfl)
theorem dL_law_973 : decode cL_law 973 = .ok (.iconst 1, 1) := dk_4 (dk_at dksL_law_37 18 rfl rfl)
theorem dL_law_974 : decode cL_law 974 = .ok (.ireturn, 1) := dk_172 (dk_at dksL_law_37 19 rfl rfl)
theorem q157 : (Jvm.Cond.initialized "RuleShuttleLaw") ∈ lw_all := lw_g (lw_at lw_m1 0 rfl) rfl
set_option maxRecDepth 100000
theorem q202 : (Jvm.Cond.classLink "RuleShuttleLaw" (7 : Nat) "RuleShuttle") ∈ lw_all := lw_g (lw_at lw_m1 45 rfl) rfl
theorem q204 : (Jvm.Cond.methodLink "RuleShuttleLaw" (9 : Nat) ({ cls := "RuleShuttle", name := "<init>", desc := "()V" } : Jvm.MethodName)) ∈ lw_all := lw_g (lw_at lw_m1 47 rfl) rfl
theorem q273 : (Jvm.Cond.methodLink "RuleShuttleLaw" (13 : Nat) ({ cls := "RuleShuttle", name := "status", desc := "()I" } : Jvm.MethodName)) ∈ lw_all := lw_g (lw_at lw_m1 116 rfl) rfl
theorem q277 : (Jvm.Cond.methodLink "RuleShuttleLaw" (18 : Nat) ({ cls := "RuleShuttle", name := "feed", desc := "(IIIII)I" } : Jvm.MethodName)) ∈ lw_all := lw_g (lw_at lw_m1 120 rfl) rfl
theorem q285 : (Jvm.Cond.methodLink "RuleShuttleLaw" (28 : Nat) ({ cls := "RuleShuttle", name := "fault", desc := "(I)I" } : Jvm.MethodName)) ∈ lw_all := lw_g (lw_at lw_m1 128 rfl) rfl
theorem q289 : (Jvm.Cond.methodLink "RuleShuttleLaw" (23 : Nat) ({ cls := "RuleShuttle", name := "grammar", desc := "(I)I" } : Jvm.MethodName)) ∈ lw_all := lw_g (lw_at lw_m1 132 rfl) rfl
theorem q1468 : (Jvm.Cond.methodLink "RuleShuttleLaw" (32 : Nat) ({ cls := "RuleShuttle", name := "many", desc := "(I)I" } : Jvm.MethodName)) ∈ lw_all := lw_g (lw_at lw_m6 111 rfl) rfl
theorem q1498 : (Jvm.Cond.methodLink "RuleShuttleLaw" (36 : Nat) ({ cls := "RuleShuttle", name := "symbol", desc := "(II)I" } : Jvm.MethodName)) ∈ lw_all := lw_g (lw_at lw_m6 141 rfl) rfl
theorem q1514 : (Jvm.Cond.methodLink "RuleShuttleLaw" (41 : Nat) ({ cls := "RuleShuttle", name := "production", desc := "(II)I" } : Jvm.MethodName)) ∈ lw_all := lw_g (lw_at lw_m6 157 rfl) rfl
theorem q1524 : (Jvm.Cond.methodLink "RuleShuttleLaw" (45 : Nat) ({ cls := "RuleShuttle", name := "hangs", desc := "(IIII)I" } : Jvm.MethodName)) ∈ lw_all := lw_g (lw_at lw_m6 167 rfl) rfl
theorem q1536 : (Jvm.Cond.methodLink "RuleShuttleLaw" (50 : Nat) ({ cls := "RuleShuttle", name := "induced", desc := "(III)I" } : Jvm.MethodName)) ∈ lw_all := lw_g (lw_at lw_m6 179 rfl) rfl
theorem q1544 : (Jvm.Cond.methodLink "RuleShuttleLaw" (55 : Nat) ({ cls := "RuleShuttle", name := "circle", desc := "(I)I" } : Jvm.MethodName)) ∈ lw_all := lw_g (lw_at lw_m6 187 rfl) rfl
theorem q1586 : (Jvm.Cond.methodLink "RuleShuttleLaw" (59 : Nat) ({ cls := "RuleShuttle", name := "visit", desc := "(II)I" } : Jvm.MethodName)) ∈ lw_all := lw_g (lw_at lw_m6 229 rfl) rfl
theorem q1590 : (Jvm.Cond.methodLink "RuleShuttleLaw" (63 : Nat) ({ cls := "RuleShuttle", name := "ordered", desc := "(I)I" } : Jvm.MethodName)) ∈ lw_all := lw_g (lw_at lw_m6 233 rfl) rfl
theorem q1594 : (Jvm.Cond.methodLink "RuleShuttleLaw" (67 : Nat) ({ cls := "RuleShuttle", name := "plan", desc := "(II)I" } : Jvm.MethodName)) ∈ lw_all := lw_g (lw_at lw_m6 237 rfl) rfl
theorem q1598 : (Jvm.Cond.methodLink "RuleShuttleLaw" (71 : Nat) ({ cls := "RuleShuttle", name := "real", desc := "(I)I" } : Jvm.MethodName)) ∈ lw_all := lw_g (lw_at lw_m7 1 rfl) rfl
theorem q1682 : (Jvm.Cond.methodLink "RuleShuttleLaw" (75 : Nat) ({ cls := "RuleShuttle", name := "shades", desc := "(I)I" } : Jvm.MethodName)) ∈ lw_all := lw_g (lw_at lw_m7 85 rfl) rfl
theorem q1686 : (Jvm.Cond.methodLink "RuleShuttleLaw" (79 : Nat) ({ cls := "RuleShuttle", name := "tree", desc := "(I)I" } : Jvm.MethodName)) ∈ lw_all := lw_g (lw_at lw_m7 89 rfl) rfl
theorem q1963 : (Jvm.Cond.methodLink "RuleShuttleLaw" (83 : Nat) ({ cls := "RuleShuttle", name := "node", desc := "(II)I" } : Jvm.MethodName)) ∈ lw_all := lw_g (lw_at lw_m8 126 rfl) rfl
theorem q1986 : (Jvm.Cond.methodLink "RuleShuttleLaw" (87 : Nat) ({ cls := "RuleShuttle", name := "value", desc := "(II)I" } : Jvm.MethodName)) ∈ lw_all := lw_g (lw_at lw_m8 149 rfl) rfl
theorem q2000 : (Jvm.Cond.methodLink "RuleShuttleLaw" (91 : Nat) ({ cls := "RuleShuttle", name := "knot", desc := "(III)I" } : Jvm.MethodName)) ∈ lw_all := lw_g (lw_at lw_m8 163 rfl) rfl
theorem q2013 : (Jvm.Cond.methodLink "RuleShuttleLaw" (95 : Nat) ({ cls := "RuleShuttle", name := "span", desc := "(III)I" } : Jvm.MethodName)) ∈ lw_all := lw_g (lw_at lw_m8 176 rfl) rfl
theorem q2021 : (Jvm.Cond.methodLink "RuleShuttleLaw" (99 : Nat) ({ cls := "RuleShuttle", name := "run", desc := "(I)I" } : Jvm.MethodName)) ∈ lw_all := lw_g (lw_at lw_m8 184 rfl) rfl
theorem q2052 : (Jvm.Cond.methodLink "RuleShuttleLaw" (103 : Nat) ({ cls := "RuleShuttle", name := "longest", desc := "()I" } : Jvm.MethodName)) ∈ lw_all := lw_g (lw_at lw_m8 215 rfl) rfl
theorem q2061 : (Jvm.Cond.methodLink "RuleShuttleLaw" (107 : Nat) ({ cls := "RuleShuttle", name := "put", desc := "(II)I" } : Jvm.MethodName)) ∈ lw_all := lw_g (lw_at lw_m8 224 rfl) rfl
theorem q2088 : (Jvm.Cond.methodLink "RuleShuttleLaw" (111 : Nat) ({ cls := "RuleShuttle", name := "give", desc := "(II)I" } : Jvm.MethodName)) ∈ lw_all := lw_g (lw_at lw_m9 11 rfl) rfl
theorem q2092 : (Jvm.Cond.methodLink "RuleShuttleLaw" (115 : Nat) ({ cls := "RuleShuttle", name := "graft", desc := "(II)I" } : Jvm.MethodName)) ∈ lw_all := lw_g (lw_at lw_m9 15 rfl) rfl
theorem q2174 : (Jvm.Cond.methodLink "RuleShuttleLaw" (119 : Nat) ({ cls := "RuleShuttle", name := "anew", desc := "(I)I" } : Jvm.MethodName)) ∈ lw_all := lw_g (lw_at lw_m9 97 rfl) rfl
theorem q2178 : (Jvm.Cond.methodLink "RuleShuttleLaw" (123 : Nat) ({ cls := "RuleShuttle", name := "digest", desc := "()I" } : Jvm.MethodName)) ∈ lw_all := lw_g (lw_at lw_m9 101 rfl) rfl
theorem q2182 : (Jvm.Cond.classLink "RuleShuttleLaw" (10 : Nat) "RuleShuttleModel") ∈ lw_all := lw_g (lw_at lw_m9 105 rfl) rfl
theorem q2184 : (Jvm.Cond.methodLink "RuleShuttleLaw" (12 : Nat) ({ cls := "RuleShuttleModel", name := "<init>", desc := "()V" } : Jvm.MethodName)) ∈ lw_all := lw_g (lw_at lw_m9 107 rfl) rfl
theorem q2415 : (Jvm.Cond.methodLink "RuleShuttleLaw" (17 : Nat) ({ cls := "RuleShuttleModel", name := "status", desc := "()I" } : Jvm.MethodName)) ∈ lw_all := lw_g (lw_at lw_m10 98 rfl) rfl
theorem q2419 : (Jvm.Cond.methodLink "RuleShuttleLaw" (22 : Nat) ({ cls := "RuleShuttleModel", name := "feed", desc := "(IIIII)I" } : Jvm.MethodName)) ∈ lw_all := lw_g (lw_at lw_m10 102 rfl) rfl
theorem q2427 : (Jvm.Cond.methodLink "RuleShuttleLaw" (27 : Nat) ({ cls := "RuleShuttleModel", name := "grammar", desc := "(I)I" } : Jvm.MethodName)) ∈ lw_all := lw_g (lw_at lw_m10 110 rfl) rfl
theorem q2593 : (Jvm.Cond.methodLink "RuleShuttleLaw" (31 : Nat) ({ cls := "RuleShuttleModel", name := "fault", desc := "(I)I" } : Jvm.MethodName)) ∈ lw_all := lw_g (lw_at lw_m11 36 rfl) rfl
theorem q2597 : (Jvm.Cond.methodLink "RuleShuttleLaw" (35 : Nat) ({ cls := "RuleShuttleModel", name := "many", desc := "(I)I" } : Jvm.MethodName)) ∈ lw_all := lw_g (lw_at lw_m11 40 rfl) rfl
theorem q2605 : (Jvm.Cond.methodLink "RuleShuttleLaw" (40 : Nat) ({ cls := "RuleShuttleModel", name := "symbol", desc := "(II)I" } : Jvm.MethodName)) ∈ lw_all := lw_g (lw_at lw_m11 48 rfl) rfl
theorem q2629 : (Jvm.Cond.methodLink "RuleShuttleLaw" (44 : Nat) ({ cls := "RuleShuttleModel", name := "production", desc := "(II)I" } : Jvm.MethodName)) ∈ lw_all := lw_g (lw_at lw_m11 72 rfl) rfl
theorem q2637 : (Jvm.Cond.methodLink "RuleShuttleLaw" (49 : Nat) ({ cls := "RuleShuttleModel", name := "hangs", desc := "(IIII)I" } : Jvm.MethodName)) ∈ lw_all := lw_g (lw_at lw_m11 80 rfl) rfl
theorem q2661 : (Jvm.Cond.methodLink "RuleShuttleLaw" (54 : Nat) ({ cls := "RuleShuttleModel", name := "induced", desc := "(III)I" } : Jvm.MethodName)) ∈ lw_all := lw_g (lw_at lw_m11 104 rfl) rfl
theorem q2669 : (Jvm.Cond.methodLink "RuleShuttleLaw" (58 : Nat) ({ cls := "RuleShuttleModel", name := "circle", desc := "(I)I" } : Jvm.MethodName)) ∈ lw_all := lw_g (lw_at lw_m11 112 rfl) rfl
theorem q2686 : (Jvm.Cond.methodLink "RuleShuttleLaw" (62 : Nat) ({ cls := "RuleShuttleModel", name := "visit", desc := "(II)I" } : Jvm.MethodName)) ∈ lw_all := lw_g (lw_at lw_m11 129 rfl) rfl
theorem q2690 : (Jvm.Cond.methodLink "RuleShuttleLaw" (66 : Nat) ({ cls := "RuleShuttleModel", name := "ordered", desc := "(I)I" } : Jvm.MethodName)) ∈ lw_all := lw_g (lw_at lw_m11 133 rfl) rfl
theorem q2698 : (Jvm.Cond.methodLink "RuleShuttleLaw" (70 : Nat) ({ cls := "RuleShuttleModel", name := "plan", desc := "(II)I" } : Jvm.MethodName)) ∈ lw_all := lw_g (lw_at lw_m11 141 rfl) rfl
theorem q2726 : (Jvm.Cond.methodLink "RuleShuttleLaw" (74 : Nat) ({ cls := "RuleShuttleModel", name := "real", desc := "(I)I" } : Jvm.MethodName)) ∈ lw_all := lw_g (lw_at lw_m11 169 rfl) rfl
theorem q2750 : (Jvm.Cond.methodLink "RuleShuttleLaw" (78 : Nat) ({ cls := "RuleShuttleModel", name := "shades", desc := "(I)I" } : Jvm.MethodName)) ∈ lw_all := lw_g (lw_at lw_m11 193 rfl) rfl
theorem q2754 : (Jvm.Cond.methodLink "RuleShuttleLaw" (82 : Nat) ({ cls := "RuleShuttleModel", name := "tree", desc := "(I)I" } : Jvm.MethodName)) ∈ lw_all := lw_g (lw_at lw_m11 197 rfl) rfl
theorem q2833 : (Jvm.Cond.methodLink "RuleShuttleLaw" (86 : Nat) ({ cls := "RuleShuttleModel", name := "node", desc := "(II)I" } : Jvm.MethodName)) ∈ lw_all := lw_g (lw_at lw_m12 36 rfl) rfl
theorem q2845 : (Jvm.Cond.methodLink "RuleShuttleLaw" (90 : Nat) ({ cls := "RuleShuttleModel", name := "value", desc := "(II)I" } : Jvm.MethodName)) ∈ lw_all := lw_g (lw_at lw_m12 48 rfl) rfl
theorem q2853 : (Jvm.Cond.methodLink "RuleShuttleLaw" (94 : Nat) ({ cls := "RuleShuttleModel", name := "knot", desc := "(III)I" } : Jvm.MethodName)) ∈ lw_all := lw_g (lw_at lw_m12 56 rfl) rfl
theorem q2857 : (Jvm.Cond.methodLink "RuleShuttleLaw" (98 : Nat) ({ cls := "RuleShuttleModel", name := "span", desc := "(III)I" } : Jvm.MethodName)) ∈ lw_all := lw_g (lw_at lw_m12 60 rfl) rfl
theorem q2861 : (Jvm.Cond.methodLink "RuleShuttleLaw" (102 : Nat) ({ cls := "RuleShuttleModel", name := "run", desc := "(I)I" } : Jvm.MethodName)) ∈ lw_all := lw_g (lw_at lw_m12 64 rfl) rfl
theorem q2865 : (Jvm.Cond.methodLink "RuleShuttleLaw" (106 : Nat) ({ cls := "RuleShuttleModel", name := "longest", desc := "()I" } : Jvm.MethodName)) ∈ lw_all := lw_g (lw_at lw_m12 68 rfl) rfl
theorem q2869 : (Jvm.Cond.methodLink "RuleShuttleLaw" (110 : Nat) ({ cls := "RuleShuttleModel", name := "put", desc := "(II)I" } : Jvm.MethodName)) ∈ lw_all := lw_g (lw_at lw_m12 72 rfl) rfl
theorem q2897 : (Jvm.Cond.methodLink "RuleShuttleLaw" (114 : Nat) ({ cls := "RuleShuttleModel", name := "give", desc := "(II)I" } : Jvm.MethodName)) ∈ lw_all := lw_g (lw_at lw_m12 100 rfl) rfl
theorem q2901 : (Jvm.Cond.methodLink "RuleShuttleLaw" (118 : Nat) ({ cls := "RuleShuttleModel", name := "graft", desc := "(II)I" } : Jvm.MethodName)) ∈ lw_all := lw_g (lw_at lw_m12 104 rfl) rfl
theorem q2913 : (Jvm.Cond.methodLink "RuleShuttleLaw" (122 : Nat) ({ cls := "RuleShuttleModel", name := "anew", desc := "(I)I" } : Jvm.MethodName)) ∈ lw_all := lw_g (lw_at lw_m12 116 rfl) rfl
theorem q2917 : (Jvm.Cond.methodLink "RuleShuttleLaw" (126 : Nat) ({ cls := "RuleShuttleModel", name := "digest", desc := "()I" } : Jvm.MethodName)) ∈ lw_all := lw_g (lw_at lw_m12 120 rfl) rfl
theorem q1949 : (Jvm.Cond.interfaceMethod "RuleShuttle$Joins" "RuleShuttle$Joins" "of" "(II)I") ∈ lw_tbl := lw_at lw_m8 112 rfl
set_option maxRecDepth 100000
theorem q1950 : (Jvm.Cond.declares ({ cls := "RuleShuttle$Joins", name := "of", desc := "(II)I" } : Jvm.MethodName)) ∈ lw_tbl := lw_at lw_m8 113 rfl
theorem q2928 : (Jvm.Cond.castable "RuleShuttle$Joins" "java/lang/Object") ∈ lw_tbl := lw_at lw_m12 131 rfl
theorem q386 : (Jvm.Cond.sameMethod "[B" "java/lang/Object" "clone" "()Ljava/lang/Object;") ∈ lw_all := lw_g (lw_at lw_m1 229 rfl) rfl
set_option maxRecDepth 100000
theorem q389 : (Jvm.Cond.selects "[B" ({ cls := "[B", name := "clone", desc := "()Ljava/lang/Object;" } : Jvm.MethodName) ({ cls := "java/lang/Object", name := "clone", desc := "()Ljava/lang/Object;" } : Jvm.MethodName)) ∈ lw_all := lw_g (lw_at lw_m1 232 rfl) rfl
theorem q390 : (Jvm.Cond.castable "[B" "java/lang/Cloneable") ∈ lw_tbl := lw_at lw_m1 233 rfl
theorem q2967 : (Jvm.Cond.castable "[B" "java/lang/Object") ∈ lw_tbl := lw_at lw_m12 170 rfl
theorem q1553 : (Jvm.Cond.sameMethod "[I" "java/lang/Object" "clone" "()Ljava/lang/Object;") ∈ lw_all := lw_g (lw_at lw_m6 196 rfl) rfl
set_option maxRecDepth 100000
theorem q1554 : (Jvm.Cond.selects "[I" ({ cls := "[I", name := "clone", desc := "()Ljava/lang/Object;" } : Jvm.MethodName) ({ cls := "java/lang/Object", name := "clone", desc := "()Ljava/lang/Object;" } : Jvm.MethodName)) ∈ lw_all := lw_g (lw_at lw_m6 197 rfl) rfl
theorem q1555 : (Jvm.Cond.castable "[I" "java/lang/Cloneable") ∈ lw_tbl := lw_at lw_m6 198 rfl
theorem q2969 : (Jvm.Cond.castable "[I" "java/lang/Object") ∈ lw_tbl := lw_at lw_m12 172 rfl
theorem q2973 : (Jvm.Cond.castable "[J" "java/lang/Object") ∈ lw_tbl := lw_at lw_m12 176 rfl
set_option maxRecDepth 100000
theorem q2966 : (Jvm.Cond.castable "[LRuleShuttle$Joins;" "java/lang/Object") ∈ lw_tbl := lw_at lw_m12 169 rfl
set_option maxRecDepth 100000
theorem q2970 : (Jvm.Cond.castable "[LRuleShuttle$Part;" "java/lang/Object") ∈ lw_tbl := lw_at lw_m12 173 rfl
set_option maxRecDepth 100000
theorem q2963 : (Jvm.Cond.sameMethod "[Ljava/lang/Object;" "java/lang/Object" "getClass" "()Ljava/lang/Class;") ∈ lw_all := lw_g (lw_at lw_m12 166 rfl) rfl
set_option maxRecDepth 100000
theorem q2964 : (Jvm.Cond.selects "[Ljava/lang/Object;" ({ cls := "java/lang/Object", name := "getClass", desc := "()Ljava/lang/Class;" } : Jvm.MethodName) ({ cls := "java/lang/Object", name := "getClass", desc := "()Ljava/lang/Class;" } : Jvm.MethodName)) ∈ lw_all := lw_g (lw_at lw_m12 167 rfl) rfl
theorem q2968 : (Jvm.Cond.castable "[Ljava/lang/Object;" "java/lang/Object") ∈ lw_tbl := lw_at lw_m12 171 rfl
theorem q2971 : (Jvm.Cond.castable "[Z" "java/lang/Object") ∈ lw_tbl := lw_at lw_m12 174 rfl
set_option maxRecDepth 100000
theorem q2972 : (Jvm.Cond.castable "[[I" "java/lang/Object") ∈ lw_tbl := lw_at lw_m12 175 rfl
set_option maxRecDepth 100000
theorem q194 : (Jvm.Cond.initialized "java/lang/Integer$IntegerCache") ∈ lw_all := lw_g (lw_at lw_m1 37 rfl) rfl
set_option maxRecDepth 100000
theorem q1568 : (Jvm.Cond.laysStatic "java/lang/Integer$IntegerCache" "high" "I") ∈ lw_tbl := lw_at lw_m6 211 rfl
theorem q1570 : (Jvm.Cond.laysStatic "java/lang/Integer$IntegerCache" "cache" "[Ljava/lang/Integer;") ∈ lw_tbl := lw_at lw_m6 213 rfl
theorem q2125 : (Jvm.Cond.interfaceMethod "java/lang/Iterable" "java/lang/Iterable" "iterator" "()Ljava/util/Iterator;") ∈ lw_tbl := lw_at lw_m9 48 rfl
set_option maxRecDepth 100000
theorem q2126 : (Jvm.Cond.declares ({ cls := "java/lang/Iterable", name := "iterator", desc := "()Ljava/util/Iterator;" } : Jvm.MethodName)) ∈ lw_tbl := lw_at lw_m9 49 rfl
theorem q168 : (Jvm.Cond.initialized "java/lang/System") ∈ lw_all := lw_g (lw_at lw_m1 11 rfl) rfl
set_option maxRecDepth 100000
theorem q396 : (Jvm.Cond.static ({ cls := "java/lang/System", name := "arraycopy", desc := "(Ljava/lang/Object;ILjava/lang/Object;II)V" } : Jvm.MethodName)) ∈ lw_all := lw_g (lw_at lw_m1 239 rfl) rfl
theorem q397 : (Jvm.Cond.native ({ cls := "java/lang/System", name := "arraycopy", desc := "(Ljava/lang/Object;ILjava/lang/Object;II)V" } : Jvm.MethodName)) ∈ lw_all := lw_g (lw_at lw_m2 0 rfl) rfl
theorem q1309 : (Jvm.Cond.interfaceMethod "java/util/Iterator" "java/util/Iterator" "hasNext" "()Z") ∈ lw_tbl := lw_at lw_m5 192 rfl
set_option maxRecDepth 100000
theorem q1310 : (Jvm.Cond.declares ({ cls := "java/util/Iterator", name := "hasNext", desc := "()Z" } : Jvm.MethodName)) ∈ lw_tbl := lw_at lw_m5 193 rfl
theorem q1328 : (Jvm.Cond.interfaceMethod "java/util/Iterator" "java/util/Iterator" "next" "()Ljava/lang/Object;") ∈ lw_tbl := lw_at lw_m5 211 rfl
theorem q1329 : (Jvm.Cond.declares ({ cls := "java/util/Iterator", name := "next", desc := "()Ljava/lang/Object;" } : Jvm.MethodName)) ∈ lw_tbl := lw_at lw_m5 212 rfl
theorem q814 : (Jvm.Cond.interfaceMethod "jdk/internal/access/JavaLangAccess" "jdk/internal/access/JavaLangAccess" "getUTF16Char" "([BI)C") ∈ lw_tbl := lw_at lw_m3 177 rfl
set_option maxRecDepth 100000
theorem q815 : (Jvm.Cond.declares ({ cls := "jdk/internal/access/JavaLangAccess", name := "getUTF16Char", desc := "([BI)C" } : Jvm.MethodName)) ∈ lw_tbl := lw_at lw_m3 178 rfl
theorem q211 : (Jvm.Cond.arrayOver (Jvm.ClassFile.FieldType.object "RuleShuttle$Joins")) ∈ lw_tbl := lw_at lw_m1 54 rfl
set_option maxRecDepth 100000
theorem q272 : (Jvm.Cond.arrayClass Jvm.ClassFile.FieldType.byte) ∈ lw_all := lw_g (lw_at lw_m1 115 rfl) rfl
theorem q646 : (Jvm.Cond.arrayOver (Jvm.ClassFile.FieldType.object "java/lang/Object")) ∈ lw_tbl := lw_at lw_m3 9 rfl
theorem q911 : (Jvm.Cond.arrayClass Jvm.ClassFile.FieldType.int) ∈ lw_all := lw_g (lw_at lw_m4 34 rfl) rfl
theorem q1050 : (Jvm.Cond.arrayOver (Jvm.ClassFile.FieldType.object "RuleShuttle$Part")) ∈ lw_tbl := lw_at lw_m4 173 rfl
theorem q1087 : (Jvm.Cond.arrayClass Jvm.ClassFile.FieldType.boolean) ∈ lw_all := lw_g (lw_at lw_m4 210 rfl) rfl
theorem q1613 : (Jvm.Cond.arrayOver (Jvm.ClassFile.FieldType.array Jvm.ClassFile.FieldType.int)) ∈ lw_tbl := lw_at lw_m7 16 rfl
theorem q2414 : (Jvm.Cond.arrayClass Jvm.ClassFile.FieldType.long) ∈ lw_all := lw_g (lw_at lw_m10 97 rfl) rfl
theorem q2974 : (Jvm.Cond.arrayClass Jvm.ClassFile.FieldType.char) ∈ lw_all := lw_g (lw_at lw_m12 177 rfl) rfl
theorem q2975 : (Jvm.Cond.arrayClass Jvm.ClassFile.FieldType.short) ∈ lw_all := lw_g (lw_at lw_m12 178 rfl) rfl
