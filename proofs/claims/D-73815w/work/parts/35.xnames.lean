/-! the component's code: its pieces, its decode rows (claim/names) -/
set_option maxRecDepth 100000
def RJ0 : String := "java/util/AbstractCollection"
abbrev cJ0_init : ByteArray := prog_30_method_1_code
def yJ0_init : MethodName := ⟨RJ0, "<init>", "()V"⟩
theorem dJ0_init_0 : decode cJ0_init 0 = .ok (.aload_n 0, 1) := by decide +kernel
theorem dJ0_init_1 : decode cJ0_init 1 = .ok (.invokespecial 1, 3) := by decide +kernel
theorem dJ0_init_4 : decode cJ0_init 4 = .ok (.return_, 1) := by decide +kernel
def RJ1 : String := "java/util/AbstractList"
abbrev cJ1_init : ByteArray := prog_31_method_1_code
def yJ1_init : MethodName := ⟨RJ1, "<init>", "()V"⟩
def dkwJ1_init_0 : List UInt8 := [42, 183, 0, 1, 42, 3, 181, 0, 7, 177]
abbrev dktJ1_init_0 : List UInt8 := dkwJ1_init_0 ++ []
theorem dksJ1_init_0 : cJ1_init.data.toList.drop 0 = dktJ1_init_0 := by decide +kernel
theorem dJ1_init_0 : decode cJ1_init 0 = .ok (.aload_n 0, 1) := dk_42 (dk_at dksJ1_init_0 0 rfl rfl)
theorem dJ1_init_1 : decode cJ1_init 1 = .ok (.invokespecial 1, 3) := dk_183 0 1 (dk_at dksJ1_init_0 1 rfl rfl)
theorem dJ1_init_4 : decode cJ1_init 4 = .ok (.aload_n 0, 1) := dk_42 (dk_at dksJ1_init_0 4 rfl rfl)
theorem dJ1_init_5 : decode cJ1_init 5 = .ok (.iconst 0, 1) := dk_3 (dk_at dksJ1_init_0 5 rfl rfl)
theorem dJ1_init_6 : decode cJ1_init 6 = .ok (.putfield 7, 3) := dk_181 0 7 (dk_at dksJ1_init_0 6 rfl rfl)
theorem dJ1_init_9 : decode cJ1_init 9 = .ok (.return_, 1) := dk_177 (dk_at dksJ1_init_0 9 rfl rfl)
def RJ10 : String := "java/lang/StringLatin1"
abbrev cJ10_canEncode : ByteArray := prog_24_method_3_code
def yJ10_canEncode : MethodName := ⟨RJ10, "canEncode", "(C)Z"⟩
def dkwJ10_canEncode_0 : List UInt8 := [26, 17, 0, 255, 163, 0, 7, 4, 167, 0, 4, 3, 172]
abbrev dktJ10_canEncode_0 : List UInt8 := dkwJ10_canEncode_0 ++ []
theorem dksJ10_canEncode_0 : cJ10_canEncode.data.toList.drop 0 = dktJ10_canEncode_0 := by decide +kernel
theorem dJ10_canEncode_0 : decode cJ10_canEncode 0 = .ok (.iload_n 0, 1) := dk_26 (dk_at dksJ10_canEncode_0 0 rfl rfl)
theorem dJ10_canEncode_1 : decode cJ10_canEncode 1 = .ok (.sipush 255, 3) := dk_17 0 255 (dk_at dksJ10_canEncode_0 1 rfl rfl)
theorem dJ10_canEncode_4 : decode cJ10_canEncode 4 = .ok (.if_icmp .gt 7, 3) := dk_163 0 7 (dk_at dksJ10_canEncode_0 4 rfl rfl)
theorem dJ10_canEncode_7 : decode cJ10_canEncode 7 = .ok (.iconst 1, 1) := dk_4 (dk_at dksJ10_canEncode_0 7 rfl rfl)
theorem dJ10_canEncode_8 : decode cJ10_canEncode 8 = .ok (.goto 4, 3) := dk_167 0 4 (dk_at dksJ10_canEncode_0 8 rfl rfl)
theorem dJ10_canEncode_11 : decode cJ10_canEncode 11 = .ok (.iconst 0, 1) := dk_3 (dk_at dksJ10_canEncode_0 11 rfl rfl)
theorem dJ10_canEncode_12 : decode cJ10_canEncode 12 = .ok (.ireturn, 1) := dk_172 (dk_at dksJ10_canEncode_0 12 rfl rfl)
abbrev cJ10_equals : ByteArray := prog_24_method_13_code
def yJ10_equals : MethodName := ⟨RJ10, "equals", "([B[B)Z"⟩
def dkwJ10_equals_1 : List UInt8 := [3, 172, 132, 2, 1, 167, 255, 236, 4, 172, 3, 172]
abbrev dktJ10_equals_1 : List UInt8 := dkwJ10_equals_1 ++ []
def dkwJ10_equals_0 : List UInt8 := [42, 190, 43, 190, 160, 0, 30, 3, 61, 28, 42, 190, 162, 0, 20, 42, 28, 51, 43, 28, 51, 159, 0, 5]
abbrev dktJ10_equals_0 : List UInt8 := dkwJ10_equals_0 ++ dktJ10_equals_1
theorem dksJ10_equals_0 : cJ10_equals.data.toList.drop 0 = dktJ10_equals_0 := by decide +kernel
theorem dksJ10_equals_1 : cJ10_equals.data.toList.drop 24 = dktJ10_equals_1 := dk_seg dksJ10_equals_0 24 rfl rfl
theorem dJ10_equals_0 : decode cJ10_equals 0 = .ok (.aload_n 0, 1) := dk_42 (dk_at dksJ10_equals_0 0 rfl rfl)
theorem dJ10_equals_1 : decode cJ10_equals 1 = .ok (.arraylength, 1) := dk_190 (dk_at dksJ10_equals_0 1 rfl rfl)
theorem dJ10_equals_2 : decode cJ10_equals 2 = .ok (.aload_n 1, 1) := dk_43 (dk_at dksJ10_equals_0 2 rfl rfl)
theorem dJ10_equals_3 : decode cJ10_equals 3 = .ok (.arraylength, 1) := dk_190 (dk_at dksJ10_equals_0 3 rfl rfl)
theorem dJ10_equals_4 : decode cJ10_equals 4 = .ok (.if_icmp .ne 30, 3) := dk_160 0 30 (dk_at dksJ10_equals_0 4 rfl rfl)
theorem dJ10_equals_7 : decode cJ10_equals 7 = .ok (.iconst 0, 1) := dk_3 (dk_at dksJ10_equals_0 7 rfl rfl)
theorem dJ10_equals_8 : decode cJ10_equals 8 = .ok (.istore_n 2, 1) := dk_61 (dk_at dksJ10_equals_0 8 rfl rfl)
theorem dJ10_equals_9 : decode cJ10_equals 9 = .ok (.iload_n 2, 1) := dk_28 (dk_at dksJ10_equals_0 9 rfl rfl)
theorem dJ10_equals_10 : decode cJ10_equals 10 = .ok (.aload_n 0, 1) := dk_42 (dk_at dksJ10_equals_0 10 rfl rfl)
theorem dJ10_equals_11 : decode cJ10_equals 11 = .ok (.arraylength, 1) := dk_190 (dk_at dksJ10_equals_0 11 rfl rfl)
theorem dJ10_equals_12 : decode cJ10_equals 12 = .ok (.if_icmp .ge 20, 3) := dk_162 0 20 (dk_at dksJ10_equals_0 12 rfl rfl)
theorem dJ10_equals_15 : decode cJ10_equals 15 = .ok (.aload_n 0, 1) := dk_42 (dk_at dksJ10_equals_0 15 rfl rfl)
theorem dJ10_equals_16 : decode cJ10_equals 16 = .ok (.iload_n 2, 1) := dk_28 (dk_at dksJ10_equals_0 16 rfl rfl)
theorem dJ10_equals_17 : decode cJ10_equals 17 = .ok (.baload, 1) := dk_51 (dk_at dksJ10_equals_0 17 rfl rfl)
theorem dJ10_equals_18 : decode cJ10_equals 18 = .ok (.aload_n 1, 1) := dk_43 (dk_at dksJ10_equals_0 18 rfl rfl)
theorem dJ10_equals_19 : decode cJ10_equals 19 = .ok (.iload_n 2, 1) := dk_28 (dk_at dksJ10_equals_0 19 rfl rfl)
theorem dJ10_equals_20 : decode cJ10_equals 20 = .ok (.baload, 1) := dk_51 (dk_at dksJ10_equals_0 20 rfl rfl)
theorem dJ10_equals_21 : decode cJ10_equals 21 = .ok (.if_icmp .eq 5, 3) := dk_159 0 5 (dk_at dksJ10_equals_0 21 rfl rfl)
theorem dJ10_equals_24 : decode cJ10_equals 24 = .ok (.iconst 0, 1) := dk_3 (dk_at dksJ10_equals_1 0 rfl rfl)
theorem dJ10_equals_25 : decode cJ10_equals 25 = .ok (.ireturn, 1) := dk_172 (dk_at dksJ10_equals_1 1 rfl rfl)
theorem dJ10_equals_26 : decode cJ10_equals 26 = .ok (.iinc 2 1, 3) := dk_132 2 1 (dk_at dksJ10_equals_1 2 rfl rfl)
theorem dJ10_equals_29 : decode cJ10_equals 29 = .ok (.goto (-20), 3) := dk_167 255 236 (dk_at dksJ10_equals_1 5 rfl rfl)
theorem dJ10_equals_32 : decode cJ10_equals 32 = .ok (.iconst 1, 1) := dk_4 (dk_at dksJ10_equals_1 8 rfl rfl)
theorem dJ10_equals_33 : decode cJ10_equals 33 = .ok (.ireturn, 1) := dk_172 (dk_at dksJ10_equals_1 9 rfl rfl)
theorem dJ10_equals_34 : decode cJ10_equals 34 = .ok (.iconst 0, 1) := dk_3 (dk_at dksJ10_equals_1 10 rfl rfl)
theorem dJ10_equals_35 : decode cJ10_equals 35 = .ok (.ireturn, 1) := dk_172 (dk_at dksJ10_equals_1 11 rfl rfl)
def RJ11 : String := "jdk/internal/util/Preconditions"
abbrev cJ11_checkIndex : ByteArray := prog_42_method_11_code
def yJ11_checkIndex : MethodName := ⟨RJ11, "checkIndex", "(IILjava/util/function/BiFunction;)I"⟩
def dkwJ11_checkIndex_0 : List UInt8 := [26, 155, 0, 8, 26, 27, 161, 0, 10, 44, 26, 27, 184, 0, 95, 191, 26, 172]
abbrev dktJ11_checkIndex_0 : List UInt8 := dkwJ11_checkIndex_0 ++ []
theorem dksJ11_checkIndex_0 : cJ11_checkIndex.data.toList.drop 0 = dktJ11_checkIndex_0 := by decide +kernel
theorem dJ11_checkIndex_0 : decode cJ11_checkIndex 0 = .ok (.iload_n 0, 1) := dk_26 (dk_at dksJ11_checkIndex_0 0 rfl rfl)
theorem dJ11_checkIndex_1 : decode cJ11_checkIndex 1 = .ok (.ifCond .lt 8, 3) := dk_155 0 8 (dk_at dksJ11_checkIndex_0 1 rfl rfl)
theorem dJ11_checkIndex_4 : decode cJ11_checkIndex 4 = .ok (.iload_n 0, 1) := dk_26 (dk_at dksJ11_checkIndex_0 4 rfl rfl)
theorem dJ11_checkIndex_5 : decode cJ11_checkIndex 5 = .ok (.iload_n 1, 1) := dk_27 (dk_at dksJ11_checkIndex_0 5 rfl rfl)
theorem dJ11_checkIndex_6 : decode cJ11_checkIndex 6 = .ok (.if_icmp .lt 10, 3) := dk_161 0 10 (dk_at dksJ11_checkIndex_0 6 rfl rfl)
theorem dJ11_checkIndex_9 : decode cJ11_checkIndex 9 = .ok (.aload_n 2, 1) := dk_44 (dk_at dksJ11_checkIndex_0 9 rfl rfl)
theorem dJ11_checkIndex_10 : decode cJ11_checkIndex 10 = .ok (.iload_n 0, 1) := dk_26 (dk_at dksJ11_checkIndex_0 10 rfl rfl)
theorem dJ11_checkIndex_11 : decode cJ11_checkIndex 11 = .ok (.iload_n 1, 1) := dk_27 (dk_at dksJ11_checkIndex_0 11 rfl rfl)
theorem dJ11_checkIndex_12 : decode cJ11_checkIndex 12 = .ok (.invokestatic 95, 3) := dk_184 0 95 (dk_at dksJ11_checkIndex_0 12 rfl rfl)
theorem dJ11_checkIndex_15 : decode cJ11_checkIndex 15 = .ok (.athrow, 1) := dk_191 (dk_at dksJ11_checkIndex_0 15 rfl rfl)
theorem dJ11_checkIndex_16 : decode cJ11_checkIndex 16 = .ok (.iload_n 0, 1) := dk_26 (dk_at dksJ11_checkIndex_0 16 rfl rfl)
theorem dJ11_checkIndex_17 : decode cJ11_checkIndex 17 = .ok (.ireturn, 1) := dk_172 (dk_at dksJ11_checkIndex_0 17 rfl rfl)
def RJ12 : String := "java/lang/Throwable"
abbrev cJ12_init_2 : ByteArray := prog_27_method_5_code
def yJ12_init_2 : MethodName := ⟨RJ12, "<init>", "(Ljava/lang/String;Ljava/lang/Throwable;ZZ)V"⟩
def dkwJ12_init_2_2 : List UInt8 := [44, 181, 0, 7, 29, 154, 0, 8, 42, 1, 181, 0, 24, 177]
abbrev dktJ12_init_2_2 : List UInt8 := dkwJ12_init_2_2 ++ []
def dkwJ12_init_2_1 : List UInt8 := [21, 4, 153, 0, 11, 42, 182, 0, 27, 87, 167, 0, 8, 42, 1, 181, 0, 17, 42, 43, 181, 0, 31, 42]
abbrev dktJ12_init_2_1 : List UInt8 := dkwJ12_init_2_1 ++ dktJ12_init_2_2
def dkwJ12_init_2_0 : List UInt8 := [42, 183, 0, 1, 42, 42, 181, 0, 7, 42, 178, 0, 13, 181, 0, 17, 42, 178, 0, 20, 181, 0, 24]
abbrev dktJ12_init_2_0 : List UInt8 := dkwJ12_init_2_0 ++ dktJ12_init_2_1
theorem dksJ12_init_2_0 : cJ12_init_2.data.toList.drop 0 = dktJ12_init_2_0 := by decide +kernel
theorem dksJ12_init_2_1 : cJ12_init_2.data.toList.drop 23 = dktJ12_init_2_1 := dk_seg dksJ12_init_2_0 23 rfl rfl
theorem dksJ12_init_2_2 : cJ12_init_2.data.toList.drop 47 = dktJ12_init_2_2 := dk_seg dksJ12_init_2_1 24 rfl rfl
theorem dJ12_init_2_0 : decode cJ12_init_2 0 = .ok (.aload_n 0, 1) := dk_42 (dk_at dksJ12_init_2_0 0 rfl rfl)
theorem dJ12_init_2_1 : decode cJ12_init_2 1 = .ok (.invokespecial 1, 3) := dk_183 0 1 (dk_at dksJ12_init_2_0 1 rfl rfl)
theorem dJ12_init_2_4 : decode cJ12_init_2 4 = .ok (.aload_n 0, 1) := dk_42 (dk_at dksJ12_init_2_0 4 rfl rfl)
theorem dJ12_init_2_5 : decode cJ12_init_2 5 = .ok (.aload_n 0, 1) := dk_42 (dk_at dksJ12_init_2_0 5 rfl rfl)
theorem dJ12_init_2_6 : decode cJ12_init_2 6 = .ok (.putfield 7, 3) := dk_181 0 7 (dk_at dksJ12_init_2_0 6 rfl rfl)
theorem dJ12_init_2_9 : decode cJ12_init_2 9 = .ok (.aload_n 0, 1) := dk_42 (dk_at dksJ12_init_2_0 9 rfl rfl)
theorem dJ12_init_2_10 : decode cJ12_init_2 10 = .ok (.getstatic 13, 3) := dk_178 0 13 (dk_at dksJ12_init_2_0 10 rfl rfl)
theorem dJ12_init_2_13 : decode cJ12_init_2 13 = .ok (.putfield 17, 3) := dk_181 0 17 (dk_at dksJ12_init_2_0 13 rfl rfl)
theorem dJ12_init_2_16 : decode cJ12_init_2 16 = .ok (.aload_n 0, 1) := dk_42 (dk_at dksJ12_init_2_0 16 rfl rfl)
theorem dJ12_init_2_17 : decode cJ12_init_2 17 = .ok (.getstatic 20, 3) := dk_178 0 20 (dk_at dksJ12_init_2_0 17 rfl rfl)
theorem dJ12_init_2_20 : decode cJ12_init_2 20 = .ok (.putfield 24, 3) := dk_181 0 24 (dk_at dksJ12_init_2_0 20 rfl rfl)
theorem dJ12_init_2_23 : decode cJ12_init_2 23 = .ok (.iload 4, 2) := dk_21 4 (dk_at dksJ12_init_2_1 0 rfl rfl)
theorem dJ12_init_2_25 : decode cJ12_init_2 25 = .ok (.ifCond .eq 11, 3) := dk_153 0 11 (dk_at dksJ12_init_2_1 2 rfl rfl)
theorem dJ12_init_2_28 : decode cJ12_init_2 28 = .ok (.aload_n 0, 1) := dk_42 (dk_at dksJ12_init_2_1 5 rfl rfl)
theorem dJ12_init_2_29 : decode cJ12_init_2 29 = .ok (.invokevirtual 27, 3) := dk_182 0 27 (dk_at dksJ12_init_2_1 6 rfl rfl)
theorem dJ12_init_2_32 : decode cJ12_init_2 32 = .ok (.pop, 1) := dk_87 (dk_at dksJ12_init_2_1 9 rfl rfl)
theorem dJ12_init_2_33 : decode cJ12_init_2 33 = .ok (.goto 8, 3) := dk_167 0 8 (dk_at dksJ12_init_2_1 10 rfl rfl)
theorem dJ12_init_2_36 : decode cJ12_init_2 36 = .ok (.aload_n 0, 1) := dk_42 (dk_at dksJ12_init_2_1 13 rfl rfl)
theorem dJ12_init_2_37 : decode cJ12_init_2 37 = .ok (.aconst_null, 1) := dk_1 (dk_at dksJ12_init_2_1 14 rfl rfl)
theorem dJ12_init_2_38 : decode cJ12_init_2 38 = .ok (.putfield 17, 3) := dk_181 0 17 (dk_at dksJ12_init_2_1 15 rfl rfl)
theorem dJ12_init_2_41 : decode cJ12_init_2 41 = .ok (.aload_n 0, 1) := dk_42 (dk_at dksJ12_init_2_1 18 rfl rfl)
theorem dJ12_init_2_42 : decode cJ12_init_2 42 = .ok (.aload_n 1, 1) := dk_43 (dk_at dksJ12_init_2_1 19 rfl rfl)
theorem dJ12_init_2_43 : decode cJ12_init_2 43 = .ok (.putfield 31, 3) := dk_181 0 31 (dk_at dksJ12_init_2_1 20 rfl rfl)
theorem dJ12_init_2_46 : decode cJ12_init_2 46 = .ok (.aload_n 0, 1) := dk_42 (dk_at dksJ12_init_2_1 23 rfl rfl)
theorem dJ12_init_2_47 : decode cJ12_init_2 47 = .ok (.aload_n 2, 1) := dk_44 (dk_at dksJ12_init_2_2 0 rfl rfl)
theorem dJ12_init_2_48 : decode cJ12_init_2 48 = .ok (.putfield 7, 3) := dk_181 0 7 (dk_at dksJ12_init_2_2 1 rfl rfl)
theorem dJ12_init_2_51 : decode cJ12_init_2 51 = .ok (.iload_n 3, 1) := dk_29 (dk_at dksJ12_init_2_2 4 rfl rfl)
theorem dJ12_init_2_52 : decode cJ12_init_2 52 = .ok (.ifCond .ne 8, 3) := dk_154 0 8 (dk_at dksJ12_init_2_2 5 rfl rfl)
theorem dJ12_init_2_55 : decode cJ12_init_2 55 = .ok (.aload_n 0, 1) := dk_42 (dk_at dksJ12_init_2_2 8 rfl rfl)
theorem dJ12_init_2_56 : decode cJ12_init_2 56 = .ok (.aconst_null, 1) := dk_1 (dk_at dksJ12_init_2_2 9 rfl rfl)
theorem dJ12_init_2_57 : decode cJ12_init_2 57 = .ok (.putfield 24, 3) := dk_181 0 24 (dk_at dksJ12_init_2_2 10 rfl rfl)
theorem dJ12_init_2_60 : decode cJ12_init_2 60 = .ok (.return_, 1) := dk_177 (dk_at dksJ12_init_2_2 13 rfl rfl)
def RJ13 : String := "java/lang/Exception"
abbrev cJ13_init : ByteArray := prog_18_method_5_code
def yJ13_init : MethodName := ⟨RJ13, "<init>", "(Ljava/lang/String;Ljava/lang/Throwable;ZZ)V"⟩
def dkwJ13_init_0 : List UInt8 := [42, 43, 44, 29, 21, 4, 183, 0, 16, 177]
abbrev dktJ13_init_0 : List UInt8 := dkwJ13_init_0 ++ []
theorem dksJ13_init_0 : cJ13_init.data.toList.drop 0 = dktJ13_init_0 := by decide +kernel
theorem dJ13_init_0 : decode cJ13_init 0 = .ok (.aload_n 0, 1) := dk_42 (dk_at dksJ13_init_0 0 rfl rfl)
theorem dJ13_init_1 : decode cJ13_init 1 = .ok (.aload_n 1, 1) := dk_43 (dk_at dksJ13_init_0 1 rfl rfl)
theorem dJ13_init_2 : decode cJ13_init 2 = .ok (.aload_n 2, 1) := dk_44 (dk_at dksJ13_init_0 2 rfl rfl)
theorem dJ13_init_3 : decode cJ13_init 3 = .ok (.iload_n 3, 1) := dk_29 (dk_at dksJ13_init_0 3 rfl rfl)
theorem dJ13_init_4 : decode cJ13_init 4 = .ok (.iload 4, 2) := dk_21 4 (dk_at dksJ13_init_0 4 rfl rfl)
theorem dJ13_init_6 : decode cJ13_init 6 = .ok (.invokespecial 16, 3) := dk_183 0 16 (dk_at dksJ13_init_0 6 rfl rfl)
theorem dJ13_init_9 : decode cJ13_init 9 = .ok (.return_, 1) := dk_177 (dk_at dksJ13_init_0 9 rfl rfl)
abbrev cJ14_init : ByteArray := prog_33_method_1_code
def yJ14_init : MethodName := ⟨RJ14, "<init>", "(Ljava/util/ArrayList;)V"⟩
def dkwJ14_init_1 : List UInt8 := [181, 0, 22, 177]
abbrev dktJ14_init_1 : List UInt8 := dkwJ14_init_1 ++ []
def dkwJ14_init_0 : List UInt8 := [42, 43, 181, 0, 1, 42, 183, 0, 7, 42, 2, 181, 0, 13, 42, 42, 180, 0, 1, 180, 0, 17]
abbrev dktJ14_init_0 : List UInt8 := dkwJ14_init_0 ++ dktJ14_init_1
theorem dksJ14_init_0 : cJ14_init.data.toList.drop 0 = dktJ14_init_0 := by decide +kernel
theorem dksJ14_init_1 : cJ14_init.data.toList.drop 22 = dktJ14_init_1 := dk_seg dksJ14_init_0 22 rfl rfl
theorem dJ14_init_0 : decode cJ14_init 0 = .ok (.aload_n 0, 1) := dk_42 (dk_at dksJ14_init_0 0 rfl rfl)
theorem dJ14_init_1 : decode cJ14_init 1 = .ok (.aload_n 1, 1) := dk_43 (dk_at dksJ14_init_0 1 rfl rfl)
theorem dJ14_init_2 : decode cJ14_init 2 = .ok (.putfield 1, 3) := dk_181 0 1 (dk_at dksJ14_init_0 2 rfl rfl)
theorem dJ14_init_5 : decode cJ14_init 5 = .ok (.aload_n 0, 1) := dk_42 (dk_at dksJ14_init_0 5 rfl rfl)
theorem dJ14_init_6 : decode cJ14_init 6 = .ok (.invokespecial 7, 3) := dk_183 0 7 (dk_at dksJ14_init_0 6 rfl rfl)
theorem dJ14_init_9 : decode cJ14_init 9 = .ok (.aload_n 0, 1) := dk_42 (dk_at dksJ14_init_0 9 rfl rfl)
theorem dJ14_init_10 : decode cJ14_init 10 = .ok (.iconst (-1), 1) := dk_2 (dk_at dksJ14_init_0 10 rfl rfl)
theorem dJ14_init_11 : decode cJ14_init 11 = .ok (.putfield 13, 3) := dk_181 0 13 (dk_at dksJ14_init_0 11 rfl rfl)
theorem dJ14_init_14 : decode cJ14_init 14 = .ok (.aload_n 0, 1) := dk_42 (dk_at dksJ14_init_0 14 rfl rfl)
theorem dJ14_init_15 : decode cJ14_init 15 = .ok (.aload_n 0, 1) := dk_42 (dk_at dksJ14_init_0 15 rfl rfl)
theorem dJ14_init_16 : decode cJ14_init 16 = .ok (.getfield 1, 3) := dk_180 0 1 (dk_at dksJ14_init_0 16 rfl rfl)
theorem dJ14_init_19 : decode cJ14_init 19 = .ok (.getfield 17, 3) := dk_180 0 17 (dk_at dksJ14_init_0 19 rfl rfl)
theorem dJ14_init_22 : decode cJ14_init 22 = .ok (.putfield 22, 3) := dk_181 0 22 (dk_at dksJ14_init_1 0 rfl rfl)
theorem dJ14_init_25 : decode cJ14_init 25 = .ok (.return_, 1) := dk_177 (dk_at dksJ14_init_1 3 rfl rfl)
abbrev cJ14_hasNext : ByteArray := prog_33_method_2_code
def yJ14_hasNext : MethodName := ⟨RJ14, "hasNext", "()Z"⟩
def dkwJ14_hasNext_0 : List UInt8 := [42, 180, 0, 25, 42, 180, 0, 1, 180, 0, 28, 159, 0, 7, 4, 167, 0, 4, 3, 172]
abbrev dktJ14_hasNext_0 : List UInt8 := dkwJ14_hasNext_0 ++ []
theorem dksJ14_hasNext_0 : cJ14_hasNext.data.toList.drop 0 = dktJ14_hasNext_0 := by decide +kernel
theorem dJ14_hasNext_0 : decode cJ14_hasNext 0 = .ok (.aload_n 0, 1) := dk_42 (dk_at dksJ14_hasNext_0 0 rfl rfl)
theorem dJ14_hasNext_1 : decode cJ14_hasNext 1 = .ok (.getfield 25, 3) := dk_180 0 25 (dk_at dksJ14_hasNext_0 1 rfl rfl)
theorem dJ14_hasNext_4 : decode cJ14_hasNext 4 = .ok (.aload_n 0, 1) := dk_42 (dk_at dksJ14_hasNext_0 4 rfl rfl)
theorem dJ14_hasNext_5 : decode cJ14_hasNext 5 = .ok (.getfield 1, 3) := dk_180 0 1 (dk_at dksJ14_hasNext_0 5 rfl rfl)
theorem dJ14_hasNext_8 : decode cJ14_hasNext 8 = .ok (.getfield 28, 3) := dk_180 0 28 (dk_at dksJ14_hasNext_0 8 rfl rfl)
theorem dJ14_hasNext_11 : decode cJ14_hasNext 11 = .ok (.if_icmp .eq 7, 3) := dk_159 0 7 (dk_at dksJ14_hasNext_0 11 rfl rfl)
theorem dJ14_hasNext_14 : decode cJ14_hasNext 14 = .ok (.iconst 1, 1) := dk_4 (dk_at dksJ14_hasNext_0 14 rfl rfl)
theorem dJ14_hasNext_15 : decode cJ14_hasNext 15 = .ok (.goto 4, 3) := dk_167 0 4 (dk_at dksJ14_hasNext_0 15 rfl rfl)
theorem dJ14_hasNext_18 : decode cJ14_hasNext 18 = .ok (.iconst 0, 1) := dk_3 (dk_at dksJ14_hasNext_0 18 rfl rfl)
theorem dJ14_hasNext_19 : decode cJ14_hasNext 19 = .ok (.ireturn, 1) := dk_172 (dk_at dksJ14_hasNext_0 19 rfl rfl)
abbrev cJ14_next : ByteArray := prog_33_method_3_code
def yJ14_next : MethodName := ⟨RJ14, "next", "()Ljava/lang/Object;"⟩
def dkwJ14_next_2 : List UInt8 := [183, 0, 43, 191, 42, 27, 4, 96, 181, 0, 25, 44, 42, 27, 90, 181, 0, 13, 50, 176]
abbrev dktJ14_next_2 : List UInt8 := dkwJ14_next_2 ++ []
def dkwJ14_next_1 : List UInt8 := [183, 0, 36, 191, 42, 180, 0, 1, 180, 0, 37, 77, 27, 44, 190, 161, 0, 11, 187, 0, 41, 89]
abbrev dktJ14_next_1 : List UInt8 := dkwJ14_next_1 ++ dktJ14_next_2
def dkwJ14_next_0 : List UInt8 := [42, 182, 0, 31, 42, 180, 0, 25, 60, 27, 42, 180, 0, 1, 180, 0, 28, 161, 0, 11, 187, 0, 34, 89]
abbrev dktJ14_next_0 : List UInt8 := dkwJ14_next_0 ++ dktJ14_next_1
theorem dksJ14_next_0 : cJ14_next.data.toList.drop 0 = dktJ14_next_0 := by decide +kernel
theorem dksJ14_next_1 : cJ14_next.data.toList.drop 24 = dktJ14_next_1 := dk_seg dksJ14_next_0 24 rfl rfl
theorem dksJ14_next_2 : cJ14_next.data.toList.drop 46 = dktJ14_next_2 := dk_seg dksJ14_next_1 22 rfl rfl
theorem dJ14_next_0 : decode cJ14_next 0 = .ok (.aload_n 0, 1) := dk_42 (dk_at dksJ14_next_0 0 rfl rfl)
theorem dJ14_next_1 : decode cJ14_next 1 = .ok (.invokevirtual 31, 3) := dk_182 0 31 (dk_at dksJ14_next_0 1 rfl rfl)
theorem dJ14_next_4 : decode cJ14_next 4 = .ok (.aload_n 0, 1) := dk_42 (dk_at dksJ14_next_0 4 rfl rfl)
theorem dJ14_next_5 : decode cJ14_next 5 = .ok (.getfield 25, 3) := dk_180 0 25 (dk_at dksJ14_next_0 5 rfl rfl)
theorem dJ14_next_8 : decode cJ14_next 8 = .ok (.istore_n 1, 1) := dk_60 (dk_at dksJ14_next_0 8 rfl rfl)
theorem dJ14_next_9 : decode cJ14_next 9 = .ok (.iload_n 1, 1) := dk_27 (dk_at dksJ14_next_0 9 rfl rfl)
theorem dJ14_next_10 : decode cJ14_next 10 = .ok (.aload_n 0, 1) := dk_42 (dk_at dksJ14_next_0 10 rfl rfl)
theorem dJ14_next_11 : decode cJ14_next 11 = .ok (.getfield 1, 3) := dk_180 0 1 (dk_at dksJ14_next_0 11 rfl rfl)
theorem dJ14_next_14 : decode cJ14_next 14 = .ok (.getfield 28, 3) := dk_180 0 28 (dk_at dksJ14_next_0 14 rfl rfl)
theorem dJ14_next_17 : decode cJ14_next 17 = .ok (.if_icmp .lt 11, 3) := dk_161 0 11 (dk_at dksJ14_next_0 17 rfl rfl)
theorem dJ14_next_20 : decode cJ14_next 20 = .ok (.new 34, 3) := dk_187 0 34 (dk_at dksJ14_next_0 20 rfl rfl)
theorem dJ14_next_23 : decode cJ14_next 23 = .ok (.dup, 1) := dk_89 (dk_at dksJ14_next_0 23 rfl rfl)
theorem dJ14_next_24 : decode cJ14_next 24 = .ok (.invokespecial 36, 3) := dk_183 0 36 (dk_at dksJ14_next_1 0 rfl rfl)
theorem dJ14_next_27 : decode cJ14_next 27 = .ok (.athrow, 1) := dk_191 (dk_at dksJ14_next_1 3 rfl rfl)
theorem dJ14_next_28 : decode cJ14_next 28 = .ok (.aload_n 0, 1) := dk_42 (dk_at dksJ14_next_1 4 rfl rfl)
theorem dJ14_next_29 : decode cJ14_next 29 = .ok (.getfield 1, 3) := dk_180 0 1 (dk_at dksJ14_next_1 5 rfl rfl)
theorem dJ14_next_32 : decode cJ14_next 32 = .ok (.getfield 37, 3) := dk_180 0 37 (dk_at dksJ14_next_1 8 rfl rfl)
theorem dJ14_next_35 : decode cJ14_next 35 = .ok (.astore_n 2, 1) := dk_77 (dk_at dksJ14_next_1 11 rfl rfl)
theorem dJ14_next_36 : decode cJ14_next 36 = .ok (.iload_n 1, 1) := dk_27 (dk_at dksJ14_next_1 12 rfl rfl)
theorem dJ14_next_37 : decode cJ14_next 37 = .ok (.aload_n 2, 1) := dk_44 (dk_at dksJ14_next_1 13 rfl rfl)
theorem dJ14_next_38 : decode cJ14_next 38 = .ok (.arraylength, 1) := dk_190 (dk_at dksJ14_next_1 14 rfl rfl)
theorem dJ14_next_39 : decode cJ14_next 39 = .ok (.if_icmp .lt 11, 3) := dk_161 0 11 (dk_at dksJ14_next_1 15 rfl rfl)
theorem dJ14_next_42 : decode cJ14_next 42 = .ok (.new 41, 3) := dk_187 0 41 (dk_at dksJ14_next_1 18 rfl rfl)
theorem dJ14_next_45 : decode cJ14_next 45 = .ok (.dup, 1) := dk_89 (dk_at dksJ14_next_1 21 rfl rfl)
theorem dJ14_next_46 : decode cJ14_next 46 = .ok (.invokespecial 43, 3) := dk_183 0 43 (dk_at dksJ14_next_2 0 rfl rfl)
theorem dJ14_next_49 : decode cJ14_next 49 = .ok (.athrow, 1) := dk_191 (dk_at dksJ14_next_2 3 rfl rfl)
theorem dJ14_next_50 : decode cJ14_next 50 = .ok (.aload_n 0, 1) := dk_42 (dk_at dksJ14_next_2 4 rfl rfl)
theorem dJ14_next_51 : decode cJ14_next 51 = .ok (.iload_n 1, 1) := dk_27 (dk_at dksJ14_next_2 5 rfl rfl)
theorem dJ14_next_52 : decode cJ14_next 52 = .ok (.iconst 1, 1) := dk_4 (dk_at dksJ14_next_2 6 rfl rfl)
theorem dJ14_next_53 : decode cJ14_next 53 = .ok (.iadd, 1) := dk_96 (dk_at dksJ14_next_2 7 rfl rfl)
theorem dJ14_next_54 : decode cJ14_next 54 = .ok (.putfield 25, 3) := dk_181 0 25 (dk_at dksJ14_next_2 8 rfl rfl)
theorem dJ14_next_57 : decode cJ14_next 57 = .ok (.aload_n 2, 1) := dk_44 (dk_at dksJ14_next_2 11 rfl rfl)
theorem dJ14_next_58 : decode cJ14_next 58 = .ok (.aload_n 0, 1) := dk_42 (dk_at dksJ14_next_2 12 rfl rfl)
theorem dJ14_next_59 : decode cJ14_next 59 = .ok (.iload_n 1, 1) := dk_27 (dk_at dksJ14_next_2 13 rfl rfl)
theorem dJ14_next_60 : decode cJ14_next 60 = .ok (.dup_x1, 1) := dk_90 (dk_at dksJ14_next_2 14 rfl rfl)
theorem dJ14_next_61 : decode cJ14_next 61 = .ok (.putfield 13, 3) := dk_181 0 13 (dk_at dksJ14_next_2 15 rfl rfl)
theorem dJ14_next_64 : decode cJ14_next 64 = .ok (.aaload, 1) := dk_50 (dk_at dksJ14_next_2 18 rfl rfl)
theorem dJ14_next_65 : decode cJ14_next 65 = .ok (.areturn, 1) := dk_176 (dk_at dksJ14_next_2 19 rfl rfl)
abbrev cJ14_checkForComodification : ByteArray := prog_33_method_6_code
def yJ14_checkForComodification : MethodName := ⟨RJ14, "checkForComodification", "()V"⟩
def dkwJ14_checkForComodification_0 : List UInt8 := [42, 180, 0, 1, 180, 0, 17, 42, 180, 0, 22, 159, 0, 11, 187, 0, 41, 89, 183, 0, 43, 191, 177]
abbrev dktJ14_checkForComodification_0 : List UInt8 := dkwJ14_checkForComodification_0 ++ []
theorem dksJ14_checkForComodification_0 : cJ14_checkForComodification.data.toList.drop 0 = dktJ14_checkForComodification_0 := by decide +kernel
theorem dJ14_checkForComodification_0 : decode cJ14_checkForComodification 0 = .ok (.aload_n 0, 1) := dk_42 (dk_at dksJ14_checkForComodification_0 0 rfl rfl)
theorem dJ14_checkForComodification_1 : decode cJ14_checkForComodification 1 = .ok (.getfield 1, 3) := dk_180 0 1 (dk_at dksJ14_checkForComodification_0 1 rfl rfl)
theorem dJ14_checkForComodification_4 : decode cJ14_checkForComodification 4 = .ok (.getfield 17, 3) := dk_180 0 17 (dk_at dksJ14_checkForComodification_0 4 rfl rfl)
theorem dJ14_checkForComodification_7 : decode cJ14_checkForComodification 7 = .ok (.aload_n 0, 1) := dk_42 (dk_at dksJ14_checkForComodification_0 7 rfl rfl)
theorem dJ14_checkForComodification_8 : decode cJ14_checkForComodification 8 = .ok (.getfield 22, 3) := dk_180 0 22 (dk_at dksJ14_checkForComodification_0 8 rfl rfl)
theorem dJ14_checkForComodification_11 : decode cJ14_checkForComodification 11 = .ok (.if_icmp .eq 11, 3) := dk_159 0 11 (dk_at dksJ14_checkForComodification_0 11 rfl rfl)
theorem dJ14_checkForComodification_14 : decode cJ14_checkForComodification 14 = .ok (.new 41, 3) := dk_187 0 41 (dk_at dksJ14_checkForComodification_0 14 rfl rfl)
theorem dJ14_checkForComodification_17 : decode cJ14_checkForComodification 17 = .ok (.dup, 1) := dk_89 (dk_at dksJ14_checkForComodification_0 17 rfl rfl)
theorem dJ14_checkForComodification_18 : decode cJ14_checkForComodification 18 = .ok (.invokespecial 43, 3) := dk_183 0 43 (dk_at dksJ14_checkForComodification_0 18 rfl rfl)
theorem dJ14_checkForComodification_21 : decode cJ14_checkForComodification 21 = .ok (.athrow, 1) := dk_191 (dk_at dksJ14_checkForComodification_0 21 rfl rfl)
theorem dJ14_checkForComodification_22 : decode cJ14_checkForComodification 22 = .ok (.return_, 1) := dk_177 (dk_at dksJ14_checkForComodification_0 22 rfl rfl)
def RJ15 : String := "java/util/Objects"
abbrev cJ15_checkIndex : ByteArray := prog_38_method_17_code
def yJ15_checkIndex : MethodName := ⟨RJ15, "checkIndex", "(II)I"⟩
def dkwJ15_checkIndex_0 : List UInt8 := [26, 27, 1, 184, 0, 105, 172]
abbrev dktJ15_checkIndex_0 : List UInt8 := dkwJ15_checkIndex_0 ++ []
theorem dksJ15_checkIndex_0 : cJ15_checkIndex.data.toList.drop 0 = dktJ15_checkIndex_0 := by decide +kernel
theorem dJ15_checkIndex_0 : decode cJ15_checkIndex 0 = .ok (.iload_n 0, 1) := dk_26 (dk_at dksJ15_checkIndex_0 0 rfl rfl)
theorem dJ15_checkIndex_1 : decode cJ15_checkIndex 1 = .ok (.iload_n 1, 1) := dk_27 (dk_at dksJ15_checkIndex_0 1 rfl rfl)
theorem dJ15_checkIndex_2 : decode cJ15_checkIndex 2 = .ok (.aconst_null, 1) := dk_1 (dk_at dksJ15_checkIndex_0 2 rfl rfl)
theorem dJ15_checkIndex_3 : decode cJ15_checkIndex 3 = .ok (.invokestatic 105, 3) := dk_184 0 105 (dk_at dksJ15_checkIndex_0 3 rfl rfl)
theorem dJ15_checkIndex_6 : decode cJ15_checkIndex 6 = .ok (.ireturn, 1) := dk_172 (dk_at dksJ15_checkIndex_0 6 rfl rfl)
abbrev cJ2_init : ByteArray := prog_32_method_2_code
def yJ2_init : MethodName := ⟨RJ2, "<init>", "()V"⟩
def dkwJ2_init_0 : List UInt8 := [42, 183, 0, 1, 42, 178, 0, 39, 181, 0, 9, 177]
abbrev dktJ2_init_0 : List UInt8 := dkwJ2_init_0 ++ []
theorem dksJ2_init_0 : cJ2_init.data.toList.drop 0 = dktJ2_init_0 := by decide +kernel
theorem dJ2_init_0 : decode cJ2_init 0 = .ok (.aload_n 0, 1) := dk_42 (dk_at dksJ2_init_0 0 rfl rfl)
theorem dJ2_init_1 : decode cJ2_init 1 = .ok (.invokespecial 1, 3) := dk_183 0 1 (dk_at dksJ2_init_0 1 rfl rfl)
theorem dJ2_init_4 : decode cJ2_init 4 = .ok (.aload_n 0, 1) := dk_42 (dk_at dksJ2_init_0 4 rfl rfl)
theorem dJ2_init_5 : decode cJ2_init 5 = .ok (.getstatic 39, 3) := dk_178 0 39 (dk_at dksJ2_init_0 5 rfl rfl)
theorem dJ2_init_8 : decode cJ2_init 8 = .ok (.putfield 9, 3) := dk_181 0 9 (dk_at dksJ2_init_0 8 rfl rfl)
theorem dJ2_init_11 : decode cJ2_init 11 = .ok (.return_, 1) := dk_177 (dk_at dksJ2_init_0 11 rfl rfl)
abbrev cJ2_size : ByteArray := prog_32_method_8_code
def yJ2_size : MethodName := ⟨RJ2, "size", "()I"⟩
theorem dJ2_size_0 : decode cJ2_size 0 = .ok (.aload_n 0, 1) := by decide +kernel
theorem dJ2_size_1 : decode cJ2_size 1 = .ok (.getfield 48, 3) := by decide +kernel
theorem dJ2_size_4 : decode cJ2_size 4 = .ok (.ireturn, 1) := by decide +kernel
abbrev cJ2_add : ByteArray := prog_32_method_25_code
def yJ2_add : MethodName := ⟨RJ2, "add", "(Ljava/lang/Object;)Z"⟩
def dkwJ2_add_1 : List UInt8 := [172]
abbrev dktJ2_add_1 : List UInt8 := dkwJ2_add_1 ++ []
def dkwJ2_add_0 : List UInt8 := [42, 89, 180, 0, 63, 4, 96, 181, 0, 63, 42, 43, 42, 180, 0, 9, 42, 180, 0, 48, 182, 0, 131, 4]
abbrev dktJ2_add_0 : List UInt8 := dkwJ2_add_0 ++ dktJ2_add_1
theorem dksJ2_add_0 : cJ2_add.data.toList.drop 0 = dktJ2_add_0 := by decide +kernel
theorem dksJ2_add_1 : cJ2_add.data.toList.drop 24 = dktJ2_add_1 := dk_seg dksJ2_add_0 24 rfl rfl
theorem dJ2_add_0 : decode cJ2_add 0 = .ok (.aload_n 0, 1) := dk_42 (dk_at dksJ2_add_0 0 rfl rfl)
theorem dJ2_add_1 : decode cJ2_add 1 = .ok (.dup, 1) := dk_89 (dk_at dksJ2_add_0 1 rfl rfl)
theorem dJ2_add_2 : decode cJ2_add 2 = .ok (.getfield 63, 3) := dk_180 0 63 (dk_at dksJ2_add_0 2 rfl rfl)
theorem dJ2_add_5 : decode cJ2_add 5 = .ok (.iconst 1, 1) := dk_4 (dk_at dksJ2_add_0 5 rfl rfl)
theorem dJ2_add_6 : decode cJ2_add 6 = .ok (.iadd, 1) := dk_96 (dk_at dksJ2_add_0 6 rfl rfl)
theorem dJ2_add_7 : decode cJ2_add 7 = .ok (.putfield 63, 3) := dk_181 0 63 (dk_at dksJ2_add_0 7 rfl rfl)
theorem dJ2_add_10 : decode cJ2_add 10 = .ok (.aload_n 0, 1) := dk_42 (dk_at dksJ2_add_0 10 rfl rfl)
theorem dJ2_add_11 : decode cJ2_add 11 = .ok (.aload_n 1, 1) := dk_43 (dk_at dksJ2_add_0 11 rfl rfl)
theorem dJ2_add_12 : decode cJ2_add 12 = .ok (.aload_n 0, 1) := dk_42 (dk_at dksJ2_add_0 12 rfl rfl)
theorem dJ2_add_13 : decode cJ2_add 13 = .ok (.getfield 9, 3) := dk_180 0 9 (dk_at dksJ2_add_0 13 rfl rfl)
theorem dJ2_add_16 : decode cJ2_add 16 = .ok (.aload_n 0, 1) := dk_42 (dk_at dksJ2_add_0 16 rfl rfl)
theorem dJ2_add_17 : decode cJ2_add 17 = .ok (.getfield 48, 3) := dk_180 0 48 (dk_at dksJ2_add_0 17 rfl rfl)
theorem dJ2_add_20 : decode cJ2_add 20 = .ok (.invokevirtual 131, 3) := dk_182 0 131 (dk_at dksJ2_add_0 20 rfl rfl)
theorem dJ2_add_23 : decode cJ2_add 23 = .ok (.iconst 1, 1) := dk_4 (dk_at dksJ2_add_0 23 rfl rfl)
theorem dJ2_add_24 : decode cJ2_add 24 = .ok (.ireturn, 1) := dk_172 (dk_at dksJ2_add_1 0 rfl rfl)
abbrev cJ2_add_2 : ByteArray := prog_32_method_24_code
def yJ2_add_2 : MethodName := ⟨RJ2, "add", "(Ljava/lang/Object;[Ljava/lang/Object;I)V"⟩
def dkwJ2_add_2_0 : List UInt8 := [29, 44, 190, 160, 0, 8, 42, 182, 0, 129, 77, 44, 29, 43, 83, 42, 29, 4, 96, 181, 0, 48, 177]
abbrev dktJ2_add_2_0 : List UInt8 := dkwJ2_add_2_0 ++ []
theorem dksJ2_add_2_0 : cJ2_add_2.data.toList.drop 0 = dktJ2_add_2_0 := by decide +kernel
theorem dJ2_add_2_0 : decode cJ2_add_2 0 = .ok (.iload_n 3, 1) := dk_29 (dk_at dksJ2_add_2_0 0 rfl rfl)
theorem dJ2_add_2_1 : decode cJ2_add_2 1 = .ok (.aload_n 2, 1) := dk_44 (dk_at dksJ2_add_2_0 1 rfl rfl)
theorem dJ2_add_2_2 : decode cJ2_add_2 2 = .ok (.arraylength, 1) := dk_190 (dk_at dksJ2_add_2_0 2 rfl rfl)
theorem dJ2_add_2_3 : decode cJ2_add_2 3 = .ok (.if_icmp .ne 8, 3) := dk_160 0 8 (dk_at dksJ2_add_2_0 3 rfl rfl)
theorem dJ2_add_2_6 : decode cJ2_add_2 6 = .ok (.aload_n 0, 1) := dk_42 (dk_at dksJ2_add_2_0 6 rfl rfl)
theorem dJ2_add_2_7 : decode cJ2_add_2 7 = .ok (.invokevirtual 129, 3) := dk_182 0 129 (dk_at dksJ2_add_2_0 7 rfl rfl)
theorem dJ2_add_2_10 : decode cJ2_add_2 10 = .ok (.astore_n 2, 1) := dk_77 (dk_at dksJ2_add_2_0 10 rfl rfl)
theorem dJ2_add_2_11 : decode cJ2_add_2 11 = .ok (.aload_n 2, 1) := dk_44 (dk_at dksJ2_add_2_0 11 rfl rfl)
theorem dJ2_add_2_12 : decode cJ2_add_2 12 = .ok (.iload_n 3, 1) := dk_29 (dk_at dksJ2_add_2_0 12 rfl rfl)
theorem dJ2_add_2_13 : decode cJ2_add_2 13 = .ok (.aload_n 1, 1) := dk_43 (dk_at dksJ2_add_2_0 13 rfl rfl)
theorem dJ2_add_2_14 : decode cJ2_add_2 14 = .ok (.aastore, 1) := dk_83 (dk_at dksJ2_add_2_0 14 rfl rfl)
theorem dJ2_add_2_15 : decode cJ2_add_2 15 = .ok (.aload_n 0, 1) := dk_42 (dk_at dksJ2_add_2_0 15 rfl rfl)
theorem dJ2_add_2_16 : decode cJ2_add_2 16 = .ok (.iload_n 3, 1) := dk_29 (dk_at dksJ2_add_2_0 16 rfl rfl)
theorem dJ2_add_2_17 : decode cJ2_add_2 17 = .ok (.iconst 1, 1) := dk_4 (dk_at dksJ2_add_2_0 17 rfl rfl)
theorem dJ2_add_2_18 : decode cJ2_add_2 18 = .ok (.iadd, 1) := dk_96 (dk_at dksJ2_add_2_0 18 rfl rfl)
theorem dJ2_add_2_19 : decode cJ2_add_2 19 = .ok (.putfield 48, 3) := dk_181 0 48 (dk_at dksJ2_add_2_0 19 rfl rfl)
theorem dJ2_add_2_22 : decode cJ2_add_2 22 = .ok (.return_, 1) := dk_177 (dk_at dksJ2_add_2_0 22 rfl rfl)
abbrev cJ2_grow : ByteArray := prog_32_method_7_code
def yJ2_grow : MethodName := ⟨RJ2, "grow", "()[Ljava/lang/Object;"⟩
def dkwJ2_grow_0 : List UInt8 := [42, 42, 180, 0, 48, 4, 96, 182, 0, 69, 176]
abbrev dktJ2_grow_0 : List UInt8 := dkwJ2_grow_0 ++ []
theorem dksJ2_grow_0 : cJ2_grow.data.toList.drop 0 = dktJ2_grow_0 := by decide +kernel
theorem dJ2_grow_0 : decode cJ2_grow 0 = .ok (.aload_n 0, 1) := dk_42 (dk_at dksJ2_grow_0 0 rfl rfl)
theorem dJ2_grow_1 : decode cJ2_grow 1 = .ok (.aload_n 0, 1) := dk_42 (dk_at dksJ2_grow_0 1 rfl rfl)
theorem dJ2_grow_2 : decode cJ2_grow 2 = .ok (.getfield 48, 3) := dk_180 0 48 (dk_at dksJ2_grow_0 2 rfl rfl)
theorem dJ2_grow_5 : decode cJ2_grow 5 = .ok (.iconst 1, 1) := dk_4 (dk_at dksJ2_grow_0 5 rfl rfl)
theorem dJ2_grow_6 : decode cJ2_grow 6 = .ok (.iadd, 1) := dk_96 (dk_at dksJ2_grow_0 6 rfl rfl)
theorem dJ2_grow_7 : decode cJ2_grow 7 = .ok (.invokevirtual 69, 3) := dk_182 0 69 (dk_at dksJ2_grow_0 7 rfl rfl)
theorem dJ2_grow_10 : decode cJ2_grow 10 = .ok (.areturn, 1) := dk_176 (dk_at dksJ2_grow_0 10 rfl rfl)
abbrev cJ2_grow_2 : ByteArray := prog_32_method_6_code
def yJ2_grow_2 : MethodName := ⟨RJ2, "grow", "(I)[Ljava/lang/Object;"⟩
def dkwJ2_grow_2_2 : List UInt8 := [27, 184, 0, 79, 189, 0, 7, 90, 181, 0, 9, 176]
abbrev dktJ2_grow_2_2 : List UInt8 := dkwJ2_grow_2_2 ++ []
def dkwJ2_grow_2_1 : List UInt8 := [28, 4, 122, 184, 0, 73, 62, 42, 42, 180, 0, 9, 29, 184, 0, 66, 90, 181, 0, 9, 176, 42, 16, 10]
abbrev dktJ2_grow_2_1 : List UInt8 := dkwJ2_grow_2_1 ++ dktJ2_grow_2_2
def dkwJ2_grow_2_0 : List UInt8 := [42, 180, 0, 9, 190, 61, 28, 157, 0, 13, 42, 180, 0, 9, 178, 0, 39, 165, 0, 28, 28, 27, 28, 100]
abbrev dktJ2_grow_2_0 : List UInt8 := dkwJ2_grow_2_0 ++ dktJ2_grow_2_1
theorem dksJ2_grow_2_0 : cJ2_grow_2.data.toList.drop 0 = dktJ2_grow_2_0 := by decide +kernel
theorem dksJ2_grow_2_1 : cJ2_grow_2.data.toList.drop 24 = dktJ2_grow_2_1 := dk_seg dksJ2_grow_2_0 24 rfl rfl
theorem dksJ2_grow_2_2 : cJ2_grow_2.data.toList.drop 48 = dktJ2_grow_2_2 := dk_seg dksJ2_grow_2_1 24 rfl rfl
theorem dJ2_grow_2_0 : decode cJ2_grow_2 0 = .ok (.aload_n 0, 1) := dk_42 (dk_at dksJ2_grow_2_0 0 rfl rfl)
theorem dJ2_grow_2_1 : decode cJ2_grow_2 1 = .ok (.getfield 9, 3) := dk_180 0 9 (dk_at dksJ2_grow_2_0 1 rfl rfl)
theorem dJ2_grow_2_4 : decode cJ2_grow_2 4 = .ok (.arraylength, 1) := dk_190 (dk_at dksJ2_grow_2_0 4 rfl rfl)
theorem dJ2_grow_2_5 : decode cJ2_grow_2 5 = .ok (.istore_n 2, 1) := dk_61 (dk_at dksJ2_grow_2_0 5 rfl rfl)
theorem dJ2_grow_2_6 : decode cJ2_grow_2 6 = .ok (.iload_n 2, 1) := dk_28 (dk_at dksJ2_grow_2_0 6 rfl rfl)
theorem dJ2_grow_2_7 : decode cJ2_grow_2 7 = .ok (.ifCond .gt 13, 3) := dk_157 0 13 (dk_at dksJ2_grow_2_0 7 rfl rfl)
theorem dJ2_grow_2_10 : decode cJ2_grow_2 10 = .ok (.aload_n 0, 1) := dk_42 (dk_at dksJ2_grow_2_0 10 rfl rfl)
theorem dJ2_grow_2_11 : decode cJ2_grow_2 11 = .ok (.getfield 9, 3) := dk_180 0 9 (dk_at dksJ2_grow_2_0 11 rfl rfl)
theorem dJ2_grow_2_14 : decode cJ2_grow_2 14 = .ok (.getstatic 39, 3) := dk_178 0 39 (dk_at dksJ2_grow_2_0 14 rfl rfl)
theorem dJ2_grow_2_17 : decode cJ2_grow_2 17 = .ok (.if_acmp .eq 28, 3) := dk_165 0 28 (dk_at dksJ2_grow_2_0 17 rfl rfl)
theorem dJ2_grow_2_20 : decode cJ2_grow_2 20 = .ok (.iload_n 2, 1) := dk_28 (dk_at dksJ2_grow_2_0 20 rfl rfl)
theorem dJ2_grow_2_21 : decode cJ2_grow_2 21 = .ok (.iload_n 1, 1) := dk_27 (dk_at dksJ2_grow_2_0 21 rfl rfl)
theorem dJ2_grow_2_22 : decode cJ2_grow_2 22 = .ok (.iload_n 2, 1) := dk_28 (dk_at dksJ2_grow_2_0 22 rfl rfl)
theorem dJ2_grow_2_23 : decode cJ2_grow_2 23 = .ok (.isub, 1) := dk_100 (dk_at dksJ2_grow_2_0 23 rfl rfl)
theorem dJ2_grow_2_24 : decode cJ2_grow_2 24 = .ok (.iload_n 2, 1) := dk_28 (dk_at dksJ2_grow_2_1 0 rfl rfl)
theorem dJ2_grow_2_25 : decode cJ2_grow_2 25 = .ok (.iconst 1, 1) := dk_4 (dk_at dksJ2_grow_2_1 1 rfl rfl)
theorem dJ2_grow_2_26 : decode cJ2_grow_2 26 = .ok (.ishr, 1) := dk_122 (dk_at dksJ2_grow_2_1 2 rfl rfl)
theorem dJ2_grow_2_27 : decode cJ2_grow_2 27 = .ok (.invokestatic 73, 3) := dk_184 0 73 (dk_at dksJ2_grow_2_1 3 rfl rfl)
theorem dJ2_grow_2_30 : decode cJ2_grow_2 30 = .ok (.istore_n 3, 1) := dk_62 (dk_at dksJ2_grow_2_1 6 rfl rfl)
theorem dJ2_grow_2_31 : decode cJ2_grow_2 31 = .ok (.aload_n 0, 1) := dk_42 (dk_at dksJ2_grow_2_1 7 rfl rfl)
theorem dJ2_grow_2_32 : decode cJ2_grow_2 32 = .ok (.aload_n 0, 1) := dk_42 (dk_at dksJ2_grow_2_1 8 rfl rfl)
theorem dJ2_grow_2_33 : decode cJ2_grow_2 33 = .ok (.getfield 9, 3) := dk_180 0 9 (dk_at dksJ2_grow_2_1 9 rfl rfl)
theorem dJ2_grow_2_36 : decode cJ2_grow_2 36 = .ok (.iload_n 3, 1) := dk_29 (dk_at dksJ2_grow_2_1 12 rfl rfl)
theorem dJ2_grow_2_37 : decode cJ2_grow_2 37 = .ok (.invokestatic 66, 3) := dk_184 0 66 (dk_at dksJ2_grow_2_1 13 rfl rfl)
theorem dJ2_grow_2_40 : decode cJ2_grow_2 40 = .ok (.dup_x1, 1) := dk_90 (dk_at dksJ2_grow_2_1 16 rfl rfl)
theorem dJ2_grow_2_41 : decode cJ2_grow_2 41 = .ok (.putfield 9, 3) := dk_181 0 9 (dk_at dksJ2_grow_2_1 17 rfl rfl)
theorem dJ2_grow_2_44 : decode cJ2_grow_2 44 = .ok (.areturn, 1) := dk_176 (dk_at dksJ2_grow_2_1 20 rfl rfl)
theorem dJ2_grow_2_45 : decode cJ2_grow_2 45 = .ok (.aload_n 0, 1) := dk_42 (dk_at dksJ2_grow_2_1 21 rfl rfl)
theorem dJ2_grow_2_46 : decode cJ2_grow_2 46 = .ok (.bipush 10, 2) := dk_16 10 (dk_at dksJ2_grow_2_1 22 rfl rfl)
theorem dJ2_grow_2_48 : decode cJ2_grow_2 48 = .ok (.iload_n 1, 1) := dk_27 (dk_at dksJ2_grow_2_2 0 rfl rfl)
theorem dJ2_grow_2_49 : decode cJ2_grow_2 49 = .ok (.invokestatic 79, 3) := dk_184 0 79 (dk_at dksJ2_grow_2_2 1 rfl rfl)
theorem dJ2_grow_2_52 : decode cJ2_grow_2 52 = .ok (.anewarray 7, 3) := dk_189 0 7 (dk_at dksJ2_grow_2_2 4 rfl rfl)
theorem dJ2_grow_2_55 : decode cJ2_grow_2 55 = .ok (.dup_x1, 1) := dk_90 (dk_at dksJ2_grow_2_2 7 rfl rfl)
theorem dJ2_grow_2_56 : decode cJ2_grow_2 56 = .ok (.putfield 9, 3) := dk_181 0 9 (dk_at dksJ2_grow_2_2 8 rfl rfl)
theorem dJ2_grow_2_59 : decode cJ2_grow_2 59 = .ok (.areturn, 1) := dk_176 (dk_at dksJ2_grow_2_2 11 rfl rfl)
abbrev cJ2_iterator : ByteArray := prog_32_method_55_code
def yJ2_iterator : MethodName := ⟨RJ2, "iterator", "()Ljava/util/Iterator;"⟩
def dkwJ2_iterator_0 : List UInt8 := [187, 1, 11, 89, 42, 183, 1, 13, 176]
abbrev dktJ2_iterator_0 : List UInt8 := dkwJ2_iterator_0 ++ []
theorem dksJ2_iterator_0 : cJ2_iterator.data.toList.drop 0 = dktJ2_iterator_0 := by decide +kernel
theorem dJ2_iterator_0 : decode cJ2_iterator 0 = .ok (.new 267, 3) := dk_187 1 11 (dk_at dksJ2_iterator_0 0 rfl rfl)
theorem dJ2_iterator_3 : decode cJ2_iterator 3 = .ok (.dup, 1) := dk_89 (dk_at dksJ2_iterator_0 3 rfl rfl)
theorem dJ2_iterator_4 : decode cJ2_iterator 4 = .ok (.aload_n 0, 1) := dk_42 (dk_at dksJ2_iterator_0 4 rfl rfl)
theorem dJ2_iterator_5 : decode cJ2_iterator 5 = .ok (.invokespecial 269, 3) := dk_183 1 13 (dk_at dksJ2_iterator_0 5 rfl rfl)
theorem dJ2_iterator_8 : decode cJ2_iterator 8 = .ok (.areturn, 1) := dk_176 (dk_at dksJ2_iterator_0 8 rfl rfl)
abbrev cJ2_get : ByteArray := prog_32_method_20_code
def yJ2_get : MethodName := ⟨RJ2, "get", "(I)Ljava/lang/Object;"⟩
def dkwJ2_get_0 : List UInt8 := [27, 42, 180, 0, 48, 184, 0, 118, 87, 42, 27, 182, 0, 123, 176]
abbrev dktJ2_get_0 : List UInt8 := dkwJ2_get_0 ++ []
theorem dksJ2_get_0 : cJ2_get.data.toList.drop 0 = dktJ2_get_0 := by decide +kernel
theorem dJ2_get_0 : decode cJ2_get 0 = .ok (.iload_n 1, 1) := dk_27 (dk_at dksJ2_get_0 0 rfl rfl)
theorem dJ2_get_1 : decode cJ2_get 1 = .ok (.aload_n 0, 1) := dk_42 (dk_at dksJ2_get_0 1 rfl rfl)
theorem dJ2_get_2 : decode cJ2_get 2 = .ok (.getfield 48, 3) := dk_180 0 48 (dk_at dksJ2_get_0 2 rfl rfl)
theorem dJ2_get_5 : decode cJ2_get 5 = .ok (.invokestatic 118, 3) := dk_184 0 118 (dk_at dksJ2_get_0 5 rfl rfl)
theorem dJ2_get_8 : decode cJ2_get 8 = .ok (.pop, 1) := dk_87 (dk_at dksJ2_get_0 8 rfl rfl)
theorem dJ2_get_9 : decode cJ2_get 9 = .ok (.aload_n 0, 1) := dk_42 (dk_at dksJ2_get_0 9 rfl rfl)
theorem dJ2_get_10 : decode cJ2_get 10 = .ok (.iload_n 1, 1) := dk_27 (dk_at dksJ2_get_0 10 rfl rfl)
theorem dJ2_get_11 : decode cJ2_get 11 = .ok (.invokevirtual 123, 3) := dk_182 0 123 (dk_at dksJ2_get_0 11 rfl rfl)
theorem dJ2_get_14 : decode cJ2_get 14 = .ok (.areturn, 1) := dk_176 (dk_at dksJ2_get_0 14 rfl rfl)
abbrev cJ2_elementData : ByteArray := prog_32_method_18_code
def yJ2_elementData : MethodName := ⟨RJ2, "elementData", "(I)Ljava/lang/Object;"⟩
def dkwJ2_elementData_0 : List UInt8 := [42, 180, 0, 9, 27, 50, 176]
abbrev dktJ2_elementData_0 : List UInt8 := dkwJ2_elementData_0 ++ []
theorem dksJ2_elementData_0 : cJ2_elementData.data.toList.drop 0 = dktJ2_elementData_0 := by decide +kernel
theorem dJ2_elementData_0 : decode cJ2_elementData 0 = .ok (.aload_n 0, 1) := dk_42 (dk_at dksJ2_elementData_0 0 rfl rfl)
theorem dJ2_elementData_1 : decode cJ2_elementData 1 = .ok (.getfield 9, 3) := dk_180 0 9 (dk_at dksJ2_elementData_0 1 rfl rfl)
theorem dJ2_elementData_4 : decode cJ2_elementData 4 = .ok (.iload_n 1, 1) := dk_27 (dk_at dksJ2_elementData_0 4 rfl rfl)
theorem dJ2_elementData_5 : decode cJ2_elementData 5 = .ok (.aaload, 1) := dk_50 (dk_at dksJ2_elementData_0 5 rfl rfl)
theorem dJ2_elementData_6 : decode cJ2_elementData 6 = .ok (.areturn, 1) := dk_176 (dk_at dksJ2_elementData_0 6 rfl rfl)
abbrev cJ2_remove : ByteArray := prog_32_method_29_code
def yJ2_remove : MethodName := ⟨RJ2, "remove", "(I)Ljava/lang/Object;"⟩
def dkwJ2_remove_1 : List UInt8 := [45, 176]
abbrev dktJ2_remove_1 : List UInt8 := dkwJ2_remove_1 ++ []
def dkwJ2_remove_0 : List UInt8 := [27, 42, 180, 0, 48, 184, 0, 118, 87, 42, 180, 0, 9, 77, 44, 27, 50, 78, 42, 44, 27, 182, 0, 144]
abbrev dktJ2_remove_0 : List UInt8 := dkwJ2_remove_0 ++ dktJ2_remove_1
theorem dksJ2_remove_0 : cJ2_remove.data.toList.drop 0 = dktJ2_remove_0 := by decide +kernel
theorem dksJ2_remove_1 : cJ2_remove.data.toList.drop 24 = dktJ2_remove_1 := dk_seg dksJ2_remove_0 24 rfl rfl
theorem dJ2_remove_0 : decode cJ2_remove 0 = .ok (.iload_n 1, 1) := dk_27 (dk_at dksJ2_remove_0 0 rfl rfl)
theorem dJ2_remove_1 : decode cJ2_remove 1 = .ok (.aload_n 0, 1) := dk_42 (dk_at dksJ2_remove_0 1 rfl rfl)
theorem dJ2_remove_2 : decode cJ2_remove 2 = .ok (.getfield 48, 3) := dk_180 0 48 (dk_at dksJ2_remove_0 2 rfl rfl)
theorem dJ2_remove_5 : decode cJ2_remove 5 = .ok (.invokestatic 118, 3) := dk_184 0 118 (dk_at dksJ2_remove_0 5 rfl rfl)
theorem dJ2_remove_8 : decode cJ2_remove 8 = .ok (.pop, 1) := dk_87 (dk_at dksJ2_remove_0 8 rfl rfl)
theorem dJ2_remove_9 : decode cJ2_remove 9 = .ok (.aload_n 0, 1) := dk_42 (dk_at dksJ2_remove_0 9 rfl rfl)
theorem dJ2_remove_10 : decode cJ2_remove 10 = .ok (.getfield 9, 3) := dk_180 0 9 (dk_at dksJ2_remove_0 10 rfl rfl)
theorem dJ2_remove_13 : decode cJ2_remove 13 = .ok (.astore_n 2, 1) := dk_77 (dk_at dksJ2_remove_0 13 rfl rfl)
theorem dJ2_remove_14 : decode cJ2_remove 14 = .ok (.aload_n 2, 1) := dk_44 (dk_at dksJ2_remove_0 14 rfl rfl)
theorem dJ2_remove_15 : decode cJ2_remove 15 = .ok (.iload_n 1, 1) := dk_27 (dk_at dksJ2_remove_0 15 rfl rfl)
theorem dJ2_remove_16 : decode cJ2_remove 16 = .ok (.aaload, 1) := dk_50 (dk_at dksJ2_remove_0 16 rfl rfl)
theorem dJ2_remove_17 : decode cJ2_remove 17 = .ok (.astore_n 3, 1) := dk_78 (dk_at dksJ2_remove_0 17 rfl rfl)
theorem dJ2_remove_18 : decode cJ2_remove 18 = .ok (.aload_n 0, 1) := dk_42 (dk_at dksJ2_remove_0 18 rfl rfl)
theorem dJ2_remove_19 : decode cJ2_remove 19 = .ok (.aload_n 2, 1) := dk_44 (dk_at dksJ2_remove_0 19 rfl rfl)
theorem dJ2_remove_20 : decode cJ2_remove 20 = .ok (.iload_n 1, 1) := dk_27 (dk_at dksJ2_remove_0 20 rfl rfl)
theorem dJ2_remove_21 : decode cJ2_remove 21 = .ok (.invokevirtual 144, 3) := dk_182 0 144 (dk_at dksJ2_remove_0 21 rfl rfl)
theorem dJ2_remove_24 : decode cJ2_remove 24 = .ok (.aload_n 3, 1) := dk_45 (dk_at dksJ2_remove_1 0 rfl rfl)
theorem dJ2_remove_25 : decode cJ2_remove 25 = .ok (.areturn, 1) := dk_176 (dk_at dksJ2_remove_1 1 rfl rfl)
abbrev cJ2_fastRemove : ByteArray := prog_32_method_39_code
def yJ2_fastRemove : MethodName := ⟨RJ2, "fastRemove", "([Ljava/lang/Object;I)V"⟩
def dkwJ2_fastRemove_1 : List UInt8 := [4, 96, 43, 28, 29, 28, 100, 184, 0, 112, 43, 42, 29, 90, 181, 0, 48, 1, 83, 177]
abbrev dktJ2_fastRemove_1 : List UInt8 := dkwJ2_fastRemove_1 ++ []
def dkwJ2_fastRemove_0 : List UInt8 := [42, 89, 180, 0, 63, 4, 96, 181, 0, 63, 42, 180, 0, 48, 4, 100, 89, 62, 28, 164, 0, 15, 43, 28]
abbrev dktJ2_fastRemove_0 : List UInt8 := dkwJ2_fastRemove_0 ++ dktJ2_fastRemove_1
theorem dksJ2_fastRemove_0 : cJ2_fastRemove.data.toList.drop 0 = dktJ2_fastRemove_0 := by decide +kernel
theorem dksJ2_fastRemove_1 : cJ2_fastRemove.data.toList.drop 24 = dktJ2_fastRemove_1 := dk_seg dksJ2_fastRemove_0 24 rfl rfl
theorem dJ2_fastRemove_0 : decode cJ2_fastRemove 0 = .ok (.aload_n 0, 1) := dk_42 (dk_at dksJ2_fastRemove_0 0 rfl rfl)
theorem dJ2_fastRemove_1 : decode cJ2_fastRemove 1 = .ok (.dup, 1) := dk_89 (dk_at dksJ2_fastRemove_0 1 rfl rfl)
theorem dJ2_fastRemove_2 : decode cJ2_fastRemove 2 = .ok (.getfield 63, 3) := dk_180 0 63 (dk_at dksJ2_fastRemove_0 2 rfl rfl)
theorem dJ2_fastRemove_5 : decode cJ2_fastRemove 5 = .ok (.iconst 1, 1) := dk_4 (dk_at dksJ2_fastRemove_0 5 rfl rfl)
theorem dJ2_fastRemove_6 : decode cJ2_fastRemove 6 = .ok (.iadd, 1) := dk_96 (dk_at dksJ2_fastRemove_0 6 rfl rfl)
theorem dJ2_fastRemove_7 : decode cJ2_fastRemove 7 = .ok (.putfield 63, 3) := dk_181 0 63 (dk_at dksJ2_fastRemove_0 7 rfl rfl)
theorem dJ2_fastRemove_10 : decode cJ2_fastRemove 10 = .ok (.aload_n 0, 1) := dk_42 (dk_at dksJ2_fastRemove_0 10 rfl rfl)
theorem dJ2_fastRemove_11 : decode cJ2_fastRemove 11 = .ok (.getfield 48, 3) := dk_180 0 48 (dk_at dksJ2_fastRemove_0 11 rfl rfl)
theorem dJ2_fastRemove_14 : decode cJ2_fastRemove 14 = .ok (.iconst 1, 1) := dk_4 (dk_at dksJ2_fastRemove_0 14 rfl rfl)
theorem dJ2_fastRemove_15 : decode cJ2_fastRemove 15 = .ok (.isub, 1) := dk_100 (dk_at dksJ2_fastRemove_0 15 rfl rfl)
theorem dJ2_fastRemove_16 : decode cJ2_fastRemove 16 = .ok (.dup, 1) := dk_89 (dk_at dksJ2_fastRemove_0 16 rfl rfl)
theorem dJ2_fastRemove_17 : decode cJ2_fastRemove 17 = .ok (.istore_n 3, 1) := dk_62 (dk_at dksJ2_fastRemove_0 17 rfl rfl)
theorem dJ2_fastRemove_18 : decode cJ2_fastRemove 18 = .ok (.iload_n 2, 1) := dk_28 (dk_at dksJ2_fastRemove_0 18 rfl rfl)
theorem dJ2_fastRemove_19 : decode cJ2_fastRemove 19 = .ok (.if_icmp .le 15, 3) := dk_164 0 15 (dk_at dksJ2_fastRemove_0 19 rfl rfl)
theorem dJ2_fastRemove_22 : decode cJ2_fastRemove 22 = .ok (.aload_n 1, 1) := dk_43 (dk_at dksJ2_fastRemove_0 22 rfl rfl)
theorem dJ2_fastRemove_23 : decode cJ2_fastRemove 23 = .ok (.iload_n 2, 1) := dk_28 (dk_at dksJ2_fastRemove_0 23 rfl rfl)
theorem dJ2_fastRemove_24 : decode cJ2_fastRemove 24 = .ok (.iconst 1, 1) := dk_4 (dk_at dksJ2_fastRemove_1 0 rfl rfl)
theorem dJ2_fastRemove_25 : decode cJ2_fastRemove 25 = .ok (.iadd, 1) := dk_96 (dk_at dksJ2_fastRemove_1 1 rfl rfl)
theorem dJ2_fastRemove_26 : decode cJ2_fastRemove 26 = .ok (.aload_n 1, 1) := dk_43 (dk_at dksJ2_fastRemove_1 2 rfl rfl)
theorem dJ2_fastRemove_27 : decode cJ2_fastRemove 27 = .ok (.iload_n 2, 1) := dk_28 (dk_at dksJ2_fastRemove_1 3 rfl rfl)
theorem dJ2_fastRemove_28 : decode cJ2_fastRemove 28 = .ok (.iload_n 3, 1) := dk_29 (dk_at dksJ2_fastRemove_1 4 rfl rfl)
theorem dJ2_fastRemove_29 : decode cJ2_fastRemove 29 = .ok (.iload_n 2, 1) := dk_28 (dk_at dksJ2_fastRemove_1 5 rfl rfl)
theorem dJ2_fastRemove_30 : decode cJ2_fastRemove 30 = .ok (.isub, 1) := dk_100 (dk_at dksJ2_fastRemove_1 6 rfl rfl)
theorem dJ2_fastRemove_31 : decode cJ2_fastRemove 31 = .ok (.invokestatic 112, 3) := dk_184 0 112 (dk_at dksJ2_fastRemove_1 7 rfl rfl)
theorem dJ2_fastRemove_34 : decode cJ2_fastRemove 34 = .ok (.aload_n 1, 1) := dk_43 (dk_at dksJ2_fastRemove_1 10 rfl rfl)
theorem dJ2_fastRemove_35 : decode cJ2_fastRemove 35 = .ok (.aload_n 0, 1) := dk_42 (dk_at dksJ2_fastRemove_1 11 rfl rfl)
theorem dJ2_fastRemove_36 : decode cJ2_fastRemove 36 = .ok (.iload_n 3, 1) := dk_29 (dk_at dksJ2_fastRemove_1 12 rfl rfl)
theorem dJ2_fastRemove_37 : decode cJ2_fastRemove 37 = .ok (.dup_x1, 1) := dk_90 (dk_at dksJ2_fastRemove_1 13 rfl rfl)
theorem dJ2_fastRemove_38 : decode cJ2_fastRemove 38 = .ok (.putfield 48, 3) := dk_181 0 48 (dk_at dksJ2_fastRemove_1 14 rfl rfl)
theorem dJ2_fastRemove_41 : decode cJ2_fastRemove 41 = .ok (.aconst_null, 1) := dk_1 (dk_at dksJ2_fastRemove_1 17 rfl rfl)
theorem dJ2_fastRemove_42 : decode cJ2_fastRemove 42 = .ok (.aastore, 1) := dk_83 (dk_at dksJ2_fastRemove_1 18 rfl rfl)
theorem dJ2_fastRemove_43 : decode cJ2_fastRemove 43 = .ok (.return_, 1) := dk_177 (dk_at dksJ2_fastRemove_1 19 rfl rfl)
abbrev cJ2_add_3 : ByteArray := prog_32_method_26_code
def yJ2_add_3 : MethodName := ⟨RJ2, "add", "(ILjava/lang/Object;)V"⟩
def dkwJ2_add_3_2 : List UInt8 := [29, 27, 100, 184, 0, 112, 25, 4, 27, 44, 83, 42, 29, 4, 96, 181, 0, 48, 177]
abbrev dktJ2_add_3_2 : List UInt8 := dkwJ2_add_3_2 ++ []
def dkwJ2_add_3_1 : List UInt8 := [180, 0, 9, 89, 58, 4, 190, 160, 0, 9, 42, 182, 0, 129, 58, 4, 25, 4, 27, 25, 4, 27, 4, 96]
abbrev dktJ2_add_3_1 : List UInt8 := dkwJ2_add_3_1 ++ dktJ2_add_3_2
def dkwJ2_add_3_0 : List UInt8 := [42, 27, 182, 0, 135, 42, 89, 180, 0, 63, 4, 96, 181, 0, 63, 42, 180, 0, 48, 89, 62, 42]
abbrev dktJ2_add_3_0 : List UInt8 := dkwJ2_add_3_0 ++ dktJ2_add_3_1
theorem dksJ2_add_3_0 : cJ2_add_3.data.toList.drop 0 = dktJ2_add_3_0 := by decide +kernel
theorem dksJ2_add_3_1 : cJ2_add_3.data.toList.drop 22 = dktJ2_add_3_1 := dk_seg dksJ2_add_3_0 22 rfl rfl
theorem dksJ2_add_3_2 : cJ2_add_3.data.toList.drop 46 = dktJ2_add_3_2 := dk_seg dksJ2_add_3_1 24 rfl rfl
theorem dJ2_add_3_0 : decode cJ2_add_3 0 = .ok (.aload_n 0, 1) := dk_42 (dk_at dksJ2_add_3_0 0 rfl rfl)
theorem dJ2_add_3_1 : decode cJ2_add_3 1 = .ok (.iload_n 1, 1) := dk_27 (dk_at dksJ2_add_3_0 1 rfl rfl)
theorem dJ2_add_3_2 : decode cJ2_add_3 2 = .ok (.invokevirtual 135, 3) := dk_182 0 135 (dk_at dksJ2_add_3_0 2 rfl rfl)
theorem dJ2_add_3_5 : decode cJ2_add_3 5 = .ok (.aload_n 0, 1) := dk_42 (dk_at dksJ2_add_3_0 5 rfl rfl)
theorem dJ2_add_3_6 : decode cJ2_add_3 6 = .ok (.dup, 1) := dk_89 (dk_at dksJ2_add_3_0 6 rfl rfl)
theorem dJ2_add_3_7 : decode cJ2_add_3 7 = .ok (.getfield 63, 3) := dk_180 0 63 (dk_at dksJ2_add_3_0 7 rfl rfl)
theorem dJ2_add_3_10 : decode cJ2_add_3 10 = .ok (.iconst 1, 1) := dk_4 (dk_at dksJ2_add_3_0 10 rfl rfl)
theorem dJ2_add_3_11 : decode cJ2_add_3 11 = .ok (.iadd, 1) := dk_96 (dk_at dksJ2_add_3_0 11 rfl rfl)
theorem dJ2_add_3_12 : decode cJ2_add_3 12 = .ok (.putfield 63, 3) := dk_181 0 63 (dk_at dksJ2_add_3_0 12 rfl rfl)
theorem dJ2_add_3_15 : decode cJ2_add_3 15 = .ok (.aload_n 0, 1) := dk_42 (dk_at dksJ2_add_3_0 15 rfl rfl)
theorem dJ2_add_3_16 : decode cJ2_add_3 16 = .ok (.getfield 48, 3) := dk_180 0 48 (dk_at dksJ2_add_3_0 16 rfl rfl)
theorem dJ2_add_3_19 : decode cJ2_add_3 19 = .ok (.dup, 1) := dk_89 (dk_at dksJ2_add_3_0 19 rfl rfl)
theorem dJ2_add_3_20 : decode cJ2_add_3 20 = .ok (.istore_n 3, 1) := dk_62 (dk_at dksJ2_add_3_0 20 rfl rfl)
theorem dJ2_add_3_21 : decode cJ2_add_3 21 = .ok (.aload_n 0, 1) := dk_42 (dk_at dksJ2_add_3_0 21 rfl rfl)
theorem dJ2_add_3_22 : decode cJ2_add_3 22 = .ok (.getfield 9, 3) := dk_180 0 9 (dk_at dksJ2_add_3_1 0 rfl rfl)
theorem dJ2_add_3_25 : decode cJ2_add_3 25 = .ok (.dup, 1) := dk_89 (dk_at dksJ2_add_3_1 3 rfl rfl)
theorem dJ2_add_3_26 : decode cJ2_add_3 26 = .ok (.astore 4, 2) := dk_58 4 (dk_at dksJ2_add_3_1 4 rfl rfl)
theorem dJ2_add_3_28 : decode cJ2_add_3 28 = .ok (.arraylength, 1) := dk_190 (dk_at dksJ2_add_3_1 6 rfl rfl)
theorem dJ2_add_3_29 : decode cJ2_add_3 29 = .ok (.if_icmp .ne 9, 3) := dk_160 0 9 (dk_at dksJ2_add_3_1 7 rfl rfl)
theorem dJ2_add_3_32 : decode cJ2_add_3 32 = .ok (.aload_n 0, 1) := dk_42 (dk_at dksJ2_add_3_1 10 rfl rfl)
theorem dJ2_add_3_33 : decode cJ2_add_3 33 = .ok (.invokevirtual 129, 3) := dk_182 0 129 (dk_at dksJ2_add_3_1 11 rfl rfl)
theorem dJ2_add_3_36 : decode cJ2_add_3 36 = .ok (.astore 4, 2) := dk_58 4 (dk_at dksJ2_add_3_1 14 rfl rfl)
theorem dJ2_add_3_38 : decode cJ2_add_3 38 = .ok (.aload 4, 2) := dk_25 4 (dk_at dksJ2_add_3_1 16 rfl rfl)
theorem dJ2_add_3_40 : decode cJ2_add_3 40 = .ok (.iload_n 1, 1) := dk_27 (dk_at dksJ2_add_3_1 18 rfl rfl)
theorem dJ2_add_3_41 : decode cJ2_add_3 41 = .ok (.aload 4, 2) := dk_25 4 (dk_at dksJ2_add_3_1 19 rfl rfl)
theorem dJ2_add_3_43 : decode cJ2_add_3 43 = .ok (.iload_n 1, 1) := dk_27 (dk_at dksJ2_add_3_1 21 rfl rfl)
theorem dJ2_add_3_44 : decode cJ2_add_3 44 = .ok (.iconst 1, 1) := dk_4 (dk_at dksJ2_add_3_1 22 rfl rfl)
theorem dJ2_add_3_45 : decode cJ2_add_3 45 = .ok (.iadd, 1) := dk_96 (dk_at dksJ2_add_3_1 23 rfl rfl)
theorem dJ2_add_3_46 : decode cJ2_add_3 46 = .ok (.iload_n 3, 1) := dk_29 (dk_at dksJ2_add_3_2 0 rfl rfl)
theorem dJ2_add_3_47 : decode cJ2_add_3 47 = .ok (.iload_n 1, 1) := dk_27 (dk_at dksJ2_add_3_2 1 rfl rfl)
theorem dJ2_add_3_48 : decode cJ2_add_3 48 = .ok (.isub, 1) := dk_100 (dk_at dksJ2_add_3_2 2 rfl rfl)
theorem dJ2_add_3_49 : decode cJ2_add_3 49 = .ok (.invokestatic 112, 3) := dk_184 0 112 (dk_at dksJ2_add_3_2 3 rfl rfl)
theorem dJ2_add_3_52 : decode cJ2_add_3 52 = .ok (.aload 4, 2) := dk_25 4 (dk_at dksJ2_add_3_2 6 rfl rfl)
theorem dJ2_add_3_54 : decode cJ2_add_3 54 = .ok (.iload_n 1, 1) := dk_27 (dk_at dksJ2_add_3_2 8 rfl rfl)
theorem dJ2_add_3_55 : decode cJ2_add_3 55 = .ok (.aload_n 2, 1) := dk_44 (dk_at dksJ2_add_3_2 9 rfl rfl)
theorem dJ2_add_3_56 : decode cJ2_add_3 56 = .ok (.aastore, 1) := dk_83 (dk_at dksJ2_add_3_2 10 rfl rfl)
theorem dJ2_add_3_57 : decode cJ2_add_3 57 = .ok (.aload_n 0, 1) := dk_42 (dk_at dksJ2_add_3_2 11 rfl rfl)
theorem dJ2_add_3_58 : decode cJ2_add_3 58 = .ok (.iload_n 3, 1) := dk_29 (dk_at dksJ2_add_3_2 12 rfl rfl)
theorem dJ2_add_3_59 : decode cJ2_add_3 59 = .ok (.iconst 1, 1) := dk_4 (dk_at dksJ2_add_3_2 13 rfl rfl)
theorem dJ2_add_3_60 : decode cJ2_add_3 60 = .ok (.iadd, 1) := dk_96 (dk_at dksJ2_add_3_2 14 rfl rfl)
theorem dJ2_add_3_61 : decode cJ2_add_3 61 = .ok (.putfield 48, 3) := dk_181 0 48 (dk_at dksJ2_add_3_2 15 rfl rfl)
theorem dJ2_add_3_64 : decode cJ2_add_3 64 = .ok (.return_, 1) := dk_177 (dk_at dksJ2_add_3_2 18 rfl rfl)
abbrev cJ2_rangeCheckForAdd : ByteArray := prog_32_method_45_code
def yJ2_rangeCheckForAdd : MethodName := ⟨RJ2, "rangeCheckForAdd", "(I)V"⟩
def dkwJ2_rangeCheckForAdd_1 : List UInt8 := [191, 177]
abbrev dktJ2_rangeCheckForAdd_1 : List UInt8 := dkwJ2_rangeCheckForAdd_1 ++ []
def dkwJ2_rangeCheckForAdd_0 : List UInt8 := [27, 42, 180, 0, 48, 163, 0, 7, 27, 156, 0, 16, 187, 0, 187, 89, 42, 27, 182, 0, 198, 183, 0, 193]
abbrev dktJ2_rangeCheckForAdd_0 : List UInt8 := dkwJ2_rangeCheckForAdd_0 ++ dktJ2_rangeCheckForAdd_1
theorem dksJ2_rangeCheckForAdd_0 : cJ2_rangeCheckForAdd.data.toList.drop 0 = dktJ2_rangeCheckForAdd_0 := by decide +kernel
theorem dksJ2_rangeCheckForAdd_1 : cJ2_rangeCheckForAdd.data.toList.drop 24 = dktJ2_rangeCheckForAdd_1 := dk_seg dksJ2_rangeCheckForAdd_0 24 rfl rfl
theorem dJ2_rangeCheckForAdd_0 : decode cJ2_rangeCheckForAdd 0 = .ok (.iload_n 1, 1) := dk_27 (dk_at dksJ2_rangeCheckForAdd_0 0 rfl rfl)
theorem dJ2_rangeCheckForAdd_1 : decode cJ2_rangeCheckForAdd 1 = .ok (.aload_n 0, 1) := dk_42 (dk_at dksJ2_rangeCheckForAdd_0 1 rfl rfl)
theorem dJ2_rangeCheckForAdd_2 : decode cJ2_rangeCheckForAdd 2 = .ok (.getfield 48, 3) := dk_180 0 48 (dk_at dksJ2_rangeCheckForAdd_0 2 rfl rfl)
theorem dJ2_rangeCheckForAdd_5 : decode cJ2_rangeCheckForAdd 5 = .ok (.if_icmp .gt 7, 3) := dk_163 0 7 (dk_at dksJ2_rangeCheckForAdd_0 5 rfl rfl)
theorem dJ2_rangeCheckForAdd_8 : decode cJ2_rangeCheckForAdd 8 = .ok (.iload_n 1, 1) := dk_27 (dk_at dksJ2_rangeCheckForAdd_0 8 rfl rfl)
theorem dJ2_rangeCheckForAdd_9 : decode cJ2_rangeCheckForAdd 9 = .ok (.ifCond .ge 16, 3) := dk_156 0 16 (dk_at dksJ2_rangeCheckForAdd_0 9 rfl rfl)
theorem dJ2_rangeCheckForAdd_12 : decode cJ2_rangeCheckForAdd 12 = .ok (.new 187, 3) := dk_187 0 187 (dk_at dksJ2_rangeCheckForAdd_0 12 rfl rfl)
theorem dJ2_rangeCheckForAdd_15 : decode cJ2_rangeCheckForAdd 15 = .ok (.dup, 1) := dk_89 (dk_at dksJ2_rangeCheckForAdd_0 15 rfl rfl)
theorem dJ2_rangeCheckForAdd_16 : decode cJ2_rangeCheckForAdd 16 = .ok (.aload_n 0, 1) := dk_42 (dk_at dksJ2_rangeCheckForAdd_0 16 rfl rfl)
theorem dJ2_rangeCheckForAdd_17 : decode cJ2_rangeCheckForAdd 17 = .ok (.iload_n 1, 1) := dk_27 (dk_at dksJ2_rangeCheckForAdd_0 17 rfl rfl)
theorem dJ2_rangeCheckForAdd_18 : decode cJ2_rangeCheckForAdd 18 = .ok (.invokevirtual 198, 3) := dk_182 0 198 (dk_at dksJ2_rangeCheckForAdd_0 18 rfl rfl)
theorem dJ2_rangeCheckForAdd_21 : decode cJ2_rangeCheckForAdd 21 = .ok (.invokespecial 193, 3) := dk_183 0 193 (dk_at dksJ2_rangeCheckForAdd_0 21 rfl rfl)
theorem dJ2_rangeCheckForAdd_24 : decode cJ2_rangeCheckForAdd 24 = .ok (.athrow, 1) := dk_191 (dk_at dksJ2_rangeCheckForAdd_1 0 rfl rfl)
theorem dJ2_rangeCheckForAdd_25 : decode cJ2_rangeCheckForAdd 25 = .ok (.return_, 1) := dk_177 (dk_at dksJ2_rangeCheckForAdd_1 1 rfl rfl)
abbrev cJ2_isEmpty : ByteArray := prog_32_method_9_code
def yJ2_isEmpty : MethodName := ⟨RJ2, "isEmpty", "()Z"⟩
def dkwJ2_isEmpty_0 : List UInt8 := [42, 180, 0, 48, 154, 0, 7, 4, 167, 0, 4, 3, 172]
abbrev dktJ2_isEmpty_0 : List UInt8 := dkwJ2_isEmpty_0 ++ []
theorem dksJ2_isEmpty_0 : cJ2_isEmpty.data.toList.drop 0 = dktJ2_isEmpty_0 := by decide +kernel
theorem dJ2_isEmpty_0 : decode cJ2_isEmpty 0 = .ok (.aload_n 0, 1) := dk_42 (dk_at dksJ2_isEmpty_0 0 rfl rfl)
theorem dJ2_isEmpty_1 : decode cJ2_isEmpty 1 = .ok (.getfield 48, 3) := dk_180 0 48 (dk_at dksJ2_isEmpty_0 1 rfl rfl)
theorem dJ2_isEmpty_4 : decode cJ2_isEmpty 4 = .ok (.ifCond .ne 7, 3) := dk_154 0 7 (dk_at dksJ2_isEmpty_0 4 rfl rfl)
theorem dJ2_isEmpty_7 : decode cJ2_isEmpty 7 = .ok (.iconst 1, 1) := dk_4 (dk_at dksJ2_isEmpty_0 7 rfl rfl)
theorem dJ2_isEmpty_8 : decode cJ2_isEmpty 8 = .ok (.goto 4, 3) := dk_167 0 4 (dk_at dksJ2_isEmpty_0 8 rfl rfl)
theorem dJ2_isEmpty_11 : decode cJ2_isEmpty 11 = .ok (.iconst 0, 1) := dk_3 (dk_at dksJ2_isEmpty_0 11 rfl rfl)
theorem dJ2_isEmpty_12 : decode cJ2_isEmpty 12 = .ok (.ireturn, 1) := dk_172 (dk_at dksJ2_isEmpty_0 12 rfl rfl)
def RJ3 : String := "java/lang/AbstractStringBuilder"
abbrev cJ3_init : ByteArray := prog_12_method_2_code
def yJ3_init : MethodName := ⟨RJ3, "<init>", "(I)V"⟩
def dkwJ3_init_1 : List UInt8 := [167, 0, 16, 42, 27, 184, 0, 26, 181, 0, 15, 42, 4, 181, 0, 22, 177]
abbrev dktJ3_init_1 : List UInt8 := dkwJ3_init_1 ++ []
def dkwJ3_init_0 : List UInt8 := [42, 183, 0, 3, 178, 0, 18, 153, 0, 18, 42, 27, 188, 8, 181, 0, 15, 42, 3, 181, 0, 22]
abbrev dktJ3_init_0 : List UInt8 := dkwJ3_init_0 ++ dktJ3_init_1
theorem dksJ3_init_0 : cJ3_init.data.toList.drop 0 = dktJ3_init_0 := by decide +kernel
theorem dksJ3_init_1 : cJ3_init.data.toList.drop 22 = dktJ3_init_1 := dk_seg dksJ3_init_0 22 rfl rfl
theorem dJ3_init_0 : decode cJ3_init 0 = .ok (.aload_n 0, 1) := dk_42 (dk_at dksJ3_init_0 0 rfl rfl)
theorem dJ3_init_1 : decode cJ3_init 1 = .ok (.invokespecial 3, 3) := dk_183 0 3 (dk_at dksJ3_init_0 1 rfl rfl)
theorem dJ3_init_4 : decode cJ3_init 4 = .ok (.getstatic 18, 3) := dk_178 0 18 (dk_at dksJ3_init_0 4 rfl rfl)
theorem dJ3_init_7 : decode cJ3_init 7 = .ok (.ifCond .eq 18, 3) := dk_153 0 18 (dk_at dksJ3_init_0 7 rfl rfl)
theorem dJ3_init_10 : decode cJ3_init 10 = .ok (.aload_n 0, 1) := dk_42 (dk_at dksJ3_init_0 10 rfl rfl)
theorem dJ3_init_11 : decode cJ3_init 11 = .ok (.iload_n 1, 1) := dk_27 (dk_at dksJ3_init_0 11 rfl rfl)
theorem dJ3_init_12 : decode cJ3_init 12 = .ok (.newarray .byte, 2) := dk_188_8 (dk_at dksJ3_init_0 12 rfl rfl)
theorem dJ3_init_14 : decode cJ3_init 14 = .ok (.putfield 15, 3) := dk_181 0 15 (dk_at dksJ3_init_0 14 rfl rfl)
theorem dJ3_init_17 : decode cJ3_init 17 = .ok (.aload_n 0, 1) := dk_42 (dk_at dksJ3_init_0 17 rfl rfl)
theorem dJ3_init_18 : decode cJ3_init 18 = .ok (.iconst 0, 1) := dk_3 (dk_at dksJ3_init_0 18 rfl rfl)
theorem dJ3_init_19 : decode cJ3_init 19 = .ok (.putfield 22, 3) := dk_181 0 22 (dk_at dksJ3_init_0 19 rfl rfl)
theorem dJ3_init_22 : decode cJ3_init 22 = .ok (.goto 16, 3) := dk_167 0 16 (dk_at dksJ3_init_1 0 rfl rfl)
theorem dJ3_init_25 : decode cJ3_init 25 = .ok (.aload_n 0, 1) := dk_42 (dk_at dksJ3_init_1 3 rfl rfl)
theorem dJ3_init_26 : decode cJ3_init 26 = .ok (.iload_n 1, 1) := dk_27 (dk_at dksJ3_init_1 4 rfl rfl)
theorem dJ3_init_27 : decode cJ3_init 27 = .ok (.invokestatic 26, 3) := dk_184 0 26 (dk_at dksJ3_init_1 5 rfl rfl)
theorem dJ3_init_30 : decode cJ3_init 30 = .ok (.putfield 15, 3) := dk_181 0 15 (dk_at dksJ3_init_1 8 rfl rfl)
theorem dJ3_init_33 : decode cJ3_init 33 = .ok (.aload_n 0, 1) := dk_42 (dk_at dksJ3_init_1 11 rfl rfl)
theorem dJ3_init_34 : decode cJ3_init 34 = .ok (.iconst 1, 1) := dk_4 (dk_at dksJ3_init_1 12 rfl rfl)
theorem dJ3_init_35 : decode cJ3_init 35 = .ok (.putfield 22, 3) := dk_181 0 22 (dk_at dksJ3_init_1 13 rfl rfl)
theorem dJ3_init_38 : decode cJ3_init 38 = .ok (.return_, 1) := dk_177 (dk_at dksJ3_init_1 16 rfl rfl)
abbrev cJ3_append : ByteArray := prog_12_method_31_code
def yJ3_append : MethodName := ⟨RJ3, "append", "(C)Ljava/lang/AbstractStringBuilder;"⟩
def dkwJ3_append_3 : List UInt8 := [181, 0, 79, 27, 184, 0, 197, 42, 176]
abbrev dktJ3_append_3 : List UInt8 := dkwJ3_append_3 ++ []
def dkwJ3_append_2 : List UInt8 := [182, 0, 83, 153, 0, 7, 42, 182, 0, 195, 42, 180, 0, 15, 42, 89, 180, 0, 79, 90, 4, 96]
abbrev dktJ3_append_2 : List UInt8 := dkwJ3_append_2 ++ dktJ3_append_3
def dkwJ3_append_1 : List UInt8 := [42, 180, 0, 15, 42, 89, 180, 0, 79, 90, 4, 96, 181, 0, 79, 27, 145, 84, 167, 0, 33, 42]
abbrev dktJ3_append_1 : List UInt8 := dkwJ3_append_1 ++ dktJ3_append_2
def dkwJ3_append_0 : List UInt8 := [42, 42, 180, 0, 79, 4, 96, 182, 0, 100, 42, 182, 0, 83, 153, 0, 31, 27, 184, 0, 191, 153, 0, 24]
abbrev dktJ3_append_0 : List UInt8 := dkwJ3_append_0 ++ dktJ3_append_1
theorem dksJ3_append_0 : cJ3_append.data.toList.drop 0 = dktJ3_append_0 := by decide +kernel
theorem dksJ3_append_1 : cJ3_append.data.toList.drop 24 = dktJ3_append_1 := dk_seg dksJ3_append_0 24 rfl rfl
theorem dksJ3_append_2 : cJ3_append.data.toList.drop 46 = dktJ3_append_2 := dk_seg dksJ3_append_1 22 rfl rfl
theorem dksJ3_append_3 : cJ3_append.data.toList.drop 68 = dktJ3_append_3 := dk_seg dksJ3_append_2 22 rfl rfl
theorem dJ3_append_0 : decode cJ3_append 0 = .ok (.aload_n 0, 1) := dk_42 (dk_at dksJ3_append_0 0 rfl rfl)
theorem dJ3_append_1 : decode cJ3_append 1 = .ok (.aload_n 0, 1) := dk_42 (dk_at dksJ3_append_0 1 rfl rfl)
theorem dJ3_append_2 : decode cJ3_append 2 = .ok (.getfield 79, 3) := dk_180 0 79 (dk_at dksJ3_append_0 2 rfl rfl)
theorem dJ3_append_5 : decode cJ3_append 5 = .ok (.iconst 1, 1) := dk_4 (dk_at dksJ3_append_0 5 rfl rfl)
theorem dJ3_append_6 : decode cJ3_append 6 = .ok (.iadd, 1) := dk_96 (dk_at dksJ3_append_0 6 rfl rfl)
theorem dJ3_append_7 : decode cJ3_append 7 = .ok (.invokevirtual 100, 3) := dk_182 0 100 (dk_at dksJ3_append_0 7 rfl rfl)
theorem dJ3_append_10 : decode cJ3_append 10 = .ok (.aload_n 0, 1) := dk_42 (dk_at dksJ3_append_0 10 rfl rfl)
theorem dJ3_append_11 : decode cJ3_append 11 = .ok (.invokevirtual 83, 3) := dk_182 0 83 (dk_at dksJ3_append_0 11 rfl rfl)
theorem dJ3_append_14 : decode cJ3_append 14 = .ok (.ifCond .eq 31, 3) := dk_153 0 31 (dk_at dksJ3_append_0 14 rfl rfl)
theorem dJ3_append_17 : decode cJ3_append 17 = .ok (.iload_n 1, 1) := dk_27 (dk_at dksJ3_append_0 17 rfl rfl)
theorem dJ3_append_18 : decode cJ3_append 18 = .ok (.invokestatic 191, 3) := dk_184 0 191 (dk_at dksJ3_append_0 18 rfl rfl)
theorem dJ3_append_21 : decode cJ3_append 21 = .ok (.ifCond .eq 24, 3) := dk_153 0 24 (dk_at dksJ3_append_0 21 rfl rfl)
theorem dJ3_append_24 : decode cJ3_append 24 = .ok (.aload_n 0, 1) := dk_42 (dk_at dksJ3_append_1 0 rfl rfl)
theorem dJ3_append_25 : decode cJ3_append 25 = .ok (.getfield 15, 3) := dk_180 0 15 (dk_at dksJ3_append_1 1 rfl rfl)
theorem dJ3_append_28 : decode cJ3_append 28 = .ok (.aload_n 0, 1) := dk_42 (dk_at dksJ3_append_1 4 rfl rfl)
theorem dJ3_append_29 : decode cJ3_append 29 = .ok (.dup, 1) := dk_89 (dk_at dksJ3_append_1 5 rfl rfl)
theorem dJ3_append_30 : decode cJ3_append 30 = .ok (.getfield 79, 3) := dk_180 0 79 (dk_at dksJ3_append_1 6 rfl rfl)
theorem dJ3_append_33 : decode cJ3_append 33 = .ok (.dup_x1, 1) := dk_90 (dk_at dksJ3_append_1 9 rfl rfl)
theorem dJ3_append_34 : decode cJ3_append 34 = .ok (.iconst 1, 1) := dk_4 (dk_at dksJ3_append_1 10 rfl rfl)
theorem dJ3_append_35 : decode cJ3_append 35 = .ok (.iadd, 1) := dk_96 (dk_at dksJ3_append_1 11 rfl rfl)
theorem dJ3_append_36 : decode cJ3_append 36 = .ok (.putfield 79, 3) := dk_181 0 79 (dk_at dksJ3_append_1 12 rfl rfl)
theorem dJ3_append_39 : decode cJ3_append 39 = .ok (.iload_n 1, 1) := dk_27 (dk_at dksJ3_append_1 15 rfl rfl)
theorem dJ3_append_40 : decode cJ3_append 40 = .ok (.i2b, 1) := dk_145 (dk_at dksJ3_append_1 16 rfl rfl)
theorem dJ3_append_41 : decode cJ3_append 41 = .ok (.bastore, 1) := dk_84 (dk_at dksJ3_append_1 17 rfl rfl)
theorem dJ3_append_42 : decode cJ3_append 42 = .ok (.goto 33, 3) := dk_167 0 33 (dk_at dksJ3_append_1 18 rfl rfl)
theorem dJ3_append_45 : decode cJ3_append 45 = .ok (.aload_n 0, 1) := dk_42 (dk_at dksJ3_append_1 21 rfl rfl)
theorem dJ3_append_46 : decode cJ3_append 46 = .ok (.invokevirtual 83, 3) := dk_182 0 83 (dk_at dksJ3_append_2 0 rfl rfl)
theorem dJ3_append_49 : decode cJ3_append 49 = .ok (.ifCond .eq 7, 3) := dk_153 0 7 (dk_at dksJ3_append_2 3 rfl rfl)
theorem dJ3_append_52 : decode cJ3_append 52 = .ok (.aload_n 0, 1) := dk_42 (dk_at dksJ3_append_2 6 rfl rfl)
theorem dJ3_append_53 : decode cJ3_append 53 = .ok (.invokevirtual 195, 3) := dk_182 0 195 (dk_at dksJ3_append_2 7 rfl rfl)
theorem dJ3_append_56 : decode cJ3_append 56 = .ok (.aload_n 0, 1) := dk_42 (dk_at dksJ3_append_2 10 rfl rfl)
theorem dJ3_append_57 : decode cJ3_append 57 = .ok (.getfield 15, 3) := dk_180 0 15 (dk_at dksJ3_append_2 11 rfl rfl)
theorem dJ3_append_60 : decode cJ3_append 60 = .ok (.aload_n 0, 1) := dk_42 (dk_at dksJ3_append_2 14 rfl rfl)
theorem dJ3_append_61 : decode cJ3_append 61 = .ok (.dup, 1) := dk_89 (dk_at dksJ3_append_2 15 rfl rfl)
theorem dJ3_append_62 : decode cJ3_append 62 = .ok (.getfield 79, 3) := dk_180 0 79 (dk_at dksJ3_append_2 16 rfl rfl)
theorem dJ3_append_65 : decode cJ3_append 65 = .ok (.dup_x1, 1) := dk_90 (dk_at dksJ3_append_2 19 rfl rfl)
theorem dJ3_append_66 : decode cJ3_append 66 = .ok (.iconst 1, 1) := dk_4 (dk_at dksJ3_append_2 20 rfl rfl)
theorem dJ3_append_67 : decode cJ3_append 67 = .ok (.iadd, 1) := dk_96 (dk_at dksJ3_append_2 21 rfl rfl)
theorem dJ3_append_68 : decode cJ3_append 68 = .ok (.putfield 79, 3) := dk_181 0 79 (dk_at dksJ3_append_3 0 rfl rfl)
theorem dJ3_append_71 : decode cJ3_append 71 = .ok (.iload_n 1, 1) := dk_27 (dk_at dksJ3_append_3 3 rfl rfl)
theorem dJ3_append_72 : decode cJ3_append 72 = .ok (.invokestatic 197, 3) := dk_184 0 197 (dk_at dksJ3_append_3 4 rfl rfl)
theorem dJ3_append_75 : decode cJ3_append 75 = .ok (.aload_n 0, 1) := dk_42 (dk_at dksJ3_append_3 7 rfl rfl)
theorem dJ3_append_76 : decode cJ3_append 76 = .ok (.areturn, 1) := dk_176 (dk_at dksJ3_append_3 8 rfl rfl)
abbrev cJ3_ensureCapacityInternal : ByteArray := prog_12_method_9_code
def yJ3_ensureCapacityInternal : MethodName := ⟨RJ3, "ensureCapacityInternal", "(I)V"⟩
def dkwJ3_ensureCapacityInternal_1 : List UInt8 := [182, 0, 104, 42, 180, 0, 22, 120, 184, 0, 108, 181, 0, 15, 177]
abbrev dktJ3_ensureCapacityInternal_1 : List UInt8 := dkwJ3_ensureCapacityInternal_1 ++ []
def dkwJ3_ensureCapacityInternal_0 : List UInt8 := [42, 180, 0, 15, 190, 42, 180, 0, 22, 122, 61, 27, 28, 100, 158, 0, 24, 42, 42, 180, 0, 15, 42, 27]
abbrev dktJ3_ensureCapacityInternal_0 : List UInt8 := dkwJ3_ensureCapacityInternal_0 ++ dktJ3_ensureCapacityInternal_1
theorem dksJ3_ensureCapacityInternal_0 : cJ3_ensureCapacityInternal.data.toList.drop 0 = dktJ3_ensureCapacityInternal_0 := by decide +kernel
theorem dksJ3_ensureCapacityInternal_1 : cJ3_ensureCapacityInternal.data.toList.drop 24 = dktJ3_ensureCapacityInternal_1 := dk_seg dksJ3_ensureCapacityInternal_0 24 rfl rfl
theorem dJ3_ensureCapacityInternal_0 : decode cJ3_ensureCapacityInternal 0 = .ok (.aload_n 0, 1) := dk_42 (dk_at dksJ3_ensureCapacityInternal_0 0 rfl rfl)
theorem dJ3_ensureCapacityInternal_1 : decode cJ3_ensureCapacityInternal 1 = .ok (.getfield 15, 3) := dk_180 0 15 (dk_at dksJ3_ensureCapacityInternal_0 1 rfl rfl)
theorem dJ3_ensureCapacityInternal_4 : decode cJ3_ensureCapacityInternal 4 = .ok (.arraylength, 1) := dk_190 (dk_at dksJ3_ensureCapacityInternal_0 4 rfl rfl)
theorem dJ3_ensureCapacityInternal_5 : decode cJ3_ensureCapacityInternal 5 = .ok (.aload_n 0, 1) := dk_42 (dk_at dksJ3_ensureCapacityInternal_0 5 rfl rfl)
theorem dJ3_ensureCapacityInternal_6 : decode cJ3_ensureCapacityInternal 6 = .ok (.getfield 22, 3) := dk_180 0 22 (dk_at dksJ3_ensureCapacityInternal_0 6 rfl rfl)
theorem dJ3_ensureCapacityInternal_9 : decode cJ3_ensureCapacityInternal 9 = .ok (.ishr, 1) := dk_122 (dk_at dksJ3_ensureCapacityInternal_0 9 rfl rfl)
theorem dJ3_ensureCapacityInternal_10 : decode cJ3_ensureCapacityInternal 10 = .ok (.istore_n 2, 1) := dk_61 (dk_at dksJ3_ensureCapacityInternal_0 10 rfl rfl)
theorem dJ3_ensureCapacityInternal_11 : decode cJ3_ensureCapacityInternal 11 = .ok (.iload_n 1, 1) := dk_27 (dk_at dksJ3_ensureCapacityInternal_0 11 rfl rfl)
theorem dJ3_ensureCapacityInternal_12 : decode cJ3_ensureCapacityInternal 12 = .ok (.iload_n 2, 1) := dk_28 (dk_at dksJ3_ensureCapacityInternal_0 12 rfl rfl)
theorem dJ3_ensureCapacityInternal_13 : decode cJ3_ensureCapacityInternal 13 = .ok (.isub, 1) := dk_100 (dk_at dksJ3_ensureCapacityInternal_0 13 rfl rfl)
theorem dJ3_ensureCapacityInternal_14 : decode cJ3_ensureCapacityInternal 14 = .ok (.ifCond .le 24, 3) := dk_158 0 24 (dk_at dksJ3_ensureCapacityInternal_0 14 rfl rfl)
theorem dJ3_ensureCapacityInternal_17 : decode cJ3_ensureCapacityInternal 17 = .ok (.aload_n 0, 1) := dk_42 (dk_at dksJ3_ensureCapacityInternal_0 17 rfl rfl)
theorem dJ3_ensureCapacityInternal_18 : decode cJ3_ensureCapacityInternal 18 = .ok (.aload_n 0, 1) := dk_42 (dk_at dksJ3_ensureCapacityInternal_0 18 rfl rfl)
theorem dJ3_ensureCapacityInternal_19 : decode cJ3_ensureCapacityInternal 19 = .ok (.getfield 15, 3) := dk_180 0 15 (dk_at dksJ3_ensureCapacityInternal_0 19 rfl rfl)
theorem dJ3_ensureCapacityInternal_22 : decode cJ3_ensureCapacityInternal 22 = .ok (.aload_n 0, 1) := dk_42 (dk_at dksJ3_ensureCapacityInternal_0 22 rfl rfl)
theorem dJ3_ensureCapacityInternal_23 : decode cJ3_ensureCapacityInternal 23 = .ok (.iload_n 1, 1) := dk_27 (dk_at dksJ3_ensureCapacityInternal_0 23 rfl rfl)
theorem dJ3_ensureCapacityInternal_24 : decode cJ3_ensureCapacityInternal 24 = .ok (.invokevirtual 104, 3) := dk_182 0 104 (dk_at dksJ3_ensureCapacityInternal_1 0 rfl rfl)
theorem dJ3_ensureCapacityInternal_27 : decode cJ3_ensureCapacityInternal 27 = .ok (.aload_n 0, 1) := dk_42 (dk_at dksJ3_ensureCapacityInternal_1 3 rfl rfl)
theorem dJ3_ensureCapacityInternal_28 : decode cJ3_ensureCapacityInternal 28 = .ok (.getfield 22, 3) := dk_180 0 22 (dk_at dksJ3_ensureCapacityInternal_1 4 rfl rfl)
theorem dJ3_ensureCapacityInternal_31 : decode cJ3_ensureCapacityInternal 31 = .ok (.ishl, 1) := dk_120 (dk_at dksJ3_ensureCapacityInternal_1 7 rfl rfl)
theorem dJ3_ensureCapacityInternal_32 : decode cJ3_ensureCapacityInternal 32 = .ok (.invokestatic 108, 3) := dk_184 0 108 (dk_at dksJ3_ensureCapacityInternal_1 8 rfl rfl)
theorem dJ3_ensureCapacityInternal_35 : decode cJ3_ensureCapacityInternal 35 = .ok (.putfield 15, 3) := dk_181 0 15 (dk_at dksJ3_ensureCapacityInternal_1 11 rfl rfl)
theorem dJ3_ensureCapacityInternal_38 : decode cJ3_ensureCapacityInternal 38 = .ok (.return_, 1) := dk_177 (dk_at dksJ3_ensureCapacityInternal_1 14 rfl rfl)
abbrev cJ3_newCapacity : ByteArray := prog_12_method_10_code
def yJ3_newCapacity : MethodName := ⟨RJ3, "newCapacity", "(I)I"⟩
def dkwJ3_newCapacity_2 : List UInt8 := [183, 0, 124, 191, 21, 5, 42, 180, 0, 22, 122, 172]
abbrev dktJ3_newCapacity_2 : List UInt8 := dkwJ3_newCapacity_2 ++ []
def dkwJ3_newCapacity_1 : List UInt8 := [180, 0, 22, 120, 96, 184, 0, 114, 54, 5, 21, 5, 18, 39, 160, 0, 13, 187, 0, 120, 89, 18, 122]
abbrev dktJ3_newCapacity_1 : List UInt8 := dkwJ3_newCapacity_1 ++ dktJ3_newCapacity_2
def dkwJ3_newCapacity_0 : List UInt8 := [42, 180, 0, 15, 190, 61, 27, 42, 180, 0, 22, 120, 62, 29, 28, 100, 54, 4, 28, 21, 4, 28, 5, 42]
abbrev dktJ3_newCapacity_0 : List UInt8 := dkwJ3_newCapacity_0 ++ dktJ3_newCapacity_1
theorem dksJ3_newCapacity_0 : cJ3_newCapacity.data.toList.drop 0 = dktJ3_newCapacity_0 := by decide +kernel
theorem dksJ3_newCapacity_1 : cJ3_newCapacity.data.toList.drop 24 = dktJ3_newCapacity_1 := dk_seg dksJ3_newCapacity_0 24 rfl rfl
theorem dksJ3_newCapacity_2 : cJ3_newCapacity.data.toList.drop 47 = dktJ3_newCapacity_2 := dk_seg dksJ3_newCapacity_1 23 rfl rfl
theorem dJ3_newCapacity_0 : decode cJ3_newCapacity 0 = .ok (.aload_n 0, 1) := dk_42 (dk_at dksJ3_newCapacity_0 0 rfl rfl)
theorem dJ3_newCapacity_1 : decode cJ3_newCapacity 1 = .ok (.getfield 15, 3) := dk_180 0 15 (dk_at dksJ3_newCapacity_0 1 rfl rfl)
theorem dJ3_newCapacity_4 : decode cJ3_newCapacity 4 = .ok (.arraylength, 1) := dk_190 (dk_at dksJ3_newCapacity_0 4 rfl rfl)
theorem dJ3_newCapacity_5 : decode cJ3_newCapacity 5 = .ok (.istore_n 2, 1) := dk_61 (dk_at dksJ3_newCapacity_0 5 rfl rfl)
theorem dJ3_newCapacity_6 : decode cJ3_newCapacity 6 = .ok (.iload_n 1, 1) := dk_27 (dk_at dksJ3_newCapacity_0 6 rfl rfl)
theorem dJ3_newCapacity_7 : decode cJ3_newCapacity 7 = .ok (.aload_n 0, 1) := dk_42 (dk_at dksJ3_newCapacity_0 7 rfl rfl)
theorem dJ3_newCapacity_8 : decode cJ3_newCapacity 8 = .ok (.getfield 22, 3) := dk_180 0 22 (dk_at dksJ3_newCapacity_0 8 rfl rfl)
theorem dJ3_newCapacity_11 : decode cJ3_newCapacity 11 = .ok (.ishl, 1) := dk_120 (dk_at dksJ3_newCapacity_0 11 rfl rfl)
theorem dJ3_newCapacity_12 : decode cJ3_newCapacity 12 = .ok (.istore_n 3, 1) := dk_62 (dk_at dksJ3_newCapacity_0 12 rfl rfl)
theorem dJ3_newCapacity_13 : decode cJ3_newCapacity 13 = .ok (.iload_n 3, 1) := dk_29 (dk_at dksJ3_newCapacity_0 13 rfl rfl)
theorem dJ3_newCapacity_14 : decode cJ3_newCapacity 14 = .ok (.iload_n 2, 1) := dk_28 (dk_at dksJ3_newCapacity_0 14 rfl rfl)
theorem dJ3_newCapacity_15 : decode cJ3_newCapacity 15 = .ok (.isub, 1) := dk_100 (dk_at dksJ3_newCapacity_0 15 rfl rfl)
theorem dJ3_newCapacity_16 : decode cJ3_newCapacity 16 = .ok (.istore 4, 2) := dk_54 4 (dk_at dksJ3_newCapacity_0 16 rfl rfl)
theorem dJ3_newCapacity_18 : decode cJ3_newCapacity 18 = .ok (.iload_n 2, 1) := dk_28 (dk_at dksJ3_newCapacity_0 18 rfl rfl)
theorem dJ3_newCapacity_19 : decode cJ3_newCapacity 19 = .ok (.iload 4, 2) := dk_21 4 (dk_at dksJ3_newCapacity_0 19 rfl rfl)
theorem dJ3_newCapacity_21 : decode cJ3_newCapacity 21 = .ok (.iload_n 2, 1) := dk_28 (dk_at dksJ3_newCapacity_0 21 rfl rfl)
theorem dJ3_newCapacity_22 : decode cJ3_newCapacity 22 = .ok (.iconst 2, 1) := dk_5 (dk_at dksJ3_newCapacity_0 22 rfl rfl)
theorem dJ3_newCapacity_23 : decode cJ3_newCapacity 23 = .ok (.aload_n 0, 1) := dk_42 (dk_at dksJ3_newCapacity_0 23 rfl rfl)
theorem dJ3_newCapacity_24 : decode cJ3_newCapacity 24 = .ok (.getfield 22, 3) := dk_180 0 22 (dk_at dksJ3_newCapacity_1 0 rfl rfl)
theorem dJ3_newCapacity_27 : decode cJ3_newCapacity 27 = .ok (.ishl, 1) := dk_120 (dk_at dksJ3_newCapacity_1 3 rfl rfl)
theorem dJ3_newCapacity_28 : decode cJ3_newCapacity 28 = .ok (.iadd, 1) := dk_96 (dk_at dksJ3_newCapacity_1 4 rfl rfl)
theorem dJ3_newCapacity_29 : decode cJ3_newCapacity 29 = .ok (.invokestatic 114, 3) := dk_184 0 114 (dk_at dksJ3_newCapacity_1 5 rfl rfl)
theorem dJ3_newCapacity_32 : decode cJ3_newCapacity 32 = .ok (.istore 5, 2) := dk_54 5 (dk_at dksJ3_newCapacity_1 8 rfl rfl)
theorem dJ3_newCapacity_34 : decode cJ3_newCapacity 34 = .ok (.iload 5, 2) := dk_21 5 (dk_at dksJ3_newCapacity_1 10 rfl rfl)
theorem dJ3_newCapacity_36 : decode cJ3_newCapacity 36 = .ok (.ldc 39, 2) := dk_18 39 (dk_at dksJ3_newCapacity_1 12 rfl rfl)
theorem dJ3_newCapacity_38 : decode cJ3_newCapacity 38 = .ok (.if_icmp .ne 13, 3) := dk_160 0 13 (dk_at dksJ3_newCapacity_1 14 rfl rfl)
theorem dJ3_newCapacity_41 : decode cJ3_newCapacity 41 = .ok (.new 120, 3) := dk_187 0 120 (dk_at dksJ3_newCapacity_1 17 rfl rfl)
theorem dJ3_newCapacity_44 : decode cJ3_newCapacity 44 = .ok (.dup, 1) := dk_89 (dk_at dksJ3_newCapacity_1 20 rfl rfl)
theorem dJ3_newCapacity_45 : decode cJ3_newCapacity 45 = .ok (.ldc 122, 2) := dk_18 122 (dk_at dksJ3_newCapacity_1 21 rfl rfl)
theorem dJ3_newCapacity_47 : decode cJ3_newCapacity 47 = .ok (.invokespecial 124, 3) := dk_183 0 124 (dk_at dksJ3_newCapacity_2 0 rfl rfl)
theorem dJ3_newCapacity_50 : decode cJ3_newCapacity 50 = .ok (.athrow, 1) := dk_191 (dk_at dksJ3_newCapacity_2 3 rfl rfl)
theorem dJ3_newCapacity_51 : decode cJ3_newCapacity 51 = .ok (.iload 5, 2) := dk_21 5 (dk_at dksJ3_newCapacity_2 4 rfl rfl)
theorem dJ3_newCapacity_53 : decode cJ3_newCapacity 53 = .ok (.aload_n 0, 1) := dk_42 (dk_at dksJ3_newCapacity_2 6 rfl rfl)
theorem dJ3_newCapacity_54 : decode cJ3_newCapacity 54 = .ok (.getfield 22, 3) := dk_180 0 22 (dk_at dksJ3_newCapacity_2 7 rfl rfl)
theorem dJ3_newCapacity_57 : decode cJ3_newCapacity 57 = .ok (.ishr, 1) := dk_122 (dk_at dksJ3_newCapacity_2 10 rfl rfl)
theorem dJ3_newCapacity_58 : decode cJ3_newCapacity 58 = .ok (.ireturn, 1) := dk_172 (dk_at dksJ3_newCapacity_2 11 rfl rfl)
abbrev cJ3_isLatin1 : ByteArray := prog_12_method_68_code
def yJ3_isLatin1 : MethodName := ⟨RJ3, "isLatin1", "()Z"⟩
def dkwJ3_isLatin1_0 : List UInt8 := [178, 0, 18, 153, 0, 14, 42, 180, 0, 22, 154, 0, 7, 4, 167, 0, 4, 3, 172]
abbrev dktJ3_isLatin1_0 : List UInt8 := dkwJ3_isLatin1_0 ++ []
theorem dksJ3_isLatin1_0 : cJ3_isLatin1.data.toList.drop 0 = dktJ3_isLatin1_0 := by decide +kernel
theorem dJ3_isLatin1_0 : decode cJ3_isLatin1 0 = .ok (.getstatic 18, 3) := dk_178 0 18 (dk_at dksJ3_isLatin1_0 0 rfl rfl)
theorem dJ3_isLatin1_3 : decode cJ3_isLatin1 3 = .ok (.ifCond .eq 14, 3) := dk_153 0 14 (dk_at dksJ3_isLatin1_0 3 rfl rfl)
theorem dJ3_isLatin1_6 : decode cJ3_isLatin1 6 = .ok (.aload_n 0, 1) := dk_42 (dk_at dksJ3_isLatin1_0 6 rfl rfl)
theorem dJ3_isLatin1_7 : decode cJ3_isLatin1 7 = .ok (.getfield 22, 3) := dk_180 0 22 (dk_at dksJ3_isLatin1_0 7 rfl rfl)
theorem dJ3_isLatin1_10 : decode cJ3_isLatin1 10 = .ok (.ifCond .ne 7, 3) := dk_154 0 7 (dk_at dksJ3_isLatin1_0 10 rfl rfl)
theorem dJ3_isLatin1_13 : decode cJ3_isLatin1 13 = .ok (.iconst 1, 1) := dk_4 (dk_at dksJ3_isLatin1_0 13 rfl rfl)
theorem dJ3_isLatin1_14 : decode cJ3_isLatin1 14 = .ok (.goto 4, 3) := dk_167 0 4 (dk_at dksJ3_isLatin1_0 14 rfl rfl)
theorem dJ3_isLatin1_17 : decode cJ3_isLatin1 17 = .ok (.iconst 0, 1) := dk_3 (dk_at dksJ3_isLatin1_0 17 rfl rfl)
theorem dJ3_isLatin1_18 : decode cJ3_isLatin1 18 = .ok (.ireturn, 1) := dk_172 (dk_at dksJ3_isLatin1_0 18 rfl rfl)
abbrev cJ3_inflate : ByteArray := prog_12_method_11_code
def yJ3_inflate : MethodName := ⟨RJ3, "inflate", "()V"⟩
def dkwJ3_inflate_1 : List UInt8 := [42, 180, 0, 79, 184, 0, 125, 42, 43, 181, 0, 15, 42, 4, 181, 0, 22, 177]
abbrev dktJ3_inflate_1 : List UInt8 := dkwJ3_inflate_1 ++ []
def dkwJ3_inflate_0 : List UInt8 := [42, 182, 0, 83, 154, 0, 4, 177, 42, 180, 0, 15, 190, 184, 0, 26, 76, 42, 180, 0, 15, 3, 43, 3]
abbrev dktJ3_inflate_0 : List UInt8 := dkwJ3_inflate_0 ++ dktJ3_inflate_1
theorem dksJ3_inflate_0 : cJ3_inflate.data.toList.drop 0 = dktJ3_inflate_0 := by decide +kernel
theorem dksJ3_inflate_1 : cJ3_inflate.data.toList.drop 24 = dktJ3_inflate_1 := dk_seg dksJ3_inflate_0 24 rfl rfl
theorem dJ3_inflate_0 : decode cJ3_inflate 0 = .ok (.aload_n 0, 1) := dk_42 (dk_at dksJ3_inflate_0 0 rfl rfl)
theorem dJ3_inflate_1 : decode cJ3_inflate 1 = .ok (.invokevirtual 83, 3) := dk_182 0 83 (dk_at dksJ3_inflate_0 1 rfl rfl)
theorem dJ3_inflate_4 : decode cJ3_inflate 4 = .ok (.ifCond .ne 4, 3) := dk_154 0 4 (dk_at dksJ3_inflate_0 4 rfl rfl)
theorem dJ3_inflate_7 : decode cJ3_inflate 7 = .ok (.return_, 1) := dk_177 (dk_at dksJ3_inflate_0 7 rfl rfl)
theorem dJ3_inflate_8 : decode cJ3_inflate 8 = .ok (.aload_n 0, 1) := dk_42 (dk_at dksJ3_inflate_0 8 rfl rfl)
theorem dJ3_inflate_9 : decode cJ3_inflate 9 = .ok (.getfield 15, 3) := dk_180 0 15 (dk_at dksJ3_inflate_0 9 rfl rfl)
theorem dJ3_inflate_12 : decode cJ3_inflate 12 = .ok (.arraylength, 1) := dk_190 (dk_at dksJ3_inflate_0 12 rfl rfl)
theorem dJ3_inflate_13 : decode cJ3_inflate 13 = .ok (.invokestatic 26, 3) := dk_184 0 26 (dk_at dksJ3_inflate_0 13 rfl rfl)
theorem dJ3_inflate_16 : decode cJ3_inflate 16 = .ok (.astore_n 1, 1) := dk_76 (dk_at dksJ3_inflate_0 16 rfl rfl)
theorem dJ3_inflate_17 : decode cJ3_inflate 17 = .ok (.aload_n 0, 1) := dk_42 (dk_at dksJ3_inflate_0 17 rfl rfl)
theorem dJ3_inflate_18 : decode cJ3_inflate 18 = .ok (.getfield 15, 3) := dk_180 0 15 (dk_at dksJ3_inflate_0 18 rfl rfl)
theorem dJ3_inflate_21 : decode cJ3_inflate 21 = .ok (.iconst 0, 1) := dk_3 (dk_at dksJ3_inflate_0 21 rfl rfl)
theorem dJ3_inflate_22 : decode cJ3_inflate 22 = .ok (.aload_n 1, 1) := dk_43 (dk_at dksJ3_inflate_0 22 rfl rfl)
theorem dJ3_inflate_23 : decode cJ3_inflate 23 = .ok (.iconst 0, 1) := dk_3 (dk_at dksJ3_inflate_0 23 rfl rfl)
theorem dJ3_inflate_24 : decode cJ3_inflate 24 = .ok (.aload_n 0, 1) := dk_42 (dk_at dksJ3_inflate_1 0 rfl rfl)
theorem dJ3_inflate_25 : decode cJ3_inflate 25 = .ok (.getfield 79, 3) := dk_180 0 79 (dk_at dksJ3_inflate_1 1 rfl rfl)
theorem dJ3_inflate_28 : decode cJ3_inflate 28 = .ok (.invokestatic 125, 3) := dk_184 0 125 (dk_at dksJ3_inflate_1 4 rfl rfl)
theorem dJ3_inflate_31 : decode cJ3_inflate 31 = .ok (.aload_n 0, 1) := dk_42 (dk_at dksJ3_inflate_1 7 rfl rfl)
theorem dJ3_inflate_32 : decode cJ3_inflate 32 = .ok (.aload_n 1, 1) := dk_43 (dk_at dksJ3_inflate_1 8 rfl rfl)
theorem dJ3_inflate_33 : decode cJ3_inflate 33 = .ok (.putfield 15, 3) := dk_181 0 15 (dk_at dksJ3_inflate_1 9 rfl rfl)
theorem dJ3_inflate_36 : decode cJ3_inflate 36 = .ok (.aload_n 0, 1) := dk_42 (dk_at dksJ3_inflate_1 12 rfl rfl)
theorem dJ3_inflate_37 : decode cJ3_inflate 37 = .ok (.iconst 1, 1) := dk_4 (dk_at dksJ3_inflate_1 13 rfl rfl)
theorem dJ3_inflate_38 : decode cJ3_inflate 38 = .ok (.putfield 22, 3) := dk_181 0 22 (dk_at dksJ3_inflate_1 14 rfl rfl)
theorem dJ3_inflate_41 : decode cJ3_inflate 41 = .ok (.return_, 1) := dk_177 (dk_at dksJ3_inflate_1 17 rfl rfl)
abbrev cJ3_getValue : ByteArray := prog_12_method_64_code
def yJ3_getValue : MethodName := ⟨RJ3, "getValue", "()[B"⟩
theorem dJ3_getValue_0 : decode cJ3_getValue 0 = .ok (.aload_n 0, 1) := by decide +kernel
theorem dJ3_getValue_1 : decode cJ3_getValue 1 = .ok (.getfield 15, 3) := by decide +kernel
theorem dJ3_getValue_4 : decode cJ3_getValue 4 = .ok (.areturn, 1) := by decide +kernel
abbrev cJ3_length : ByteArray := prog_12_method_6_code
def yJ3_length : MethodName := ⟨RJ3, "length", "()I"⟩
theorem dJ3_length_0 : decode cJ3_length 0 = .ok (.aload_n 0, 1) := by decide +kernel
theorem dJ3_length_1 : decode cJ3_length 1 = .ok (.getfield 79, 3) := by decide +kernel
theorem dJ3_length_4 : decode cJ3_length 4 = .ok (.ireturn, 1) := by decide +kernel
abbrev cJ4_init : ByteArray := prog_23_method_1_code
def yJ4_init : MethodName := ⟨RJ4, "<init>", "()V"⟩
def dkwJ4_init_0 : List UInt8 := [42, 16, 16, 183, 0, 1, 177]
abbrev dktJ4_init_0 : List UInt8 := dkwJ4_init_0 ++ []
theorem dksJ4_init_0 : cJ4_init.data.toList.drop 0 = dktJ4_init_0 := by decide +kernel
theorem dJ4_init_0 : decode cJ4_init 0 = .ok (.aload_n 0, 1) := dk_42 (dk_at dksJ4_init_0 0 rfl rfl)
theorem dJ4_init_1 : decode cJ4_init 1 = .ok (.bipush 16, 2) := dk_16 16 (dk_at dksJ4_init_0 1 rfl rfl)
theorem dJ4_init_3 : decode cJ4_init 3 = .ok (.invokespecial 1, 3) := dk_183 0 1 (dk_at dksJ4_init_0 3 rfl rfl)
theorem dJ4_init_6 : decode cJ4_init 6 = .ok (.return_, 1) := dk_177 (dk_at dksJ4_init_0 6 rfl rfl)
abbrev cJ4_append : ByteArray := prog_23_method_14_code
def yJ4_append : MethodName := ⟨RJ4, "append", "(C)Ljava/lang/StringBuilder;"⟩
def dkwJ4_append_0 : List UInt8 := [42, 27, 183, 0, 50, 87, 42, 176]
abbrev dktJ4_append_0 : List UInt8 := dkwJ4_append_0 ++ []
theorem dksJ4_append_0 : cJ4_append.data.toList.drop 0 = dktJ4_append_0 := by decide +kernel
theorem dJ4_append_0 : decode cJ4_append 0 = .ok (.aload_n 0, 1) := dk_42 (dk_at dksJ4_append_0 0 rfl rfl)
theorem dJ4_append_1 : decode cJ4_append 1 = .ok (.iload_n 1, 1) := dk_27 (dk_at dksJ4_append_0 1 rfl rfl)
theorem dJ4_append_2 : decode cJ4_append 2 = .ok (.invokespecial 50, 3) := dk_183 0 50 (dk_at dksJ4_append_0 2 rfl rfl)
theorem dJ4_append_5 : decode cJ4_append 5 = .ok (.pop, 1) := dk_87 (dk_at dksJ4_append_0 5 rfl rfl)
theorem dJ4_append_6 : decode cJ4_append 6 = .ok (.aload_n 0, 1) := dk_42 (dk_at dksJ4_append_0 6 rfl rfl)
theorem dJ4_append_7 : decode cJ4_append 7 = .ok (.areturn, 1) := dk_176 (dk_at dksJ4_append_0 7 rfl rfl)
abbrev cJ4_toString : ByteArray := prog_23_method_42_code
def yJ4_toString : MethodName := ⟨RJ4, "toString", "()Ljava/lang/String;"⟩
def dkwJ4_toString_0 : List UInt8 := [187, 0, 18, 89, 42, 183, 0, 137, 176]
abbrev dktJ4_toString_0 : List UInt8 := dkwJ4_toString_0 ++ []
theorem dksJ4_toString_0 : cJ4_toString.data.toList.drop 0 = dktJ4_toString_0 := by decide +kernel
theorem dJ4_toString_0 : decode cJ4_toString 0 = .ok (.new 18, 3) := dk_187 0 18 (dk_at dksJ4_toString_0 0 rfl rfl)
theorem dJ4_toString_3 : decode cJ4_toString 3 = .ok (.dup, 1) := dk_89 (dk_at dksJ4_toString_0 3 rfl rfl)
theorem dJ4_toString_4 : decode cJ4_toString 4 = .ok (.aload_n 0, 1) := dk_42 (dk_at dksJ4_toString_0 4 rfl rfl)
theorem dJ4_toString_5 : decode cJ4_toString 5 = .ok (.invokespecial 137, 3) := dk_183 0 137 (dk_at dksJ4_toString_0 5 rfl rfl)
theorem dJ4_toString_8 : decode cJ4_toString 8 = .ok (.areturn, 1) := dk_176 (dk_at dksJ4_toString_0 8 rfl rfl)
abbrev cJ4_length : ByteArray := prog_23_method_93_code
def yJ4_length : MethodName := ⟨RJ4, "length", "()I"⟩
theorem dJ4_length_0 : decode cJ4_length 0 = .ok (.aload_n 0, 1) := by decide +kernel
theorem dJ4_length_1 : decode cJ4_length 1 = .ok (.invokespecial 343, 3) := by decide +kernel
theorem dJ4_length_4 : decode cJ4_length 4 = .ok (.ireturn, 1) := by decide +kernel
abbrev cJ5_init : ByteArray := prog_22_method_53_code
def yJ5_init : MethodName := ⟨RJ5, "<init>", "(Ljava/lang/StringBuilder;)V"⟩
def dkwJ5_init_0 : List UInt8 := [42, 43, 1, 183, 1, 233, 177]
abbrev dktJ5_init_0 : List UInt8 := dkwJ5_init_0 ++ []
theorem dksJ5_init_0 : cJ5_init.data.toList.drop 0 = dktJ5_init_0 := by decide +kernel
theorem dJ5_init_0 : decode cJ5_init 0 = .ok (.aload_n 0, 1) := dk_42 (dk_at dksJ5_init_0 0 rfl rfl)
theorem dJ5_init_1 : decode cJ5_init 1 = .ok (.aload_n 1, 1) := dk_43 (dk_at dksJ5_init_0 1 rfl rfl)
theorem dJ5_init_2 : decode cJ5_init 2 = .ok (.aconst_null, 1) := dk_1 (dk_at dksJ5_init_0 2 rfl rfl)
theorem dJ5_init_3 : decode cJ5_init 3 = .ok (.invokespecial 489, 3) := dk_183 1 233 (dk_at dksJ5_init_0 3 rfl rfl)
theorem dJ5_init_6 : decode cJ5_init 6 = .ok (.return_, 1) := dk_177 (dk_at dksJ5_init_0 6 rfl rfl)
abbrev cJ5_init_2 : ByteArray := prog_22_method_150_code
def yJ5_init_2 : MethodName := ⟨RJ5, "<init>", "(Ljava/lang/AbstractStringBuilder;Ljava/lang/Void;)V"⟩
def dkwJ5_init_2_4 : List UInt8 := [181, 0, 9, 177]
abbrev dktJ5_init_2_4 : List UInt8 := dkwJ5_init_2_4 ++ []
def dkwJ5_init_2_3 : List UInt8 := [184, 0, 47, 181, 0, 15, 177, 42, 4, 181, 0, 15, 42, 45, 3, 21, 4, 4, 120, 184, 0, 54]
abbrev dktJ5_init_2_3 : List UInt8 := dkwJ5_init_2_3 ++ dktJ5_init_2_4
def dkwJ5_init_2_2 : List UInt8 := [180, 4, 24, 153, 0, 28, 42, 45, 3, 21, 4, 184, 4, 27, 181, 0, 9, 42, 42, 180, 0, 9, 21, 4]
abbrev dktJ5_init_2_2 : List UInt8 := dkwJ5_init_2_2 ++ dktJ5_init_2_3
def dkwJ5_init_2_1 : List UInt8 := [181, 0, 15, 42, 45, 3, 21, 4, 184, 0, 54, 181, 0, 9, 167, 0, 59, 178, 0, 38, 153, 0, 35, 43]
abbrev dktJ5_init_2_1 : List UInt8 := dkwJ5_init_2_1 ++ dktJ5_init_2_2
def dkwJ5_init_2_0 : List UInt8 := [42, 183, 0, 1, 43, 182, 2, 40, 78, 43, 182, 2, 37, 54, 4, 43, 182, 4, 23, 153, 0, 22, 42, 3]
abbrev dktJ5_init_2_0 : List UInt8 := dkwJ5_init_2_0 ++ dktJ5_init_2_1
theorem dksJ5_init_2_0 : cJ5_init_2.data.toList.drop 0 = dktJ5_init_2_0 := by decide +kernel
theorem dksJ5_init_2_1 : cJ5_init_2.data.toList.drop 24 = dktJ5_init_2_1 := dk_seg dksJ5_init_2_0 24 rfl rfl
theorem dksJ5_init_2_2 : cJ5_init_2.data.toList.drop 48 = dktJ5_init_2_2 := dk_seg dksJ5_init_2_1 24 rfl rfl
theorem dksJ5_init_2_3 : cJ5_init_2.data.toList.drop 72 = dktJ5_init_2_3 := dk_seg dksJ5_init_2_2 24 rfl rfl
theorem dksJ5_init_2_4 : cJ5_init_2.data.toList.drop 94 = dktJ5_init_2_4 := dk_seg dksJ5_init_2_3 22 rfl rfl
theorem dJ5_init_2_0 : decode cJ5_init_2 0 = .ok (.aload_n 0, 1) := dk_42 (dk_at dksJ5_init_2_0 0 rfl rfl)
theorem dJ5_init_2_1 : decode cJ5_init_2 1 = .ok (.invokespecial 1, 3) := dk_183 0 1 (dk_at dksJ5_init_2_0 1 rfl rfl)
theorem dJ5_init_2_4 : decode cJ5_init_2 4 = .ok (.aload_n 1, 1) := dk_43 (dk_at dksJ5_init_2_0 4 rfl rfl)
theorem dJ5_init_2_5 : decode cJ5_init_2 5 = .ok (.invokevirtual 552, 3) := dk_182 2 40 (dk_at dksJ5_init_2_0 5 rfl rfl)
theorem dJ5_init_2_8 : decode cJ5_init_2 8 = .ok (.astore_n 3, 1) := dk_78 (dk_at dksJ5_init_2_0 8 rfl rfl)
theorem dJ5_init_2_9 : decode cJ5_init_2 9 = .ok (.aload_n 1, 1) := dk_43 (dk_at dksJ5_init_2_0 9 rfl rfl)
theorem dJ5_init_2_10 : decode cJ5_init_2 10 = .ok (.invokevirtual 549, 3) := dk_182 2 37 (dk_at dksJ5_init_2_0 10 rfl rfl)
theorem dJ5_init_2_13 : decode cJ5_init_2 13 = .ok (.istore 4, 2) := dk_54 4 (dk_at dksJ5_init_2_0 13 rfl rfl)
theorem dJ5_init_2_15 : decode cJ5_init_2 15 = .ok (.aload_n 1, 1) := dk_43 (dk_at dksJ5_init_2_0 15 rfl rfl)
theorem dJ5_init_2_16 : decode cJ5_init_2 16 = .ok (.invokevirtual 1047, 3) := dk_182 4 23 (dk_at dksJ5_init_2_0 16 rfl rfl)
theorem dJ5_init_2_19 : decode cJ5_init_2 19 = .ok (.ifCond .eq 22, 3) := dk_153 0 22 (dk_at dksJ5_init_2_0 19 rfl rfl)
theorem dJ5_init_2_22 : decode cJ5_init_2 22 = .ok (.aload_n 0, 1) := dk_42 (dk_at dksJ5_init_2_0 22 rfl rfl)
theorem dJ5_init_2_23 : decode cJ5_init_2 23 = .ok (.iconst 0, 1) := dk_3 (dk_at dksJ5_init_2_0 23 rfl rfl)
theorem dJ5_init_2_24 : decode cJ5_init_2 24 = .ok (.putfield 15, 3) := dk_181 0 15 (dk_at dksJ5_init_2_1 0 rfl rfl)
theorem dJ5_init_2_27 : decode cJ5_init_2 27 = .ok (.aload_n 0, 1) := dk_42 (dk_at dksJ5_init_2_1 3 rfl rfl)
theorem dJ5_init_2_28 : decode cJ5_init_2 28 = .ok (.aload_n 3, 1) := dk_45 (dk_at dksJ5_init_2_1 4 rfl rfl)
theorem dJ5_init_2_29 : decode cJ5_init_2 29 = .ok (.iconst 0, 1) := dk_3 (dk_at dksJ5_init_2_1 5 rfl rfl)
theorem dJ5_init_2_30 : decode cJ5_init_2 30 = .ok (.iload 4, 2) := dk_21 4 (dk_at dksJ5_init_2_1 6 rfl rfl)
theorem dJ5_init_2_32 : decode cJ5_init_2 32 = .ok (.invokestatic 54, 3) := dk_184 0 54 (dk_at dksJ5_init_2_1 8 rfl rfl)
theorem dJ5_init_2_35 : decode cJ5_init_2 35 = .ok (.putfield 9, 3) := dk_181 0 9 (dk_at dksJ5_init_2_1 11 rfl rfl)
theorem dJ5_init_2_38 : decode cJ5_init_2 38 = .ok (.goto 59, 3) := dk_167 0 59 (dk_at dksJ5_init_2_1 14 rfl rfl)
theorem dJ5_init_2_41 : decode cJ5_init_2 41 = .ok (.getstatic 38, 3) := dk_178 0 38 (dk_at dksJ5_init_2_1 17 rfl rfl)
theorem dJ5_init_2_44 : decode cJ5_init_2 44 = .ok (.ifCond .eq 35, 3) := dk_153 0 35 (dk_at dksJ5_init_2_1 20 rfl rfl)
theorem dJ5_init_2_47 : decode cJ5_init_2 47 = .ok (.aload_n 1, 1) := dk_43 (dk_at dksJ5_init_2_1 23 rfl rfl)
theorem dJ5_init_2_48 : decode cJ5_init_2 48 = .ok (.getfield 1048, 3) := dk_180 4 24 (dk_at dksJ5_init_2_2 0 rfl rfl)
theorem dJ5_init_2_51 : decode cJ5_init_2 51 = .ok (.ifCond .eq 28, 3) := dk_153 0 28 (dk_at dksJ5_init_2_2 3 rfl rfl)
theorem dJ5_init_2_54 : decode cJ5_init_2 54 = .ok (.aload_n 0, 1) := dk_42 (dk_at dksJ5_init_2_2 6 rfl rfl)
theorem dJ5_init_2_55 : decode cJ5_init_2 55 = .ok (.aload_n 3, 1) := dk_45 (dk_at dksJ5_init_2_2 7 rfl rfl)
theorem dJ5_init_2_56 : decode cJ5_init_2 56 = .ok (.iconst 0, 1) := dk_3 (dk_at dksJ5_init_2_2 8 rfl rfl)
theorem dJ5_init_2_57 : decode cJ5_init_2 57 = .ok (.iload 4, 2) := dk_21 4 (dk_at dksJ5_init_2_2 9 rfl rfl)
theorem dJ5_init_2_59 : decode cJ5_init_2 59 = .ok (.invokestatic 1051, 3) := dk_184 4 27 (dk_at dksJ5_init_2_2 11 rfl rfl)
theorem dJ5_init_2_62 : decode cJ5_init_2 62 = .ok (.putfield 9, 3) := dk_181 0 9 (dk_at dksJ5_init_2_2 14 rfl rfl)
theorem dJ5_init_2_65 : decode cJ5_init_2 65 = .ok (.aload_n 0, 1) := dk_42 (dk_at dksJ5_init_2_2 17 rfl rfl)
theorem dJ5_init_2_66 : decode cJ5_init_2 66 = .ok (.aload_n 0, 1) := dk_42 (dk_at dksJ5_init_2_2 18 rfl rfl)
theorem dJ5_init_2_67 : decode cJ5_init_2 67 = .ok (.getfield 9, 3) := dk_180 0 9 (dk_at dksJ5_init_2_2 19 rfl rfl)
theorem dJ5_init_2_70 : decode cJ5_init_2 70 = .ok (.iload 4, 2) := dk_21 4 (dk_at dksJ5_init_2_2 22 rfl rfl)
theorem dJ5_init_2_72 : decode cJ5_init_2 72 = .ok (.invokestatic 47, 3) := dk_184 0 47 (dk_at dksJ5_init_2_3 0 rfl rfl)
theorem dJ5_init_2_75 : decode cJ5_init_2 75 = .ok (.putfield 15, 3) := dk_181 0 15 (dk_at dksJ5_init_2_3 3 rfl rfl)
theorem dJ5_init_2_78 : decode cJ5_init_2 78 = .ok (.return_, 1) := dk_177 (dk_at dksJ5_init_2_3 6 rfl rfl)
theorem dJ5_init_2_79 : decode cJ5_init_2 79 = .ok (.aload_n 0, 1) := dk_42 (dk_at dksJ5_init_2_3 7 rfl rfl)
theorem dJ5_init_2_80 : decode cJ5_init_2 80 = .ok (.iconst 1, 1) := dk_4 (dk_at dksJ5_init_2_3 8 rfl rfl)
theorem dJ5_init_2_81 : decode cJ5_init_2 81 = .ok (.putfield 15, 3) := dk_181 0 15 (dk_at dksJ5_init_2_3 9 rfl rfl)
theorem dJ5_init_2_84 : decode cJ5_init_2 84 = .ok (.aload_n 0, 1) := dk_42 (dk_at dksJ5_init_2_3 12 rfl rfl)
theorem dJ5_init_2_85 : decode cJ5_init_2 85 = .ok (.aload_n 3, 1) := dk_45 (dk_at dksJ5_init_2_3 13 rfl rfl)
theorem dJ5_init_2_86 : decode cJ5_init_2 86 = .ok (.iconst 0, 1) := dk_3 (dk_at dksJ5_init_2_3 14 rfl rfl)
theorem dJ5_init_2_87 : decode cJ5_init_2 87 = .ok (.iload 4, 2) := dk_21 4 (dk_at dksJ5_init_2_3 15 rfl rfl)
theorem dJ5_init_2_89 : decode cJ5_init_2 89 = .ok (.iconst 1, 1) := dk_4 (dk_at dksJ5_init_2_3 17 rfl rfl)
theorem dJ5_init_2_90 : decode cJ5_init_2 90 = .ok (.ishl, 1) := dk_120 (dk_at dksJ5_init_2_3 18 rfl rfl)
theorem dJ5_init_2_91 : decode cJ5_init_2 91 = .ok (.invokestatic 54, 3) := dk_184 0 54 (dk_at dksJ5_init_2_3 19 rfl rfl)
theorem dJ5_init_2_94 : decode cJ5_init_2 94 = .ok (.putfield 9, 3) := dk_181 0 9 (dk_at dksJ5_init_2_4 0 rfl rfl)
theorem dJ5_init_2_97 : decode cJ5_init_2 97 = .ok (.return_, 1) := dk_177 (dk_at dksJ5_init_2_4 3 rfl rfl)
abbrev cJ5_equals : ByteArray := prog_22_method_66_code
def yJ5_equals : MethodName := ⟨RJ5, "equals", "(Ljava/lang/Object;)Z"⟩
def dkwJ5_equals_2 : List UInt8 := [184, 2, 29, 153, 0, 7, 4, 167, 0, 4, 3, 172]
abbrev dktJ5_equals_2 : List UInt8 := dkwJ5_equals_2 ++ []
def dkwJ5_equals_1 : List UInt8 := [153, 0, 14, 42, 180, 0, 15, 44, 180, 0, 15, 160, 0, 21, 42, 180, 0, 9, 44, 180, 0, 9]
abbrev dktJ5_equals_1 : List UInt8 := dkwJ5_equals_1 ++ dktJ5_equals_2
def dkwJ5_equals_0 : List UInt8 := [42, 43, 166, 0, 5, 4, 172, 43, 193, 0, 10, 153, 0, 43, 43, 192, 0, 10, 77, 178, 0, 38]
abbrev dktJ5_equals_0 : List UInt8 := dkwJ5_equals_0 ++ dktJ5_equals_1
theorem dksJ5_equals_0 : cJ5_equals.data.toList.drop 0 = dktJ5_equals_0 := by decide +kernel
theorem dksJ5_equals_1 : cJ5_equals.data.toList.drop 22 = dktJ5_equals_1 := dk_seg dksJ5_equals_0 22 rfl rfl
theorem dksJ5_equals_2 : cJ5_equals.data.toList.drop 44 = dktJ5_equals_2 := dk_seg dksJ5_equals_1 22 rfl rfl
theorem dJ5_equals_0 : decode cJ5_equals 0 = .ok (.aload_n 0, 1) := dk_42 (dk_at dksJ5_equals_0 0 rfl rfl)
theorem dJ5_equals_1 : decode cJ5_equals 1 = .ok (.aload_n 1, 1) := dk_43 (dk_at dksJ5_equals_0 1 rfl rfl)
theorem dJ5_equals_2 : decode cJ5_equals 2 = .ok (.if_acmp .ne 5, 3) := dk_166 0 5 (dk_at dksJ5_equals_0 2 rfl rfl)
theorem dJ5_equals_5 : decode cJ5_equals 5 = .ok (.iconst 1, 1) := dk_4 (dk_at dksJ5_equals_0 5 rfl rfl)
theorem dJ5_equals_6 : decode cJ5_equals 6 = .ok (.ireturn, 1) := dk_172 (dk_at dksJ5_equals_0 6 rfl rfl)
theorem dJ5_equals_7 : decode cJ5_equals 7 = .ok (.aload_n 1, 1) := dk_43 (dk_at dksJ5_equals_0 7 rfl rfl)
theorem dJ5_equals_8 : decode cJ5_equals 8 = .ok (.instanceof 10, 3) := dk_193 0 10 (dk_at dksJ5_equals_0 8 rfl rfl)
theorem dJ5_equals_11 : decode cJ5_equals 11 = .ok (.ifCond .eq 43, 3) := dk_153 0 43 (dk_at dksJ5_equals_0 11 rfl rfl)
theorem dJ5_equals_14 : decode cJ5_equals 14 = .ok (.aload_n 1, 1) := dk_43 (dk_at dksJ5_equals_0 14 rfl rfl)
theorem dJ5_equals_15 : decode cJ5_equals 15 = .ok (.checkcast 10, 3) := dk_192 0 10 (dk_at dksJ5_equals_0 15 rfl rfl)
theorem dJ5_equals_18 : decode cJ5_equals 18 = .ok (.astore_n 2, 1) := dk_77 (dk_at dksJ5_equals_0 18 rfl rfl)
theorem dJ5_equals_19 : decode cJ5_equals 19 = .ok (.getstatic 38, 3) := dk_178 0 38 (dk_at dksJ5_equals_0 19 rfl rfl)
theorem dJ5_equals_22 : decode cJ5_equals 22 = .ok (.ifCond .eq 14, 3) := dk_153 0 14 (dk_at dksJ5_equals_1 0 rfl rfl)
theorem dJ5_equals_25 : decode cJ5_equals 25 = .ok (.aload_n 0, 1) := dk_42 (dk_at dksJ5_equals_1 3 rfl rfl)
theorem dJ5_equals_26 : decode cJ5_equals 26 = .ok (.getfield 15, 3) := dk_180 0 15 (dk_at dksJ5_equals_1 4 rfl rfl)
theorem dJ5_equals_29 : decode cJ5_equals 29 = .ok (.aload_n 2, 1) := dk_44 (dk_at dksJ5_equals_1 7 rfl rfl)
theorem dJ5_equals_30 : decode cJ5_equals 30 = .ok (.getfield 15, 3) := dk_180 0 15 (dk_at dksJ5_equals_1 8 rfl rfl)
theorem dJ5_equals_33 : decode cJ5_equals 33 = .ok (.if_icmp .ne 21, 3) := dk_160 0 21 (dk_at dksJ5_equals_1 11 rfl rfl)
theorem dJ5_equals_36 : decode cJ5_equals 36 = .ok (.aload_n 0, 1) := dk_42 (dk_at dksJ5_equals_1 14 rfl rfl)
theorem dJ5_equals_37 : decode cJ5_equals 37 = .ok (.getfield 9, 3) := dk_180 0 9 (dk_at dksJ5_equals_1 15 rfl rfl)
theorem dJ5_equals_40 : decode cJ5_equals 40 = .ok (.aload_n 2, 1) := dk_44 (dk_at dksJ5_equals_1 18 rfl rfl)
theorem dJ5_equals_41 : decode cJ5_equals 41 = .ok (.getfield 9, 3) := dk_180 0 9 (dk_at dksJ5_equals_1 19 rfl rfl)
theorem dJ5_equals_44 : decode cJ5_equals 44 = .ok (.invokestatic 541, 3) := dk_184 2 29 (dk_at dksJ5_equals_2 0 rfl rfl)
theorem dJ5_equals_47 : decode cJ5_equals 47 = .ok (.ifCond .eq 7, 3) := dk_153 0 7 (dk_at dksJ5_equals_2 3 rfl rfl)
theorem dJ5_equals_50 : decode cJ5_equals 50 = .ok (.iconst 1, 1) := dk_4 (dk_at dksJ5_equals_2 6 rfl rfl)
theorem dJ5_equals_51 : decode cJ5_equals 51 = .ok (.goto 4, 3) := dk_167 0 4 (dk_at dksJ5_equals_2 7 rfl rfl)
theorem dJ5_equals_54 : decode cJ5_equals 54 = .ok (.iconst 0, 1) := dk_3 (dk_at dksJ5_equals_2 10 rfl rfl)
theorem dJ5_equals_55 : decode cJ5_equals 55 = .ok (.ireturn, 1) := dk_172 (dk_at dksJ5_equals_2 11 rfl rfl)
abbrev cJ5_length : ByteArray := prog_22_method_54_code
def yJ5_length : MethodName := ⟨RJ5, "length", "()I"⟩
def dkwJ5_length_0 : List UInt8 := [42, 180, 0, 9, 190, 42, 182, 1, 79, 122, 172]
abbrev dktJ5_length_0 : List UInt8 := dkwJ5_length_0 ++ []
theorem dksJ5_length_0 : cJ5_length.data.toList.drop 0 = dktJ5_length_0 := by decide +kernel
theorem dJ5_length_0 : decode cJ5_length 0 = .ok (.aload_n 0, 1) := dk_42 (dk_at dksJ5_length_0 0 rfl rfl)
theorem dJ5_length_1 : decode cJ5_length 1 = .ok (.getfield 9, 3) := dk_180 0 9 (dk_at dksJ5_length_0 1 rfl rfl)
theorem dJ5_length_4 : decode cJ5_length 4 = .ok (.arraylength, 1) := dk_190 (dk_at dksJ5_length_0 4 rfl rfl)
theorem dJ5_length_5 : decode cJ5_length 5 = .ok (.aload_n 0, 1) := dk_42 (dk_at dksJ5_length_0 5 rfl rfl)
theorem dJ5_length_6 : decode cJ5_length 6 = .ok (.invokevirtual 335, 3) := dk_182 1 79 (dk_at dksJ5_length_0 6 rfl rfl)
theorem dJ5_length_9 : decode cJ5_length 9 = .ok (.ishr, 1) := dk_122 (dk_at dksJ5_length_0 9 rfl rfl)
theorem dJ5_length_10 : decode cJ5_length 10 = .ok (.ireturn, 1) := dk_172 (dk_at dksJ5_length_0 10 rfl rfl)
abbrev cJ5_coder : ByteArray := prog_22_method_152_code
def yJ5_coder : MethodName := ⟨RJ5, "coder", "()B"⟩
def dkwJ5_coder_0 : List UInt8 := [178, 0, 38, 153, 0, 10, 42, 180, 0, 15, 167, 0, 4, 4, 172]
abbrev dktJ5_coder_0 : List UInt8 := dkwJ5_coder_0 ++ []
theorem dksJ5_coder_0 : cJ5_coder.data.toList.drop 0 = dktJ5_coder_0 := by decide +kernel
theorem dJ5_coder_0 : decode cJ5_coder 0 = .ok (.getstatic 38, 3) := dk_178 0 38 (dk_at dksJ5_coder_0 0 rfl rfl)
theorem dJ5_coder_3 : decode cJ5_coder 3 = .ok (.ifCond .eq 10, 3) := dk_153 0 10 (dk_at dksJ5_coder_0 3 rfl rfl)
theorem dJ5_coder_6 : decode cJ5_coder 6 = .ok (.aload_n 0, 1) := dk_42 (dk_at dksJ5_coder_0 6 rfl rfl)
theorem dJ5_coder_7 : decode cJ5_coder 7 = .ok (.getfield 15, 3) := dk_180 0 15 (dk_at dksJ5_coder_0 7 rfl rfl)
theorem dJ5_coder_10 : decode cJ5_coder 10 = .ok (.goto 4, 3) := dk_167 0 4 (dk_at dksJ5_coder_0 10 rfl rfl)
theorem dJ5_coder_13 : decode cJ5_coder 13 = .ok (.iconst 1, 1) := dk_4 (dk_at dksJ5_coder_0 13 rfl rfl)
theorem dJ5_coder_14 : decode cJ5_coder 14 = .ok (.ireturn, 1) := dk_172 (dk_at dksJ5_coder_0 14 rfl rfl)
def RJ6 : String := "java/lang/StringUTF16"
abbrev cJ6_newBytesFor : ByteArray := prog_25_method_2_code
def yJ6_newBytesFor : MethodName := ⟨RJ6, "newBytesFor", "(I)[B"⟩
def dkwJ6_newBytesFor_0 : List UInt8 := [26, 184, 0, 11, 188, 8, 176]
abbrev dktJ6_newBytesFor_0 : List UInt8 := dkwJ6_newBytesFor_0 ++ []
theorem dksJ6_newBytesFor_0 : cJ6_newBytesFor.data.toList.drop 0 = dktJ6_newBytesFor_0 := by decide +kernel
theorem dJ6_newBytesFor_0 : decode cJ6_newBytesFor 0 = .ok (.iload_n 0, 1) := dk_26 (dk_at dksJ6_newBytesFor_0 0 rfl rfl)
theorem dJ6_newBytesFor_1 : decode cJ6_newBytesFor 1 = .ok (.invokestatic 11, 3) := dk_184 0 11 (dk_at dksJ6_newBytesFor_0 1 rfl rfl)
theorem dJ6_newBytesFor_4 : decode cJ6_newBytesFor 4 = .ok (.newarray .byte, 2) := dk_188_8 (dk_at dksJ6_newBytesFor_0 4 rfl rfl)
theorem dJ6_newBytesFor_6 : decode cJ6_newBytesFor 6 = .ok (.areturn, 1) := dk_176 (dk_at dksJ6_newBytesFor_0 6 rfl rfl)
abbrev cJ6_newBytesLength : ByteArray := prog_25_method_3_code
def yJ6_newBytesLength : MethodName := ⟨RJ6, "newBytesLength", "(I)I"⟩
def dkwJ6_newBytesLength_2 : List UInt8 := [182, 0, 32, 182, 0, 37, 183, 0, 41, 191, 26, 4, 120, 172]
abbrev dktJ6_newBytesLength_2 : List UInt8 := dkwJ6_newBytesLength_2 ++ []
def dkwJ6_newBytesLength_1 : List UInt8 := [187, 0, 23, 89, 183, 0, 25, 18, 26, 182, 0, 28, 26, 182, 0, 32, 18, 35, 182, 0, 28, 18, 20]
abbrev dktJ6_newBytesLength_1 : List UInt8 := dkwJ6_newBytesLength_1 ++ dktJ6_newBytesLength_2
def dkwJ6_newBytesLength_0 : List UInt8 := [26, 156, 0, 11, 187, 0, 17, 89, 183, 0, 19, 191, 26, 18, 20, 161, 0, 40, 187, 0, 21, 89]
abbrev dktJ6_newBytesLength_0 : List UInt8 := dkwJ6_newBytesLength_0 ++ dktJ6_newBytesLength_1
theorem dksJ6_newBytesLength_0 : cJ6_newBytesLength.data.toList.drop 0 = dktJ6_newBytesLength_0 := by decide +kernel
theorem dksJ6_newBytesLength_1 : cJ6_newBytesLength.data.toList.drop 22 = dktJ6_newBytesLength_1 := dk_seg dksJ6_newBytesLength_0 22 rfl rfl
theorem dksJ6_newBytesLength_2 : cJ6_newBytesLength.data.toList.drop 45 = dktJ6_newBytesLength_2 := dk_seg dksJ6_newBytesLength_1 23 rfl rfl
theorem dJ6_newBytesLength_0 : decode cJ6_newBytesLength 0 = .ok (.iload_n 0, 1) := dk_26 (dk_at dksJ6_newBytesLength_0 0 rfl rfl)
theorem dJ6_newBytesLength_1 : decode cJ6_newBytesLength 1 = .ok (.ifCond .ge 11, 3) := dk_156 0 11 (dk_at dksJ6_newBytesLength_0 1 rfl rfl)
theorem dJ6_newBytesLength_4 : decode cJ6_newBytesLength 4 = .ok (.new 17, 3) := dk_187 0 17 (dk_at dksJ6_newBytesLength_0 4 rfl rfl)
theorem dJ6_newBytesLength_7 : decode cJ6_newBytesLength 7 = .ok (.dup, 1) := dk_89 (dk_at dksJ6_newBytesLength_0 7 rfl rfl)
theorem dJ6_newBytesLength_8 : decode cJ6_newBytesLength 8 = .ok (.invokespecial 19, 3) := dk_183 0 19 (dk_at dksJ6_newBytesLength_0 8 rfl rfl)
theorem dJ6_newBytesLength_11 : decode cJ6_newBytesLength 11 = .ok (.athrow, 1) := dk_191 (dk_at dksJ6_newBytesLength_0 11 rfl rfl)
theorem dJ6_newBytesLength_12 : decode cJ6_newBytesLength 12 = .ok (.iload_n 0, 1) := dk_26 (dk_at dksJ6_newBytesLength_0 12 rfl rfl)
theorem dJ6_newBytesLength_13 : decode cJ6_newBytesLength 13 = .ok (.ldc 20, 2) := dk_18 20 (dk_at dksJ6_newBytesLength_0 13 rfl rfl)
theorem dJ6_newBytesLength_15 : decode cJ6_newBytesLength 15 = .ok (.if_icmp .lt 40, 3) := dk_161 0 40 (dk_at dksJ6_newBytesLength_0 15 rfl rfl)
theorem dJ6_newBytesLength_18 : decode cJ6_newBytesLength 18 = .ok (.new 21, 3) := dk_187 0 21 (dk_at dksJ6_newBytesLength_0 18 rfl rfl)
theorem dJ6_newBytesLength_21 : decode cJ6_newBytesLength 21 = .ok (.dup, 1) := dk_89 (dk_at dksJ6_newBytesLength_0 21 rfl rfl)
theorem dJ6_newBytesLength_22 : decode cJ6_newBytesLength 22 = .ok (.new 23, 3) := dk_187 0 23 (dk_at dksJ6_newBytesLength_1 0 rfl rfl)
theorem dJ6_newBytesLength_25 : decode cJ6_newBytesLength 25 = .ok (.dup, 1) := dk_89 (dk_at dksJ6_newBytesLength_1 3 rfl rfl)
theorem dJ6_newBytesLength_26 : decode cJ6_newBytesLength 26 = .ok (.invokespecial 25, 3) := dk_183 0 25 (dk_at dksJ6_newBytesLength_1 4 rfl rfl)
theorem dJ6_newBytesLength_29 : decode cJ6_newBytesLength 29 = .ok (.ldc 26, 2) := dk_18 26 (dk_at dksJ6_newBytesLength_1 7 rfl rfl)
theorem dJ6_newBytesLength_31 : decode cJ6_newBytesLength 31 = .ok (.invokevirtual 28, 3) := dk_182 0 28 (dk_at dksJ6_newBytesLength_1 9 rfl rfl)
theorem dJ6_newBytesLength_34 : decode cJ6_newBytesLength 34 = .ok (.iload_n 0, 1) := dk_26 (dk_at dksJ6_newBytesLength_1 12 rfl rfl)
theorem dJ6_newBytesLength_35 : decode cJ6_newBytesLength 35 = .ok (.invokevirtual 32, 3) := dk_182 0 32 (dk_at dksJ6_newBytesLength_1 13 rfl rfl)
theorem dJ6_newBytesLength_38 : decode cJ6_newBytesLength 38 = .ok (.ldc 35, 2) := dk_18 35 (dk_at dksJ6_newBytesLength_1 16 rfl rfl)
theorem dJ6_newBytesLength_40 : decode cJ6_newBytesLength 40 = .ok (.invokevirtual 28, 3) := dk_182 0 28 (dk_at dksJ6_newBytesLength_1 18 rfl rfl)
theorem dJ6_newBytesLength_43 : decode cJ6_newBytesLength 43 = .ok (.ldc 20, 2) := dk_18 20 (dk_at dksJ6_newBytesLength_1 21 rfl rfl)
theorem dJ6_newBytesLength_45 : decode cJ6_newBytesLength 45 = .ok (.invokevirtual 32, 3) := dk_182 0 32 (dk_at dksJ6_newBytesLength_2 0 rfl rfl)
theorem dJ6_newBytesLength_48 : decode cJ6_newBytesLength 48 = .ok (.invokevirtual 37, 3) := dk_182 0 37 (dk_at dksJ6_newBytesLength_2 3 rfl rfl)
theorem dJ6_newBytesLength_51 : decode cJ6_newBytesLength 51 = .ok (.invokespecial 41, 3) := dk_183 0 41 (dk_at dksJ6_newBytesLength_2 6 rfl rfl)
theorem dJ6_newBytesLength_54 : decode cJ6_newBytesLength 54 = .ok (.athrow, 1) := dk_191 (dk_at dksJ6_newBytesLength_2 9 rfl rfl)
theorem dJ6_newBytesLength_55 : decode cJ6_newBytesLength 55 = .ok (.iload_n 0, 1) := dk_26 (dk_at dksJ6_newBytesLength_2 10 rfl rfl)
theorem dJ6_newBytesLength_56 : decode cJ6_newBytesLength 56 = .ok (.iconst 1, 1) := dk_4 (dk_at dksJ6_newBytesLength_2 11 rfl rfl)
theorem dJ6_newBytesLength_57 : decode cJ6_newBytesLength 57 = .ok (.ishl, 1) := dk_120 (dk_at dksJ6_newBytesLength_2 12 rfl rfl)
theorem dJ6_newBytesLength_58 : decode cJ6_newBytesLength 58 = .ok (.ireturn, 1) := dk_172 (dk_at dksJ6_newBytesLength_2 13 rfl rfl)
abbrev cJ6_length : ByteArray := prog_25_method_6_code
def yJ6_length : MethodName := ⟨RJ6, "length", "([B)I"⟩
def dkwJ6_length_0 : List UInt8 := [42, 190, 4, 122, 172]
abbrev dktJ6_length_0 : List UInt8 := dkwJ6_length_0 ++ []
theorem dksJ6_length_0 : cJ6_length.data.toList.drop 0 = dktJ6_length_0 := by decide +kernel
theorem dJ6_length_0 : decode cJ6_length 0 = .ok (.aload_n 0, 1) := dk_42 (dk_at dksJ6_length_0 0 rfl rfl)
theorem dJ6_length_1 : decode cJ6_length 1 = .ok (.arraylength, 1) := dk_190 (dk_at dksJ6_length_0 1 rfl rfl)
theorem dJ6_length_2 : decode cJ6_length 2 = .ok (.iconst 1, 1) := dk_4 (dk_at dksJ6_length_0 2 rfl rfl)
theorem dJ6_length_3 : decode cJ6_length 3 = .ok (.ishr, 1) := dk_122 (dk_at dksJ6_length_0 3 rfl rfl)
theorem dJ6_length_4 : decode cJ6_length 4 = .ok (.ireturn, 1) := dk_172 (dk_at dksJ6_length_0 4 rfl rfl)
def RJ7 : String := "jdk/internal/util/ArraysSupport"
abbrev cJ7_newLength : ByteArray := prog_41_method_27_code
def yJ7_newLength : MethodName := ⟨RJ7, "newLength", "(III)I"⟩
def dkwJ7_newLength_1 : List UInt8 := [184, 0, 201, 172]
abbrev dktJ7_newLength_1 : List UInt8 := dkwJ7_newLength_1 ++ []
def dkwJ7_newLength_0 : List UInt8 := [26, 27, 28, 184, 0, 194, 96, 62, 3, 29, 162, 0, 11, 29, 18, 200, 163, 0, 5, 29, 172, 26, 27]
abbrev dktJ7_newLength_0 : List UInt8 := dkwJ7_newLength_0 ++ dktJ7_newLength_1
theorem dksJ7_newLength_0 : cJ7_newLength.data.toList.drop 0 = dktJ7_newLength_0 := by decide +kernel
theorem dksJ7_newLength_1 : cJ7_newLength.data.toList.drop 23 = dktJ7_newLength_1 := dk_seg dksJ7_newLength_0 23 rfl rfl
theorem dJ7_newLength_0 : decode cJ7_newLength 0 = .ok (.iload_n 0, 1) := dk_26 (dk_at dksJ7_newLength_0 0 rfl rfl)
theorem dJ7_newLength_1 : decode cJ7_newLength 1 = .ok (.iload_n 1, 1) := dk_27 (dk_at dksJ7_newLength_0 1 rfl rfl)
theorem dJ7_newLength_2 : decode cJ7_newLength 2 = .ok (.iload_n 2, 1) := dk_28 (dk_at dksJ7_newLength_0 2 rfl rfl)
theorem dJ7_newLength_3 : decode cJ7_newLength 3 = .ok (.invokestatic 194, 3) := dk_184 0 194 (dk_at dksJ7_newLength_0 3 rfl rfl)
theorem dJ7_newLength_6 : decode cJ7_newLength 6 = .ok (.iadd, 1) := dk_96 (dk_at dksJ7_newLength_0 6 rfl rfl)
theorem dJ7_newLength_7 : decode cJ7_newLength 7 = .ok (.istore_n 3, 1) := dk_62 (dk_at dksJ7_newLength_0 7 rfl rfl)
theorem dJ7_newLength_8 : decode cJ7_newLength 8 = .ok (.iconst 0, 1) := dk_3 (dk_at dksJ7_newLength_0 8 rfl rfl)
theorem dJ7_newLength_9 : decode cJ7_newLength 9 = .ok (.iload_n 3, 1) := dk_29 (dk_at dksJ7_newLength_0 9 rfl rfl)
theorem dJ7_newLength_10 : decode cJ7_newLength 10 = .ok (.if_icmp .ge 11, 3) := dk_162 0 11 (dk_at dksJ7_newLength_0 10 rfl rfl)
theorem dJ7_newLength_13 : decode cJ7_newLength 13 = .ok (.iload_n 3, 1) := dk_29 (dk_at dksJ7_newLength_0 13 rfl rfl)
theorem dJ7_newLength_14 : decode cJ7_newLength 14 = .ok (.ldc 200, 2) := dk_18 200 (dk_at dksJ7_newLength_0 14 rfl rfl)
theorem dJ7_newLength_16 : decode cJ7_newLength 16 = .ok (.if_icmp .gt 5, 3) := dk_163 0 5 (dk_at dksJ7_newLength_0 16 rfl rfl)
theorem dJ7_newLength_19 : decode cJ7_newLength 19 = .ok (.iload_n 3, 1) := dk_29 (dk_at dksJ7_newLength_0 19 rfl rfl)
theorem dJ7_newLength_20 : decode cJ7_newLength 20 = .ok (.ireturn, 1) := dk_172 (dk_at dksJ7_newLength_0 20 rfl rfl)
theorem dJ7_newLength_21 : decode cJ7_newLength 21 = .ok (.iload_n 0, 1) := dk_26 (dk_at dksJ7_newLength_0 21 rfl rfl)
theorem dJ7_newLength_22 : decode cJ7_newLength 22 = .ok (.iload_n 1, 1) := dk_27 (dk_at dksJ7_newLength_0 22 rfl rfl)
theorem dJ7_newLength_23 : decode cJ7_newLength 23 = .ok (.invokestatic 201, 3) := dk_184 0 201 (dk_at dksJ7_newLength_1 0 rfl rfl)
theorem dJ7_newLength_26 : decode cJ7_newLength 26 = .ok (.ireturn, 1) := dk_172 (dk_at dksJ7_newLength_1 3 rfl rfl)
abbrev cJ7_hugeLength : ByteArray := prog_41_method_28_code
def yJ7_hugeLength : MethodName := ⟨RJ7, "hugeLength", "(II)I"⟩
def dkwJ7_hugeLength_2 : List UInt8 := [191, 28, 18, 200, 163, 0, 6, 18, 200, 172, 28, 172]
abbrev dktJ7_hugeLength_2 : List UInt8 := dkwJ7_hugeLength_2 ++ []
def dkwJ7_hugeLength_1 : List UInt8 := [26, 182, 0, 98, 18, 208, 182, 0, 94, 27, 182, 0, 98, 18, 210, 182, 0, 94, 182, 0, 101, 183, 0, 212]
abbrev dktJ7_hugeLength_1 : List UInt8 := dkwJ7_hugeLength_1 ++ dktJ7_hugeLength_2
def dkwJ7_hugeLength_0 : List UInt8 := [26, 27, 96, 61, 28, 156, 0, 44, 187, 0, 204, 89, 187, 0, 89, 89, 183, 0, 91, 18, 206, 182, 0, 94]
abbrev dktJ7_hugeLength_0 : List UInt8 := dkwJ7_hugeLength_0 ++ dktJ7_hugeLength_1
theorem dksJ7_hugeLength_0 : cJ7_hugeLength.data.toList.drop 0 = dktJ7_hugeLength_0 := by decide +kernel
theorem dksJ7_hugeLength_1 : cJ7_hugeLength.data.toList.drop 24 = dktJ7_hugeLength_1 := dk_seg dksJ7_hugeLength_0 24 rfl rfl
theorem dksJ7_hugeLength_2 : cJ7_hugeLength.data.toList.drop 48 = dktJ7_hugeLength_2 := dk_seg dksJ7_hugeLength_1 24 rfl rfl
theorem dJ7_hugeLength_0 : decode cJ7_hugeLength 0 = .ok (.iload_n 0, 1) := dk_26 (dk_at dksJ7_hugeLength_0 0 rfl rfl)
theorem dJ7_hugeLength_1 : decode cJ7_hugeLength 1 = .ok (.iload_n 1, 1) := dk_27 (dk_at dksJ7_hugeLength_0 1 rfl rfl)
theorem dJ7_hugeLength_2 : decode cJ7_hugeLength 2 = .ok (.iadd, 1) := dk_96 (dk_at dksJ7_hugeLength_0 2 rfl rfl)
theorem dJ7_hugeLength_3 : decode cJ7_hugeLength 3 = .ok (.istore_n 2, 1) := dk_61 (dk_at dksJ7_hugeLength_0 3 rfl rfl)
theorem dJ7_hugeLength_4 : decode cJ7_hugeLength 4 = .ok (.iload_n 2, 1) := dk_28 (dk_at dksJ7_hugeLength_0 4 rfl rfl)
theorem dJ7_hugeLength_5 : decode cJ7_hugeLength 5 = .ok (.ifCond .ge 44, 3) := dk_156 0 44 (dk_at dksJ7_hugeLength_0 5 rfl rfl)
theorem dJ7_hugeLength_8 : decode cJ7_hugeLength 8 = .ok (.new 204, 3) := dk_187 0 204 (dk_at dksJ7_hugeLength_0 8 rfl rfl)
theorem dJ7_hugeLength_11 : decode cJ7_hugeLength 11 = .ok (.dup, 1) := dk_89 (dk_at dksJ7_hugeLength_0 11 rfl rfl)
theorem dJ7_hugeLength_12 : decode cJ7_hugeLength 12 = .ok (.new 89, 3) := dk_187 0 89 (dk_at dksJ7_hugeLength_0 12 rfl rfl)
theorem dJ7_hugeLength_15 : decode cJ7_hugeLength 15 = .ok (.dup, 1) := dk_89 (dk_at dksJ7_hugeLength_0 15 rfl rfl)
theorem dJ7_hugeLength_16 : decode cJ7_hugeLength 16 = .ok (.invokespecial 91, 3) := dk_183 0 91 (dk_at dksJ7_hugeLength_0 16 rfl rfl)
theorem dJ7_hugeLength_19 : decode cJ7_hugeLength 19 = .ok (.ldc 206, 2) := dk_18 206 (dk_at dksJ7_hugeLength_0 19 rfl rfl)
theorem dJ7_hugeLength_21 : decode cJ7_hugeLength 21 = .ok (.invokevirtual 94, 3) := dk_182 0 94 (dk_at dksJ7_hugeLength_0 21 rfl rfl)
theorem dJ7_hugeLength_24 : decode cJ7_hugeLength 24 = .ok (.iload_n 0, 1) := dk_26 (dk_at dksJ7_hugeLength_1 0 rfl rfl)
theorem dJ7_hugeLength_25 : decode cJ7_hugeLength 25 = .ok (.invokevirtual 98, 3) := dk_182 0 98 (dk_at dksJ7_hugeLength_1 1 rfl rfl)
theorem dJ7_hugeLength_28 : decode cJ7_hugeLength 28 = .ok (.ldc 208, 2) := dk_18 208 (dk_at dksJ7_hugeLength_1 4 rfl rfl)
theorem dJ7_hugeLength_30 : decode cJ7_hugeLength 30 = .ok (.invokevirtual 94, 3) := dk_182 0 94 (dk_at dksJ7_hugeLength_1 6 rfl rfl)
theorem dJ7_hugeLength_33 : decode cJ7_hugeLength 33 = .ok (.iload_n 1, 1) := dk_27 (dk_at dksJ7_hugeLength_1 9 rfl rfl)
theorem dJ7_hugeLength_34 : decode cJ7_hugeLength 34 = .ok (.invokevirtual 98, 3) := dk_182 0 98 (dk_at dksJ7_hugeLength_1 10 rfl rfl)
theorem dJ7_hugeLength_37 : decode cJ7_hugeLength 37 = .ok (.ldc 210, 2) := dk_18 210 (dk_at dksJ7_hugeLength_1 13 rfl rfl)
theorem dJ7_hugeLength_39 : decode cJ7_hugeLength 39 = .ok (.invokevirtual 94, 3) := dk_182 0 94 (dk_at dksJ7_hugeLength_1 15 rfl rfl)
theorem dJ7_hugeLength_42 : decode cJ7_hugeLength 42 = .ok (.invokevirtual 101, 3) := dk_182 0 101 (dk_at dksJ7_hugeLength_1 18 rfl rfl)
theorem dJ7_hugeLength_45 : decode cJ7_hugeLength 45 = .ok (.invokespecial 212, 3) := dk_183 0 212 (dk_at dksJ7_hugeLength_1 21 rfl rfl)
theorem dJ7_hugeLength_48 : decode cJ7_hugeLength 48 = .ok (.athrow, 1) := dk_191 (dk_at dksJ7_hugeLength_2 0 rfl rfl)
theorem dJ7_hugeLength_49 : decode cJ7_hugeLength 49 = .ok (.iload_n 2, 1) := dk_28 (dk_at dksJ7_hugeLength_2 1 rfl rfl)
theorem dJ7_hugeLength_50 : decode cJ7_hugeLength 50 = .ok (.ldc 200, 2) := dk_18 200 (dk_at dksJ7_hugeLength_2 2 rfl rfl)
theorem dJ7_hugeLength_52 : decode cJ7_hugeLength 52 = .ok (.if_icmp .gt 6, 3) := dk_163 0 6 (dk_at dksJ7_hugeLength_2 4 rfl rfl)
theorem dJ7_hugeLength_55 : decode cJ7_hugeLength 55 = .ok (.ldc 200, 2) := dk_18 200 (dk_at dksJ7_hugeLength_2 7 rfl rfl)
theorem dJ7_hugeLength_57 : decode cJ7_hugeLength 57 = .ok (.ireturn, 1) := dk_172 (dk_at dksJ7_hugeLength_2 9 rfl rfl)
theorem dJ7_hugeLength_58 : decode cJ7_hugeLength 58 = .ok (.iload_n 2, 1) := dk_28 (dk_at dksJ7_hugeLength_2 10 rfl rfl)
theorem dJ7_hugeLength_59 : decode cJ7_hugeLength 59 = .ok (.ireturn, 1) := dk_172 (dk_at dksJ7_hugeLength_2 11 rfl rfl)
def RJ8 : String := "java/lang/Math"
abbrev cJ8_max : ByteArray := prog_20_method_65_code
def yJ8_max : MethodName := ⟨RJ8, "max", "(II)I"⟩
def dkwJ8_max_0 : List UInt8 := [26, 27, 161, 0, 7, 26, 167, 0, 4, 27, 172]
abbrev dktJ8_max_0 : List UInt8 := dkwJ8_max_0 ++ []
theorem dksJ8_max_0 : cJ8_max.data.toList.drop 0 = dktJ8_max_0 := by decide +kernel
theorem dJ8_max_0 : decode cJ8_max 0 = .ok (.iload_n 0, 1) := dk_26 (dk_at dksJ8_max_0 0 rfl rfl)
theorem dJ8_max_1 : decode cJ8_max 1 = .ok (.iload_n 1, 1) := dk_27 (dk_at dksJ8_max_0 1 rfl rfl)
theorem dJ8_max_2 : decode cJ8_max 2 = .ok (.if_icmp .lt 7, 3) := dk_161 0 7 (dk_at dksJ8_max_0 2 rfl rfl)
theorem dJ8_max_5 : decode cJ8_max 5 = .ok (.iload_n 0, 1) := dk_26 (dk_at dksJ8_max_0 5 rfl rfl)
theorem dJ8_max_6 : decode cJ8_max 6 = .ok (.goto 4, 3) := dk_167 0 4 (dk_at dksJ8_max_0 6 rfl rfl)
theorem dJ8_max_9 : decode cJ8_max 9 = .ok (.iload_n 1, 1) := dk_27 (dk_at dksJ8_max_0 9 rfl rfl)
theorem dJ8_max_10 : decode cJ8_max 10 = .ok (.ireturn, 1) := dk_172 (dk_at dksJ8_max_0 10 rfl rfl)
abbrev cJ8_min : ByteArray := prog_20_method_69_code
def yJ8_min : MethodName := ⟨RJ8, "min", "(II)I"⟩
def dkwJ8_min_0 : List UInt8 := [26, 27, 163, 0, 7, 26, 167, 0, 4, 27, 172]
abbrev dktJ8_min_0 : List UInt8 := dkwJ8_min_0 ++ []
theorem dksJ8_min_0 : cJ8_min.data.toList.drop 0 = dktJ8_min_0 := by decide +kernel
theorem dJ8_min_0 : decode cJ8_min 0 = .ok (.iload_n 0, 1) := dk_26 (dk_at dksJ8_min_0 0 rfl rfl)
theorem dJ8_min_1 : decode cJ8_min 1 = .ok (.iload_n 1, 1) := dk_27 (dk_at dksJ8_min_0 1 rfl rfl)
theorem dJ8_min_2 : decode cJ8_min 2 = .ok (.if_icmp .gt 7, 3) := dk_163 0 7 (dk_at dksJ8_min_0 2 rfl rfl)
theorem dJ8_min_5 : decode cJ8_min 5 = .ok (.iload_n 0, 1) := dk_26 (dk_at dksJ8_min_0 5 rfl rfl)
theorem dJ8_min_6 : decode cJ8_min 6 = .ok (.goto 4, 3) := dk_167 0 4 (dk_at dksJ8_min_0 6 rfl rfl)
theorem dJ8_min_9 : decode cJ8_min 9 = .ok (.iload_n 1, 1) := dk_27 (dk_at dksJ8_min_0 9 rfl rfl)
theorem dJ8_min_10 : decode cJ8_min 10 = .ok (.ireturn, 1) := dk_172 (dk_at dksJ8_min_0 10 rfl rfl)
abbrev cJ8_min_2 : ByteArray := prog_20_method_70_code
def yJ8_min_2 : MethodName := ⟨RJ8, "min", "(JJ)J"⟩
def dkwJ8_min_2_0 : List UInt8 := [30, 32, 148, 157, 0, 7, 30, 167, 0, 4, 32, 173]
abbrev dktJ8_min_2_0 : List UInt8 := dkwJ8_min_2_0 ++ []
theorem dksJ8_min_2_0 : cJ8_min_2.data.toList.drop 0 = dktJ8_min_2_0 := by decide +kernel
theorem dJ8_min_2_0 : decode cJ8_min_2 0 = .ok (.lload_n 0, 1) := dk_30 (dk_at dksJ8_min_2_0 0 rfl rfl)
theorem dJ8_min_2_1 : decode cJ8_min_2 1 = .ok (.lload_n 2, 1) := dk_32 (dk_at dksJ8_min_2_0 1 rfl rfl)
theorem dJ8_min_2_2 : decode cJ8_min_2 2 = .ok (.lcmp, 1) := dk_148 (dk_at dksJ8_min_2_0 2 rfl rfl)
theorem dJ8_min_2_3 : decode cJ8_min_2 3 = .ok (.ifCond .gt 7, 3) := dk_157 0 7 (dk_at dksJ8_min_2_0 3 rfl rfl)
theorem dJ8_min_2_6 : decode cJ8_min_2 6 = .ok (.lload_n 0, 1) := dk_30 (dk_at dksJ8_min_2_0 6 rfl rfl)
theorem dJ8_min_2_7 : decode cJ8_min_2 7 = .ok (.goto 4, 3) := dk_167 0 4 (dk_at dksJ8_min_2_0 7 rfl rfl)
theorem dJ8_min_2_10 : decode cJ8_min_2 10 = .ok (.lload_n 2, 1) := dk_32 (dk_at dksJ8_min_2_0 10 rfl rfl)
theorem dJ8_min_2_11 : decode cJ8_min_2 11 = .ok (.lreturn, 1) := dk_173 (dk_at dksJ8_min_2_0 11 rfl rfl)
abbrev cJ8_multiplyExact : ByteArray := prog_20_method_30_code
def yJ8_multiplyExact : MethodName := ⟨RJ8, "multiplyExact", "(JJ)J"⟩
def dkwJ8_multiplyExact_3 : List UInt8 := [191, 22, 4, 173]
abbrev dktJ8_multiplyExact_3 : List UInt8 := dkwJ8_multiplyExact_3 ++ []
def dkwJ8_multiplyExact_2 : List UInt8 := [20, 0, 128, 148, 154, 0, 21, 32, 20, 0, 130, 148, 154, 0, 13, 187, 0, 109, 89, 18, 116, 183, 0, 113]
abbrev dktJ8_multiplyExact_2 : List UInt8 := dkwJ8_multiplyExact_2 ++ dktJ8_multiplyExact_3
def dkwJ8_multiplyExact_1 : List UInt8 := [125, 9, 148, 153, 0, 44, 32, 9, 148, 153, 0, 12, 22, 4, 32, 109, 30, 148, 154, 0, 19, 30]
abbrev dktJ8_multiplyExact_1 : List UInt8 := dkwJ8_multiplyExact_1 ++ dktJ8_multiplyExact_2
def dkwJ8_multiplyExact_0 : List UInt8 := [30, 32, 105, 55, 4, 30, 184, 0, 122, 55, 6, 32, 184, 0, 122, 55, 8, 22, 6, 22, 8, 129, 16, 31]
abbrev dktJ8_multiplyExact_0 : List UInt8 := dkwJ8_multiplyExact_0 ++ dktJ8_multiplyExact_1
theorem dksJ8_multiplyExact_0 : cJ8_multiplyExact.data.toList.drop 0 = dktJ8_multiplyExact_0 := by decide +kernel
theorem dksJ8_multiplyExact_1 : cJ8_multiplyExact.data.toList.drop 24 = dktJ8_multiplyExact_1 := dk_seg dksJ8_multiplyExact_0 24 rfl rfl
theorem dksJ8_multiplyExact_2 : cJ8_multiplyExact.data.toList.drop 46 = dktJ8_multiplyExact_2 := dk_seg dksJ8_multiplyExact_1 22 rfl rfl
theorem dksJ8_multiplyExact_3 : cJ8_multiplyExact.data.toList.drop 70 = dktJ8_multiplyExact_3 := dk_seg dksJ8_multiplyExact_2 24 rfl rfl
theorem dJ8_multiplyExact_0 : decode cJ8_multiplyExact 0 = .ok (.lload_n 0, 1) := dk_30 (dk_at dksJ8_multiplyExact_0 0 rfl rfl)
theorem dJ8_multiplyExact_1 : decode cJ8_multiplyExact 1 = .ok (.lload_n 2, 1) := dk_32 (dk_at dksJ8_multiplyExact_0 1 rfl rfl)
theorem dJ8_multiplyExact_2 : decode cJ8_multiplyExact 2 = .ok (.lmul, 1) := dk_105 (dk_at dksJ8_multiplyExact_0 2 rfl rfl)
theorem dJ8_multiplyExact_3 : decode cJ8_multiplyExact 3 = .ok (.lstore 4, 2) := dk_55 4 (dk_at dksJ8_multiplyExact_0 3 rfl rfl)
theorem dJ8_multiplyExact_5 : decode cJ8_multiplyExact 5 = .ok (.lload_n 0, 1) := dk_30 (dk_at dksJ8_multiplyExact_0 5 rfl rfl)
theorem dJ8_multiplyExact_6 : decode cJ8_multiplyExact 6 = .ok (.invokestatic 122, 3) := dk_184 0 122 (dk_at dksJ8_multiplyExact_0 6 rfl rfl)
theorem dJ8_multiplyExact_9 : decode cJ8_multiplyExact 9 = .ok (.lstore 6, 2) := dk_55 6 (dk_at dksJ8_multiplyExact_0 9 rfl rfl)
theorem dJ8_multiplyExact_11 : decode cJ8_multiplyExact 11 = .ok (.lload_n 2, 1) := dk_32 (dk_at dksJ8_multiplyExact_0 11 rfl rfl)
theorem dJ8_multiplyExact_12 : decode cJ8_multiplyExact 12 = .ok (.invokestatic 122, 3) := dk_184 0 122 (dk_at dksJ8_multiplyExact_0 12 rfl rfl)
theorem dJ8_multiplyExact_15 : decode cJ8_multiplyExact 15 = .ok (.lstore 8, 2) := dk_55 8 (dk_at dksJ8_multiplyExact_0 15 rfl rfl)
theorem dJ8_multiplyExact_17 : decode cJ8_multiplyExact 17 = .ok (.lload 6, 2) := dk_22 6 (dk_at dksJ8_multiplyExact_0 17 rfl rfl)
theorem dJ8_multiplyExact_19 : decode cJ8_multiplyExact 19 = .ok (.lload 8, 2) := dk_22 8 (dk_at dksJ8_multiplyExact_0 19 rfl rfl)
theorem dJ8_multiplyExact_21 : decode cJ8_multiplyExact 21 = .ok (.lor, 1) := dk_129 (dk_at dksJ8_multiplyExact_0 21 rfl rfl)
theorem dJ8_multiplyExact_22 : decode cJ8_multiplyExact 22 = .ok (.bipush 31, 2) := dk_16 31 (dk_at dksJ8_multiplyExact_0 22 rfl rfl)
theorem dJ8_multiplyExact_24 : decode cJ8_multiplyExact 24 = .ok (.lushr, 1) := dk_125 (dk_at dksJ8_multiplyExact_1 0 rfl rfl)
theorem dJ8_multiplyExact_25 : decode cJ8_multiplyExact 25 = .ok (.lconst 0, 1) := dk_9 (dk_at dksJ8_multiplyExact_1 1 rfl rfl)
theorem dJ8_multiplyExact_26 : decode cJ8_multiplyExact 26 = .ok (.lcmp, 1) := dk_148 (dk_at dksJ8_multiplyExact_1 2 rfl rfl)
theorem dJ8_multiplyExact_27 : decode cJ8_multiplyExact 27 = .ok (.ifCond .eq 44, 3) := dk_153 0 44 (dk_at dksJ8_multiplyExact_1 3 rfl rfl)
theorem dJ8_multiplyExact_30 : decode cJ8_multiplyExact 30 = .ok (.lload_n 2, 1) := dk_32 (dk_at dksJ8_multiplyExact_1 6 rfl rfl)
theorem dJ8_multiplyExact_31 : decode cJ8_multiplyExact 31 = .ok (.lconst 0, 1) := dk_9 (dk_at dksJ8_multiplyExact_1 7 rfl rfl)
theorem dJ8_multiplyExact_32 : decode cJ8_multiplyExact 32 = .ok (.lcmp, 1) := dk_148 (dk_at dksJ8_multiplyExact_1 8 rfl rfl)
theorem dJ8_multiplyExact_33 : decode cJ8_multiplyExact 33 = .ok (.ifCond .eq 12, 3) := dk_153 0 12 (dk_at dksJ8_multiplyExact_1 9 rfl rfl)
theorem dJ8_multiplyExact_36 : decode cJ8_multiplyExact 36 = .ok (.lload 4, 2) := dk_22 4 (dk_at dksJ8_multiplyExact_1 12 rfl rfl)
theorem dJ8_multiplyExact_38 : decode cJ8_multiplyExact 38 = .ok (.lload_n 2, 1) := dk_32 (dk_at dksJ8_multiplyExact_1 14 rfl rfl)
theorem dJ8_multiplyExact_39 : decode cJ8_multiplyExact 39 = .ok (.ldiv, 1) := dk_109 (dk_at dksJ8_multiplyExact_1 15 rfl rfl)
theorem dJ8_multiplyExact_40 : decode cJ8_multiplyExact 40 = .ok (.lload_n 0, 1) := dk_30 (dk_at dksJ8_multiplyExact_1 16 rfl rfl)
theorem dJ8_multiplyExact_41 : decode cJ8_multiplyExact 41 = .ok (.lcmp, 1) := dk_148 (dk_at dksJ8_multiplyExact_1 17 rfl rfl)
theorem dJ8_multiplyExact_42 : decode cJ8_multiplyExact 42 = .ok (.ifCond .ne 19, 3) := dk_154 0 19 (dk_at dksJ8_multiplyExact_1 18 rfl rfl)
theorem dJ8_multiplyExact_45 : decode cJ8_multiplyExact 45 = .ok (.lload_n 0, 1) := dk_30 (dk_at dksJ8_multiplyExact_1 21 rfl rfl)
theorem dJ8_multiplyExact_46 : decode cJ8_multiplyExact 46 = .ok (.ldc2_w 128, 3) := dk_20 0 128 (dk_at dksJ8_multiplyExact_2 0 rfl rfl)
theorem dJ8_multiplyExact_49 : decode cJ8_multiplyExact 49 = .ok (.lcmp, 1) := dk_148 (dk_at dksJ8_multiplyExact_2 3 rfl rfl)
theorem dJ8_multiplyExact_50 : decode cJ8_multiplyExact 50 = .ok (.ifCond .ne 21, 3) := dk_154 0 21 (dk_at dksJ8_multiplyExact_2 4 rfl rfl)
theorem dJ8_multiplyExact_53 : decode cJ8_multiplyExact 53 = .ok (.lload_n 2, 1) := dk_32 (dk_at dksJ8_multiplyExact_2 7 rfl rfl)
theorem dJ8_multiplyExact_54 : decode cJ8_multiplyExact 54 = .ok (.ldc2_w 130, 3) := dk_20 0 130 (dk_at dksJ8_multiplyExact_2 8 rfl rfl)
theorem dJ8_multiplyExact_57 : decode cJ8_multiplyExact 57 = .ok (.lcmp, 1) := dk_148 (dk_at dksJ8_multiplyExact_2 11 rfl rfl)
theorem dJ8_multiplyExact_58 : decode cJ8_multiplyExact 58 = .ok (.ifCond .ne 13, 3) := dk_154 0 13 (dk_at dksJ8_multiplyExact_2 12 rfl rfl)
theorem dJ8_multiplyExact_61 : decode cJ8_multiplyExact 61 = .ok (.new 109, 3) := dk_187 0 109 (dk_at dksJ8_multiplyExact_2 15 rfl rfl)
theorem dJ8_multiplyExact_64 : decode cJ8_multiplyExact 64 = .ok (.dup, 1) := dk_89 (dk_at dksJ8_multiplyExact_2 18 rfl rfl)
theorem dJ8_multiplyExact_65 : decode cJ8_multiplyExact 65 = .ok (.ldc 116, 2) := dk_18 116 (dk_at dksJ8_multiplyExact_2 19 rfl rfl)
theorem dJ8_multiplyExact_67 : decode cJ8_multiplyExact 67 = .ok (.invokespecial 113, 3) := dk_183 0 113 (dk_at dksJ8_multiplyExact_2 21 rfl rfl)
theorem dJ8_multiplyExact_70 : decode cJ8_multiplyExact 70 = .ok (.athrow, 1) := dk_191 (dk_at dksJ8_multiplyExact_3 0 rfl rfl)
theorem dJ8_multiplyExact_71 : decode cJ8_multiplyExact 71 = .ok (.lload 4, 2) := dk_22 4 (dk_at dksJ8_multiplyExact_3 1 rfl rfl)
theorem dJ8_multiplyExact_73 : decode cJ8_multiplyExact 73 = .ok (.lreturn, 1) := dk_173 (dk_at dksJ8_multiplyExact_3 3 rfl rfl)
abbrev cJ8_abs : ByteArray := prog_20_method_61_code
def yJ8_abs : MethodName := ⟨RJ8, "abs", "(J)J"⟩
def dkwJ8_abs_0 : List UInt8 := [30, 9, 148, 156, 0, 8, 30, 117, 167, 0, 4, 30, 173]
abbrev dktJ8_abs_0 : List UInt8 := dkwJ8_abs_0 ++ []
theorem dksJ8_abs_0 : cJ8_abs.data.toList.drop 0 = dktJ8_abs_0 := by decide +kernel
theorem dJ8_abs_0 : decode cJ8_abs 0 = .ok (.lload_n 0, 1) := dk_30 (dk_at dksJ8_abs_0 0 rfl rfl)
theorem dJ8_abs_1 : decode cJ8_abs 1 = .ok (.lconst 0, 1) := dk_9 (dk_at dksJ8_abs_0 1 rfl rfl)
theorem dJ8_abs_2 : decode cJ8_abs 2 = .ok (.lcmp, 1) := dk_148 (dk_at dksJ8_abs_0 2 rfl rfl)
theorem dJ8_abs_3 : decode cJ8_abs 3 = .ok (.ifCond .ge 8, 3) := dk_156 0 8 (dk_at dksJ8_abs_0 3 rfl rfl)
theorem dJ8_abs_6 : decode cJ8_abs 6 = .ok (.lload_n 0, 1) := dk_30 (dk_at dksJ8_abs_0 6 rfl rfl)
theorem dJ8_abs_7 : decode cJ8_abs 7 = .ok (.lneg, 1) := dk_117 (dk_at dksJ8_abs_0 7 rfl rfl)
theorem dJ8_abs_8 : decode cJ8_abs 8 = .ok (.goto 4, 3) := dk_167 0 4 (dk_at dksJ8_abs_0 8 rfl rfl)
theorem dJ8_abs_11 : decode cJ8_abs 11 = .ok (.lload_n 0, 1) := dk_30 (dk_at dksJ8_abs_0 11 rfl rfl)
theorem dJ8_abs_12 : decode cJ8_abs 12 = .ok (.lreturn, 1) := dk_173 (dk_at dksJ8_abs_0 12 rfl rfl)
abbrev cJ8_addExact : ByteArray := prog_20_method_25_code
def yJ8_addExact : MethodName := ⟨RJ8, "addExact", "(JJ)J"⟩
def dkwJ8_addExact_1 : List UInt8 := [18, 116, 183, 0, 113, 191, 22, 4, 173]
abbrev dktJ8_addExact_1 : List UInt8 := dkwJ8_addExact_1 ++ []
def dkwJ8_addExact_0 : List UInt8 := [30, 32, 97, 55, 4, 30, 22, 4, 131, 32, 22, 4, 131, 127, 9, 148, 156, 0, 13, 187, 0, 109, 89]
abbrev dktJ8_addExact_0 : List UInt8 := dkwJ8_addExact_0 ++ dktJ8_addExact_1
theorem dksJ8_addExact_0 : cJ8_addExact.data.toList.drop 0 = dktJ8_addExact_0 := by decide +kernel
theorem dksJ8_addExact_1 : cJ8_addExact.data.toList.drop 23 = dktJ8_addExact_1 := dk_seg dksJ8_addExact_0 23 rfl rfl
theorem dJ8_addExact_0 : decode cJ8_addExact 0 = .ok (.lload_n 0, 1) := dk_30 (dk_at dksJ8_addExact_0 0 rfl rfl)
theorem dJ8_addExact_1 : decode cJ8_addExact 1 = .ok (.lload_n 2, 1) := dk_32 (dk_at dksJ8_addExact_0 1 rfl rfl)
theorem dJ8_addExact_2 : decode cJ8_addExact 2 = .ok (.ladd, 1) := dk_97 (dk_at dksJ8_addExact_0 2 rfl rfl)
theorem dJ8_addExact_3 : decode cJ8_addExact 3 = .ok (.lstore 4, 2) := dk_55 4 (dk_at dksJ8_addExact_0 3 rfl rfl)
theorem dJ8_addExact_5 : decode cJ8_addExact 5 = .ok (.lload_n 0, 1) := dk_30 (dk_at dksJ8_addExact_0 5 rfl rfl)
theorem dJ8_addExact_6 : decode cJ8_addExact 6 = .ok (.lload 4, 2) := dk_22 4 (dk_at dksJ8_addExact_0 6 rfl rfl)
theorem dJ8_addExact_8 : decode cJ8_addExact 8 = .ok (.lxor, 1) := dk_131 (dk_at dksJ8_addExact_0 8 rfl rfl)
theorem dJ8_addExact_9 : decode cJ8_addExact 9 = .ok (.lload_n 2, 1) := dk_32 (dk_at dksJ8_addExact_0 9 rfl rfl)
theorem dJ8_addExact_10 : decode cJ8_addExact 10 = .ok (.lload 4, 2) := dk_22 4 (dk_at dksJ8_addExact_0 10 rfl rfl)
theorem dJ8_addExact_12 : decode cJ8_addExact 12 = .ok (.lxor, 1) := dk_131 (dk_at dksJ8_addExact_0 12 rfl rfl)
theorem dJ8_addExact_13 : decode cJ8_addExact 13 = .ok (.land, 1) := dk_127 (dk_at dksJ8_addExact_0 13 rfl rfl)
theorem dJ8_addExact_14 : decode cJ8_addExact 14 = .ok (.lconst 0, 1) := dk_9 (dk_at dksJ8_addExact_0 14 rfl rfl)
theorem dJ8_addExact_15 : decode cJ8_addExact 15 = .ok (.lcmp, 1) := dk_148 (dk_at dksJ8_addExact_0 15 rfl rfl)
theorem dJ8_addExact_16 : decode cJ8_addExact 16 = .ok (.ifCond .ge 13, 3) := dk_156 0 13 (dk_at dksJ8_addExact_0 16 rfl rfl)
theorem dJ8_addExact_19 : decode cJ8_addExact 19 = .ok (.new 109, 3) := dk_187 0 109 (dk_at dksJ8_addExact_0 19 rfl rfl)
theorem dJ8_addExact_22 : decode cJ8_addExact 22 = .ok (.dup, 1) := dk_89 (dk_at dksJ8_addExact_0 22 rfl rfl)
theorem dJ8_addExact_23 : decode cJ8_addExact 23 = .ok (.ldc 116, 2) := dk_18 116 (dk_at dksJ8_addExact_1 0 rfl rfl)
theorem dJ8_addExact_25 : decode cJ8_addExact 25 = .ok (.invokespecial 113, 3) := dk_183 0 113 (dk_at dksJ8_addExact_1 2 rfl rfl)
theorem dJ8_addExact_28 : decode cJ8_addExact 28 = .ok (.athrow, 1) := dk_191 (dk_at dksJ8_addExact_1 5 rfl rfl)
theorem dJ8_addExact_29 : decode cJ8_addExact 29 = .ok (.lload 4, 2) := dk_22 4 (dk_at dksJ8_addExact_1 6 rfl rfl)
theorem dJ8_addExact_31 : decode cJ8_addExact 31 = .ok (.lreturn, 1) := dk_173 (dk_at dksJ8_addExact_1 8 rfl rfl)
def RJ9 : String := "java/util/Arrays"
abbrev cJ9_copyOf : ByteArray := prog_34_method_121_code
def yJ9_copyOf : MethodName := ⟨RJ9, "copyOf", "([BI)[B"⟩
def dkwJ9_copyOf_1 : List UInt8 := [27, 184, 1, 48, 184, 0, 150, 44, 176]
abbrev dktJ9_copyOf_1 : List UInt8 := dkwJ9_copyOf_1 ++ []
def dkwJ9_copyOf_0 : List UInt8 := [27, 42, 190, 160, 0, 11, 42, 182, 1, 54, 192, 1, 55, 176, 27, 188, 8, 77, 42, 3, 44, 3, 42, 190]
abbrev dktJ9_copyOf_0 : List UInt8 := dkwJ9_copyOf_0 ++ dktJ9_copyOf_1
theorem dksJ9_copyOf_0 : cJ9_copyOf.data.toList.drop 0 = dktJ9_copyOf_0 := by decide +kernel
theorem dksJ9_copyOf_1 : cJ9_copyOf.data.toList.drop 24 = dktJ9_copyOf_1 := dk_seg dksJ9_copyOf_0 24 rfl rfl
theorem dJ9_copyOf_0 : decode cJ9_copyOf 0 = .ok (.iload_n 1, 1) := dk_27 (dk_at dksJ9_copyOf_0 0 rfl rfl)
theorem dJ9_copyOf_1 : decode cJ9_copyOf 1 = .ok (.aload_n 0, 1) := dk_42 (dk_at dksJ9_copyOf_0 1 rfl rfl)
theorem dJ9_copyOf_2 : decode cJ9_copyOf 2 = .ok (.arraylength, 1) := dk_190 (dk_at dksJ9_copyOf_0 2 rfl rfl)
theorem dJ9_copyOf_3 : decode cJ9_copyOf 3 = .ok (.if_icmp .ne 11, 3) := dk_160 0 11 (dk_at dksJ9_copyOf_0 3 rfl rfl)
theorem dJ9_copyOf_6 : decode cJ9_copyOf 6 = .ok (.aload_n 0, 1) := dk_42 (dk_at dksJ9_copyOf_0 6 rfl rfl)
theorem dJ9_copyOf_7 : decode cJ9_copyOf 7 = .ok (.invokevirtual 310, 3) := dk_182 1 54 (dk_at dksJ9_copyOf_0 7 rfl rfl)
theorem dJ9_copyOf_10 : decode cJ9_copyOf 10 = .ok (.checkcast 311, 3) := dk_192 1 55 (dk_at dksJ9_copyOf_0 10 rfl rfl)
theorem dJ9_copyOf_13 : decode cJ9_copyOf 13 = .ok (.areturn, 1) := dk_176 (dk_at dksJ9_copyOf_0 13 rfl rfl)
theorem dJ9_copyOf_14 : decode cJ9_copyOf 14 = .ok (.iload_n 1, 1) := dk_27 (dk_at dksJ9_copyOf_0 14 rfl rfl)
theorem dJ9_copyOf_15 : decode cJ9_copyOf 15 = .ok (.newarray .byte, 2) := dk_188_8 (dk_at dksJ9_copyOf_0 15 rfl rfl)
theorem dJ9_copyOf_17 : decode cJ9_copyOf 17 = .ok (.astore_n 2, 1) := dk_77 (dk_at dksJ9_copyOf_0 17 rfl rfl)
theorem dJ9_copyOf_18 : decode cJ9_copyOf 18 = .ok (.aload_n 0, 1) := dk_42 (dk_at dksJ9_copyOf_0 18 rfl rfl)
theorem dJ9_copyOf_19 : decode cJ9_copyOf 19 = .ok (.iconst 0, 1) := dk_3 (dk_at dksJ9_copyOf_0 19 rfl rfl)
theorem dJ9_copyOf_20 : decode cJ9_copyOf 20 = .ok (.aload_n 2, 1) := dk_44 (dk_at dksJ9_copyOf_0 20 rfl rfl)
theorem dJ9_copyOf_21 : decode cJ9_copyOf 21 = .ok (.iconst 0, 1) := dk_3 (dk_at dksJ9_copyOf_0 21 rfl rfl)
theorem dJ9_copyOf_22 : decode cJ9_copyOf 22 = .ok (.aload_n 0, 1) := dk_42 (dk_at dksJ9_copyOf_0 22 rfl rfl)
theorem dJ9_copyOf_23 : decode cJ9_copyOf 23 = .ok (.arraylength, 1) := dk_190 (dk_at dksJ9_copyOf_0 23 rfl rfl)
theorem dJ9_copyOf_24 : decode cJ9_copyOf 24 = .ok (.iload_n 1, 1) := dk_27 (dk_at dksJ9_copyOf_1 0 rfl rfl)
theorem dJ9_copyOf_25 : decode cJ9_copyOf 25 = .ok (.invokestatic 304, 3) := dk_184 1 48 (dk_at dksJ9_copyOf_1 1 rfl rfl)
theorem dJ9_copyOf_28 : decode cJ9_copyOf 28 = .ok (.invokestatic 150, 3) := dk_184 0 150 (dk_at dksJ9_copyOf_1 4 rfl rfl)
theorem dJ9_copyOf_31 : decode cJ9_copyOf 31 = .ok (.aload_n 2, 1) := dk_44 (dk_at dksJ9_copyOf_1 7 rfl rfl)
theorem dJ9_copyOf_32 : decode cJ9_copyOf 32 = .ok (.areturn, 1) := dk_176 (dk_at dksJ9_copyOf_1 8 rfl rfl)
abbrev cJ9_copyOfRange : ByteArray := prog_34_method_132_code
def yJ9_copyOfRange : MethodName := ⟨RJ9, "copyOfRange", "([BII)[B"⟩
def dkwJ9_copyOfRange_1 : List UInt8 := [176]
abbrev dktJ9_copyOfRange_1 : List UInt8 := dkwJ9_copyOfRange_1 ++ []
def dkwJ9_copyOfRange_0 : List UInt8 := [27, 154, 0, 9, 28, 42, 190, 159, 0, 10, 42, 27, 28, 184, 1, 83, 176, 42, 182, 1, 54, 192, 1, 55]
abbrev dktJ9_copyOfRange_0 : List UInt8 := dkwJ9_copyOfRange_0 ++ dktJ9_copyOfRange_1
theorem dksJ9_copyOfRange_0 : cJ9_copyOfRange.data.toList.drop 0 = dktJ9_copyOfRange_0 := by decide +kernel
theorem dksJ9_copyOfRange_1 : cJ9_copyOfRange.data.toList.drop 24 = dktJ9_copyOfRange_1 := dk_seg dksJ9_copyOfRange_0 24 rfl rfl
theorem dJ9_copyOfRange_0 : decode cJ9_copyOfRange 0 = .ok (.iload_n 1, 1) := dk_27 (dk_at dksJ9_copyOfRange_0 0 rfl rfl)
theorem dJ9_copyOfRange_1 : decode cJ9_copyOfRange 1 = .ok (.ifCond .ne 9, 3) := dk_154 0 9 (dk_at dksJ9_copyOfRange_0 1 rfl rfl)
theorem dJ9_copyOfRange_4 : decode cJ9_copyOfRange 4 = .ok (.iload_n 2, 1) := dk_28 (dk_at dksJ9_copyOfRange_0 4 rfl rfl)
theorem dJ9_copyOfRange_5 : decode cJ9_copyOfRange 5 = .ok (.aload_n 0, 1) := dk_42 (dk_at dksJ9_copyOfRange_0 5 rfl rfl)
theorem dJ9_copyOfRange_6 : decode cJ9_copyOfRange 6 = .ok (.arraylength, 1) := dk_190 (dk_at dksJ9_copyOfRange_0 6 rfl rfl)
theorem dJ9_copyOfRange_7 : decode cJ9_copyOfRange 7 = .ok (.if_icmp .eq 10, 3) := dk_159 0 10 (dk_at dksJ9_copyOfRange_0 7 rfl rfl)
theorem dJ9_copyOfRange_10 : decode cJ9_copyOfRange 10 = .ok (.aload_n 0, 1) := dk_42 (dk_at dksJ9_copyOfRange_0 10 rfl rfl)
theorem dJ9_copyOfRange_11 : decode cJ9_copyOfRange 11 = .ok (.iload_n 1, 1) := dk_27 (dk_at dksJ9_copyOfRange_0 11 rfl rfl)
theorem dJ9_copyOfRange_12 : decode cJ9_copyOfRange 12 = .ok (.iload_n 2, 1) := dk_28 (dk_at dksJ9_copyOfRange_0 12 rfl rfl)
theorem dJ9_copyOfRange_13 : decode cJ9_copyOfRange 13 = .ok (.invokestatic 339, 3) := dk_184 1 83 (dk_at dksJ9_copyOfRange_0 13 rfl rfl)
theorem dJ9_copyOfRange_16 : decode cJ9_copyOfRange 16 = .ok (.areturn, 1) := dk_176 (dk_at dksJ9_copyOfRange_0 16 rfl rfl)
theorem dJ9_copyOfRange_17 : decode cJ9_copyOfRange 17 = .ok (.aload_n 0, 1) := dk_42 (dk_at dksJ9_copyOfRange_0 17 rfl rfl)
theorem dJ9_copyOfRange_18 : decode cJ9_copyOfRange 18 = .ok (.invokevirtual 310, 3) := dk_182 1 54 (dk_at dksJ9_copyOfRange_0 18 rfl rfl)
theorem dJ9_copyOfRange_21 : decode cJ9_copyOfRange 21 = .ok (.checkcast 311, 3) := dk_192 1 55 (dk_at dksJ9_copyOfRange_0 21 rfl rfl)
theorem dJ9_copyOfRange_24 : decode cJ9_copyOfRange 24 = .ok (.areturn, 1) := dk_176 (dk_at dksJ9_copyOfRange_1 0 rfl rfl)
abbrev cJ9_copyOfRangeByte : ByteArray := prog_34_method_133_code
def yJ9_copyOfRangeByte : MethodName := ⟨RJ9, "copyOfRangeByte", "([BII)[B"⟩
def dkwJ9_copyOfRangeByte_1 : List UInt8 := [184, 1, 48, 184, 0, 150, 25, 4, 176]
abbrev dktJ9_copyOfRangeByte_1 : List UInt8 := dkwJ9_copyOfRangeByte_1 ++ []
def dkwJ9_copyOfRangeByte_0 : List UInt8 := [27, 28, 184, 1, 87, 28, 27, 100, 62, 29, 188, 8, 58, 4, 42, 27, 25, 4, 3, 42, 190, 27, 100, 29]
abbrev dktJ9_copyOfRangeByte_0 : List UInt8 := dkwJ9_copyOfRangeByte_0 ++ dktJ9_copyOfRangeByte_1
theorem dksJ9_copyOfRangeByte_0 : cJ9_copyOfRangeByte.data.toList.drop 0 = dktJ9_copyOfRangeByte_0 := by decide +kernel
theorem dksJ9_copyOfRangeByte_1 : cJ9_copyOfRangeByte.data.toList.drop 24 = dktJ9_copyOfRangeByte_1 := dk_seg dksJ9_copyOfRangeByte_0 24 rfl rfl
theorem dJ9_copyOfRangeByte_0 : decode cJ9_copyOfRangeByte 0 = .ok (.iload_n 1, 1) := dk_27 (dk_at dksJ9_copyOfRangeByte_0 0 rfl rfl)
theorem dJ9_copyOfRangeByte_1 : decode cJ9_copyOfRangeByte 1 = .ok (.iload_n 2, 1) := dk_28 (dk_at dksJ9_copyOfRangeByte_0 1 rfl rfl)
theorem dJ9_copyOfRangeByte_2 : decode cJ9_copyOfRangeByte 2 = .ok (.invokestatic 343, 3) := dk_184 1 87 (dk_at dksJ9_copyOfRangeByte_0 2 rfl rfl)
theorem dJ9_copyOfRangeByte_5 : decode cJ9_copyOfRangeByte 5 = .ok (.iload_n 2, 1) := dk_28 (dk_at dksJ9_copyOfRangeByte_0 5 rfl rfl)
theorem dJ9_copyOfRangeByte_6 : decode cJ9_copyOfRangeByte 6 = .ok (.iload_n 1, 1) := dk_27 (dk_at dksJ9_copyOfRangeByte_0 6 rfl rfl)
theorem dJ9_copyOfRangeByte_7 : decode cJ9_copyOfRangeByte 7 = .ok (.isub, 1) := dk_100 (dk_at dksJ9_copyOfRangeByte_0 7 rfl rfl)
theorem dJ9_copyOfRangeByte_8 : decode cJ9_copyOfRangeByte 8 = .ok (.istore_n 3, 1) := dk_62 (dk_at dksJ9_copyOfRangeByte_0 8 rfl rfl)
theorem dJ9_copyOfRangeByte_9 : decode cJ9_copyOfRangeByte 9 = .ok (.iload_n 3, 1) := dk_29 (dk_at dksJ9_copyOfRangeByte_0 9 rfl rfl)
theorem dJ9_copyOfRangeByte_10 : decode cJ9_copyOfRangeByte 10 = .ok (.newarray .byte, 2) := dk_188_8 (dk_at dksJ9_copyOfRangeByte_0 10 rfl rfl)
theorem dJ9_copyOfRangeByte_12 : decode cJ9_copyOfRangeByte 12 = .ok (.astore 4, 2) := dk_58 4 (dk_at dksJ9_copyOfRangeByte_0 12 rfl rfl)
theorem dJ9_copyOfRangeByte_14 : decode cJ9_copyOfRangeByte 14 = .ok (.aload_n 0, 1) := dk_42 (dk_at dksJ9_copyOfRangeByte_0 14 rfl rfl)
theorem dJ9_copyOfRangeByte_15 : decode cJ9_copyOfRangeByte 15 = .ok (.iload_n 1, 1) := dk_27 (dk_at dksJ9_copyOfRangeByte_0 15 rfl rfl)
theorem dJ9_copyOfRangeByte_16 : decode cJ9_copyOfRangeByte 16 = .ok (.aload 4, 2) := dk_25 4 (dk_at dksJ9_copyOfRangeByte_0 16 rfl rfl)
theorem dJ9_copyOfRangeByte_18 : decode cJ9_copyOfRangeByte 18 = .ok (.iconst 0, 1) := dk_3 (dk_at dksJ9_copyOfRangeByte_0 18 rfl rfl)
theorem dJ9_copyOfRangeByte_19 : decode cJ9_copyOfRangeByte 19 = .ok (.aload_n 0, 1) := dk_42 (dk_at dksJ9_copyOfRangeByte_0 19 rfl rfl)
theorem dJ9_copyOfRangeByte_20 : decode cJ9_copyOfRangeByte 20 = .ok (.arraylength, 1) := dk_190 (dk_at dksJ9_copyOfRangeByte_0 20 rfl rfl)
theorem dJ9_copyOfRangeByte_21 : decode cJ9_copyOfRangeByte 21 = .ok (.iload_n 1, 1) := dk_27 (dk_at dksJ9_copyOfRangeByte_0 21 rfl rfl)
theorem dJ9_copyOfRangeByte_22 : decode cJ9_copyOfRangeByte 22 = .ok (.isub, 1) := dk_100 (dk_at dksJ9_copyOfRangeByte_0 22 rfl rfl)
theorem dJ9_copyOfRangeByte_23 : decode cJ9_copyOfRangeByte 23 = .ok (.iload_n 3, 1) := dk_29 (dk_at dksJ9_copyOfRangeByte_0 23 rfl rfl)
theorem dJ9_copyOfRangeByte_24 : decode cJ9_copyOfRangeByte 24 = .ok (.invokestatic 304, 3) := dk_184 1 48 (dk_at dksJ9_copyOfRangeByte_1 0 rfl rfl)
theorem dJ9_copyOfRangeByte_27 : decode cJ9_copyOfRangeByte 27 = .ok (.invokestatic 150, 3) := dk_184 0 150 (dk_at dksJ9_copyOfRangeByte_1 3 rfl rfl)
theorem dJ9_copyOfRangeByte_30 : decode cJ9_copyOfRangeByte 30 = .ok (.aload 4, 2) := dk_25 4 (dk_at dksJ9_copyOfRangeByte_1 6 rfl rfl)
theorem dJ9_copyOfRangeByte_32 : decode cJ9_copyOfRangeByte 32 = .ok (.areturn, 1) := dk_176 (dk_at dksJ9_copyOfRangeByte_1 8 rfl rfl)
abbrev cJ9_checkLength : ByteArray := prog_34_method_131_code
def yJ9_checkLength : MethodName := ⟨RJ9, "checkLength", "(II)V"⟩
def dkwJ9_checkLength_1 : List UInt8 := [182, 0, 50, 27, 182, 0, 54, 182, 0, 61, 183, 0, 65, 191, 177]
abbrev dktJ9_checkLength_1 : List UInt8 := dkwJ9_checkLength_1 ++ []
def dkwJ9_checkLength_0 : List UInt8 := [27, 26, 162, 0, 35, 187, 0, 43, 89, 187, 0, 45, 89, 183, 0, 47, 26, 182, 0, 54, 19, 1, 81]
abbrev dktJ9_checkLength_0 : List UInt8 := dkwJ9_checkLength_0 ++ dktJ9_checkLength_1
theorem dksJ9_checkLength_0 : cJ9_checkLength.data.toList.drop 0 = dktJ9_checkLength_0 := by decide +kernel
theorem dksJ9_checkLength_1 : cJ9_checkLength.data.toList.drop 23 = dktJ9_checkLength_1 := dk_seg dksJ9_checkLength_0 23 rfl rfl
theorem dJ9_checkLength_0 : decode cJ9_checkLength 0 = .ok (.iload_n 1, 1) := dk_27 (dk_at dksJ9_checkLength_0 0 rfl rfl)
theorem dJ9_checkLength_1 : decode cJ9_checkLength 1 = .ok (.iload_n 0, 1) := dk_26 (dk_at dksJ9_checkLength_0 1 rfl rfl)
theorem dJ9_checkLength_2 : decode cJ9_checkLength 2 = .ok (.if_icmp .ge 35, 3) := dk_162 0 35 (dk_at dksJ9_checkLength_0 2 rfl rfl)
theorem dJ9_checkLength_5 : decode cJ9_checkLength 5 = .ok (.new 43, 3) := dk_187 0 43 (dk_at dksJ9_checkLength_0 5 rfl rfl)
theorem dJ9_checkLength_8 : decode cJ9_checkLength 8 = .ok (.dup, 1) := dk_89 (dk_at dksJ9_checkLength_0 8 rfl rfl)
theorem dJ9_checkLength_9 : decode cJ9_checkLength 9 = .ok (.new 45, 3) := dk_187 0 45 (dk_at dksJ9_checkLength_0 9 rfl rfl)
theorem dJ9_checkLength_12 : decode cJ9_checkLength 12 = .ok (.dup, 1) := dk_89 (dk_at dksJ9_checkLength_0 12 rfl rfl)
theorem dJ9_checkLength_13 : decode cJ9_checkLength 13 = .ok (.invokespecial 47, 3) := dk_183 0 47 (dk_at dksJ9_checkLength_0 13 rfl rfl)
theorem dJ9_checkLength_16 : decode cJ9_checkLength 16 = .ok (.iload_n 0, 1) := dk_26 (dk_at dksJ9_checkLength_0 16 rfl rfl)
theorem dJ9_checkLength_17 : decode cJ9_checkLength 17 = .ok (.invokevirtual 54, 3) := dk_182 0 54 (dk_at dksJ9_checkLength_0 17 rfl rfl)
theorem dJ9_checkLength_20 : decode cJ9_checkLength 20 = .ok (.ldc_w 337, 3) := dk_19 1 81 (dk_at dksJ9_checkLength_0 20 rfl rfl)
theorem dJ9_checkLength_23 : decode cJ9_checkLength 23 = .ok (.invokevirtual 50, 3) := dk_182 0 50 (dk_at dksJ9_checkLength_1 0 rfl rfl)
theorem dJ9_checkLength_26 : decode cJ9_checkLength 26 = .ok (.iload_n 1, 1) := dk_27 (dk_at dksJ9_checkLength_1 3 rfl rfl)
theorem dJ9_checkLength_27 : decode cJ9_checkLength 27 = .ok (.invokevirtual 54, 3) := dk_182 0 54 (dk_at dksJ9_checkLength_1 4 rfl rfl)
theorem dJ9_checkLength_30 : decode cJ9_checkLength 30 = .ok (.invokevirtual 61, 3) := dk_182 0 61 (dk_at dksJ9_checkLength_1 7 rfl rfl)
theorem dJ9_checkLength_33 : decode cJ9_checkLength 33 = .ok (.invokespecial 65, 3) := dk_183 0 65 (dk_at dksJ9_checkLength_1 10 rfl rfl)
theorem dJ9_checkLength_36 : decode cJ9_checkLength 36 = .ok (.athrow, 1) := dk_191 (dk_at dksJ9_checkLength_1 13 rfl rfl)
theorem dJ9_checkLength_37 : decode cJ9_checkLength 37 = .ok (.return_, 1) := dk_177 (dk_at dksJ9_checkLength_1 14 rfl rfl)
abbrev cJ9_copyOf_2 : ByteArray := prog_34_method_119_code
def yJ9_copyOf_2 : MethodName := ⟨RJ9, "copyOf", "([Ljava/lang/Object;I)[Ljava/lang/Object;"⟩
def dkwJ9_copyOf_2_0 : List UInt8 := [42, 27, 42, 182, 0, 86, 184, 1, 44, 176]
abbrev dktJ9_copyOf_2_0 : List UInt8 := dkwJ9_copyOf_2_0 ++ []
theorem dksJ9_copyOf_2_0 : cJ9_copyOf_2.data.toList.drop 0 = dktJ9_copyOf_2_0 := by decide +kernel
theorem dJ9_copyOf_2_0 : decode cJ9_copyOf_2 0 = .ok (.aload_n 0, 1) := dk_42 (dk_at dksJ9_copyOf_2_0 0 rfl rfl)
theorem dJ9_copyOf_2_1 : decode cJ9_copyOf_2 1 = .ok (.iload_n 1, 1) := dk_27 (dk_at dksJ9_copyOf_2_0 1 rfl rfl)
theorem dJ9_copyOf_2_2 : decode cJ9_copyOf_2 2 = .ok (.aload_n 0, 1) := dk_42 (dk_at dksJ9_copyOf_2_0 2 rfl rfl)
theorem dJ9_copyOf_2_3 : decode cJ9_copyOf_2 3 = .ok (.invokevirtual 86, 3) := dk_182 0 86 (dk_at dksJ9_copyOf_2_0 3 rfl rfl)
theorem dJ9_copyOf_2_6 : decode cJ9_copyOf_2 6 = .ok (.invokestatic 300, 3) := dk_184 1 44 (dk_at dksJ9_copyOf_2_0 6 rfl rfl)
theorem dJ9_copyOf_2_9 : decode cJ9_copyOf_2 9 = .ok (.areturn, 1) := dk_176 (dk_at dksJ9_copyOf_2_0 9 rfl rfl)
abbrev cJ9_copyOf_3 : ByteArray := prog_34_method_120_code
def yJ9_copyOf_3 : MethodName := ⟨RJ9, "copyOf", "([Ljava/lang/Object;ILjava/lang/Class;)[Ljava/lang/Object;"⟩
def dkwJ9_copyOf_3_1 : List UInt8 := [78, 42, 3, 45, 3, 42, 190, 27, 184, 1, 48, 184, 0, 150, 45, 176]
abbrev dktJ9_copyOf_3_1 : List UInt8 := dkwJ9_copyOf_3_1 ++ []
def dkwJ9_copyOf_3_0 : List UInt8 := [44, 18, 110, 166, 0, 10, 27, 189, 0, 2, 167, 0, 14, 44, 182, 0, 90, 27, 184, 0, 95, 192, 0, 110]
abbrev dktJ9_copyOf_3_0 : List UInt8 := dkwJ9_copyOf_3_0 ++ dktJ9_copyOf_3_1
theorem dksJ9_copyOf_3_0 : cJ9_copyOf_3.data.toList.drop 0 = dktJ9_copyOf_3_0 := by decide +kernel
theorem dksJ9_copyOf_3_1 : cJ9_copyOf_3.data.toList.drop 24 = dktJ9_copyOf_3_1 := dk_seg dksJ9_copyOf_3_0 24 rfl rfl
theorem dJ9_copyOf_3_0 : decode cJ9_copyOf_3 0 = .ok (.aload_n 2, 1) := dk_44 (dk_at dksJ9_copyOf_3_0 0 rfl rfl)
theorem dJ9_copyOf_3_1 : decode cJ9_copyOf_3 1 = .ok (.ldc 110, 2) := dk_18 110 (dk_at dksJ9_copyOf_3_0 1 rfl rfl)
theorem dJ9_copyOf_3_3 : decode cJ9_copyOf_3 3 = .ok (.if_acmp .ne 10, 3) := dk_166 0 10 (dk_at dksJ9_copyOf_3_0 3 rfl rfl)
theorem dJ9_copyOf_3_6 : decode cJ9_copyOf_3 6 = .ok (.iload_n 1, 1) := dk_27 (dk_at dksJ9_copyOf_3_0 6 rfl rfl)
theorem dJ9_copyOf_3_7 : decode cJ9_copyOf_3 7 = .ok (.anewarray 2, 3) := dk_189 0 2 (dk_at dksJ9_copyOf_3_0 7 rfl rfl)
theorem dJ9_copyOf_3_10 : decode cJ9_copyOf_3 10 = .ok (.goto 14, 3) := dk_167 0 14 (dk_at dksJ9_copyOf_3_0 10 rfl rfl)
theorem dJ9_copyOf_3_13 : decode cJ9_copyOf_3 13 = .ok (.aload_n 2, 1) := dk_44 (dk_at dksJ9_copyOf_3_0 13 rfl rfl)
theorem dJ9_copyOf_3_14 : decode cJ9_copyOf_3 14 = .ok (.invokevirtual 90, 3) := dk_182 0 90 (dk_at dksJ9_copyOf_3_0 14 rfl rfl)
theorem dJ9_copyOf_3_17 : decode cJ9_copyOf_3 17 = .ok (.iload_n 1, 1) := dk_27 (dk_at dksJ9_copyOf_3_0 17 rfl rfl)
theorem dJ9_copyOf_3_18 : decode cJ9_copyOf_3 18 = .ok (.invokestatic 95, 3) := dk_184 0 95 (dk_at dksJ9_copyOf_3_0 18 rfl rfl)
theorem dJ9_copyOf_3_21 : decode cJ9_copyOf_3 21 = .ok (.checkcast 110, 3) := dk_192 0 110 (dk_at dksJ9_copyOf_3_0 21 rfl rfl)
theorem dJ9_copyOf_3_24 : decode cJ9_copyOf_3 24 = .ok (.astore_n 3, 1) := dk_78 (dk_at dksJ9_copyOf_3_1 0 rfl rfl)
theorem dJ9_copyOf_3_25 : decode cJ9_copyOf_3 25 = .ok (.aload_n 0, 1) := dk_42 (dk_at dksJ9_copyOf_3_1 1 rfl rfl)
theorem dJ9_copyOf_3_26 : decode cJ9_copyOf_3 26 = .ok (.iconst 0, 1) := dk_3 (dk_at dksJ9_copyOf_3_1 2 rfl rfl)
theorem dJ9_copyOf_3_27 : decode cJ9_copyOf_3 27 = .ok (.aload_n 3, 1) := dk_45 (dk_at dksJ9_copyOf_3_1 3 rfl rfl)
theorem dJ9_copyOf_3_28 : decode cJ9_copyOf_3 28 = .ok (.iconst 0, 1) := dk_3 (dk_at dksJ9_copyOf_3_1 4 rfl rfl)
theorem dJ9_copyOf_3_29 : decode cJ9_copyOf_3 29 = .ok (.aload_n 0, 1) := dk_42 (dk_at dksJ9_copyOf_3_1 5 rfl rfl)
theorem dJ9_copyOf_3_30 : decode cJ9_copyOf_3 30 = .ok (.arraylength, 1) := dk_190 (dk_at dksJ9_copyOf_3_1 6 rfl rfl)
theorem dJ9_copyOf_3_31 : decode cJ9_copyOf_3 31 = .ok (.iload_n 1, 1) := dk_27 (dk_at dksJ9_copyOf_3_1 7 rfl rfl)
theorem dJ9_copyOf_3_32 : decode cJ9_copyOf_3 32 = .ok (.invokestatic 304, 3) := dk_184 1 48 (dk_at dksJ9_copyOf_3_1 8 rfl rfl)
theorem dJ9_copyOf_3_35 : decode cJ9_copyOf_3 35 = .ok (.invokestatic 150, 3) := dk_184 0 150 (dk_at dksJ9_copyOf_3_1 11 rfl rfl)
theorem dJ9_copyOf_3_38 : decode cJ9_copyOf_3 38 = .ok (.aload_n 3, 1) := dk_45 (dk_at dksJ9_copyOf_3_1 14 rfl rfl)
theorem dJ9_copyOf_3_39 : decode cJ9_copyOf_3 39 = .ok (.areturn, 1) := dk_176 (dk_at dksJ9_copyOf_3_1 15 rfl rfl)
abbrev cX0_init : ByteArray := prog_1_method_1_code
def yX0_init : MethodName := ⟨RX0, "<init>", "()V"⟩
def dkwX0_init_3 : List UInt8 := [188, 10, 181, 0, 44, 42, 16, 100, 188, 10, 181, 0, 47, 42, 6, 189, 0, 17, 181, 0, 50, 177]
abbrev dktX0_init_3 : List UInt8 := dkwX0_init_3 ++ []
def dkwX0_init_2 : List UInt8 := [7, 188, 10, 181, 0, 35, 42, 3, 188, 10, 181, 0, 38, 42, 7, 188, 10, 181, 0, 41, 42, 16, 100]
abbrev dktX0_init_2 : List UInt8 := dkwX0_init_2 ++ dktX0_init_3
def dkwX0_init_1 : List UInt8 := [89, 183, 0, 19, 181, 0, 20, 42, 2, 181, 0, 24, 42, 187, 0, 28, 89, 183, 0, 30, 181, 0, 31, 42]
abbrev dktX0_init_1 : List UInt8 := dkwX0_init_1 ++ dktX0_init_2
def dkwX0_init_0 : List UInt8 := [42, 183, 0, 1, 42, 17, 3, 232, 188, 8, 181, 0, 9, 42, 7, 188, 10, 181, 0, 13, 42, 187, 0, 17]
abbrev dktX0_init_0 : List UInt8 := dkwX0_init_0 ++ dktX0_init_1
theorem dksX0_init_0 : cX0_init.data.toList.drop 0 = dktX0_init_0 := by decide +kernel
theorem dksX0_init_1 : cX0_init.data.toList.drop 24 = dktX0_init_1 := dk_seg dksX0_init_0 24 rfl rfl
theorem dksX0_init_2 : cX0_init.data.toList.drop 48 = dktX0_init_2 := dk_seg dksX0_init_1 24 rfl rfl
theorem dksX0_init_3 : cX0_init.data.toList.drop 71 = dktX0_init_3 := dk_seg dksX0_init_2 23 rfl rfl
theorem dX0_init_0 : decode cX0_init 0 = .ok (.aload_n 0, 1) := dk_42 (dk_at dksX0_init_0 0 rfl rfl)
theorem dX0_init_1 : decode cX0_init 1 = .ok (.invokespecial 1, 3) := dk_183 0 1 (dk_at dksX0_init_0 1 rfl rfl)
theorem dX0_init_4 : decode cX0_init 4 = .ok (.aload_n 0, 1) := dk_42 (dk_at dksX0_init_0 4 rfl rfl)
theorem dX0_init_5 : decode cX0_init 5 = .ok (.sipush 1000, 3) := dk_17 3 232 (dk_at dksX0_init_0 5 rfl rfl)
theorem dX0_init_8 : decode cX0_init 8 = .ok (.newarray .byte, 2) := dk_188_8 (dk_at dksX0_init_0 8 rfl rfl)
theorem dX0_init_10 : decode cX0_init 10 = .ok (.putfield 9, 3) := dk_181 0 9 (dk_at dksX0_init_0 10 rfl rfl)
theorem dX0_init_13 : decode cX0_init 13 = .ok (.aload_n 0, 1) := dk_42 (dk_at dksX0_init_0 13 rfl rfl)
theorem dX0_init_14 : decode cX0_init 14 = .ok (.iconst 4, 1) := dk_7 (dk_at dksX0_init_0 14 rfl rfl)
theorem dX0_init_15 : decode cX0_init 15 = .ok (.newarray .int, 2) := dk_188_10 (dk_at dksX0_init_0 15 rfl rfl)
theorem dX0_init_17 : decode cX0_init 17 = .ok (.putfield 13, 3) := dk_181 0 13 (dk_at dksX0_init_0 17 rfl rfl)
theorem dX0_init_20 : decode cX0_init 20 = .ok (.aload_n 0, 1) := dk_42 (dk_at dksX0_init_0 20 rfl rfl)
theorem dX0_init_21 : decode cX0_init 21 = .ok (.new 17, 3) := dk_187 0 17 (dk_at dksX0_init_0 21 rfl rfl)
theorem dX0_init_24 : decode cX0_init 24 = .ok (.dup, 1) := dk_89 (dk_at dksX0_init_1 0 rfl rfl)
theorem dX0_init_25 : decode cX0_init 25 = .ok (.invokespecial 19, 3) := dk_183 0 19 (dk_at dksX0_init_1 1 rfl rfl)
theorem dX0_init_28 : decode cX0_init 28 = .ok (.putfield 20, 3) := dk_181 0 20 (dk_at dksX0_init_1 4 rfl rfl)
theorem dX0_init_31 : decode cX0_init 31 = .ok (.aload_n 0, 1) := dk_42 (dk_at dksX0_init_1 7 rfl rfl)
theorem dX0_init_32 : decode cX0_init 32 = .ok (.iconst (-1), 1) := dk_2 (dk_at dksX0_init_1 8 rfl rfl)
theorem dX0_init_33 : decode cX0_init 33 = .ok (.putfield 24, 3) := dk_181 0 24 (dk_at dksX0_init_1 9 rfl rfl)
theorem dX0_init_36 : decode cX0_init 36 = .ok (.aload_n 0, 1) := dk_42 (dk_at dksX0_init_1 12 rfl rfl)
theorem dX0_init_37 : decode cX0_init 37 = .ok (.new 28, 3) := dk_187 0 28 (dk_at dksX0_init_1 13 rfl rfl)
theorem dX0_init_40 : decode cX0_init 40 = .ok (.dup, 1) := dk_89 (dk_at dksX0_init_1 16 rfl rfl)
theorem dX0_init_41 : decode cX0_init 41 = .ok (.invokespecial 30, 3) := dk_183 0 30 (dk_at dksX0_init_1 17 rfl rfl)
theorem dX0_init_44 : decode cX0_init 44 = .ok (.putfield 31, 3) := dk_181 0 31 (dk_at dksX0_init_1 20 rfl rfl)
theorem dX0_init_47 : decode cX0_init 47 = .ok (.aload_n 0, 1) := dk_42 (dk_at dksX0_init_1 23 rfl rfl)
theorem dX0_init_48 : decode cX0_init 48 = .ok (.iconst 4, 1) := dk_7 (dk_at dksX0_init_2 0 rfl rfl)
theorem dX0_init_49 : decode cX0_init 49 = .ok (.newarray .int, 2) := dk_188_10 (dk_at dksX0_init_2 1 rfl rfl)
theorem dX0_init_51 : decode cX0_init 51 = .ok (.putfield 35, 3) := dk_181 0 35 (dk_at dksX0_init_2 3 rfl rfl)
theorem dX0_init_54 : decode cX0_init 54 = .ok (.aload_n 0, 1) := dk_42 (dk_at dksX0_init_2 6 rfl rfl)
theorem dX0_init_55 : decode cX0_init 55 = .ok (.iconst 0, 1) := dk_3 (dk_at dksX0_init_2 7 rfl rfl)
theorem dX0_init_56 : decode cX0_init 56 = .ok (.newarray .int, 2) := dk_188_10 (dk_at dksX0_init_2 8 rfl rfl)
theorem dX0_init_58 : decode cX0_init 58 = .ok (.putfield 38, 3) := dk_181 0 38 (dk_at dksX0_init_2 10 rfl rfl)
theorem dX0_init_61 : decode cX0_init 61 = .ok (.aload_n 0, 1) := dk_42 (dk_at dksX0_init_2 13 rfl rfl)
theorem dX0_init_62 : decode cX0_init 62 = .ok (.iconst 4, 1) := dk_7 (dk_at dksX0_init_2 14 rfl rfl)
theorem dX0_init_63 : decode cX0_init 63 = .ok (.newarray .int, 2) := dk_188_10 (dk_at dksX0_init_2 15 rfl rfl)
theorem dX0_init_65 : decode cX0_init 65 = .ok (.putfield 41, 3) := dk_181 0 41 (dk_at dksX0_init_2 17 rfl rfl)
theorem dX0_init_68 : decode cX0_init 68 = .ok (.aload_n 0, 1) := dk_42 (dk_at dksX0_init_2 20 rfl rfl)
theorem dX0_init_69 : decode cX0_init 69 = .ok (.bipush 100, 2) := dk_16 100 (dk_at dksX0_init_2 21 rfl rfl)
theorem dX0_init_71 : decode cX0_init 71 = .ok (.newarray .int, 2) := dk_188_10 (dk_at dksX0_init_3 0 rfl rfl)
theorem dX0_init_73 : decode cX0_init 73 = .ok (.putfield 44, 3) := dk_181 0 44 (dk_at dksX0_init_3 2 rfl rfl)
theorem dX0_init_76 : decode cX0_init 76 = .ok (.aload_n 0, 1) := dk_42 (dk_at dksX0_init_3 5 rfl rfl)
theorem dX0_init_77 : decode cX0_init 77 = .ok (.bipush 100, 2) := dk_16 100 (dk_at dksX0_init_3 6 rfl rfl)
theorem dX0_init_79 : decode cX0_init 79 = .ok (.newarray .int, 2) := dk_188_10 (dk_at dksX0_init_3 8 rfl rfl)
theorem dX0_init_81 : decode cX0_init 81 = .ok (.putfield 47, 3) := dk_181 0 47 (dk_at dksX0_init_3 10 rfl rfl)
theorem dX0_init_84 : decode cX0_init 84 = .ok (.aload_n 0, 1) := dk_42 (dk_at dksX0_init_3 13 rfl rfl)
theorem dX0_init_85 : decode cX0_init 85 = .ok (.iconst 3, 1) := dk_6 (dk_at dksX0_init_3 14 rfl rfl)
theorem dX0_init_86 : decode cX0_init 86 = .ok (.anewarray 17, 3) := dk_189 0 17 (dk_at dksX0_init_3 15 rfl rfl)
theorem dX0_init_89 : decode cX0_init 89 = .ok (.putfield 50, 3) := dk_181 0 50 (dk_at dksX0_init_3 18 rfl rfl)
theorem dX0_init_92 : decode cX0_init 92 = .ok (.return_, 1) := dk_177 (dk_at dksX0_init_3 21 rfl rfl)
abbrev cX0_feed : ByteArray := prog_1_method_15_code
def yX0_feed : MethodName := ⟨RX0, "feed", "(IIIII)I"⟩
def dkwX0_feed_2 : List UInt8 := [42, 180, 0, 97, 172]
abbrev dktX0_feed_2 : List UInt8 := dkwX0_feed_2 ++ []
def dkwX0_feed_1 : List UInt8 := [3, 27, 79, 89, 4, 28, 79, 89, 5, 29, 79, 89, 6, 21, 4, 79, 89, 7, 21, 5, 79, 182, 0, 100]
abbrev dktX0_feed_1 : List UInt8 := dkwX0_feed_1 ++ dktX0_feed_2
def dkwX0_feed_0 : List UInt8 := [42, 180, 0, 97, 16, 20, 96, 17, 3, 232, 164, 0, 9, 42, 3, 182, 0, 93, 172, 42, 8, 188, 10, 89]
abbrev dktX0_feed_0 : List UInt8 := dkwX0_feed_0 ++ dktX0_feed_1
theorem dksX0_feed_0 : cX0_feed.data.toList.drop 0 = dktX0_feed_0 := by decide +kernel
theorem dksX0_feed_1 : cX0_feed.data.toList.drop 24 = dktX0_feed_1 := dk_seg dksX0_feed_0 24 rfl rfl
theorem dksX0_feed_2 : cX0_feed.data.toList.drop 48 = dktX0_feed_2 := dk_seg dksX0_feed_1 24 rfl rfl
theorem dX0_feed_0 : decode cX0_feed 0 = .ok (.aload_n 0, 1) := dk_42 (dk_at dksX0_feed_0 0 rfl rfl)
theorem dX0_feed_1 : decode cX0_feed 1 = .ok (.getfield 97, 3) := dk_180 0 97 (dk_at dksX0_feed_0 1 rfl rfl)
theorem dX0_feed_4 : decode cX0_feed 4 = .ok (.bipush 20, 2) := dk_16 20 (dk_at dksX0_feed_0 4 rfl rfl)
theorem dX0_feed_6 : decode cX0_feed 6 = .ok (.iadd, 1) := dk_96 (dk_at dksX0_feed_0 6 rfl rfl)
theorem dX0_feed_7 : decode cX0_feed 7 = .ok (.sipush 1000, 3) := dk_17 3 232 (dk_at dksX0_feed_0 7 rfl rfl)
theorem dX0_feed_10 : decode cX0_feed 10 = .ok (.if_icmp .le 9, 3) := dk_164 0 9 (dk_at dksX0_feed_0 10 rfl rfl)
theorem dX0_feed_13 : decode cX0_feed 13 = .ok (.aload_n 0, 1) := dk_42 (dk_at dksX0_feed_0 13 rfl rfl)
theorem dX0_feed_14 : decode cX0_feed 14 = .ok (.iconst 0, 1) := dk_3 (dk_at dksX0_feed_0 14 rfl rfl)
theorem dX0_feed_15 : decode cX0_feed 15 = .ok (.invokevirtual 93, 3) := dk_182 0 93 (dk_at dksX0_feed_0 15 rfl rfl)
theorem dX0_feed_18 : decode cX0_feed 18 = .ok (.ireturn, 1) := dk_172 (dk_at dksX0_feed_0 18 rfl rfl)
theorem dX0_feed_19 : decode cX0_feed 19 = .ok (.aload_n 0, 1) := dk_42 (dk_at dksX0_feed_0 19 rfl rfl)
theorem dX0_feed_20 : decode cX0_feed 20 = .ok (.iconst 5, 1) := dk_8 (dk_at dksX0_feed_0 20 rfl rfl)
theorem dX0_feed_21 : decode cX0_feed 21 = .ok (.newarray .int, 2) := dk_188_10 (dk_at dksX0_feed_0 21 rfl rfl)
theorem dX0_feed_23 : decode cX0_feed 23 = .ok (.dup, 1) := dk_89 (dk_at dksX0_feed_0 23 rfl rfl)
theorem dX0_feed_24 : decode cX0_feed 24 = .ok (.iconst 0, 1) := dk_3 (dk_at dksX0_feed_1 0 rfl rfl)
theorem dX0_feed_25 : decode cX0_feed 25 = .ok (.iload_n 1, 1) := dk_27 (dk_at dksX0_feed_1 1 rfl rfl)
theorem dX0_feed_26 : decode cX0_feed 26 = .ok (.iastore, 1) := dk_79 (dk_at dksX0_feed_1 2 rfl rfl)
theorem dX0_feed_27 : decode cX0_feed 27 = .ok (.dup, 1) := dk_89 (dk_at dksX0_feed_1 3 rfl rfl)
theorem dX0_feed_28 : decode cX0_feed 28 = .ok (.iconst 1, 1) := dk_4 (dk_at dksX0_feed_1 4 rfl rfl)
theorem dX0_feed_29 : decode cX0_feed 29 = .ok (.iload_n 2, 1) := dk_28 (dk_at dksX0_feed_1 5 rfl rfl)
theorem dX0_feed_30 : decode cX0_feed 30 = .ok (.iastore, 1) := dk_79 (dk_at dksX0_feed_1 6 rfl rfl)
theorem dX0_feed_31 : decode cX0_feed 31 = .ok (.dup, 1) := dk_89 (dk_at dksX0_feed_1 7 rfl rfl)
theorem dX0_feed_32 : decode cX0_feed 32 = .ok (.iconst 2, 1) := dk_5 (dk_at dksX0_feed_1 8 rfl rfl)
theorem dX0_feed_33 : decode cX0_feed 33 = .ok (.iload_n 3, 1) := dk_29 (dk_at dksX0_feed_1 9 rfl rfl)
theorem dX0_feed_34 : decode cX0_feed 34 = .ok (.iastore, 1) := dk_79 (dk_at dksX0_feed_1 10 rfl rfl)
theorem dX0_feed_35 : decode cX0_feed 35 = .ok (.dup, 1) := dk_89 (dk_at dksX0_feed_1 11 rfl rfl)
theorem dX0_feed_36 : decode cX0_feed 36 = .ok (.iconst 3, 1) := dk_6 (dk_at dksX0_feed_1 12 rfl rfl)
theorem dX0_feed_37 : decode cX0_feed 37 = .ok (.iload 4, 2) := dk_21 4 (dk_at dksX0_feed_1 13 rfl rfl)
theorem dX0_feed_39 : decode cX0_feed 39 = .ok (.iastore, 1) := dk_79 (dk_at dksX0_feed_1 15 rfl rfl)
theorem dX0_feed_40 : decode cX0_feed 40 = .ok (.dup, 1) := dk_89 (dk_at dksX0_feed_1 16 rfl rfl)
theorem dX0_feed_41 : decode cX0_feed 41 = .ok (.iconst 4, 1) := dk_7 (dk_at dksX0_feed_1 17 rfl rfl)
theorem dX0_feed_42 : decode cX0_feed 42 = .ok (.iload 5, 2) := dk_21 5 (dk_at dksX0_feed_1 18 rfl rfl)
theorem dX0_feed_44 : decode cX0_feed 44 = .ok (.iastore, 1) := dk_79 (dk_at dksX0_feed_1 20 rfl rfl)
theorem dX0_feed_45 : decode cX0_feed 45 = .ok (.invokevirtual 100, 3) := dk_182 0 100 (dk_at dksX0_feed_1 21 rfl rfl)
theorem dX0_feed_48 : decode cX0_feed 48 = .ok (.aload_n 0, 1) := dk_42 (dk_at dksX0_feed_2 0 rfl rfl)
theorem dX0_feed_49 : decode cX0_feed 49 = .ok (.getfield 97, 3) := dk_180 0 97 (dk_at dksX0_feed_2 1 rfl rfl)
theorem dX0_feed_52 : decode cX0_feed 52 = .ok (.ireturn, 1) := dk_172 (dk_at dksX0_feed_2 4 rfl rfl)
abbrev cX0_refused : ByteArray := prog_1_method_12_code
def yX0_refused : MethodName := ⟨RX0, "refused", "(I)I"⟩
def dkwX0_refused_0 : List UInt8 := [42, 180, 0, 13, 27, 92, 46, 4, 96, 79, 2, 172]
abbrev dktX0_refused_0 : List UInt8 := dkwX0_refused_0 ++ []
theorem dksX0_refused_0 : cX0_refused.data.toList.drop 0 = dktX0_refused_0 := by decide +kernel
theorem dX0_refused_0 : decode cX0_refused 0 = .ok (.aload_n 0, 1) := dk_42 (dk_at dksX0_refused_0 0 rfl rfl)
theorem dX0_refused_1 : decode cX0_refused 1 = .ok (.getfield 13, 3) := dk_180 0 13 (dk_at dksX0_refused_0 1 rfl rfl)
theorem dX0_refused_4 : decode cX0_refused 4 = .ok (.iload_n 1, 1) := dk_27 (dk_at dksX0_refused_0 4 rfl rfl)
theorem dX0_refused_5 : decode cX0_refused 5 = .ok (.dup2, 1) := dk_92 (dk_at dksX0_refused_0 5 rfl rfl)
theorem dX0_refused_6 : decode cX0_refused 6 = .ok (.iaload, 1) := dk_46 (dk_at dksX0_refused_0 6 rfl rfl)
theorem dX0_refused_7 : decode cX0_refused 7 = .ok (.iconst 1, 1) := dk_4 (dk_at dksX0_refused_0 7 rfl rfl)
theorem dX0_refused_8 : decode cX0_refused 8 = .ok (.iadd, 1) := dk_96 (dk_at dksX0_refused_0 8 rfl rfl)
theorem dX0_refused_9 : decode cX0_refused 9 = .ok (.iastore, 1) := dk_79 (dk_at dksX0_refused_0 9 rfl rfl)
theorem dX0_refused_10 : decode cX0_refused 10 = .ok (.iconst (-1), 1) := dk_2 (dk_at dksX0_refused_0 10 rfl rfl)
theorem dX0_refused_11 : decode cX0_refused 11 = .ok (.ireturn, 1) := dk_172 (dk_at dksX0_refused_0 11 rfl rfl)
abbrev cX0_puts : ByteArray := prog_1_method_14_code
def yX0_puts : MethodName := ⟨RX0, "puts", "([I)V"⟩
def dkwX0_puts_2 : List UInt8 := [180, 0, 97, 4, 96, 181, 0, 97, 132, 6, 248, 167, 255, 223, 132, 4, 1, 167, 255, 201, 177]
abbrev dktX0_puts_2 : List UInt8 := dkwX0_puts_2 ++ []
def dkwX0_puts_1 : List UInt8 := [21, 6, 155, 0, 34, 42, 180, 0, 9, 42, 180, 0, 97, 21, 5, 21, 6, 122, 145, 84, 42, 89]
abbrev dktX0_puts_1 : List UInt8 := dkwX0_puts_1 ++ dktX0_puts_2
def dkwX0_puts_0 : List UInt8 := [43, 77, 44, 190, 62, 3, 54, 4, 21, 4, 29, 162, 0, 55, 44, 21, 4, 46, 54, 5, 16, 24, 54, 6]
abbrev dktX0_puts_0 : List UInt8 := dkwX0_puts_0 ++ dktX0_puts_1
theorem dksX0_puts_0 : cX0_puts.data.toList.drop 0 = dktX0_puts_0 := by decide +kernel
theorem dksX0_puts_1 : cX0_puts.data.toList.drop 24 = dktX0_puts_1 := dk_seg dksX0_puts_0 24 rfl rfl
theorem dksX0_puts_2 : cX0_puts.data.toList.drop 46 = dktX0_puts_2 := dk_seg dksX0_puts_1 22 rfl rfl
theorem dX0_puts_0 : decode cX0_puts 0 = .ok (.aload_n 1, 1) := dk_43 (dk_at dksX0_puts_0 0 rfl rfl)
theorem dX0_puts_1 : decode cX0_puts 1 = .ok (.astore_n 2, 1) := dk_77 (dk_at dksX0_puts_0 1 rfl rfl)
theorem dX0_puts_2 : decode cX0_puts 2 = .ok (.aload_n 2, 1) := dk_44 (dk_at dksX0_puts_0 2 rfl rfl)
theorem dX0_puts_3 : decode cX0_puts 3 = .ok (.arraylength, 1) := dk_190 (dk_at dksX0_puts_0 3 rfl rfl)
theorem dX0_puts_4 : decode cX0_puts 4 = .ok (.istore_n 3, 1) := dk_62 (dk_at dksX0_puts_0 4 rfl rfl)
theorem dX0_puts_5 : decode cX0_puts 5 = .ok (.iconst 0, 1) := dk_3 (dk_at dksX0_puts_0 5 rfl rfl)
theorem dX0_puts_6 : decode cX0_puts 6 = .ok (.istore 4, 2) := dk_54 4 (dk_at dksX0_puts_0 6 rfl rfl)
theorem dX0_puts_8 : decode cX0_puts 8 = .ok (.iload 4, 2) := dk_21 4 (dk_at dksX0_puts_0 8 rfl rfl)
theorem dX0_puts_10 : decode cX0_puts 10 = .ok (.iload_n 3, 1) := dk_29 (dk_at dksX0_puts_0 10 rfl rfl)
theorem dX0_puts_11 : decode cX0_puts 11 = .ok (.if_icmp .ge 55, 3) := dk_162 0 55 (dk_at dksX0_puts_0 11 rfl rfl)
theorem dX0_puts_14 : decode cX0_puts 14 = .ok (.aload_n 2, 1) := dk_44 (dk_at dksX0_puts_0 14 rfl rfl)
theorem dX0_puts_15 : decode cX0_puts 15 = .ok (.iload 4, 2) := dk_21 4 (dk_at dksX0_puts_0 15 rfl rfl)
theorem dX0_puts_17 : decode cX0_puts 17 = .ok (.iaload, 1) := dk_46 (dk_at dksX0_puts_0 17 rfl rfl)
theorem dX0_puts_18 : decode cX0_puts 18 = .ok (.istore 5, 2) := dk_54 5 (dk_at dksX0_puts_0 18 rfl rfl)
theorem dX0_puts_20 : decode cX0_puts 20 = .ok (.bipush 24, 2) := dk_16 24 (dk_at dksX0_puts_0 20 rfl rfl)
theorem dX0_puts_22 : decode cX0_puts 22 = .ok (.istore 6, 2) := dk_54 6 (dk_at dksX0_puts_0 22 rfl rfl)
theorem dX0_puts_24 : decode cX0_puts 24 = .ok (.iload 6, 2) := dk_21 6 (dk_at dksX0_puts_1 0 rfl rfl)
theorem dX0_puts_26 : decode cX0_puts 26 = .ok (.ifCond .lt 34, 3) := dk_155 0 34 (dk_at dksX0_puts_1 2 rfl rfl)
theorem dX0_puts_29 : decode cX0_puts 29 = .ok (.aload_n 0, 1) := dk_42 (dk_at dksX0_puts_1 5 rfl rfl)
theorem dX0_puts_30 : decode cX0_puts 30 = .ok (.getfield 9, 3) := dk_180 0 9 (dk_at dksX0_puts_1 6 rfl rfl)
theorem dX0_puts_33 : decode cX0_puts 33 = .ok (.aload_n 0, 1) := dk_42 (dk_at dksX0_puts_1 9 rfl rfl)
theorem dX0_puts_34 : decode cX0_puts 34 = .ok (.getfield 97, 3) := dk_180 0 97 (dk_at dksX0_puts_1 10 rfl rfl)
theorem dX0_puts_37 : decode cX0_puts 37 = .ok (.iload 5, 2) := dk_21 5 (dk_at dksX0_puts_1 13 rfl rfl)
theorem dX0_puts_39 : decode cX0_puts 39 = .ok (.iload 6, 2) := dk_21 6 (dk_at dksX0_puts_1 15 rfl rfl)
theorem dX0_puts_41 : decode cX0_puts 41 = .ok (.ishr, 1) := dk_122 (dk_at dksX0_puts_1 17 rfl rfl)
theorem dX0_puts_42 : decode cX0_puts 42 = .ok (.i2b, 1) := dk_145 (dk_at dksX0_puts_1 18 rfl rfl)
theorem dX0_puts_43 : decode cX0_puts 43 = .ok (.bastore, 1) := dk_84 (dk_at dksX0_puts_1 19 rfl rfl)
theorem dX0_puts_44 : decode cX0_puts 44 = .ok (.aload_n 0, 1) := dk_42 (dk_at dksX0_puts_1 20 rfl rfl)
theorem dX0_puts_45 : decode cX0_puts 45 = .ok (.dup, 1) := dk_89 (dk_at dksX0_puts_1 21 rfl rfl)
theorem dX0_puts_46 : decode cX0_puts 46 = .ok (.getfield 97, 3) := dk_180 0 97 (dk_at dksX0_puts_2 0 rfl rfl)
theorem dX0_puts_49 : decode cX0_puts 49 = .ok (.iconst 1, 1) := dk_4 (dk_at dksX0_puts_2 3 rfl rfl)
theorem dX0_puts_50 : decode cX0_puts 50 = .ok (.iadd, 1) := dk_96 (dk_at dksX0_puts_2 4 rfl rfl)
theorem dX0_puts_51 : decode cX0_puts 51 = .ok (.putfield 97, 3) := dk_181 0 97 (dk_at dksX0_puts_2 5 rfl rfl)
theorem dX0_puts_54 : decode cX0_puts 54 = .ok (.iinc 6 (-8), 3) := dk_132 6 248 (dk_at dksX0_puts_2 8 rfl rfl)
theorem dX0_puts_57 : decode cX0_puts 57 = .ok (.goto (-33), 3) := dk_167 255 223 (dk_at dksX0_puts_2 11 rfl rfl)
theorem dX0_puts_60 : decode cX0_puts 60 = .ok (.iinc 4 1, 3) := dk_132 4 1 (dk_at dksX0_puts_2 14 rfl rfl)
theorem dX0_puts_63 : decode cX0_puts 63 = .ok (.goto (-55), 3) := dk_167 255 201 (dk_at dksX0_puts_2 17 rfl rfl)
theorem dX0_puts_66 : decode cX0_puts 66 = .ok (.return_, 1) := dk_177 (dk_at dksX0_puts_2 20 rfl rfl)
abbrev cX0_end : ByteArray := prog_1_method_16_code
def yX0_end : MethodName := ⟨RX0, "end", "(I)Z"⟩
def dkwX0_end_1 : List UInt8 := [172]
abbrev dktX0_end_1 : List UInt8 := dkwX0_end_1 ++ []
def dkwX0_end_0 : List UInt8 := [27, 155, 0, 11, 27, 42, 180, 0, 97, 164, 0, 9, 42, 3, 182, 0, 104, 172, 42, 27, 181, 0, 97, 4]
abbrev dktX0_end_0 : List UInt8 := dkwX0_end_0 ++ dktX0_end_1
theorem dksX0_end_0 : cX0_end.data.toList.drop 0 = dktX0_end_0 := by decide +kernel
theorem dksX0_end_1 : cX0_end.data.toList.drop 24 = dktX0_end_1 := dk_seg dksX0_end_0 24 rfl rfl
theorem dX0_end_0 : decode cX0_end 0 = .ok (.iload_n 1, 1) := dk_27 (dk_at dksX0_end_0 0 rfl rfl)
theorem dX0_end_1 : decode cX0_end 1 = .ok (.ifCond .lt 11, 3) := dk_155 0 11 (dk_at dksX0_end_0 1 rfl rfl)
theorem dX0_end_4 : decode cX0_end 4 = .ok (.iload_n 1, 1) := dk_27 (dk_at dksX0_end_0 4 rfl rfl)
theorem dX0_end_5 : decode cX0_end 5 = .ok (.aload_n 0, 1) := dk_42 (dk_at dksX0_end_0 5 rfl rfl)
theorem dX0_end_6 : decode cX0_end 6 = .ok (.getfield 97, 3) := dk_180 0 97 (dk_at dksX0_end_0 6 rfl rfl)
theorem dX0_end_9 : decode cX0_end 9 = .ok (.if_icmp .le 9, 3) := dk_164 0 9 (dk_at dksX0_end_0 9 rfl rfl)
theorem dX0_end_12 : decode cX0_end 12 = .ok (.aload_n 0, 1) := dk_42 (dk_at dksX0_end_0 12 rfl rfl)
theorem dX0_end_13 : decode cX0_end 13 = .ok (.iconst 0, 1) := dk_3 (dk_at dksX0_end_0 13 rfl rfl)
theorem dX0_end_14 : decode cX0_end 14 = .ok (.invokevirtual 104, 3) := dk_182 0 104 (dk_at dksX0_end_0 14 rfl rfl)
theorem dX0_end_17 : decode cX0_end 17 = .ok (.ireturn, 1) := dk_172 (dk_at dksX0_end_0 17 rfl rfl)
theorem dX0_end_18 : decode cX0_end 18 = .ok (.aload_n 0, 1) := dk_42 (dk_at dksX0_end_0 18 rfl rfl)
theorem dX0_end_19 : decode cX0_end 19 = .ok (.iload_n 1, 1) := dk_27 (dk_at dksX0_end_0 19 rfl rfl)
theorem dX0_end_20 : decode cX0_end 20 = .ok (.putfield 97, 3) := dk_181 0 97 (dk_at dksX0_end_0 20 rfl rfl)
theorem dX0_end_23 : decode cX0_end 23 = .ok (.iconst 1, 1) := dk_4 (dk_at dksX0_end_0 23 rfl rfl)
theorem dX0_end_24 : decode cX0_end 24 = .ok (.ireturn, 1) := dk_172 (dk_at dksX0_end_1 0 rfl rfl)
abbrev cX0_refuses : ByteArray := prog_1_method_13_code
def yX0_refuses : MethodName := ⟨RX0, "refuses", "(I)Z"⟩
def dkwX0_refuses_0 : List UInt8 := [42, 27, 182, 0, 93, 2, 159, 0, 7, 4, 167, 0, 4, 3, 172]
abbrev dktX0_refuses_0 : List UInt8 := dkwX0_refuses_0 ++ []
theorem dksX0_refuses_0 : cX0_refuses.data.toList.drop 0 = dktX0_refuses_0 := by decide +kernel
theorem dX0_refuses_0 : decode cX0_refuses 0 = .ok (.aload_n 0, 1) := dk_42 (dk_at dksX0_refuses_0 0 rfl rfl)
theorem dX0_refuses_1 : decode cX0_refuses 1 = .ok (.iload_n 1, 1) := dk_27 (dk_at dksX0_refuses_0 1 rfl rfl)
theorem dX0_refuses_2 : decode cX0_refuses 2 = .ok (.invokevirtual 93, 3) := dk_182 0 93 (dk_at dksX0_refuses_0 2 rfl rfl)
theorem dX0_refuses_5 : decode cX0_refuses 5 = .ok (.iconst (-1), 1) := dk_2 (dk_at dksX0_refuses_0 5 rfl rfl)
theorem dX0_refuses_6 : decode cX0_refuses 6 = .ok (.if_icmp .eq 7, 3) := dk_159 0 7 (dk_at dksX0_refuses_0 6 rfl rfl)
theorem dX0_refuses_9 : decode cX0_refuses 9 = .ok (.iconst 1, 1) := dk_4 (dk_at dksX0_refuses_0 9 rfl rfl)
theorem dX0_refuses_10 : decode cX0_refuses 10 = .ok (.goto 4, 3) := dk_167 0 4 (dk_at dksX0_refuses_0 10 rfl rfl)
theorem dX0_refuses_13 : decode cX0_refuses 13 = .ok (.iconst 0, 1) := dk_3 (dk_at dksX0_refuses_0 13 rfl rfl)
theorem dX0_refuses_14 : decode cX0_refuses 14 = .ok (.ireturn, 1) := dk_172 (dk_at dksX0_refuses_0 14 rfl rfl)
abbrev cX0_status : ByteArray := prog_1_method_18_code
def yX0_status : MethodName := ⟨RX0, "status", "(I)I"⟩
def dkwX0_status_0 : List UInt8 := [27, 133, 9, 20, 0, 108, 184, 0, 110, 153, 0, 12, 42, 180, 0, 13, 27, 46, 167, 0, 4, 2, 172]
abbrev dktX0_status_0 : List UInt8 := dkwX0_status_0 ++ []
theorem dksX0_status_0 : cX0_status.data.toList.drop 0 = dktX0_status_0 := by decide +kernel
theorem dX0_status_0 : decode cX0_status 0 = .ok (.iload_n 1, 1) := dk_27 (dk_at dksX0_status_0 0 rfl rfl)
theorem dX0_status_1 : decode cX0_status 1 = .ok (.i2l, 1) := dk_133 (dk_at dksX0_status_0 1 rfl rfl)
theorem dX0_status_2 : decode cX0_status 2 = .ok (.lconst 0, 1) := dk_9 (dk_at dksX0_status_0 2 rfl rfl)
theorem dX0_status_3 : decode cX0_status 3 = .ok (.ldc2_w 108, 3) := dk_20 0 108 (dk_at dksX0_status_0 3 rfl rfl)
theorem dX0_status_6 : decode cX0_status 6 = .ok (.invokestatic 110, 3) := dk_184 0 110 (dk_at dksX0_status_0 6 rfl rfl)
theorem dX0_status_9 : decode cX0_status 9 = .ok (.ifCond .eq 12, 3) := dk_153 0 12 (dk_at dksX0_status_0 9 rfl rfl)
theorem dX0_status_12 : decode cX0_status 12 = .ok (.aload_n 0, 1) := dk_42 (dk_at dksX0_status_0 12 rfl rfl)
theorem dX0_status_13 : decode cX0_status 13 = .ok (.getfield 13, 3) := dk_180 0 13 (dk_at dksX0_status_0 13 rfl rfl)
theorem dX0_status_16 : decode cX0_status 16 = .ok (.iload_n 1, 1) := dk_27 (dk_at dksX0_status_0 16 rfl rfl)
theorem dX0_status_17 : decode cX0_status 17 = .ok (.iaload, 1) := dk_46 (dk_at dksX0_status_0 17 rfl rfl)
theorem dX0_status_18 : decode cX0_status 18 = .ok (.goto 4, 3) := dk_167 0 4 (dk_at dksX0_status_0 18 rfl rfl)
theorem dX0_status_21 : decode cX0_status 21 = .ok (.iconst (-1), 1) := dk_2 (dk_at dksX0_status_0 21 rfl rfl)
theorem dX0_status_22 : decode cX0_status 22 = .ok (.ireturn, 1) := dk_172 (dk_at dksX0_status_0 22 rfl rfl)
abbrev cX0_isIn : ByteArray := prog_1_method_2_code
def yX0_isIn : MethodName := ⟨RX0, "isIn", "(JJJ)Z"⟩
def dkwX0_isIn_0 : List UInt8 := [30, 32, 148, 155, 0, 14, 30, 22, 4, 148, 157, 0, 7, 4, 167, 0, 4, 3, 172]
abbrev dktX0_isIn_0 : List UInt8 := dkwX0_isIn_0 ++ []
theorem dksX0_isIn_0 : cX0_isIn.data.toList.drop 0 = dktX0_isIn_0 := by decide +kernel
theorem dX0_isIn_0 : decode cX0_isIn 0 = .ok (.lload_n 0, 1) := dk_30 (dk_at dksX0_isIn_0 0 rfl rfl)
theorem dX0_isIn_1 : decode cX0_isIn 1 = .ok (.lload_n 2, 1) := dk_32 (dk_at dksX0_isIn_0 1 rfl rfl)
theorem dX0_isIn_2 : decode cX0_isIn 2 = .ok (.lcmp, 1) := dk_148 (dk_at dksX0_isIn_0 2 rfl rfl)
theorem dX0_isIn_3 : decode cX0_isIn 3 = .ok (.ifCond .lt 14, 3) := dk_155 0 14 (dk_at dksX0_isIn_0 3 rfl rfl)
theorem dX0_isIn_6 : decode cX0_isIn 6 = .ok (.lload_n 0, 1) := dk_30 (dk_at dksX0_isIn_0 6 rfl rfl)
theorem dX0_isIn_7 : decode cX0_isIn 7 = .ok (.lload 4, 2) := dk_22 4 (dk_at dksX0_isIn_0 7 rfl rfl)
theorem dX0_isIn_9 : decode cX0_isIn 9 = .ok (.lcmp, 1) := dk_148 (dk_at dksX0_isIn_0 9 rfl rfl)
theorem dX0_isIn_10 : decode cX0_isIn 10 = .ok (.ifCond .gt 7, 3) := dk_157 0 7 (dk_at dksX0_isIn_0 10 rfl rfl)
theorem dX0_isIn_13 : decode cX0_isIn 13 = .ok (.iconst 1, 1) := dk_4 (dk_at dksX0_isIn_0 13 rfl rfl)
theorem dX0_isIn_14 : decode cX0_isIn 14 = .ok (.goto 4, 3) := dk_167 0 4 (dk_at dksX0_isIn_0 14 rfl rfl)
theorem dX0_isIn_17 : decode cX0_isIn 17 = .ok (.iconst 0, 1) := dk_3 (dk_at dksX0_isIn_0 17 rfl rfl)
theorem dX0_isIn_18 : decode cX0_isIn 18 = .ok (.ireturn, 1) := dk_172 (dk_at dksX0_isIn_0 18 rfl rfl)
abbrev cX0_text : ByteArray := prog_1_method_20_code
def yX0_text : MethodName := ⟨RX0, "text", "()I"⟩
def dkwX0_text_3 : List UInt8 := [4, 182, 0, 93, 172]
abbrev dktX0_text_3 : List UInt8 := dkwX0_text_3 ++ []
def dkwX0_text_2 : List UInt8 := [185, 0, 114, 1, 0, 172, 77, 42, 44, 180, 0, 156, 181, 0, 140, 42, 44, 180, 0, 159, 181, 0, 24, 42]
abbrev dktX0_text_2 : List UInt8 := dkwX0_text_2 ++ dktX0_text_3
def dkwX0_text_1 : List UInt8 := [2, 181, 0, 24, 42, 44, 182, 0, 143, 42, 1, 181, 0, 147, 42, 180, 0, 20, 180, 0, 151]
abbrev dktX0_text_1 : List UInt8 := dkwX0_text_1 ++ dktX0_text_2
def dkwX0_text_0 : List UInt8 := [187, 0, 128, 89, 42, 42, 182, 0, 130, 183, 0, 133, 76, 43, 182, 0, 136, 77, 42, 3, 181, 0, 140, 42]
abbrev dktX0_text_0 : List UInt8 := dkwX0_text_0 ++ dktX0_text_1
theorem dksX0_text_0 : cX0_text.data.toList.drop 0 = dktX0_text_0 := by decide +kernel
theorem dksX0_text_1 : cX0_text.data.toList.drop 24 = dktX0_text_1 := dk_seg dksX0_text_0 24 rfl rfl
theorem dksX0_text_2 : cX0_text.data.toList.drop 45 = dktX0_text_2 := dk_seg dksX0_text_1 21 rfl rfl
theorem dksX0_text_3 : cX0_text.data.toList.drop 69 = dktX0_text_3 := dk_seg dksX0_text_2 24 rfl rfl
theorem dX0_text_0 : decode cX0_text 0 = .ok (.new 128, 3) := dk_187 0 128 (dk_at dksX0_text_0 0 rfl rfl)
theorem dX0_text_3 : decode cX0_text 3 = .ok (.dup, 1) := dk_89 (dk_at dksX0_text_0 3 rfl rfl)
theorem dX0_text_4 : decode cX0_text 4 = .ok (.aload_n 0, 1) := dk_42 (dk_at dksX0_text_0 4 rfl rfl)
theorem dX0_text_5 : decode cX0_text 5 = .ok (.aload_n 0, 1) := dk_42 (dk_at dksX0_text_0 5 rfl rfl)
theorem dX0_text_6 : decode cX0_text 6 = .ok (.invokevirtual 130, 3) := dk_182 0 130 (dk_at dksX0_text_0 6 rfl rfl)
theorem dX0_text_9 : decode cX0_text 9 = .ok (.invokespecial 133, 3) := dk_183 0 133 (dk_at dksX0_text_0 9 rfl rfl)
theorem dX0_text_12 : decode cX0_text 12 = .ok (.astore_n 1, 1) := dk_76 (dk_at dksX0_text_0 12 rfl rfl)
theorem dX0_text_13 : decode cX0_text 13 = .ok (.aload_n 1, 1) := dk_43 (dk_at dksX0_text_0 13 rfl rfl)
theorem dX0_text_14 : decode cX0_text 14 = .ok (.invokevirtual 136, 3) := dk_182 0 136 (dk_at dksX0_text_0 14 rfl rfl)
theorem dX0_text_17 : decode cX0_text 17 = .ok (.astore_n 2, 1) := dk_77 (dk_at dksX0_text_0 17 rfl rfl)
theorem dX0_text_18 : decode cX0_text 18 = .ok (.aload_n 0, 1) := dk_42 (dk_at dksX0_text_0 18 rfl rfl)
theorem dX0_text_19 : decode cX0_text 19 = .ok (.iconst 0, 1) := dk_3 (dk_at dksX0_text_0 19 rfl rfl)
theorem dX0_text_20 : decode cX0_text 20 = .ok (.putfield 140, 3) := dk_181 0 140 (dk_at dksX0_text_0 20 rfl rfl)
theorem dX0_text_23 : decode cX0_text 23 = .ok (.aload_n 0, 1) := dk_42 (dk_at dksX0_text_0 23 rfl rfl)
theorem dX0_text_24 : decode cX0_text 24 = .ok (.iconst (-1), 1) := dk_2 (dk_at dksX0_text_1 0 rfl rfl)
theorem dX0_text_25 : decode cX0_text 25 = .ok (.putfield 24, 3) := dk_181 0 24 (dk_at dksX0_text_1 1 rfl rfl)
theorem dX0_text_28 : decode cX0_text 28 = .ok (.aload_n 0, 1) := dk_42 (dk_at dksX0_text_1 4 rfl rfl)
theorem dX0_text_29 : decode cX0_text 29 = .ok (.aload_n 2, 1) := dk_44 (dk_at dksX0_text_1 5 rfl rfl)
theorem dX0_text_30 : decode cX0_text 30 = .ok (.invokevirtual 143, 3) := dk_182 0 143 (dk_at dksX0_text_1 6 rfl rfl)
theorem dX0_text_33 : decode cX0_text 33 = .ok (.aload_n 0, 1) := dk_42 (dk_at dksX0_text_1 9 rfl rfl)
theorem dX0_text_34 : decode cX0_text 34 = .ok (.aconst_null, 1) := dk_1 (dk_at dksX0_text_1 10 rfl rfl)
theorem dX0_text_35 : decode cX0_text 35 = .ok (.putfield 147, 3) := dk_181 0 147 (dk_at dksX0_text_1 11 rfl rfl)
theorem dX0_text_38 : decode cX0_text 38 = .ok (.aload_n 0, 1) := dk_42 (dk_at dksX0_text_1 14 rfl rfl)
theorem dX0_text_39 : decode cX0_text 39 = .ok (.getfield 20, 3) := dk_180 0 20 (dk_at dksX0_text_1 15 rfl rfl)
theorem dX0_text_42 : decode cX0_text 42 = .ok (.getfield 151, 3) := dk_180 0 151 (dk_at dksX0_text_1 18 rfl rfl)
theorem dX0_text_45 : decode cX0_text 45 = .ok (.invokeinterface 114 1, 5) := by decide +kernel
theorem dX0_text_50 : decode cX0_text 50 = .ok (.ireturn, 1) := dk_172 (dk_at dksX0_text_2 5 rfl rfl)
theorem dX0_text_51 : decode cX0_text 51 = .ok (.astore_n 2, 1) := dk_77 (dk_at dksX0_text_2 6 rfl rfl)
theorem dX0_text_52 : decode cX0_text 52 = .ok (.aload_n 0, 1) := dk_42 (dk_at dksX0_text_2 7 rfl rfl)
theorem dX0_text_53 : decode cX0_text 53 = .ok (.aload_n 2, 1) := dk_44 (dk_at dksX0_text_2 8 rfl rfl)
theorem dX0_text_54 : decode cX0_text 54 = .ok (.getfield 156, 3) := dk_180 0 156 (dk_at dksX0_text_2 9 rfl rfl)
theorem dX0_text_57 : decode cX0_text 57 = .ok (.putfield 140, 3) := dk_181 0 140 (dk_at dksX0_text_2 12 rfl rfl)
theorem dX0_text_60 : decode cX0_text 60 = .ok (.aload_n 0, 1) := dk_42 (dk_at dksX0_text_2 15 rfl rfl)
theorem dX0_text_61 : decode cX0_text 61 = .ok (.aload_n 2, 1) := dk_44 (dk_at dksX0_text_2 16 rfl rfl)
theorem dX0_text_62 : decode cX0_text 62 = .ok (.getfield 159, 3) := dk_180 0 159 (dk_at dksX0_text_2 17 rfl rfl)
theorem dX0_text_65 : decode cX0_text 65 = .ok (.putfield 24, 3) := dk_181 0 24 (dk_at dksX0_text_2 20 rfl rfl)
theorem dX0_text_68 : decode cX0_text 68 = .ok (.aload_n 0, 1) := dk_42 (dk_at dksX0_text_2 23 rfl rfl)
theorem dX0_text_69 : decode cX0_text 69 = .ok (.iconst 1, 1) := dk_4 (dk_at dksX0_text_3 0 rfl rfl)
theorem dX0_text_70 : decode cX0_text 70 = .ok (.invokevirtual 93, 3) := dk_182 0 93 (dk_at dksX0_text_3 1 rfl rfl)
theorem dX0_text_73 : decode cX0_text 73 = .ok (.ireturn, 1) := dk_172 (dk_at dksX0_text_3 4 rfl rfl)
abbrev cX0_takesTape : ByteArray := prog_1_method_17_code
def yX0_takesTape : MethodName := ⟨RX0, "takesTape", "()I"⟩
def dkwX0_takesTape_0 : List UInt8 := [42, 180, 0, 97, 60, 42, 3, 181, 0, 97, 27, 172]
abbrev dktX0_takesTape_0 : List UInt8 := dkwX0_takesTape_0 ++ []
theorem dksX0_takesTape_0 : cX0_takesTape.data.toList.drop 0 = dktX0_takesTape_0 := by decide +kernel
theorem dX0_takesTape_0 : decode cX0_takesTape 0 = .ok (.aload_n 0, 1) := dk_42 (dk_at dksX0_takesTape_0 0 rfl rfl)
theorem dX0_takesTape_1 : decode cX0_takesTape 1 = .ok (.getfield 97, 3) := dk_180 0 97 (dk_at dksX0_takesTape_0 1 rfl rfl)
theorem dX0_takesTape_4 : decode cX0_takesTape 4 = .ok (.istore_n 1, 1) := dk_60 (dk_at dksX0_takesTape_0 4 rfl rfl)
theorem dX0_takesTape_5 : decode cX0_takesTape 5 = .ok (.aload_n 0, 1) := dk_42 (dk_at dksX0_takesTape_0 5 rfl rfl)
theorem dX0_takesTape_6 : decode cX0_takesTape 6 = .ok (.iconst 0, 1) := dk_3 (dk_at dksX0_takesTape_0 6 rfl rfl)
theorem dX0_takesTape_7 : decode cX0_takesTape 7 = .ok (.putfield 97, 3) := dk_181 0 97 (dk_at dksX0_takesTape_0 7 rfl rfl)
theorem dX0_takesTape_10 : decode cX0_takesTape 10 = .ok (.iload_n 1, 1) := dk_27 (dk_at dksX0_takesTape_0 10 rfl rfl)
theorem dX0_takesTape_11 : decode cX0_takesTape 11 = .ok (.ireturn, 1) := dk_172 (dk_at dksX0_takesTape_0 11 rfl rfl)
abbrev cX0_becomes : ByteArray := prog_1_method_19_code
def yX0_becomes : MethodName := ⟨RX0, "becomes", "(LQuotientRows$State;)V"⟩
def dkwX0_becomes_1 : List UInt8 := [87, 42, 180, 0, 31, 42, 180, 0, 20, 185, 0, 124, 2, 0, 87, 42, 43, 181, 0, 20, 177]
abbrev dktX0_becomes_1 : List UInt8 := dkwX0_becomes_1 ++ []
def dkwX0_becomes_0 : List UInt8 := [42, 180, 0, 31, 185, 0, 114, 1, 0, 16, 20, 160, 0, 14, 42, 180, 0, 31, 3, 185, 0, 120, 2, 0]
abbrev dktX0_becomes_0 : List UInt8 := dkwX0_becomes_0 ++ dktX0_becomes_1
theorem dksX0_becomes_0 : cX0_becomes.data.toList.drop 0 = dktX0_becomes_0 := by decide +kernel
theorem dksX0_becomes_1 : cX0_becomes.data.toList.drop 24 = dktX0_becomes_1 := dk_seg dksX0_becomes_0 24 rfl rfl
theorem dX0_becomes_0 : decode cX0_becomes 0 = .ok (.aload_n 0, 1) := dk_42 (dk_at dksX0_becomes_0 0 rfl rfl)
theorem dX0_becomes_1 : decode cX0_becomes 1 = .ok (.getfield 31, 3) := dk_180 0 31 (dk_at dksX0_becomes_0 1 rfl rfl)
theorem dX0_becomes_4 : decode cX0_becomes 4 = .ok (.invokeinterface 114 1, 5) := by decide +kernel
theorem dX0_becomes_9 : decode cX0_becomes 9 = .ok (.bipush 20, 2) := dk_16 20 (dk_at dksX0_becomes_0 9 rfl rfl)
theorem dX0_becomes_11 : decode cX0_becomes 11 = .ok (.if_icmp .ne 14, 3) := dk_160 0 14 (dk_at dksX0_becomes_0 11 rfl rfl)
theorem dX0_becomes_14 : decode cX0_becomes 14 = .ok (.aload_n 0, 1) := dk_42 (dk_at dksX0_becomes_0 14 rfl rfl)
theorem dX0_becomes_15 : decode cX0_becomes 15 = .ok (.getfield 31, 3) := dk_180 0 31 (dk_at dksX0_becomes_0 15 rfl rfl)
theorem dX0_becomes_18 : decode cX0_becomes 18 = .ok (.iconst 0, 1) := dk_3 (dk_at dksX0_becomes_0 18 rfl rfl)
theorem dX0_becomes_19 : decode cX0_becomes 19 = .ok (.invokeinterface 120 2, 5) := by decide +kernel
theorem dX0_becomes_24 : decode cX0_becomes 24 = .ok (.pop, 1) := dk_87 (dk_at dksX0_becomes_1 0 rfl rfl)
theorem dX0_becomes_25 : decode cX0_becomes 25 = .ok (.aload_n 0, 1) := dk_42 (dk_at dksX0_becomes_1 1 rfl rfl)
theorem dX0_becomes_26 : decode cX0_becomes 26 = .ok (.getfield 31, 3) := dk_180 0 31 (dk_at dksX0_becomes_1 2 rfl rfl)
theorem dX0_becomes_29 : decode cX0_becomes 29 = .ok (.aload_n 0, 1) := dk_42 (dk_at dksX0_becomes_1 5 rfl rfl)
theorem dX0_becomes_30 : decode cX0_becomes 30 = .ok (.getfield 20, 3) := dk_180 0 20 (dk_at dksX0_becomes_1 6 rfl rfl)
theorem dX0_becomes_33 : decode cX0_becomes 33 = .ok (.invokeinterface 124 2, 5) := by decide +kernel
theorem dX0_becomes_38 : decode cX0_becomes 38 = .ok (.pop, 1) := dk_87 (dk_at dksX0_becomes_1 14 rfl rfl)
theorem dX0_becomes_39 : decode cX0_becomes 39 = .ok (.aload_n 0, 1) := dk_42 (dk_at dksX0_becomes_1 15 rfl rfl)
theorem dX0_becomes_40 : decode cX0_becomes 40 = .ok (.aload_n 1, 1) := dk_43 (dk_at dksX0_becomes_1 16 rfl rfl)
theorem dX0_becomes_41 : decode cX0_becomes 41 = .ok (.putfield 20, 3) := dk_181 0 20 (dk_at dksX0_becomes_1 17 rfl rfl)
theorem dX0_becomes_44 : decode cX0_becomes 44 = .ok (.return_, 1) := dk_177 (dk_at dksX0_becomes_1 20 rfl rfl)
abbrev cX0_fault : ByteArray := prog_1_method_21_code
def yX0_fault : MethodName := ⟨RX0, "fault", "(I)I"⟩
def dkwX0_fault_1 : List UInt8 := [172]
abbrev dktX0_fault_1 : List UInt8 := dkwX0_fault_1 ++ []
def dkwX0_fault_0 : List UInt8 := [27, 154, 0, 10, 42, 180, 0, 140, 167, 0, 16, 27, 4, 160, 0, 10, 42, 180, 0, 24, 167, 0, 4, 2]
abbrev dktX0_fault_0 : List UInt8 := dkwX0_fault_0 ++ dktX0_fault_1
theorem dksX0_fault_0 : cX0_fault.data.toList.drop 0 = dktX0_fault_0 := by decide +kernel
theorem dksX0_fault_1 : cX0_fault.data.toList.drop 24 = dktX0_fault_1 := dk_seg dksX0_fault_0 24 rfl rfl
theorem dX0_fault_0 : decode cX0_fault 0 = .ok (.iload_n 1, 1) := dk_27 (dk_at dksX0_fault_0 0 rfl rfl)
theorem dX0_fault_1 : decode cX0_fault 1 = .ok (.ifCond .ne 10, 3) := dk_154 0 10 (dk_at dksX0_fault_0 1 rfl rfl)
theorem dX0_fault_4 : decode cX0_fault 4 = .ok (.aload_n 0, 1) := dk_42 (dk_at dksX0_fault_0 4 rfl rfl)
theorem dX0_fault_5 : decode cX0_fault 5 = .ok (.getfield 140, 3) := dk_180 0 140 (dk_at dksX0_fault_0 5 rfl rfl)
theorem dX0_fault_8 : decode cX0_fault 8 = .ok (.goto 16, 3) := dk_167 0 16 (dk_at dksX0_fault_0 8 rfl rfl)
theorem dX0_fault_11 : decode cX0_fault 11 = .ok (.iload_n 1, 1) := dk_27 (dk_at dksX0_fault_0 11 rfl rfl)
theorem dX0_fault_12 : decode cX0_fault 12 = .ok (.iconst 1, 1) := dk_4 (dk_at dksX0_fault_0 12 rfl rfl)
theorem dX0_fault_13 : decode cX0_fault 13 = .ok (.if_icmp .ne 10, 3) := dk_160 0 10 (dk_at dksX0_fault_0 13 rfl rfl)
theorem dX0_fault_16 : decode cX0_fault 16 = .ok (.aload_n 0, 1) := dk_42 (dk_at dksX0_fault_0 16 rfl rfl)
theorem dX0_fault_17 : decode cX0_fault 17 = .ok (.getfield 24, 3) := dk_180 0 24 (dk_at dksX0_fault_0 17 rfl rfl)
theorem dX0_fault_20 : decode cX0_fault 20 = .ok (.goto 4, 3) := dk_167 0 4 (dk_at dksX0_fault_0 20 rfl rfl)
theorem dX0_fault_23 : decode cX0_fault 23 = .ok (.iconst (-1), 1) := dk_2 (dk_at dksX0_fault_0 23 rfl rfl)
theorem dX0_fault_24 : decode cX0_fault 24 = .ok (.ireturn, 1) := dk_172 (dk_at dksX0_fault_1 0 rfl rfl)
abbrev cX0_has : ByteArray := prog_1_method_22_code
def yX0_has : MethodName := ⟨RX0, "has", "(I)I"⟩
def dkwX0_has_5 : List UInt8 := [185, 0, 114, 1, 0, 172, 2, 172]
abbrev dktX0_has_5 : List UInt8 := dkwX0_has_5 ++ []
def dkwX0_has_4 : List UInt8 := [184, 0, 168, 172, 42, 180, 0, 147, 199, 0, 7, 2, 167, 0, 7, 42, 180, 0, 172, 172, 42, 180, 0, 31]
abbrev dktX0_has_4 : List UInt8 := dkwX0_has_4 ++ dktX0_has_5
def dkwX0_has_3 : List UInt8 := [180, 0, 20, 180, 0, 165, 190, 172, 42, 180, 0, 147, 199, 0, 7, 3, 167, 0, 10, 42, 180, 0, 147]
abbrev dktX0_has_3 : List UInt8 := dkwX0_has_3 ++ dktX0_has_4
def dkwX0_has_2 : List UInt8 := [42, 180, 0, 20, 180, 0, 162, 172, 42, 180, 0, 20, 180, 0, 151, 185, 0, 114, 1, 0, 172, 42]
abbrev dktX0_has_2 : List UInt8 := dkwX0_has_2 ++ dktX0_has_3
def dkwX0_has_1 : List UInt8 := [170, 0, 0, 0, 0, 0, 114, 0, 0, 0, 0, 0, 0, 0, 5, 0, 0, 0, 39, 0, 0, 0, 47, 0, 0, 0, 60, 0, 0, 0, 69, 0, 0, 0, 88, 0, 0, 0, 104]
abbrev dktX0_has_1 : List UInt8 := dkwX0_has_1 ++ dktX0_has_2
def dkwX0_has_0 : List UInt8 := [27]
abbrev dktX0_has_0 : List UInt8 := dkwX0_has_0 ++ dktX0_has_1
theorem dksX0_has_0 : cX0_has.data.toList.drop 0 = dktX0_has_0 := by decide +kernel
theorem dksX0_has_1 : cX0_has.data.toList.drop 1 = dktX0_has_1 := dk_seg dksX0_has_0 1 rfl rfl
theorem dksX0_has_2 : cX0_has.data.toList.drop 40 = dktX0_has_2 := dk_seg dksX0_has_1 39 rfl rfl
theorem dksX0_has_3 : cX0_has.data.toList.drop 62 = dktX0_has_3 := dk_seg dksX0_has_2 22 rfl rfl
theorem dksX0_has_4 : cX0_has.data.toList.drop 85 = dktX0_has_4 := dk_seg dksX0_has_3 23 rfl rfl
theorem dksX0_has_5 : cX0_has.data.toList.drop 109 = dktX0_has_5 := dk_seg dksX0_has_4 24 rfl rfl
theorem dX0_has_0 : decode cX0_has 0 = .ok (.iload_n 1, 1) := dk_27 (dk_at dksX0_has_0 0 rfl rfl)
theorem dX0_has_1 : decode cX0_has 1 = .ok (.tableswitch 114 0 5 #[39, 47, 60, 69, 88, 104], 39) := by decide +kernel
theorem dX0_has_40 : decode cX0_has 40 = .ok (.aload_n 0, 1) := dk_42 (dk_at dksX0_has_2 0 rfl rfl)
theorem dX0_has_41 : decode cX0_has 41 = .ok (.getfield 20, 3) := dk_180 0 20 (dk_at dksX0_has_2 1 rfl rfl)
theorem dX0_has_44 : decode cX0_has 44 = .ok (.getfield 162, 3) := dk_180 0 162 (dk_at dksX0_has_2 4 rfl rfl)
theorem dX0_has_47 : decode cX0_has 47 = .ok (.ireturn, 1) := dk_172 (dk_at dksX0_has_2 7 rfl rfl)
theorem dX0_has_48 : decode cX0_has 48 = .ok (.aload_n 0, 1) := dk_42 (dk_at dksX0_has_2 8 rfl rfl)
theorem dX0_has_49 : decode cX0_has 49 = .ok (.getfield 20, 3) := dk_180 0 20 (dk_at dksX0_has_2 9 rfl rfl)
theorem dX0_has_52 : decode cX0_has 52 = .ok (.getfield 151, 3) := dk_180 0 151 (dk_at dksX0_has_2 12 rfl rfl)
theorem dX0_has_55 : decode cX0_has 55 = .ok (.invokeinterface 114 1, 5) := by decide +kernel
theorem dX0_has_60 : decode cX0_has 60 = .ok (.ireturn, 1) := dk_172 (dk_at dksX0_has_2 20 rfl rfl)
theorem dX0_has_61 : decode cX0_has 61 = .ok (.aload_n 0, 1) := dk_42 (dk_at dksX0_has_2 21 rfl rfl)
theorem dX0_has_62 : decode cX0_has 62 = .ok (.getfield 20, 3) := dk_180 0 20 (dk_at dksX0_has_3 0 rfl rfl)
theorem dX0_has_65 : decode cX0_has 65 = .ok (.getfield 165, 3) := dk_180 0 165 (dk_at dksX0_has_3 3 rfl rfl)
theorem dX0_has_68 : decode cX0_has 68 = .ok (.arraylength, 1) := dk_190 (dk_at dksX0_has_3 6 rfl rfl)
theorem dX0_has_69 : decode cX0_has 69 = .ok (.ireturn, 1) := dk_172 (dk_at dksX0_has_3 7 rfl rfl)
theorem dX0_has_70 : decode cX0_has 70 = .ok (.aload_n 0, 1) := dk_42 (dk_at dksX0_has_3 8 rfl rfl)
theorem dX0_has_71 : decode cX0_has 71 = .ok (.getfield 147, 3) := dk_180 0 147 (dk_at dksX0_has_3 9 rfl rfl)
theorem dX0_has_74 : decode cX0_has 74 = .ok (.ifnonnull 7, 3) := dk_199 0 7 (dk_at dksX0_has_3 12 rfl rfl)
theorem dX0_has_77 : decode cX0_has 77 = .ok (.iconst 0, 1) := dk_3 (dk_at dksX0_has_3 15 rfl rfl)
theorem dX0_has_78 : decode cX0_has 78 = .ok (.goto 10, 3) := dk_167 0 10 (dk_at dksX0_has_3 16 rfl rfl)
theorem dX0_has_81 : decode cX0_has 81 = .ok (.aload_n 0, 1) := dk_42 (dk_at dksX0_has_3 19 rfl rfl)
theorem dX0_has_82 : decode cX0_has 82 = .ok (.getfield 147, 3) := dk_180 0 147 (dk_at dksX0_has_3 20 rfl rfl)
theorem dX0_has_85 : decode cX0_has 85 = .ok (.invokestatic 168, 3) := dk_184 0 168 (dk_at dksX0_has_4 0 rfl rfl)
theorem dX0_has_88 : decode cX0_has 88 = .ok (.ireturn, 1) := dk_172 (dk_at dksX0_has_4 3 rfl rfl)
theorem dX0_has_89 : decode cX0_has 89 = .ok (.aload_n 0, 1) := dk_42 (dk_at dksX0_has_4 4 rfl rfl)
theorem dX0_has_90 : decode cX0_has 90 = .ok (.getfield 147, 3) := dk_180 0 147 (dk_at dksX0_has_4 5 rfl rfl)
theorem dX0_has_93 : decode cX0_has 93 = .ok (.ifnonnull 7, 3) := dk_199 0 7 (dk_at dksX0_has_4 8 rfl rfl)
theorem dX0_has_96 : decode cX0_has 96 = .ok (.iconst (-1), 1) := dk_2 (dk_at dksX0_has_4 11 rfl rfl)
theorem dX0_has_97 : decode cX0_has 97 = .ok (.goto 7, 3) := dk_167 0 7 (dk_at dksX0_has_4 12 rfl rfl)
theorem dX0_has_100 : decode cX0_has 100 = .ok (.aload_n 0, 1) := dk_42 (dk_at dksX0_has_4 15 rfl rfl)
theorem dX0_has_101 : decode cX0_has 101 = .ok (.getfield 172, 3) := dk_180 0 172 (dk_at dksX0_has_4 16 rfl rfl)
theorem dX0_has_104 : decode cX0_has 104 = .ok (.ireturn, 1) := dk_172 (dk_at dksX0_has_4 19 rfl rfl)
theorem dX0_has_105 : decode cX0_has 105 = .ok (.aload_n 0, 1) := dk_42 (dk_at dksX0_has_4 20 rfl rfl)
theorem dX0_has_106 : decode cX0_has 106 = .ok (.getfield 31, 3) := dk_180 0 31 (dk_at dksX0_has_4 21 rfl rfl)
theorem dX0_has_109 : decode cX0_has 109 = .ok (.invokeinterface 114 1, 5) := by decide +kernel
theorem dX0_has_114 : decode cX0_has 114 = .ok (.ireturn, 1) := dk_172 (dk_at dksX0_has_5 5 rfl rfl)
theorem dX0_has_115 : decode cX0_has 115 = .ok (.iconst (-1), 1) := dk_2 (dk_at dksX0_has_5 6 rfl rfl)
theorem dX0_has_116 : decode cX0_has 116 = .ok (.ireturn, 1) := dk_172 (dk_at dksX0_has_5 7 rfl rfl)
abbrev cX0_held : ByteArray := prog_1_method_75_code
def yX0_held : MethodName := ⟨RX0, "held", "([Z)I"⟩
def dkwX0_held_1 : List UInt8 := [21, 5, 184, 0, 54, 96, 60, 132, 4, 1, 167, 255, 233, 27, 172]
abbrev dktX0_held_1 : List UInt8 := dkwX0_held_1 ++ []
def dkwX0_held_0 : List UInt8 := [3, 60, 42, 77, 44, 190, 62, 3, 54, 4, 21, 4, 29, 162, 0, 23, 44, 21, 4, 51, 54, 5, 27]
abbrev dktX0_held_0 : List UInt8 := dkwX0_held_0 ++ dktX0_held_1
theorem dksX0_held_0 : cX0_held.data.toList.drop 0 = dktX0_held_0 := by decide +kernel
theorem dksX0_held_1 : cX0_held.data.toList.drop 23 = dktX0_held_1 := dk_seg dksX0_held_0 23 rfl rfl
theorem dX0_held_0 : decode cX0_held 0 = .ok (.iconst 0, 1) := dk_3 (dk_at dksX0_held_0 0 rfl rfl)
theorem dX0_held_1 : decode cX0_held 1 = .ok (.istore_n 1, 1) := dk_60 (dk_at dksX0_held_0 1 rfl rfl)
theorem dX0_held_2 : decode cX0_held 2 = .ok (.aload_n 0, 1) := dk_42 (dk_at dksX0_held_0 2 rfl rfl)
theorem dX0_held_3 : decode cX0_held 3 = .ok (.astore_n 2, 1) := dk_77 (dk_at dksX0_held_0 3 rfl rfl)
theorem dX0_held_4 : decode cX0_held 4 = .ok (.aload_n 2, 1) := dk_44 (dk_at dksX0_held_0 4 rfl rfl)
theorem dX0_held_5 : decode cX0_held 5 = .ok (.arraylength, 1) := dk_190 (dk_at dksX0_held_0 5 rfl rfl)
theorem dX0_held_6 : decode cX0_held 6 = .ok (.istore_n 3, 1) := dk_62 (dk_at dksX0_held_0 6 rfl rfl)
theorem dX0_held_7 : decode cX0_held 7 = .ok (.iconst 0, 1) := dk_3 (dk_at dksX0_held_0 7 rfl rfl)
theorem dX0_held_8 : decode cX0_held 8 = .ok (.istore 4, 2) := dk_54 4 (dk_at dksX0_held_0 8 rfl rfl)
theorem dX0_held_10 : decode cX0_held 10 = .ok (.iload 4, 2) := dk_21 4 (dk_at dksX0_held_0 10 rfl rfl)
theorem dX0_held_12 : decode cX0_held 12 = .ok (.iload_n 3, 1) := dk_29 (dk_at dksX0_held_0 12 rfl rfl)
theorem dX0_held_13 : decode cX0_held 13 = .ok (.if_icmp .ge 23, 3) := dk_162 0 23 (dk_at dksX0_held_0 13 rfl rfl)
theorem dX0_held_16 : decode cX0_held 16 = .ok (.aload_n 2, 1) := dk_44 (dk_at dksX0_held_0 16 rfl rfl)
theorem dX0_held_17 : decode cX0_held 17 = .ok (.iload 4, 2) := dk_21 4 (dk_at dksX0_held_0 17 rfl rfl)
theorem dX0_held_19 : decode cX0_held 19 = .ok (.baload, 1) := dk_51 (dk_at dksX0_held_0 19 rfl rfl)
theorem dX0_held_20 : decode cX0_held 20 = .ok (.istore 5, 2) := dk_54 5 (dk_at dksX0_held_0 20 rfl rfl)
theorem dX0_held_22 : decode cX0_held 22 = .ok (.iload_n 1, 1) := dk_27 (dk_at dksX0_held_0 22 rfl rfl)
theorem dX0_held_23 : decode cX0_held 23 = .ok (.iload 5, 2) := dk_21 5 (dk_at dksX0_held_1 0 rfl rfl)
theorem dX0_held_25 : decode cX0_held 25 = .ok (.invokestatic 54, 3) := dk_184 0 54 (dk_at dksX0_held_1 2 rfl rfl)
theorem dX0_held_28 : decode cX0_held 28 = .ok (.iadd, 1) := dk_96 (dk_at dksX0_held_1 5 rfl rfl)
theorem dX0_held_29 : decode cX0_held 29 = .ok (.istore_n 1, 1) := dk_60 (dk_at dksX0_held_1 6 rfl rfl)
theorem dX0_held_30 : decode cX0_held 30 = .ok (.iinc 4 1, 3) := dk_132 4 1 (dk_at dksX0_held_1 7 rfl rfl)
theorem dX0_held_33 : decode cX0_held 33 = .ok (.goto (-23), 3) := dk_167 255 233 (dk_at dksX0_held_1 10 rfl rfl)
theorem dX0_held_36 : decode cX0_held 36 = .ok (.iload_n 1, 1) := dk_27 (dk_at dksX0_held_1 13 rfl rfl)
theorem dX0_held_37 : decode cX0_held 37 = .ok (.ireturn, 1) := dk_172 (dk_at dksX0_held_1 14 rfl rfl)
abbrev cX0_flag : ByteArray := prog_1_method_3_code
def yX0_flag : MethodName := ⟨RX0, "flag", "(Z)I"⟩
def dkwX0_flag_0 : List UInt8 := [26, 153, 0, 7, 4, 167, 0, 4, 3, 172]
abbrev dktX0_flag_0 : List UInt8 := dkwX0_flag_0 ++ []
theorem dksX0_flag_0 : cX0_flag.data.toList.drop 0 = dktX0_flag_0 := by decide +kernel
theorem dX0_flag_0 : decode cX0_flag 0 = .ok (.iload_n 0, 1) := dk_26 (dk_at dksX0_flag_0 0 rfl rfl)
theorem dX0_flag_1 : decode cX0_flag 1 = .ok (.ifCond .eq 7, 3) := dk_153 0 7 (dk_at dksX0_flag_0 1 rfl rfl)
theorem dX0_flag_4 : decode cX0_flag 4 = .ok (.iconst 1, 1) := dk_4 (dk_at dksX0_flag_0 4 rfl rfl)
theorem dX0_flag_5 : decode cX0_flag 5 = .ok (.goto 4, 3) := dk_167 0 4 (dk_at dksX0_flag_0 5 rfl rfl)
theorem dX0_flag_8 : decode cX0_flag 8 = .ok (.iconst 0, 1) := dk_3 (dk_at dksX0_flag_0 8 rfl rfl)
theorem dX0_flag_9 : decode cX0_flag 9 = .ok (.ireturn, 1) := dk_172 (dk_at dksX0_flag_0 9 rfl rfl)
abbrev cX0_many : ByteArray := prog_1_method_27_code
def yX0_many : MethodName := ⟨RX0, "many", "(I)I"⟩
def dkwX0_many_0 : List UInt8 := [27, 184, 0, 177, 153, 0, 11, 42, 27, 182, 0, 180, 167, 0, 4, 2, 172]
abbrev dktX0_many_0 : List UInt8 := dkwX0_many_0 ++ []
theorem dksX0_many_0 : cX0_many.data.toList.drop 0 = dktX0_many_0 := by decide +kernel
theorem dX0_many_0 : decode cX0_many 0 = .ok (.iload_n 1, 1) := dk_27 (dk_at dksX0_many_0 0 rfl rfl)
theorem dX0_many_1 : decode cX0_many 1 = .ok (.invokestatic 177, 3) := dk_184 0 177 (dk_at dksX0_many_0 1 rfl rfl)
theorem dX0_many_4 : decode cX0_many 4 = .ok (.ifCond .eq 11, 3) := dk_153 0 11 (dk_at dksX0_many_0 4 rfl rfl)
theorem dX0_many_7 : decode cX0_many 7 = .ok (.aload_n 0, 1) := dk_42 (dk_at dksX0_many_0 7 rfl rfl)
theorem dX0_many_8 : decode cX0_many 8 = .ok (.iload_n 1, 1) := dk_27 (dk_at dksX0_many_0 8 rfl rfl)
theorem dX0_many_9 : decode cX0_many 9 = .ok (.invokevirtual 180, 3) := dk_182 0 180 (dk_at dksX0_many_0 9 rfl rfl)
theorem dX0_many_12 : decode cX0_many 12 = .ok (.goto 4, 3) := dk_167 0 4 (dk_at dksX0_many_0 12 rfl rfl)
theorem dX0_many_15 : decode cX0_many 15 = .ok (.iconst (-1), 1) := dk_2 (dk_at dksX0_many_0 15 rfl rfl)
theorem dX0_many_16 : decode cX0_many 16 = .ok (.ireturn, 1) := dk_172 (dk_at dksX0_many_0 16 rfl rfl)
abbrev cX0_isDegree : ByteArray := prog_1_method_23_code
def yX0_isDegree : MethodName := ⟨RX0, "isDegree", "(I)Z"⟩
def dkwX0_isDegree_0 : List UInt8 := [26, 133, 9, 20, 0, 175, 184, 0, 110, 172]
abbrev dktX0_isDegree_0 : List UInt8 := dkwX0_isDegree_0 ++ []
theorem dksX0_isDegree_0 : cX0_isDegree.data.toList.drop 0 = dktX0_isDegree_0 := by decide +kernel
theorem dX0_isDegree_0 : decode cX0_isDegree 0 = .ok (.iload_n 0, 1) := dk_26 (dk_at dksX0_isDegree_0 0 rfl rfl)
theorem dX0_isDegree_1 : decode cX0_isDegree 1 = .ok (.i2l, 1) := dk_133 (dk_at dksX0_isDegree_0 1 rfl rfl)
theorem dX0_isDegree_2 : decode cX0_isDegree 2 = .ok (.lconst 0, 1) := dk_9 (dk_at dksX0_isDegree_0 2 rfl rfl)
theorem dX0_isDegree_3 : decode cX0_isDegree 3 = .ok (.ldc2_w 175, 3) := dk_20 0 175 (dk_at dksX0_isDegree_0 3 rfl rfl)
theorem dX0_isDegree_6 : decode cX0_isDegree 6 = .ok (.invokestatic 110, 3) := dk_184 0 110 (dk_at dksX0_isDegree_0 6 rfl rfl)
theorem dX0_isDegree_9 : decode cX0_isDegree 9 = .ok (.ireturn, 1) := dk_172 (dk_at dksX0_isDegree_0 9 rfl rfl)
abbrev cX0_manyHere : ByteArray := prog_1_method_24_code
def yX0_manyHere : MethodName := ⟨RX0, "manyHere", "(I)I"⟩
def dkwX0_manyHere_0 : List UInt8 := [42, 180, 0, 20, 180, 0, 162, 27, 184, 0, 62, 172]
abbrev dktX0_manyHere_0 : List UInt8 := dkwX0_manyHere_0 ++ []
theorem dksX0_manyHere_0 : cX0_manyHere.data.toList.drop 0 = dktX0_manyHere_0 := by decide +kernel
theorem dX0_manyHere_0 : decode cX0_manyHere 0 = .ok (.aload_n 0, 1) := dk_42 (dk_at dksX0_manyHere_0 0 rfl rfl)
theorem dX0_manyHere_1 : decode cX0_manyHere 1 = .ok (.getfield 20, 3) := dk_180 0 20 (dk_at dksX0_manyHere_0 1 rfl rfl)
theorem dX0_manyHere_4 : decode cX0_manyHere 4 = .ok (.getfield 162, 3) := dk_180 0 162 (dk_at dksX0_manyHere_0 4 rfl rfl)
theorem dX0_manyHere_7 : decode cX0_manyHere 7 = .ok (.iload_n 1, 1) := dk_27 (dk_at dksX0_manyHere_0 7 rfl rfl)
theorem dX0_manyHere_8 : decode cX0_manyHere 8 = .ok (.invokestatic 62, 3) := dk_184 0 62 (dk_at dksX0_manyHere_0 8 rfl rfl)
theorem dX0_manyHere_11 : decode cX0_manyHere 11 = .ok (.ireturn, 1) := dk_172 (dk_at dksX0_manyHere_0 11 rfl rfl)
abbrev cX0_manyOf : ByteArray := prog_1_method_4_code
def yX0_manyOf : MethodName := ⟨RX0, "manyOf", "(II)I"⟩
def dkwX0_manyOf_1 : List UInt8 := [100, 27, 96, 50, 26, 4, 100, 46, 172]
abbrev dktX0_manyOf_1 : List UInt8 := dkwX0_manyOf_1 ++ []
def dkwX0_manyOf_0 : List UInt8 := [26, 154, 0, 18, 27, 154, 0, 7, 4, 167, 0, 4, 3, 184, 0, 54, 167, 0, 16, 178, 0, 58, 26, 4]
abbrev dktX0_manyOf_0 : List UInt8 := dkwX0_manyOf_0 ++ dktX0_manyOf_1
theorem dksX0_manyOf_0 : cX0_manyOf.data.toList.drop 0 = dktX0_manyOf_0 := by decide +kernel
theorem dksX0_manyOf_1 : cX0_manyOf.data.toList.drop 24 = dktX0_manyOf_1 := dk_seg dksX0_manyOf_0 24 rfl rfl
theorem dX0_manyOf_0 : decode cX0_manyOf 0 = .ok (.iload_n 0, 1) := dk_26 (dk_at dksX0_manyOf_0 0 rfl rfl)
theorem dX0_manyOf_1 : decode cX0_manyOf 1 = .ok (.ifCond .ne 18, 3) := dk_154 0 18 (dk_at dksX0_manyOf_0 1 rfl rfl)
theorem dX0_manyOf_4 : decode cX0_manyOf 4 = .ok (.iload_n 1, 1) := dk_27 (dk_at dksX0_manyOf_0 4 rfl rfl)
theorem dX0_manyOf_5 : decode cX0_manyOf 5 = .ok (.ifCond .ne 7, 3) := dk_154 0 7 (dk_at dksX0_manyOf_0 5 rfl rfl)
theorem dX0_manyOf_8 : decode cX0_manyOf 8 = .ok (.iconst 1, 1) := dk_4 (dk_at dksX0_manyOf_0 8 rfl rfl)
theorem dX0_manyOf_9 : decode cX0_manyOf 9 = .ok (.goto 4, 3) := dk_167 0 4 (dk_at dksX0_manyOf_0 9 rfl rfl)
theorem dX0_manyOf_12 : decode cX0_manyOf 12 = .ok (.iconst 0, 1) := dk_3 (dk_at dksX0_manyOf_0 12 rfl rfl)
theorem dX0_manyOf_13 : decode cX0_manyOf 13 = .ok (.invokestatic 54, 3) := dk_184 0 54 (dk_at dksX0_manyOf_0 13 rfl rfl)
theorem dX0_manyOf_16 : decode cX0_manyOf 16 = .ok (.goto 16, 3) := dk_167 0 16 (dk_at dksX0_manyOf_0 16 rfl rfl)
theorem dX0_manyOf_19 : decode cX0_manyOf 19 = .ok (.getstatic 58, 3) := dk_178 0 58 (dk_at dksX0_manyOf_0 19 rfl rfl)
theorem dX0_manyOf_22 : decode cX0_manyOf 22 = .ok (.iload_n 0, 1) := dk_26 (dk_at dksX0_manyOf_0 22 rfl rfl)
theorem dX0_manyOf_23 : decode cX0_manyOf 23 = .ok (.iconst 1, 1) := dk_4 (dk_at dksX0_manyOf_0 23 rfl rfl)
theorem dX0_manyOf_24 : decode cX0_manyOf 24 = .ok (.isub, 1) := dk_100 (dk_at dksX0_manyOf_1 0 rfl rfl)
theorem dX0_manyOf_25 : decode cX0_manyOf 25 = .ok (.iload_n 1, 1) := dk_27 (dk_at dksX0_manyOf_1 1 rfl rfl)
theorem dX0_manyOf_26 : decode cX0_manyOf 26 = .ok (.iadd, 1) := dk_96 (dk_at dksX0_manyOf_1 2 rfl rfl)
theorem dX0_manyOf_27 : decode cX0_manyOf 27 = .ok (.aaload, 1) := dk_50 (dk_at dksX0_manyOf_1 3 rfl rfl)
theorem dX0_manyOf_28 : decode cX0_manyOf 28 = .ok (.iload_n 0, 1) := dk_26 (dk_at dksX0_manyOf_1 4 rfl rfl)
theorem dX0_manyOf_29 : decode cX0_manyOf 29 = .ok (.iconst 1, 1) := dk_4 (dk_at dksX0_manyOf_1 5 rfl rfl)
theorem dX0_manyOf_30 : decode cX0_manyOf 30 = .ok (.isub, 1) := dk_100 (dk_at dksX0_manyOf_1 6 rfl rfl)
theorem dX0_manyOf_31 : decode cX0_manyOf 31 = .ok (.iaload, 1) := dk_46 (dk_at dksX0_manyOf_1 7 rfl rfl)
theorem dX0_manyOf_32 : decode cX0_manyOf 32 = .ok (.ireturn, 1) := dk_172 (dk_at dksX0_manyOf_1 8 rfl rfl)
abbrev cX0_power : ByteArray := prog_1_method_28_code
def yX0_power : MethodName := ⟨RX0, "power", "(III)I"⟩
def dkwX0_power_1 : List UInt8 := [184, 0, 110, 153, 0, 17, 42, 27, 28, 182, 0, 192, 180, 0, 196, 29, 46, 167, 0, 4, 2, 172]
abbrev dktX0_power_1 : List UInt8 := dkwX0_power_1 ++ []
def dkwX0_power_0 : List UInt8 := [42, 27, 28, 182, 0, 188, 153, 0, 36, 29, 133, 9, 42, 180, 0, 20, 180, 0, 162, 4, 100, 133]
abbrev dktX0_power_0 : List UInt8 := dkwX0_power_0 ++ dktX0_power_1
theorem dksX0_power_0 : cX0_power.data.toList.drop 0 = dktX0_power_0 := by decide +kernel
theorem dksX0_power_1 : cX0_power.data.toList.drop 22 = dktX0_power_1 := dk_seg dksX0_power_0 22 rfl rfl
theorem dX0_power_0 : decode cX0_power 0 = .ok (.aload_n 0, 1) := dk_42 (dk_at dksX0_power_0 0 rfl rfl)
theorem dX0_power_1 : decode cX0_power 1 = .ok (.iload_n 1, 1) := dk_27 (dk_at dksX0_power_0 1 rfl rfl)
theorem dX0_power_2 : decode cX0_power 2 = .ok (.iload_n 2, 1) := dk_28 (dk_at dksX0_power_0 2 rfl rfl)
theorem dX0_power_3 : decode cX0_power 3 = .ok (.invokevirtual 188, 3) := dk_182 0 188 (dk_at dksX0_power_0 3 rfl rfl)
theorem dX0_power_6 : decode cX0_power 6 = .ok (.ifCond .eq 36, 3) := dk_153 0 36 (dk_at dksX0_power_0 6 rfl rfl)
theorem dX0_power_9 : decode cX0_power 9 = .ok (.iload_n 3, 1) := dk_29 (dk_at dksX0_power_0 9 rfl rfl)
theorem dX0_power_10 : decode cX0_power 10 = .ok (.i2l, 1) := dk_133 (dk_at dksX0_power_0 10 rfl rfl)
theorem dX0_power_11 : decode cX0_power 11 = .ok (.lconst 0, 1) := dk_9 (dk_at dksX0_power_0 11 rfl rfl)
theorem dX0_power_12 : decode cX0_power 12 = .ok (.aload_n 0, 1) := dk_42 (dk_at dksX0_power_0 12 rfl rfl)
theorem dX0_power_13 : decode cX0_power 13 = .ok (.getfield 20, 3) := dk_180 0 20 (dk_at dksX0_power_0 13 rfl rfl)
theorem dX0_power_16 : decode cX0_power 16 = .ok (.getfield 162, 3) := dk_180 0 162 (dk_at dksX0_power_0 16 rfl rfl)
theorem dX0_power_19 : decode cX0_power 19 = .ok (.iconst 1, 1) := dk_4 (dk_at dksX0_power_0 19 rfl rfl)
theorem dX0_power_20 : decode cX0_power 20 = .ok (.isub, 1) := dk_100 (dk_at dksX0_power_0 20 rfl rfl)
theorem dX0_power_21 : decode cX0_power 21 = .ok (.i2l, 1) := dk_133 (dk_at dksX0_power_0 21 rfl rfl)
theorem dX0_power_22 : decode cX0_power 22 = .ok (.invokestatic 110, 3) := dk_184 0 110 (dk_at dksX0_power_1 0 rfl rfl)
theorem dX0_power_25 : decode cX0_power 25 = .ok (.ifCond .eq 17, 3) := dk_153 0 17 (dk_at dksX0_power_1 3 rfl rfl)
theorem dX0_power_28 : decode cX0_power 28 = .ok (.aload_n 0, 1) := dk_42 (dk_at dksX0_power_1 6 rfl rfl)
theorem dX0_power_29 : decode cX0_power 29 = .ok (.iload_n 1, 1) := dk_27 (dk_at dksX0_power_1 7 rfl rfl)
theorem dX0_power_30 : decode cX0_power 30 = .ok (.iload_n 2, 1) := dk_28 (dk_at dksX0_power_1 8 rfl rfl)
theorem dX0_power_31 : decode cX0_power 31 = .ok (.invokevirtual 192, 3) := dk_182 0 192 (dk_at dksX0_power_1 9 rfl rfl)
theorem dX0_power_34 : decode cX0_power 34 = .ok (.getfield 196, 3) := dk_180 0 196 (dk_at dksX0_power_1 12 rfl rfl)
theorem dX0_power_37 : decode cX0_power 37 = .ok (.iload_n 3, 1) := dk_29 (dk_at dksX0_power_1 15 rfl rfl)
theorem dX0_power_38 : decode cX0_power 38 = .ok (.iaload, 1) := dk_46 (dk_at dksX0_power_1 16 rfl rfl)
theorem dX0_power_39 : decode cX0_power 39 = .ok (.goto 4, 3) := dk_167 0 4 (dk_at dksX0_power_1 17 rfl rfl)
theorem dX0_power_42 : decode cX0_power 42 = .ok (.iconst (-1), 1) := dk_2 (dk_at dksX0_power_1 20 rfl rfl)
theorem dX0_power_43 : decode cX0_power 43 = .ok (.ireturn, 1) := dk_172 (dk_at dksX0_power_1 21 rfl rfl)
abbrev cX0_isMono : ByteArray := prog_1_method_25_code
def yX0_isMono : MethodName := ⟨RX0, "isMono", "(II)Z"⟩
def dkwX0_isMono_1 : List UInt8 := [4, 167, 0, 4, 3, 172]
abbrev dktX0_isMono_1 : List UInt8 := dkwX0_isMono_1 ++ []
def dkwX0_isMono_0 : List UInt8 := [27, 184, 0, 177, 153, 0, 24, 28, 133, 9, 42, 27, 182, 0, 180, 4, 100, 133, 184, 0, 110, 153, 0, 7]
abbrev dktX0_isMono_0 : List UInt8 := dkwX0_isMono_0 ++ dktX0_isMono_1
theorem dksX0_isMono_0 : cX0_isMono.data.toList.drop 0 = dktX0_isMono_0 := by decide +kernel
theorem dksX0_isMono_1 : cX0_isMono.data.toList.drop 24 = dktX0_isMono_1 := dk_seg dksX0_isMono_0 24 rfl rfl
theorem dX0_isMono_0 : decode cX0_isMono 0 = .ok (.iload_n 1, 1) := dk_27 (dk_at dksX0_isMono_0 0 rfl rfl)
theorem dX0_isMono_1 : decode cX0_isMono 1 = .ok (.invokestatic 177, 3) := dk_184 0 177 (dk_at dksX0_isMono_0 1 rfl rfl)
theorem dX0_isMono_4 : decode cX0_isMono 4 = .ok (.ifCond .eq 24, 3) := dk_153 0 24 (dk_at dksX0_isMono_0 4 rfl rfl)
theorem dX0_isMono_7 : decode cX0_isMono 7 = .ok (.iload_n 2, 1) := dk_28 (dk_at dksX0_isMono_0 7 rfl rfl)
theorem dX0_isMono_8 : decode cX0_isMono 8 = .ok (.i2l, 1) := dk_133 (dk_at dksX0_isMono_0 8 rfl rfl)
theorem dX0_isMono_9 : decode cX0_isMono 9 = .ok (.lconst 0, 1) := dk_9 (dk_at dksX0_isMono_0 9 rfl rfl)
theorem dX0_isMono_10 : decode cX0_isMono 10 = .ok (.aload_n 0, 1) := dk_42 (dk_at dksX0_isMono_0 10 rfl rfl)
theorem dX0_isMono_11 : decode cX0_isMono 11 = .ok (.iload_n 1, 1) := dk_27 (dk_at dksX0_isMono_0 11 rfl rfl)
theorem dX0_isMono_12 : decode cX0_isMono 12 = .ok (.invokevirtual 180, 3) := dk_182 0 180 (dk_at dksX0_isMono_0 12 rfl rfl)
theorem dX0_isMono_15 : decode cX0_isMono 15 = .ok (.iconst 1, 1) := dk_4 (dk_at dksX0_isMono_0 15 rfl rfl)
theorem dX0_isMono_16 : decode cX0_isMono 16 = .ok (.isub, 1) := dk_100 (dk_at dksX0_isMono_0 16 rfl rfl)
theorem dX0_isMono_17 : decode cX0_isMono 17 = .ok (.i2l, 1) := dk_133 (dk_at dksX0_isMono_0 17 rfl rfl)
theorem dX0_isMono_18 : decode cX0_isMono 18 = .ok (.invokestatic 110, 3) := dk_184 0 110 (dk_at dksX0_isMono_0 18 rfl rfl)
theorem dX0_isMono_21 : decode cX0_isMono 21 = .ok (.ifCond .eq 7, 3) := dk_153 0 7 (dk_at dksX0_isMono_0 21 rfl rfl)
theorem dX0_isMono_24 : decode cX0_isMono 24 = .ok (.iconst 1, 1) := dk_4 (dk_at dksX0_isMono_1 0 rfl rfl)
theorem dX0_isMono_25 : decode cX0_isMono 25 = .ok (.goto 4, 3) := dk_167 0 4 (dk_at dksX0_isMono_1 1 rfl rfl)
theorem dX0_isMono_28 : decode cX0_isMono 28 = .ok (.iconst 0, 1) := dk_3 (dk_at dksX0_isMono_1 4 rfl rfl)
theorem dX0_isMono_29 : decode cX0_isMono 29 = .ok (.ireturn, 1) := dk_172 (dk_at dksX0_isMono_1 5 rfl rfl)
abbrev cX0_mono : ByteArray := prog_1_method_26_code
def yX0_mono : MethodName := ⟨RX0, "mono", "(II)LQuotientRows$Mono;"⟩
def dkwX0_mono_0 : List UInt8 := [187, 0, 183, 89, 42, 180, 0, 20, 180, 0, 162, 27, 28, 183, 0, 185, 176]
abbrev dktX0_mono_0 : List UInt8 := dkwX0_mono_0 ++ []
theorem dksX0_mono_0 : cX0_mono.data.toList.drop 0 = dktX0_mono_0 := by decide +kernel
theorem dX0_mono_0 : decode cX0_mono 0 = .ok (.new 183, 3) := dk_187 0 183 (dk_at dksX0_mono_0 0 rfl rfl)
theorem dX0_mono_3 : decode cX0_mono 3 = .ok (.dup, 1) := dk_89 (dk_at dksX0_mono_0 3 rfl rfl)
theorem dX0_mono_4 : decode cX0_mono 4 = .ok (.aload_n 0, 1) := dk_42 (dk_at dksX0_mono_0 4 rfl rfl)
theorem dX0_mono_5 : decode cX0_mono 5 = .ok (.getfield 20, 3) := dk_180 0 20 (dk_at dksX0_mono_0 5 rfl rfl)
theorem dX0_mono_8 : decode cX0_mono 8 = .ok (.getfield 162, 3) := dk_180 0 162 (dk_at dksX0_mono_0 8 rfl rfl)
theorem dX0_mono_11 : decode cX0_mono 11 = .ok (.iload_n 1, 1) := dk_27 (dk_at dksX0_mono_0 11 rfl rfl)
theorem dX0_mono_12 : decode cX0_mono 12 = .ok (.iload_n 2, 1) := dk_28 (dk_at dksX0_mono_0 12 rfl rfl)
theorem dX0_mono_13 : decode cX0_mono 13 = .ok (.invokespecial 185, 3) := dk_183 0 185 (dk_at dksX0_mono_0 13 rfl rfl)
theorem dX0_mono_16 : decode cX0_mono 16 = .ok (.areturn, 1) := dk_176 (dk_at dksX0_mono_0 16 rfl rfl)
abbrev cX0_laysOne : ByteArray := prog_1_method_6_code
def yX0_laysOne : MethodName := ⟨RX0, "laysOne", "([IIII)V"⟩
def dkwX0_laysOne_3 : List UInt8 := [21, 7, 100, 54, 4, 132, 6, 1, 167, 255, 186, 177]
abbrev dktX0_laysOne_3 : List UInt8 := dkwX0_laysOne_3 ++ []
def dkwX0_laysOne_2 : List UInt8 := [21, 7, 100, 184, 0, 62, 100, 54, 5, 132, 7, 255, 167, 255, 215, 42, 21, 6, 21, 7, 79, 21, 4]
abbrev dktX0_laysOne_2 : List UInt8 := dkwX0_laysOne_2 ++ dktX0_laysOne_3
def dkwX0_laysOne_1 : List UInt8 := [21, 6, 100, 21, 4, 21, 7, 100, 184, 0, 62, 161, 0, 28, 21, 5, 27, 4, 100, 21, 6, 100, 21, 4]
abbrev dktX0_laysOne_1 : List UInt8 := dkwX0_laysOne_1 ++ dktX0_laysOne_2
def dkwX0_laysOne_0 : List UInt8 := [28, 54, 4, 29, 54, 5, 3, 54, 6, 21, 6, 27, 162, 0, 70, 21, 4, 54, 7, 21, 5, 27, 4, 100]
abbrev dktX0_laysOne_0 : List UInt8 := dkwX0_laysOne_0 ++ dktX0_laysOne_1
theorem dksX0_laysOne_0 : cX0_laysOne.data.toList.drop 0 = dktX0_laysOne_0 := by decide +kernel
theorem dksX0_laysOne_1 : cX0_laysOne.data.toList.drop 24 = dktX0_laysOne_1 := dk_seg dksX0_laysOne_0 24 rfl rfl
theorem dksX0_laysOne_2 : cX0_laysOne.data.toList.drop 48 = dktX0_laysOne_2 := dk_seg dksX0_laysOne_1 24 rfl rfl
theorem dksX0_laysOne_3 : cX0_laysOne.data.toList.drop 71 = dktX0_laysOne_3 := dk_seg dksX0_laysOne_2 23 rfl rfl
theorem dX0_laysOne_0 : decode cX0_laysOne 0 = .ok (.iload_n 2, 1) := dk_28 (dk_at dksX0_laysOne_0 0 rfl rfl)
theorem dX0_laysOne_1 : decode cX0_laysOne 1 = .ok (.istore 4, 2) := dk_54 4 (dk_at dksX0_laysOne_0 1 rfl rfl)
theorem dX0_laysOne_3 : decode cX0_laysOne 3 = .ok (.iload_n 3, 1) := dk_29 (dk_at dksX0_laysOne_0 3 rfl rfl)
theorem dX0_laysOne_4 : decode cX0_laysOne 4 = .ok (.istore 5, 2) := dk_54 5 (dk_at dksX0_laysOne_0 4 rfl rfl)
theorem dX0_laysOne_6 : decode cX0_laysOne 6 = .ok (.iconst 0, 1) := dk_3 (dk_at dksX0_laysOne_0 6 rfl rfl)
theorem dX0_laysOne_7 : decode cX0_laysOne 7 = .ok (.istore 6, 2) := dk_54 6 (dk_at dksX0_laysOne_0 7 rfl rfl)
theorem dX0_laysOne_9 : decode cX0_laysOne 9 = .ok (.iload 6, 2) := dk_21 6 (dk_at dksX0_laysOne_0 9 rfl rfl)
theorem dX0_laysOne_11 : decode cX0_laysOne 11 = .ok (.iload_n 1, 1) := dk_27 (dk_at dksX0_laysOne_0 11 rfl rfl)
theorem dX0_laysOne_12 : decode cX0_laysOne 12 = .ok (.if_icmp .ge 70, 3) := dk_162 0 70 (dk_at dksX0_laysOne_0 12 rfl rfl)
theorem dX0_laysOne_15 : decode cX0_laysOne 15 = .ok (.iload 4, 2) := dk_21 4 (dk_at dksX0_laysOne_0 15 rfl rfl)
theorem dX0_laysOne_17 : decode cX0_laysOne 17 = .ok (.istore 7, 2) := dk_54 7 (dk_at dksX0_laysOne_0 17 rfl rfl)
theorem dX0_laysOne_19 : decode cX0_laysOne 19 = .ok (.iload 5, 2) := dk_21 5 (dk_at dksX0_laysOne_0 19 rfl rfl)
theorem dX0_laysOne_21 : decode cX0_laysOne 21 = .ok (.iload_n 1, 1) := dk_27 (dk_at dksX0_laysOne_0 21 rfl rfl)
theorem dX0_laysOne_22 : decode cX0_laysOne 22 = .ok (.iconst 1, 1) := dk_4 (dk_at dksX0_laysOne_0 22 rfl rfl)
theorem dX0_laysOne_23 : decode cX0_laysOne 23 = .ok (.isub, 1) := dk_100 (dk_at dksX0_laysOne_0 23 rfl rfl)
theorem dX0_laysOne_24 : decode cX0_laysOne 24 = .ok (.iload 6, 2) := dk_21 6 (dk_at dksX0_laysOne_1 0 rfl rfl)
theorem dX0_laysOne_26 : decode cX0_laysOne 26 = .ok (.isub, 1) := dk_100 (dk_at dksX0_laysOne_1 2 rfl rfl)
theorem dX0_laysOne_27 : decode cX0_laysOne 27 = .ok (.iload 4, 2) := dk_21 4 (dk_at dksX0_laysOne_1 3 rfl rfl)
theorem dX0_laysOne_29 : decode cX0_laysOne 29 = .ok (.iload 7, 2) := dk_21 7 (dk_at dksX0_laysOne_1 5 rfl rfl)
theorem dX0_laysOne_31 : decode cX0_laysOne 31 = .ok (.isub, 1) := dk_100 (dk_at dksX0_laysOne_1 7 rfl rfl)
theorem dX0_laysOne_32 : decode cX0_laysOne 32 = .ok (.invokestatic 62, 3) := dk_184 0 62 (dk_at dksX0_laysOne_1 8 rfl rfl)
theorem dX0_laysOne_35 : decode cX0_laysOne 35 = .ok (.if_icmp .lt 28, 3) := dk_161 0 28 (dk_at dksX0_laysOne_1 11 rfl rfl)
theorem dX0_laysOne_38 : decode cX0_laysOne 38 = .ok (.iload 5, 2) := dk_21 5 (dk_at dksX0_laysOne_1 14 rfl rfl)
theorem dX0_laysOne_40 : decode cX0_laysOne 40 = .ok (.iload_n 1, 1) := dk_27 (dk_at dksX0_laysOne_1 16 rfl rfl)
theorem dX0_laysOne_41 : decode cX0_laysOne 41 = .ok (.iconst 1, 1) := dk_4 (dk_at dksX0_laysOne_1 17 rfl rfl)
theorem dX0_laysOne_42 : decode cX0_laysOne 42 = .ok (.isub, 1) := dk_100 (dk_at dksX0_laysOne_1 18 rfl rfl)
theorem dX0_laysOne_43 : decode cX0_laysOne 43 = .ok (.iload 6, 2) := dk_21 6 (dk_at dksX0_laysOne_1 19 rfl rfl)
theorem dX0_laysOne_45 : decode cX0_laysOne 45 = .ok (.isub, 1) := dk_100 (dk_at dksX0_laysOne_1 21 rfl rfl)
theorem dX0_laysOne_46 : decode cX0_laysOne 46 = .ok (.iload 4, 2) := dk_21 4 (dk_at dksX0_laysOne_1 22 rfl rfl)
theorem dX0_laysOne_48 : decode cX0_laysOne 48 = .ok (.iload 7, 2) := dk_21 7 (dk_at dksX0_laysOne_2 0 rfl rfl)
theorem dX0_laysOne_50 : decode cX0_laysOne 50 = .ok (.isub, 1) := dk_100 (dk_at dksX0_laysOne_2 2 rfl rfl)
theorem dX0_laysOne_51 : decode cX0_laysOne 51 = .ok (.invokestatic 62, 3) := dk_184 0 62 (dk_at dksX0_laysOne_2 3 rfl rfl)
theorem dX0_laysOne_54 : decode cX0_laysOne 54 = .ok (.isub, 1) := dk_100 (dk_at dksX0_laysOne_2 6 rfl rfl)
theorem dX0_laysOne_55 : decode cX0_laysOne 55 = .ok (.istore 5, 2) := dk_54 5 (dk_at dksX0_laysOne_2 7 rfl rfl)
theorem dX0_laysOne_57 : decode cX0_laysOne 57 = .ok (.iinc 7 (-1), 3) := dk_132 7 255 (dk_at dksX0_laysOne_2 9 rfl rfl)
theorem dX0_laysOne_60 : decode cX0_laysOne 60 = .ok (.goto (-41), 3) := dk_167 255 215 (dk_at dksX0_laysOne_2 12 rfl rfl)
theorem dX0_laysOne_63 : decode cX0_laysOne 63 = .ok (.aload_n 0, 1) := dk_42 (dk_at dksX0_laysOne_2 15 rfl rfl)
theorem dX0_laysOne_64 : decode cX0_laysOne 64 = .ok (.iload 6, 2) := dk_21 6 (dk_at dksX0_laysOne_2 16 rfl rfl)
theorem dX0_laysOne_66 : decode cX0_laysOne 66 = .ok (.iload 7, 2) := dk_21 7 (dk_at dksX0_laysOne_2 18 rfl rfl)
theorem dX0_laysOne_68 : decode cX0_laysOne 68 = .ok (.iastore, 1) := dk_79 (dk_at dksX0_laysOne_2 20 rfl rfl)
theorem dX0_laysOne_69 : decode cX0_laysOne 69 = .ok (.iload 4, 2) := dk_21 4 (dk_at dksX0_laysOne_2 21 rfl rfl)
theorem dX0_laysOne_71 : decode cX0_laysOne 71 = .ok (.iload 7, 2) := dk_21 7 (dk_at dksX0_laysOne_3 0 rfl rfl)
theorem dX0_laysOne_73 : decode cX0_laysOne 73 = .ok (.isub, 1) := dk_100 (dk_at dksX0_laysOne_3 2 rfl rfl)
theorem dX0_laysOne_74 : decode cX0_laysOne 74 = .ok (.istore 4, 2) := dk_54 4 (dk_at dksX0_laysOne_3 3 rfl rfl)
theorem dX0_laysOne_76 : decode cX0_laysOne 76 = .ok (.iinc 6 1, 3) := dk_132 6 1 (dk_at dksX0_laysOne_3 5 rfl rfl)
theorem dX0_laysOne_79 : decode cX0_laysOne 79 = .ok (.goto (-70), 3) := dk_167 255 186 (dk_at dksX0_laysOne_3 8 rfl rfl)
theorem dX0_laysOne_82 : decode cX0_laysOne 82 = .ok (.return_, 1) := dk_177 (dk_at dksX0_laysOne_3 11 rfl rfl)
abbrev cX0_number : ByteArray := prog_1_method_30_code
def yX0_number : MethodName := ⟨RX0, "number", "(IIII)I"⟩
def dkwX0_number_2 : List UInt8 := [21, 4, 79, 183, 0, 203, 42, 180, 0, 20, 180, 0, 162, 182, 0, 205, 167, 0, 4, 2, 172]
abbrev dktX0_number_2 : List UInt8 := dkwX0_number_2 ++ []
def dkwX0_number_1 : List UInt8 := [153, 0, 43, 187, 0, 183, 89, 7, 188, 10, 89, 3, 27, 79, 89, 4, 28, 79, 89, 5, 29, 79, 89, 6]
abbrev dktX0_number_1 : List UInt8 := dkwX0_number_1 ++ dktX0_number_2
def dkwX0_number_0 : List UInt8 := [42, 7, 188, 10, 89, 3, 27, 79, 89, 4, 28, 79, 89, 5, 29, 79, 89, 6, 21, 4, 79, 182, 0, 199]
abbrev dktX0_number_0 : List UInt8 := dkwX0_number_0 ++ dktX0_number_1
theorem dksX0_number_0 : cX0_number.data.toList.drop 0 = dktX0_number_0 := by decide +kernel
theorem dksX0_number_1 : cX0_number.data.toList.drop 24 = dktX0_number_1 := dk_seg dksX0_number_0 24 rfl rfl
theorem dksX0_number_2 : cX0_number.data.toList.drop 48 = dktX0_number_2 := dk_seg dksX0_number_1 24 rfl rfl
theorem dX0_number_0 : decode cX0_number 0 = .ok (.aload_n 0, 1) := dk_42 (dk_at dksX0_number_0 0 rfl rfl)
theorem dX0_number_1 : decode cX0_number 1 = .ok (.iconst 4, 1) := dk_7 (dk_at dksX0_number_0 1 rfl rfl)
theorem dX0_number_2 : decode cX0_number 2 = .ok (.newarray .int, 2) := dk_188_10 (dk_at dksX0_number_0 2 rfl rfl)
theorem dX0_number_4 : decode cX0_number 4 = .ok (.dup, 1) := dk_89 (dk_at dksX0_number_0 4 rfl rfl)
theorem dX0_number_5 : decode cX0_number 5 = .ok (.iconst 0, 1) := dk_3 (dk_at dksX0_number_0 5 rfl rfl)
theorem dX0_number_6 : decode cX0_number 6 = .ok (.iload_n 1, 1) := dk_27 (dk_at dksX0_number_0 6 rfl rfl)
theorem dX0_number_7 : decode cX0_number 7 = .ok (.iastore, 1) := dk_79 (dk_at dksX0_number_0 7 rfl rfl)
theorem dX0_number_8 : decode cX0_number 8 = .ok (.dup, 1) := dk_89 (dk_at dksX0_number_0 8 rfl rfl)
theorem dX0_number_9 : decode cX0_number 9 = .ok (.iconst 1, 1) := dk_4 (dk_at dksX0_number_0 9 rfl rfl)
theorem dX0_number_10 : decode cX0_number 10 = .ok (.iload_n 2, 1) := dk_28 (dk_at dksX0_number_0 10 rfl rfl)
theorem dX0_number_11 : decode cX0_number 11 = .ok (.iastore, 1) := dk_79 (dk_at dksX0_number_0 11 rfl rfl)
theorem dX0_number_12 : decode cX0_number 12 = .ok (.dup, 1) := dk_89 (dk_at dksX0_number_0 12 rfl rfl)
theorem dX0_number_13 : decode cX0_number 13 = .ok (.iconst 2, 1) := dk_5 (dk_at dksX0_number_0 13 rfl rfl)
theorem dX0_number_14 : decode cX0_number 14 = .ok (.iload_n 3, 1) := dk_29 (dk_at dksX0_number_0 14 rfl rfl)
theorem dX0_number_15 : decode cX0_number 15 = .ok (.iastore, 1) := dk_79 (dk_at dksX0_number_0 15 rfl rfl)
theorem dX0_number_16 : decode cX0_number 16 = .ok (.dup, 1) := dk_89 (dk_at dksX0_number_0 16 rfl rfl)
theorem dX0_number_17 : decode cX0_number 17 = .ok (.iconst 3, 1) := dk_6 (dk_at dksX0_number_0 17 rfl rfl)
theorem dX0_number_18 : decode cX0_number 18 = .ok (.iload 4, 2) := dk_21 4 (dk_at dksX0_number_0 18 rfl rfl)
theorem dX0_number_20 : decode cX0_number 20 = .ok (.iastore, 1) := dk_79 (dk_at dksX0_number_0 20 rfl rfl)
theorem dX0_number_21 : decode cX0_number 21 = .ok (.invokevirtual 199, 3) := dk_182 0 199 (dk_at dksX0_number_0 21 rfl rfl)
theorem dX0_number_24 : decode cX0_number 24 = .ok (.ifCond .eq 43, 3) := dk_153 0 43 (dk_at dksX0_number_1 0 rfl rfl)
theorem dX0_number_27 : decode cX0_number 27 = .ok (.new 183, 3) := dk_187 0 183 (dk_at dksX0_number_1 3 rfl rfl)
theorem dX0_number_30 : decode cX0_number 30 = .ok (.dup, 1) := dk_89 (dk_at dksX0_number_1 6 rfl rfl)
theorem dX0_number_31 : decode cX0_number 31 = .ok (.iconst 4, 1) := dk_7 (dk_at dksX0_number_1 7 rfl rfl)
theorem dX0_number_32 : decode cX0_number 32 = .ok (.newarray .int, 2) := dk_188_10 (dk_at dksX0_number_1 8 rfl rfl)
theorem dX0_number_34 : decode cX0_number 34 = .ok (.dup, 1) := dk_89 (dk_at dksX0_number_1 10 rfl rfl)
theorem dX0_number_35 : decode cX0_number 35 = .ok (.iconst 0, 1) := dk_3 (dk_at dksX0_number_1 11 rfl rfl)
theorem dX0_number_36 : decode cX0_number 36 = .ok (.iload_n 1, 1) := dk_27 (dk_at dksX0_number_1 12 rfl rfl)
theorem dX0_number_37 : decode cX0_number 37 = .ok (.iastore, 1) := dk_79 (dk_at dksX0_number_1 13 rfl rfl)
theorem dX0_number_38 : decode cX0_number 38 = .ok (.dup, 1) := dk_89 (dk_at dksX0_number_1 14 rfl rfl)
theorem dX0_number_39 : decode cX0_number 39 = .ok (.iconst 1, 1) := dk_4 (dk_at dksX0_number_1 15 rfl rfl)
theorem dX0_number_40 : decode cX0_number 40 = .ok (.iload_n 2, 1) := dk_28 (dk_at dksX0_number_1 16 rfl rfl)
theorem dX0_number_41 : decode cX0_number 41 = .ok (.iastore, 1) := dk_79 (dk_at dksX0_number_1 17 rfl rfl)
theorem dX0_number_42 : decode cX0_number 42 = .ok (.dup, 1) := dk_89 (dk_at dksX0_number_1 18 rfl rfl)
theorem dX0_number_43 : decode cX0_number 43 = .ok (.iconst 2, 1) := dk_5 (dk_at dksX0_number_1 19 rfl rfl)
theorem dX0_number_44 : decode cX0_number 44 = .ok (.iload_n 3, 1) := dk_29 (dk_at dksX0_number_1 20 rfl rfl)
theorem dX0_number_45 : decode cX0_number 45 = .ok (.iastore, 1) := dk_79 (dk_at dksX0_number_1 21 rfl rfl)
theorem dX0_number_46 : decode cX0_number 46 = .ok (.dup, 1) := dk_89 (dk_at dksX0_number_1 22 rfl rfl)
theorem dX0_number_47 : decode cX0_number 47 = .ok (.iconst 3, 1) := dk_6 (dk_at dksX0_number_1 23 rfl rfl)
theorem dX0_number_48 : decode cX0_number 48 = .ok (.iload 4, 2) := dk_21 4 (dk_at dksX0_number_2 0 rfl rfl)
theorem dX0_number_50 : decode cX0_number 50 = .ok (.iastore, 1) := dk_79 (dk_at dksX0_number_2 2 rfl rfl)
theorem dX0_number_51 : decode cX0_number 51 = .ok (.invokespecial 203, 3) := dk_183 0 203 (dk_at dksX0_number_2 3 rfl rfl)
theorem dX0_number_54 : decode cX0_number 54 = .ok (.aload_n 0, 1) := dk_42 (dk_at dksX0_number_2 6 rfl rfl)
theorem dX0_number_55 : decode cX0_number 55 = .ok (.getfield 20, 3) := dk_180 0 20 (dk_at dksX0_number_2 7 rfl rfl)
theorem dX0_number_58 : decode cX0_number 58 = .ok (.getfield 162, 3) := dk_180 0 162 (dk_at dksX0_number_2 10 rfl rfl)
theorem dX0_number_61 : decode cX0_number 61 = .ok (.invokevirtual 205, 3) := dk_182 0 205 (dk_at dksX0_number_2 13 rfl rfl)
theorem dX0_number_64 : decode cX0_number 64 = .ok (.goto 4, 3) := dk_167 0 4 (dk_at dksX0_number_2 16 rfl rfl)
theorem dX0_number_67 : decode cX0_number 67 = .ok (.iconst (-1), 1) := dk_2 (dk_at dksX0_number_2 19 rfl rfl)
theorem dX0_number_68 : decode cX0_number 68 = .ok (.ireturn, 1) := dk_172 (dk_at dksX0_number_2 20 rfl rfl)
abbrev cX0_arePowers : ByteArray := prog_1_method_29_code
def yX0_arePowers : MethodName := ⟨RX0, "arePowers", "([I)Z"⟩
def dkwX0_arePowers_2 : List UInt8 := [65, 132, 4, 1, 167, 255, 210, 32, 20, 0, 175, 148, 157, 0, 7, 4, 167, 0, 4, 3, 172]
abbrev dktX0_arePowers_2 : List UInt8 := dkwX0_arePowers_2 ++ []
def dkwX0_arePowers_1 : List UInt8 := [158, 0, 17, 21, 4, 42, 180, 0, 20, 180, 0, 162, 161, 0, 5, 3, 172, 32, 43, 21, 4, 46, 133, 97]
abbrev dktX0_arePowers_1 : List UInt8 := dkwX0_arePowers_1 ++ dktX0_arePowers_2
def dkwX0_arePowers_0 : List UInt8 := [9, 65, 3, 54, 4, 21, 4, 43, 190, 162, 0, 45, 43, 21, 4, 46, 155, 0, 22, 43, 21, 4, 46]
abbrev dktX0_arePowers_0 : List UInt8 := dkwX0_arePowers_0 ++ dktX0_arePowers_1
theorem dksX0_arePowers_0 : cX0_arePowers.data.toList.drop 0 = dktX0_arePowers_0 := by decide +kernel
theorem dksX0_arePowers_1 : cX0_arePowers.data.toList.drop 23 = dktX0_arePowers_1 := dk_seg dksX0_arePowers_0 23 rfl rfl
theorem dksX0_arePowers_2 : cX0_arePowers.data.toList.drop 47 = dktX0_arePowers_2 := dk_seg dksX0_arePowers_1 24 rfl rfl
theorem dX0_arePowers_0 : decode cX0_arePowers 0 = .ok (.lconst 0, 1) := dk_9 (dk_at dksX0_arePowers_0 0 rfl rfl)
theorem dX0_arePowers_1 : decode cX0_arePowers 1 = .ok (.lstore_n 2, 1) := dk_65 (dk_at dksX0_arePowers_0 1 rfl rfl)
theorem dX0_arePowers_2 : decode cX0_arePowers 2 = .ok (.iconst 0, 1) := dk_3 (dk_at dksX0_arePowers_0 2 rfl rfl)
theorem dX0_arePowers_3 : decode cX0_arePowers 3 = .ok (.istore 4, 2) := dk_54 4 (dk_at dksX0_arePowers_0 3 rfl rfl)
theorem dX0_arePowers_5 : decode cX0_arePowers 5 = .ok (.iload 4, 2) := dk_21 4 (dk_at dksX0_arePowers_0 5 rfl rfl)
theorem dX0_arePowers_7 : decode cX0_arePowers 7 = .ok (.aload_n 1, 1) := dk_43 (dk_at dksX0_arePowers_0 7 rfl rfl)
theorem dX0_arePowers_8 : decode cX0_arePowers 8 = .ok (.arraylength, 1) := dk_190 (dk_at dksX0_arePowers_0 8 rfl rfl)
theorem dX0_arePowers_9 : decode cX0_arePowers 9 = .ok (.if_icmp .ge 45, 3) := dk_162 0 45 (dk_at dksX0_arePowers_0 9 rfl rfl)
theorem dX0_arePowers_12 : decode cX0_arePowers 12 = .ok (.aload_n 1, 1) := dk_43 (dk_at dksX0_arePowers_0 12 rfl rfl)
theorem dX0_arePowers_13 : decode cX0_arePowers 13 = .ok (.iload 4, 2) := dk_21 4 (dk_at dksX0_arePowers_0 13 rfl rfl)
theorem dX0_arePowers_15 : decode cX0_arePowers 15 = .ok (.iaload, 1) := dk_46 (dk_at dksX0_arePowers_0 15 rfl rfl)
theorem dX0_arePowers_16 : decode cX0_arePowers 16 = .ok (.ifCond .lt 22, 3) := dk_155 0 22 (dk_at dksX0_arePowers_0 16 rfl rfl)
theorem dX0_arePowers_19 : decode cX0_arePowers 19 = .ok (.aload_n 1, 1) := dk_43 (dk_at dksX0_arePowers_0 19 rfl rfl)
theorem dX0_arePowers_20 : decode cX0_arePowers 20 = .ok (.iload 4, 2) := dk_21 4 (dk_at dksX0_arePowers_0 20 rfl rfl)
theorem dX0_arePowers_22 : decode cX0_arePowers 22 = .ok (.iaload, 1) := dk_46 (dk_at dksX0_arePowers_0 22 rfl rfl)
theorem dX0_arePowers_23 : decode cX0_arePowers 23 = .ok (.ifCond .le 17, 3) := dk_158 0 17 (dk_at dksX0_arePowers_1 0 rfl rfl)
theorem dX0_arePowers_26 : decode cX0_arePowers 26 = .ok (.iload 4, 2) := dk_21 4 (dk_at dksX0_arePowers_1 3 rfl rfl)
theorem dX0_arePowers_28 : decode cX0_arePowers 28 = .ok (.aload_n 0, 1) := dk_42 (dk_at dksX0_arePowers_1 5 rfl rfl)
theorem dX0_arePowers_29 : decode cX0_arePowers 29 = .ok (.getfield 20, 3) := dk_180 0 20 (dk_at dksX0_arePowers_1 6 rfl rfl)
theorem dX0_arePowers_32 : decode cX0_arePowers 32 = .ok (.getfield 162, 3) := dk_180 0 162 (dk_at dksX0_arePowers_1 9 rfl rfl)
theorem dX0_arePowers_35 : decode cX0_arePowers 35 = .ok (.if_icmp .lt 5, 3) := dk_161 0 5 (dk_at dksX0_arePowers_1 12 rfl rfl)
theorem dX0_arePowers_38 : decode cX0_arePowers 38 = .ok (.iconst 0, 1) := dk_3 (dk_at dksX0_arePowers_1 15 rfl rfl)
theorem dX0_arePowers_39 : decode cX0_arePowers 39 = .ok (.ireturn, 1) := dk_172 (dk_at dksX0_arePowers_1 16 rfl rfl)
theorem dX0_arePowers_40 : decode cX0_arePowers 40 = .ok (.lload_n 2, 1) := dk_32 (dk_at dksX0_arePowers_1 17 rfl rfl)
theorem dX0_arePowers_41 : decode cX0_arePowers 41 = .ok (.aload_n 1, 1) := dk_43 (dk_at dksX0_arePowers_1 18 rfl rfl)
theorem dX0_arePowers_42 : decode cX0_arePowers 42 = .ok (.iload 4, 2) := dk_21 4 (dk_at dksX0_arePowers_1 19 rfl rfl)
theorem dX0_arePowers_44 : decode cX0_arePowers 44 = .ok (.iaload, 1) := dk_46 (dk_at dksX0_arePowers_1 21 rfl rfl)
theorem dX0_arePowers_45 : decode cX0_arePowers 45 = .ok (.i2l, 1) := dk_133 (dk_at dksX0_arePowers_1 22 rfl rfl)
theorem dX0_arePowers_46 : decode cX0_arePowers 46 = .ok (.ladd, 1) := dk_97 (dk_at dksX0_arePowers_1 23 rfl rfl)
theorem dX0_arePowers_47 : decode cX0_arePowers 47 = .ok (.lstore_n 2, 1) := dk_65 (dk_at dksX0_arePowers_2 0 rfl rfl)
theorem dX0_arePowers_48 : decode cX0_arePowers 48 = .ok (.iinc 4 1, 3) := dk_132 4 1 (dk_at dksX0_arePowers_2 1 rfl rfl)
theorem dX0_arePowers_51 : decode cX0_arePowers 51 = .ok (.goto (-46), 3) := dk_167 255 210 (dk_at dksX0_arePowers_2 4 rfl rfl)
theorem dX0_arePowers_54 : decode cX0_arePowers 54 = .ok (.lload_n 2, 1) := dk_32 (dk_at dksX0_arePowers_2 7 rfl rfl)
theorem dX0_arePowers_55 : decode cX0_arePowers 55 = .ok (.ldc2_w 175, 3) := dk_20 0 175 (dk_at dksX0_arePowers_2 8 rfl rfl)
theorem dX0_arePowers_58 : decode cX0_arePowers 58 = .ok (.lcmp, 1) := dk_148 (dk_at dksX0_arePowers_2 11 rfl rfl)
theorem dX0_arePowers_59 : decode cX0_arePowers 59 = .ok (.ifCond .gt 7, 3) := dk_157 0 7 (dk_at dksX0_arePowers_2 12 rfl rfl)
theorem dX0_arePowers_62 : decode cX0_arePowers 62 = .ok (.iconst 1, 1) := dk_4 (dk_at dksX0_arePowers_2 15 rfl rfl)
theorem dX0_arePowers_63 : decode cX0_arePowers 63 = .ok (.goto 4, 3) := dk_167 0 4 (dk_at dksX0_arePowers_2 16 rfl rfl)
theorem dX0_arePowers_66 : decode cX0_arePowers 66 = .ok (.iconst 0, 1) := dk_3 (dk_at dksX0_arePowers_2 19 rfl rfl)
theorem dX0_arePowers_67 : decode cX0_arePowers 67 = .ok (.ireturn, 1) := dk_172 (dk_at dksX0_arePowers_2 20 rfl rfl)
abbrev cX0_numberOf : ByteArray := prog_1_method_5_code
def yX0_numberOf : MethodName := ⟨RX0, "numberOf", "([III)I"⟩
def dkwX0_numberOf_2 : List UInt8 := [167, 255, 227, 21, 4, 42, 21, 5, 46, 100, 54, 4, 132, 5, 1, 167, 255, 202, 29, 172]
abbrev dktX0_numberOf_2 : List UInt8 := dkwX0_numberOf_2 ++ []
def dkwX0_numberOf_1 : List UInt8 := [164, 0, 26, 29, 28, 4, 100, 21, 5, 100, 21, 4, 21, 6, 100, 184, 0, 62, 96, 62, 132, 6, 255]
abbrev dktX0_numberOf_1 : List UInt8 := dkwX0_numberOf_1 ++ dktX0_numberOf_2
def dkwX0_numberOf_0 : List UInt8 := [3, 62, 27, 54, 4, 3, 54, 5, 21, 5, 28, 162, 0, 54, 21, 4, 54, 6, 21, 6, 42, 21, 5, 46]
abbrev dktX0_numberOf_0 : List UInt8 := dkwX0_numberOf_0 ++ dktX0_numberOf_1
theorem dksX0_numberOf_0 : cX0_numberOf.data.toList.drop 0 = dktX0_numberOf_0 := by decide +kernel
theorem dksX0_numberOf_1 : cX0_numberOf.data.toList.drop 24 = dktX0_numberOf_1 := dk_seg dksX0_numberOf_0 24 rfl rfl
theorem dksX0_numberOf_2 : cX0_numberOf.data.toList.drop 47 = dktX0_numberOf_2 := dk_seg dksX0_numberOf_1 23 rfl rfl
theorem dX0_numberOf_0 : decode cX0_numberOf 0 = .ok (.iconst 0, 1) := dk_3 (dk_at dksX0_numberOf_0 0 rfl rfl)
theorem dX0_numberOf_1 : decode cX0_numberOf 1 = .ok (.istore_n 3, 1) := dk_62 (dk_at dksX0_numberOf_0 1 rfl rfl)
theorem dX0_numberOf_2 : decode cX0_numberOf 2 = .ok (.iload_n 1, 1) := dk_27 (dk_at dksX0_numberOf_0 2 rfl rfl)
theorem dX0_numberOf_3 : decode cX0_numberOf 3 = .ok (.istore 4, 2) := dk_54 4 (dk_at dksX0_numberOf_0 3 rfl rfl)
theorem dX0_numberOf_5 : decode cX0_numberOf 5 = .ok (.iconst 0, 1) := dk_3 (dk_at dksX0_numberOf_0 5 rfl rfl)
theorem dX0_numberOf_6 : decode cX0_numberOf 6 = .ok (.istore 5, 2) := dk_54 5 (dk_at dksX0_numberOf_0 6 rfl rfl)
theorem dX0_numberOf_8 : decode cX0_numberOf 8 = .ok (.iload 5, 2) := dk_21 5 (dk_at dksX0_numberOf_0 8 rfl rfl)
theorem dX0_numberOf_10 : decode cX0_numberOf 10 = .ok (.iload_n 2, 1) := dk_28 (dk_at dksX0_numberOf_0 10 rfl rfl)
theorem dX0_numberOf_11 : decode cX0_numberOf 11 = .ok (.if_icmp .ge 54, 3) := dk_162 0 54 (dk_at dksX0_numberOf_0 11 rfl rfl)
theorem dX0_numberOf_14 : decode cX0_numberOf 14 = .ok (.iload 4, 2) := dk_21 4 (dk_at dksX0_numberOf_0 14 rfl rfl)
theorem dX0_numberOf_16 : decode cX0_numberOf 16 = .ok (.istore 6, 2) := dk_54 6 (dk_at dksX0_numberOf_0 16 rfl rfl)
theorem dX0_numberOf_18 : decode cX0_numberOf 18 = .ok (.iload 6, 2) := dk_21 6 (dk_at dksX0_numberOf_0 18 rfl rfl)
theorem dX0_numberOf_20 : decode cX0_numberOf 20 = .ok (.aload_n 0, 1) := dk_42 (dk_at dksX0_numberOf_0 20 rfl rfl)
theorem dX0_numberOf_21 : decode cX0_numberOf 21 = .ok (.iload 5, 2) := dk_21 5 (dk_at dksX0_numberOf_0 21 rfl rfl)
theorem dX0_numberOf_23 : decode cX0_numberOf 23 = .ok (.iaload, 1) := dk_46 (dk_at dksX0_numberOf_0 23 rfl rfl)
theorem dX0_numberOf_24 : decode cX0_numberOf 24 = .ok (.if_icmp .le 26, 3) := dk_164 0 26 (dk_at dksX0_numberOf_1 0 rfl rfl)
theorem dX0_numberOf_27 : decode cX0_numberOf 27 = .ok (.iload_n 3, 1) := dk_29 (dk_at dksX0_numberOf_1 3 rfl rfl)
theorem dX0_numberOf_28 : decode cX0_numberOf 28 = .ok (.iload_n 2, 1) := dk_28 (dk_at dksX0_numberOf_1 4 rfl rfl)
theorem dX0_numberOf_29 : decode cX0_numberOf 29 = .ok (.iconst 1, 1) := dk_4 (dk_at dksX0_numberOf_1 5 rfl rfl)
theorem dX0_numberOf_30 : decode cX0_numberOf 30 = .ok (.isub, 1) := dk_100 (dk_at dksX0_numberOf_1 6 rfl rfl)
theorem dX0_numberOf_31 : decode cX0_numberOf 31 = .ok (.iload 5, 2) := dk_21 5 (dk_at dksX0_numberOf_1 7 rfl rfl)
theorem dX0_numberOf_33 : decode cX0_numberOf 33 = .ok (.isub, 1) := dk_100 (dk_at dksX0_numberOf_1 9 rfl rfl)
theorem dX0_numberOf_34 : decode cX0_numberOf 34 = .ok (.iload 4, 2) := dk_21 4 (dk_at dksX0_numberOf_1 10 rfl rfl)
theorem dX0_numberOf_36 : decode cX0_numberOf 36 = .ok (.iload 6, 2) := dk_21 6 (dk_at dksX0_numberOf_1 12 rfl rfl)
theorem dX0_numberOf_38 : decode cX0_numberOf 38 = .ok (.isub, 1) := dk_100 (dk_at dksX0_numberOf_1 14 rfl rfl)
theorem dX0_numberOf_39 : decode cX0_numberOf 39 = .ok (.invokestatic 62, 3) := dk_184 0 62 (dk_at dksX0_numberOf_1 15 rfl rfl)
theorem dX0_numberOf_42 : decode cX0_numberOf 42 = .ok (.iadd, 1) := dk_96 (dk_at dksX0_numberOf_1 18 rfl rfl)
theorem dX0_numberOf_43 : decode cX0_numberOf 43 = .ok (.istore_n 3, 1) := dk_62 (dk_at dksX0_numberOf_1 19 rfl rfl)
theorem dX0_numberOf_44 : decode cX0_numberOf 44 = .ok (.iinc 6 (-1), 3) := dk_132 6 255 (dk_at dksX0_numberOf_1 20 rfl rfl)
theorem dX0_numberOf_47 : decode cX0_numberOf 47 = .ok (.goto (-29), 3) := dk_167 255 227 (dk_at dksX0_numberOf_2 0 rfl rfl)
theorem dX0_numberOf_50 : decode cX0_numberOf 50 = .ok (.iload 4, 2) := dk_21 4 (dk_at dksX0_numberOf_2 3 rfl rfl)
theorem dX0_numberOf_52 : decode cX0_numberOf 52 = .ok (.aload_n 0, 1) := dk_42 (dk_at dksX0_numberOf_2 5 rfl rfl)
theorem dX0_numberOf_53 : decode cX0_numberOf 53 = .ok (.iload 5, 2) := dk_21 5 (dk_at dksX0_numberOf_2 6 rfl rfl)
theorem dX0_numberOf_55 : decode cX0_numberOf 55 = .ok (.iaload, 1) := dk_46 (dk_at dksX0_numberOf_2 8 rfl rfl)
theorem dX0_numberOf_56 : decode cX0_numberOf 56 = .ok (.isub, 1) := dk_100 (dk_at dksX0_numberOf_2 9 rfl rfl)
theorem dX0_numberOf_57 : decode cX0_numberOf 57 = .ok (.istore 4, 2) := dk_54 4 (dk_at dksX0_numberOf_2 10 rfl rfl)
theorem dX0_numberOf_59 : decode cX0_numberOf 59 = .ok (.iinc 5 1, 3) := dk_132 5 1 (dk_at dksX0_numberOf_2 12 rfl rfl)
theorem dX0_numberOf_62 : decode cX0_numberOf 62 = .ok (.goto (-54), 3) := dk_167 255 202 (dk_at dksX0_numberOf_2 15 rfl rfl)
theorem dX0_numberOf_65 : decode cX0_numberOf 65 = .ok (.iload_n 3, 1) := dk_29 (dk_at dksX0_numberOf_2 18 rfl rfl)
theorem dX0_numberOf_66 : decode cX0_numberOf 66 = .ok (.ireturn, 1) := dk_172 (dk_at dksX0_numberOf_2 19 rfl rfl)
abbrev cX0_generator : ByteArray := prog_1_method_31_code
def yX0_generator : MethodName := ⟨RX0, "generator", "(II)I"⟩
def dkwX0_generator_3 : List UInt8 := [180, 0, 20, 180, 0, 162, 182, 0, 205, 172]
abbrev dktX0_generator_3 : List UInt8 := dkwX0_generator_3 ++ []
def dkwX0_generator_2 : List UInt8 := [185, 0, 208, 2, 0, 192, 0, 183, 78, 28, 154, 0, 10, 45, 180, 0, 211, 167, 0, 14, 45, 42]
abbrev dktX0_generator_2 : List UInt8 := dkwX0_generator_2 ++ dktX0_generator_3
def dkwX0_generator_1 : List UInt8 := [28, 133, 9, 10, 184, 0, 110, 154, 0, 5, 2, 172, 42, 180, 0, 20, 180, 0, 151, 27]
abbrev dktX0_generator_1 : List UInt8 := dkwX0_generator_1 ++ dktX0_generator_2
def dkwX0_generator_0 : List UInt8 := [27, 133, 9, 42, 180, 0, 20, 180, 0, 151, 185, 0, 114, 1, 0, 4, 100, 133, 184, 0, 110, 153, 0, 13]
abbrev dktX0_generator_0 : List UInt8 := dkwX0_generator_0 ++ dktX0_generator_1
theorem dksX0_generator_0 : cX0_generator.data.toList.drop 0 = dktX0_generator_0 := by decide +kernel
theorem dksX0_generator_1 : cX0_generator.data.toList.drop 24 = dktX0_generator_1 := dk_seg dksX0_generator_0 24 rfl rfl
theorem dksX0_generator_2 : cX0_generator.data.toList.drop 44 = dktX0_generator_2 := dk_seg dksX0_generator_1 20 rfl rfl
theorem dksX0_generator_3 : cX0_generator.data.toList.drop 66 = dktX0_generator_3 := dk_seg dksX0_generator_2 22 rfl rfl
theorem dX0_generator_0 : decode cX0_generator 0 = .ok (.iload_n 1, 1) := dk_27 (dk_at dksX0_generator_0 0 rfl rfl)
theorem dX0_generator_1 : decode cX0_generator 1 = .ok (.i2l, 1) := dk_133 (dk_at dksX0_generator_0 1 rfl rfl)
theorem dX0_generator_2 : decode cX0_generator 2 = .ok (.lconst 0, 1) := dk_9 (dk_at dksX0_generator_0 2 rfl rfl)
theorem dX0_generator_3 : decode cX0_generator 3 = .ok (.aload_n 0, 1) := dk_42 (dk_at dksX0_generator_0 3 rfl rfl)
theorem dX0_generator_4 : decode cX0_generator 4 = .ok (.getfield 20, 3) := dk_180 0 20 (dk_at dksX0_generator_0 4 rfl rfl)
theorem dX0_generator_7 : decode cX0_generator 7 = .ok (.getfield 151, 3) := dk_180 0 151 (dk_at dksX0_generator_0 7 rfl rfl)
theorem dX0_generator_10 : decode cX0_generator 10 = .ok (.invokeinterface 114 1, 5) := by decide +kernel
theorem dX0_generator_15 : decode cX0_generator 15 = .ok (.iconst 1, 1) := dk_4 (dk_at dksX0_generator_0 15 rfl rfl)
theorem dX0_generator_16 : decode cX0_generator 16 = .ok (.isub, 1) := dk_100 (dk_at dksX0_generator_0 16 rfl rfl)
theorem dX0_generator_17 : decode cX0_generator 17 = .ok (.i2l, 1) := dk_133 (dk_at dksX0_generator_0 17 rfl rfl)
theorem dX0_generator_18 : decode cX0_generator 18 = .ok (.invokestatic 110, 3) := dk_184 0 110 (dk_at dksX0_generator_0 18 rfl rfl)
theorem dX0_generator_21 : decode cX0_generator 21 = .ok (.ifCond .eq 13, 3) := dk_153 0 13 (dk_at dksX0_generator_0 21 rfl rfl)
theorem dX0_generator_24 : decode cX0_generator 24 = .ok (.iload_n 2, 1) := dk_28 (dk_at dksX0_generator_1 0 rfl rfl)
theorem dX0_generator_25 : decode cX0_generator 25 = .ok (.i2l, 1) := dk_133 (dk_at dksX0_generator_1 1 rfl rfl)
theorem dX0_generator_26 : decode cX0_generator 26 = .ok (.lconst 0, 1) := dk_9 (dk_at dksX0_generator_1 2 rfl rfl)
theorem dX0_generator_27 : decode cX0_generator 27 = .ok (.lconst 1, 1) := dk_10 (dk_at dksX0_generator_1 3 rfl rfl)
theorem dX0_generator_28 : decode cX0_generator 28 = .ok (.invokestatic 110, 3) := dk_184 0 110 (dk_at dksX0_generator_1 4 rfl rfl)
theorem dX0_generator_31 : decode cX0_generator 31 = .ok (.ifCond .ne 5, 3) := dk_154 0 5 (dk_at dksX0_generator_1 7 rfl rfl)
theorem dX0_generator_34 : decode cX0_generator 34 = .ok (.iconst (-1), 1) := dk_2 (dk_at dksX0_generator_1 10 rfl rfl)
theorem dX0_generator_35 : decode cX0_generator 35 = .ok (.ireturn, 1) := dk_172 (dk_at dksX0_generator_1 11 rfl rfl)
theorem dX0_generator_36 : decode cX0_generator 36 = .ok (.aload_n 0, 1) := dk_42 (dk_at dksX0_generator_1 12 rfl rfl)
theorem dX0_generator_37 : decode cX0_generator 37 = .ok (.getfield 20, 3) := dk_180 0 20 (dk_at dksX0_generator_1 13 rfl rfl)
theorem dX0_generator_40 : decode cX0_generator 40 = .ok (.getfield 151, 3) := dk_180 0 151 (dk_at dksX0_generator_1 16 rfl rfl)
theorem dX0_generator_43 : decode cX0_generator 43 = .ok (.iload_n 1, 1) := dk_27 (dk_at dksX0_generator_1 19 rfl rfl)
theorem dX0_generator_44 : decode cX0_generator 44 = .ok (.invokeinterface 208 2, 5) := by decide +kernel
theorem dX0_generator_49 : decode cX0_generator 49 = .ok (.checkcast 183, 3) := dk_192 0 183 (dk_at dksX0_generator_2 5 rfl rfl)
theorem dX0_generator_52 : decode cX0_generator 52 = .ok (.astore_n 3, 1) := dk_78 (dk_at dksX0_generator_2 8 rfl rfl)
theorem dX0_generator_53 : decode cX0_generator 53 = .ok (.iload_n 2, 1) := dk_28 (dk_at dksX0_generator_2 9 rfl rfl)
theorem dX0_generator_54 : decode cX0_generator 54 = .ok (.ifCond .ne 10, 3) := dk_154 0 10 (dk_at dksX0_generator_2 10 rfl rfl)
theorem dX0_generator_57 : decode cX0_generator 57 = .ok (.aload_n 3, 1) := dk_45 (dk_at dksX0_generator_2 13 rfl rfl)
theorem dX0_generator_58 : decode cX0_generator 58 = .ok (.getfield 211, 3) := dk_180 0 211 (dk_at dksX0_generator_2 14 rfl rfl)
theorem dX0_generator_61 : decode cX0_generator 61 = .ok (.goto 14, 3) := dk_167 0 14 (dk_at dksX0_generator_2 17 rfl rfl)
theorem dX0_generator_64 : decode cX0_generator 64 = .ok (.aload_n 3, 1) := dk_45 (dk_at dksX0_generator_2 20 rfl rfl)
theorem dX0_generator_65 : decode cX0_generator 65 = .ok (.aload_n 0, 1) := dk_42 (dk_at dksX0_generator_2 21 rfl rfl)
theorem dX0_generator_66 : decode cX0_generator 66 = .ok (.getfield 20, 3) := dk_180 0 20 (dk_at dksX0_generator_3 0 rfl rfl)
theorem dX0_generator_69 : decode cX0_generator 69 = .ok (.getfield 162, 3) := dk_180 0 162 (dk_at dksX0_generator_3 3 rfl rfl)
theorem dX0_generator_72 : decode cX0_generator 72 = .ok (.invokevirtual 205, 3) := dk_182 0 205 (dk_at dksX0_generator_3 6 rfl rfl)
theorem dX0_generator_75 : decode cX0_generator 75 = .ok (.ireturn, 1) := dk_172 (dk_at dksX0_generator_3 9 rfl rfl)
abbrev cX0_in : ByteArray := prog_1_method_32_code
def yX0_in : MethodName := ⟨RX0, "in", "(II)I"⟩
def dkwX0_in_1 : List UInt8 := [182, 0, 212, 184, 0, 54, 167, 0, 4, 2, 172]
abbrev dktX0_in_1 : List UInt8 := dkwX0_in_1 ++ []
def dkwX0_in_0 : List UInt8 := [42, 27, 28, 182, 0, 188, 153, 0, 25, 42, 180, 0, 20, 42, 27, 28, 182, 0, 192, 180, 0, 196]
abbrev dktX0_in_0 : List UInt8 := dkwX0_in_0 ++ dktX0_in_1
theorem dksX0_in_0 : cX0_in.data.toList.drop 0 = dktX0_in_0 := by decide +kernel
theorem dksX0_in_1 : cX0_in.data.toList.drop 22 = dktX0_in_1 := dk_seg dksX0_in_0 22 rfl rfl
theorem dX0_in_0 : decode cX0_in 0 = .ok (.aload_n 0, 1) := dk_42 (dk_at dksX0_in_0 0 rfl rfl)
theorem dX0_in_1 : decode cX0_in 1 = .ok (.iload_n 1, 1) := dk_27 (dk_at dksX0_in_0 1 rfl rfl)
theorem dX0_in_2 : decode cX0_in 2 = .ok (.iload_n 2, 1) := dk_28 (dk_at dksX0_in_0 2 rfl rfl)
theorem dX0_in_3 : decode cX0_in 3 = .ok (.invokevirtual 188, 3) := dk_182 0 188 (dk_at dksX0_in_0 3 rfl rfl)
theorem dX0_in_6 : decode cX0_in 6 = .ok (.ifCond .eq 25, 3) := dk_153 0 25 (dk_at dksX0_in_0 6 rfl rfl)
theorem dX0_in_9 : decode cX0_in 9 = .ok (.aload_n 0, 1) := dk_42 (dk_at dksX0_in_0 9 rfl rfl)
theorem dX0_in_10 : decode cX0_in 10 = .ok (.getfield 20, 3) := dk_180 0 20 (dk_at dksX0_in_0 10 rfl rfl)
theorem dX0_in_13 : decode cX0_in 13 = .ok (.aload_n 0, 1) := dk_42 (dk_at dksX0_in_0 13 rfl rfl)
theorem dX0_in_14 : decode cX0_in 14 = .ok (.iload_n 1, 1) := dk_27 (dk_at dksX0_in_0 14 rfl rfl)
theorem dX0_in_15 : decode cX0_in 15 = .ok (.iload_n 2, 1) := dk_28 (dk_at dksX0_in_0 15 rfl rfl)
theorem dX0_in_16 : decode cX0_in 16 = .ok (.invokevirtual 192, 3) := dk_182 0 192 (dk_at dksX0_in_0 16 rfl rfl)
theorem dX0_in_19 : decode cX0_in 19 = .ok (.getfield 196, 3) := dk_180 0 196 (dk_at dksX0_in_0 19 rfl rfl)
theorem dX0_in_22 : decode cX0_in 22 = .ok (.invokevirtual 212, 3) := dk_182 0 212 (dk_at dksX0_in_1 0 rfl rfl)
theorem dX0_in_25 : decode cX0_in 25 = .ok (.invokestatic 54, 3) := dk_184 0 54 (dk_at dksX0_in_1 3 rfl rfl)
theorem dX0_in_28 : decode cX0_in 28 = .ok (.goto 4, 3) := dk_167 0 4 (dk_at dksX0_in_1 6 rfl rfl)
theorem dX0_in_31 : decode cX0_in 31 = .ok (.iconst (-1), 1) := dk_2 (dk_at dksX0_in_1 9 rfl rfl)
theorem dX0_in_32 : decode cX0_in 32 = .ok (.ireturn, 1) := dk_172 (dk_at dksX0_in_1 10 rfl rfl)
abbrev cX0_size : ByteArray := prog_1_method_33_code
def yX0_size : MethodName := ⟨RX0, "size", "(I)I"⟩
def dkwX0_size_0 : List UInt8 := [27, 184, 0, 177, 153, 0, 14, 42, 180, 0, 20, 27, 182, 0, 215, 167, 0, 4, 2, 172]
abbrev dktX0_size_0 : List UInt8 := dkwX0_size_0 ++ []
theorem dksX0_size_0 : cX0_size.data.toList.drop 0 = dktX0_size_0 := by decide +kernel
theorem dX0_size_0 : decode cX0_size 0 = .ok (.iload_n 1, 1) := dk_27 (dk_at dksX0_size_0 0 rfl rfl)
theorem dX0_size_1 : decode cX0_size 1 = .ok (.invokestatic 177, 3) := dk_184 0 177 (dk_at dksX0_size_0 1 rfl rfl)
theorem dX0_size_4 : decode cX0_size 4 = .ok (.ifCond .eq 14, 3) := dk_153 0 14 (dk_at dksX0_size_0 4 rfl rfl)
theorem dX0_size_7 : decode cX0_size 7 = .ok (.aload_n 0, 1) := dk_42 (dk_at dksX0_size_0 7 rfl rfl)
theorem dX0_size_8 : decode cX0_size 8 = .ok (.getfield 20, 3) := dk_180 0 20 (dk_at dksX0_size_0 8 rfl rfl)
theorem dX0_size_11 : decode cX0_size 11 = .ok (.iload_n 1, 1) := dk_27 (dk_at dksX0_size_0 11 rfl rfl)
theorem dX0_size_12 : decode cX0_size 12 = .ok (.invokevirtual 215, 3) := dk_182 0 215 (dk_at dksX0_size_0 12 rfl rfl)
theorem dX0_size_15 : decode cX0_size 15 = .ok (.goto 4, 3) := dk_167 0 4 (dk_at dksX0_size_0 15 rfl rfl)
theorem dX0_size_18 : decode cX0_size 18 = .ok (.iconst (-1), 1) := dk_2 (dk_at dksX0_size_0 18 rfl rfl)
theorem dX0_size_19 : decode cX0_size 19 = .ok (.ireturn, 1) := dk_172 (dk_at dksX0_size_0 19 rfl rfl)
abbrev cX0_poly : ByteArray := prog_1_method_34_code
def yX0_poly : MethodName := ⟨RX0, "poly", "(I)J"⟩
def dkwX0_poly_1 : List UInt8 := [20, 0, 223, 173]
abbrev dktX0_poly_1 : List UInt8 := dkwX0_poly_1 ++ []
def dkwX0_poly_0 : List UInt8 := [27, 133, 9, 20, 0, 217, 184, 0, 110, 153, 0, 14, 42, 180, 0, 20, 27, 182, 0, 219, 167, 0, 6]
abbrev dktX0_poly_0 : List UInt8 := dkwX0_poly_0 ++ dktX0_poly_1
theorem dksX0_poly_0 : cX0_poly.data.toList.drop 0 = dktX0_poly_0 := by decide +kernel
theorem dksX0_poly_1 : cX0_poly.data.toList.drop 23 = dktX0_poly_1 := dk_seg dksX0_poly_0 23 rfl rfl
theorem dX0_poly_0 : decode cX0_poly 0 = .ok (.iload_n 1, 1) := dk_27 (dk_at dksX0_poly_0 0 rfl rfl)
theorem dX0_poly_1 : decode cX0_poly 1 = .ok (.i2l, 1) := dk_133 (dk_at dksX0_poly_0 1 rfl rfl)
theorem dX0_poly_2 : decode cX0_poly 2 = .ok (.lconst 0, 1) := dk_9 (dk_at dksX0_poly_0 2 rfl rfl)
theorem dX0_poly_3 : decode cX0_poly 3 = .ok (.ldc2_w 217, 3) := dk_20 0 217 (dk_at dksX0_poly_0 3 rfl rfl)
theorem dX0_poly_6 : decode cX0_poly 6 = .ok (.invokestatic 110, 3) := dk_184 0 110 (dk_at dksX0_poly_0 6 rfl rfl)
theorem dX0_poly_9 : decode cX0_poly 9 = .ok (.ifCond .eq 14, 3) := dk_153 0 14 (dk_at dksX0_poly_0 9 rfl rfl)
theorem dX0_poly_12 : decode cX0_poly 12 = .ok (.aload_n 0, 1) := dk_42 (dk_at dksX0_poly_0 12 rfl rfl)
theorem dX0_poly_13 : decode cX0_poly 13 = .ok (.getfield 20, 3) := dk_180 0 20 (dk_at dksX0_poly_0 13 rfl rfl)
theorem dX0_poly_16 : decode cX0_poly 16 = .ok (.iload_n 1, 1) := dk_27 (dk_at dksX0_poly_0 16 rfl rfl)
theorem dX0_poly_17 : decode cX0_poly 17 = .ok (.invokevirtual 219, 3) := dk_182 0 219 (dk_at dksX0_poly_0 17 rfl rfl)
theorem dX0_poly_20 : decode cX0_poly 20 = .ok (.goto 6, 3) := dk_167 0 6 (dk_at dksX0_poly_0 20 rfl rfl)
theorem dX0_poly_23 : decode cX0_poly 23 = .ok (.ldc2_w 223, 3) := dk_20 0 223 (dk_at dksX0_poly_1 0 rfl rfl)
theorem dX0_poly_26 : decode cX0_poly 26 = .ok (.lreturn, 1) := dk_173 (dk_at dksX0_poly_1 3 rfl rfl)
abbrev cX0_agrees : ByteArray := prog_1_method_35_code
def yX0_agrees : MethodName := ⟨RX0, "agrees", "()I"⟩
def dkwX0_agrees_1 : List UInt8 := [100, 182, 0, 219, 148, 154, 0, 9, 132, 1, 255, 167, 255, 224, 27, 172]
abbrev dktX0_agrees_1 : List UInt8 := dkwX0_agrees_1 ++ []
def dkwX0_agrees_0 : List UInt8 := [16, 40, 60, 27, 158, 0, 34, 42, 180, 0, 20, 27, 4, 100, 182, 0, 215, 133, 42, 180, 0, 20, 27, 4]
abbrev dktX0_agrees_0 : List UInt8 := dkwX0_agrees_0 ++ dktX0_agrees_1
theorem dksX0_agrees_0 : cX0_agrees.data.toList.drop 0 = dktX0_agrees_0 := by decide +kernel
theorem dksX0_agrees_1 : cX0_agrees.data.toList.drop 24 = dktX0_agrees_1 := dk_seg dksX0_agrees_0 24 rfl rfl
theorem dX0_agrees_0 : decode cX0_agrees 0 = .ok (.bipush 40, 2) := dk_16 40 (dk_at dksX0_agrees_0 0 rfl rfl)
theorem dX0_agrees_2 : decode cX0_agrees 2 = .ok (.istore_n 1, 1) := dk_60 (dk_at dksX0_agrees_0 2 rfl rfl)
theorem dX0_agrees_3 : decode cX0_agrees 3 = .ok (.iload_n 1, 1) := dk_27 (dk_at dksX0_agrees_0 3 rfl rfl)
theorem dX0_agrees_4 : decode cX0_agrees 4 = .ok (.ifCond .le 34, 3) := dk_158 0 34 (dk_at dksX0_agrees_0 4 rfl rfl)
theorem dX0_agrees_7 : decode cX0_agrees 7 = .ok (.aload_n 0, 1) := dk_42 (dk_at dksX0_agrees_0 7 rfl rfl)
theorem dX0_agrees_8 : decode cX0_agrees 8 = .ok (.getfield 20, 3) := dk_180 0 20 (dk_at dksX0_agrees_0 8 rfl rfl)
theorem dX0_agrees_11 : decode cX0_agrees 11 = .ok (.iload_n 1, 1) := dk_27 (dk_at dksX0_agrees_0 11 rfl rfl)
theorem dX0_agrees_12 : decode cX0_agrees 12 = .ok (.iconst 1, 1) := dk_4 (dk_at dksX0_agrees_0 12 rfl rfl)
theorem dX0_agrees_13 : decode cX0_agrees 13 = .ok (.isub, 1) := dk_100 (dk_at dksX0_agrees_0 13 rfl rfl)
theorem dX0_agrees_14 : decode cX0_agrees 14 = .ok (.invokevirtual 215, 3) := dk_182 0 215 (dk_at dksX0_agrees_0 14 rfl rfl)
theorem dX0_agrees_17 : decode cX0_agrees 17 = .ok (.i2l, 1) := dk_133 (dk_at dksX0_agrees_0 17 rfl rfl)
theorem dX0_agrees_18 : decode cX0_agrees 18 = .ok (.aload_n 0, 1) := dk_42 (dk_at dksX0_agrees_0 18 rfl rfl)
theorem dX0_agrees_19 : decode cX0_agrees 19 = .ok (.getfield 20, 3) := dk_180 0 20 (dk_at dksX0_agrees_0 19 rfl rfl)
theorem dX0_agrees_22 : decode cX0_agrees 22 = .ok (.iload_n 1, 1) := dk_27 (dk_at dksX0_agrees_0 22 rfl rfl)
theorem dX0_agrees_23 : decode cX0_agrees 23 = .ok (.iconst 1, 1) := dk_4 (dk_at dksX0_agrees_0 23 rfl rfl)
theorem dX0_agrees_24 : decode cX0_agrees 24 = .ok (.isub, 1) := dk_100 (dk_at dksX0_agrees_1 0 rfl rfl)
theorem dX0_agrees_25 : decode cX0_agrees 25 = .ok (.invokevirtual 219, 3) := dk_182 0 219 (dk_at dksX0_agrees_1 1 rfl rfl)
theorem dX0_agrees_28 : decode cX0_agrees 28 = .ok (.lcmp, 1) := dk_148 (dk_at dksX0_agrees_1 4 rfl rfl)
theorem dX0_agrees_29 : decode cX0_agrees 29 = .ok (.ifCond .ne 9, 3) := dk_154 0 9 (dk_at dksX0_agrees_1 5 rfl rfl)
theorem dX0_agrees_32 : decode cX0_agrees 32 = .ok (.iinc 1 (-1), 3) := dk_132 1 255 (dk_at dksX0_agrees_1 8 rfl rfl)
theorem dX0_agrees_35 : decode cX0_agrees 35 = .ok (.goto (-32), 3) := dk_167 255 224 (dk_at dksX0_agrees_1 11 rfl rfl)
theorem dX0_agrees_38 : decode cX0_agrees 38 = .ok (.iload_n 1, 1) := dk_27 (dk_at dksX0_agrees_1 14 rfl rfl)
theorem dX0_agrees_39 : decode cX0_agrees 39 = .ok (.ireturn, 1) := dk_172 (dk_at dksX0_agrees_1 15 rfl rfl)
abbrev cX0_about : ByteArray := prog_1_method_36_code
def yX0_about : MethodName := ⟨RX0, "about", "(I)I"⟩
def dkwX0_about_1 : List UInt8 := [172]
abbrev dktX0_about_1 : List UInt8 := dkwX0_about_1 ++ []
def dkwX0_about_0 : List UInt8 := [27, 133, 9, 10, 184, 0, 110, 153, 0, 16, 42, 180, 0, 20, 182, 0, 225, 27, 47, 136, 167, 0, 4, 2]
abbrev dktX0_about_0 : List UInt8 := dkwX0_about_0 ++ dktX0_about_1
theorem dksX0_about_0 : cX0_about.data.toList.drop 0 = dktX0_about_0 := by decide +kernel
theorem dksX0_about_1 : cX0_about.data.toList.drop 24 = dktX0_about_1 := dk_seg dksX0_about_0 24 rfl rfl
theorem dX0_about_0 : decode cX0_about 0 = .ok (.iload_n 1, 1) := dk_27 (dk_at dksX0_about_0 0 rfl rfl)
theorem dX0_about_1 : decode cX0_about 1 = .ok (.i2l, 1) := dk_133 (dk_at dksX0_about_0 1 rfl rfl)
theorem dX0_about_2 : decode cX0_about 2 = .ok (.lconst 0, 1) := dk_9 (dk_at dksX0_about_0 2 rfl rfl)
theorem dX0_about_3 : decode cX0_about 3 = .ok (.lconst 1, 1) := dk_10 (dk_at dksX0_about_0 3 rfl rfl)
theorem dX0_about_4 : decode cX0_about 4 = .ok (.invokestatic 110, 3) := dk_184 0 110 (dk_at dksX0_about_0 4 rfl rfl)
theorem dX0_about_7 : decode cX0_about 7 = .ok (.ifCond .eq 16, 3) := dk_153 0 16 (dk_at dksX0_about_0 7 rfl rfl)
theorem dX0_about_10 : decode cX0_about 10 = .ok (.aload_n 0, 1) := dk_42 (dk_at dksX0_about_0 10 rfl rfl)
theorem dX0_about_11 : decode cX0_about 11 = .ok (.getfield 20, 3) := dk_180 0 20 (dk_at dksX0_about_0 11 rfl rfl)
theorem dX0_about_14 : decode cX0_about 14 = .ok (.invokevirtual 225, 3) := dk_182 0 225 (dk_at dksX0_about_0 14 rfl rfl)
theorem dX0_about_17 : decode cX0_about 17 = .ok (.iload_n 1, 1) := dk_27 (dk_at dksX0_about_0 17 rfl rfl)
theorem dX0_about_18 : decode cX0_about 18 = .ok (.laload, 1) := dk_47 (dk_at dksX0_about_0 18 rfl rfl)
theorem dX0_about_19 : decode cX0_about 19 = .ok (.l2i, 1) := dk_136 (dk_at dksX0_about_0 19 rfl rfl)
theorem dX0_about_20 : decode cX0_about 20 = .ok (.goto 4, 3) := dk_167 0 4 (dk_at dksX0_about_0 20 rfl rfl)
theorem dX0_about_23 : decode cX0_about 23 = .ok (.iconst (-1), 1) := dk_2 (dk_at dksX0_about_0 23 rfl rfl)
theorem dX0_about_24 : decode cX0_about 24 = .ok (.ireturn, 1) := dk_172 (dk_at dksX0_about_1 0 rfl rfl)
abbrev cX0_numerator : ByteArray := prog_1_method_37_code
def yX0_numerator : MethodName := ⟨RX0, "numerator", "(I)J"⟩
def dkwX0_numerator_0 : List UInt8 := [27, 184, 0, 177, 153, 0, 14, 42, 180, 0, 20, 27, 182, 0, 229, 167, 0, 6, 20, 0, 223, 173]
abbrev dktX0_numerator_0 : List UInt8 := dkwX0_numerator_0 ++ []
theorem dksX0_numerator_0 : cX0_numerator.data.toList.drop 0 = dktX0_numerator_0 := by decide +kernel
theorem dX0_numerator_0 : decode cX0_numerator 0 = .ok (.iload_n 1, 1) := dk_27 (dk_at dksX0_numerator_0 0 rfl rfl)
theorem dX0_numerator_1 : decode cX0_numerator 1 = .ok (.invokestatic 177, 3) := dk_184 0 177 (dk_at dksX0_numerator_0 1 rfl rfl)
theorem dX0_numerator_4 : decode cX0_numerator 4 = .ok (.ifCond .eq 14, 3) := dk_153 0 14 (dk_at dksX0_numerator_0 4 rfl rfl)
theorem dX0_numerator_7 : decode cX0_numerator 7 = .ok (.aload_n 0, 1) := dk_42 (dk_at dksX0_numerator_0 7 rfl rfl)
theorem dX0_numerator_8 : decode cX0_numerator 8 = .ok (.getfield 20, 3) := dk_180 0 20 (dk_at dksX0_numerator_0 8 rfl rfl)
theorem dX0_numerator_11 : decode cX0_numerator 11 = .ok (.iload_n 1, 1) := dk_27 (dk_at dksX0_numerator_0 11 rfl rfl)
theorem dX0_numerator_12 : decode cX0_numerator 12 = .ok (.invokevirtual 229, 3) := dk_182 0 229 (dk_at dksX0_numerator_0 12 rfl rfl)
theorem dX0_numerator_15 : decode cX0_numerator 15 = .ok (.goto 6, 3) := dk_167 0 6 (dk_at dksX0_numerator_0 15 rfl rfl)
theorem dX0_numerator_18 : decode cX0_numerator 18 = .ok (.ldc2_w 223, 3) := dk_20 0 223 (dk_at dksX0_numerator_0 18 rfl rfl)
theorem dX0_numerator_21 : decode cX0_numerator 21 = .ok (.lreturn, 1) := dk_173 (dk_at dksX0_numerator_0 21 rfl rfl)
abbrev cX0_room : ByteArray := prog_1_method_38_code
def yX0_room : MethodName := ⟨RX0, "room", "(I)J"⟩
def dkwX0_room_1 : List UInt8 := [184, 0, 234, 42, 180, 0, 20, 27, 4, 96, 182, 0, 215, 133, 101, 167, 0, 6, 20, 0, 238, 173]
abbrev dktX0_room_1 : List UInt8 := dkwX0_room_1 ++ []
def dkwX0_room_0 : List UInt8 := [27, 133, 10, 20, 0, 232, 184, 0, 110, 153, 0, 31, 42, 180, 0, 20, 27, 182, 0, 215, 133, 27]
abbrev dktX0_room_0 : List UInt8 := dkwX0_room_0 ++ dktX0_room_1
theorem dksX0_room_0 : cX0_room.data.toList.drop 0 = dktX0_room_0 := by decide +kernel
theorem dksX0_room_1 : cX0_room.data.toList.drop 22 = dktX0_room_1 := dk_seg dksX0_room_0 22 rfl rfl
theorem dX0_room_0 : decode cX0_room 0 = .ok (.iload_n 1, 1) := dk_27 (dk_at dksX0_room_0 0 rfl rfl)
theorem dX0_room_1 : decode cX0_room 1 = .ok (.i2l, 1) := dk_133 (dk_at dksX0_room_0 1 rfl rfl)
theorem dX0_room_2 : decode cX0_room 2 = .ok (.lconst 1, 1) := dk_10 (dk_at dksX0_room_0 2 rfl rfl)
theorem dX0_room_3 : decode cX0_room 3 = .ok (.ldc2_w 232, 3) := dk_20 0 232 (dk_at dksX0_room_0 3 rfl rfl)
theorem dX0_room_6 : decode cX0_room 6 = .ok (.invokestatic 110, 3) := dk_184 0 110 (dk_at dksX0_room_0 6 rfl rfl)
theorem dX0_room_9 : decode cX0_room 9 = .ok (.ifCond .eq 31, 3) := dk_153 0 31 (dk_at dksX0_room_0 9 rfl rfl)
theorem dX0_room_12 : decode cX0_room 12 = .ok (.aload_n 0, 1) := dk_42 (dk_at dksX0_room_0 12 rfl rfl)
theorem dX0_room_13 : decode cX0_room 13 = .ok (.getfield 20, 3) := dk_180 0 20 (dk_at dksX0_room_0 13 rfl rfl)
theorem dX0_room_16 : decode cX0_room 16 = .ok (.iload_n 1, 1) := dk_27 (dk_at dksX0_room_0 16 rfl rfl)
theorem dX0_room_17 : decode cX0_room 17 = .ok (.invokevirtual 215, 3) := dk_182 0 215 (dk_at dksX0_room_0 17 rfl rfl)
theorem dX0_room_20 : decode cX0_room 20 = .ok (.i2l, 1) := dk_133 (dk_at dksX0_room_0 20 rfl rfl)
theorem dX0_room_21 : decode cX0_room 21 = .ok (.iload_n 1, 1) := dk_27 (dk_at dksX0_room_0 21 rfl rfl)
theorem dX0_room_22 : decode cX0_room 22 = .ok (.invokestatic 234, 3) := dk_184 0 234 (dk_at dksX0_room_1 0 rfl rfl)
theorem dX0_room_25 : decode cX0_room 25 = .ok (.aload_n 0, 1) := dk_42 (dk_at dksX0_room_1 3 rfl rfl)
theorem dX0_room_26 : decode cX0_room 26 = .ok (.getfield 20, 3) := dk_180 0 20 (dk_at dksX0_room_1 4 rfl rfl)
theorem dX0_room_29 : decode cX0_room 29 = .ok (.iload_n 1, 1) := dk_27 (dk_at dksX0_room_1 7 rfl rfl)
theorem dX0_room_30 : decode cX0_room 30 = .ok (.iconst 1, 1) := dk_4 (dk_at dksX0_room_1 8 rfl rfl)
theorem dX0_room_31 : decode cX0_room 31 = .ok (.iadd, 1) := dk_96 (dk_at dksX0_room_1 9 rfl rfl)
theorem dX0_room_32 : decode cX0_room 32 = .ok (.invokevirtual 215, 3) := dk_182 0 215 (dk_at dksX0_room_1 10 rfl rfl)
theorem dX0_room_35 : decode cX0_room 35 = .ok (.i2l, 1) := dk_133 (dk_at dksX0_room_1 13 rfl rfl)
theorem dX0_room_36 : decode cX0_room 36 = .ok (.lsub, 1) := dk_101 (dk_at dksX0_room_1 14 rfl rfl)
theorem dX0_room_37 : decode cX0_room 37 = .ok (.goto 6, 3) := dk_167 0 6 (dk_at dksX0_room_1 15 rfl rfl)
theorem dX0_room_40 : decode cX0_room 40 = .ok (.ldc2_w 238, 3) := dk_20 0 238 (dk_at dksX0_room_1 18 rfl rfl)
theorem dX0_room_43 : decode cX0_room 43 = .ok (.lreturn, 1) := dk_173 (dk_at dksX0_room_1 21 rfl rfl)
abbrev cX0_upOf : ByteArray := prog_1_method_11_code
def yX0_upOf : MethodName := ⟨RX0, "upOf", "(JI)J"⟩
def dkwX0_upOf_0 : List UInt8 := [187, 0, 80, 89, 30, 28, 183, 0, 82, 4, 4, 182, 0, 85, 173, 78, 20, 0, 91, 173]
abbrev dktX0_upOf_0 : List UInt8 := dkwX0_upOf_0 ++ []
theorem dksX0_upOf_0 : cX0_upOf.data.toList.drop 0 = dktX0_upOf_0 := by decide +kernel
theorem dX0_upOf_0 : decode cX0_upOf 0 = .ok (.new 80, 3) := dk_187 0 80 (dk_at dksX0_upOf_0 0 rfl rfl)
theorem dX0_upOf_3 : decode cX0_upOf 3 = .ok (.dup, 1) := dk_89 (dk_at dksX0_upOf_0 3 rfl rfl)
theorem dX0_upOf_4 : decode cX0_upOf 4 = .ok (.lload_n 0, 1) := dk_30 (dk_at dksX0_upOf_0 4 rfl rfl)
theorem dX0_upOf_5 : decode cX0_upOf 5 = .ok (.iload_n 2, 1) := dk_28 (dk_at dksX0_upOf_0 5 rfl rfl)
theorem dX0_upOf_6 : decode cX0_upOf 6 = .ok (.invokespecial 82, 3) := dk_183 0 82 (dk_at dksX0_upOf_0 6 rfl rfl)
theorem dX0_upOf_9 : decode cX0_upOf 9 = .ok (.iconst 1, 1) := dk_4 (dk_at dksX0_upOf_0 9 rfl rfl)
theorem dX0_upOf_10 : decode cX0_upOf 10 = .ok (.iconst 1, 1) := dk_4 (dk_at dksX0_upOf_0 10 rfl rfl)
theorem dX0_upOf_11 : decode cX0_upOf 11 = .ok (.invokevirtual 85, 3) := dk_182 0 85 (dk_at dksX0_upOf_0 11 rfl rfl)
theorem dX0_upOf_14 : decode cX0_upOf 14 = .ok (.lreturn, 1) := dk_173 (dk_at dksX0_upOf_0 14 rfl rfl)
theorem dX0_upOf_15 : decode cX0_upOf 15 = .ok (.astore_n 3, 1) := dk_78 (dk_at dksX0_upOf_0 15 rfl rfl)
theorem dX0_upOf_16 : decode cX0_upOf 16 = .ok (.ldc2_w 91, 3) := dk_20 0 91 (dk_at dksX0_upOf_0 16 rfl rfl)
theorem dX0_upOf_19 : decode cX0_upOf 19 = .ok (.lreturn, 1) := dk_173 (dk_at dksX0_upOf_0 19 rfl rfl)
abbrev cX0_waysHeld : ByteArray := prog_1_method_10_code
def yX0_waysHeld : MethodName := ⟨RX0, "waysHeld", "(JJ)J"⟩
def dkwX0_waysHeld_4 : List UInt8 := [22, 6, 20, 0, 78, 184, 0, 70, 173]
abbrev dktX0_waysHeld_4 : List UInt8 := dkwX0_waysHeld_4 ++ []
def dkwX0_waysHeld_3 : List UInt8 := [20, 0, 78, 173, 22, 6, 22, 10, 109, 22, 12, 105, 55, 6, 22, 8, 10, 97, 55, 8, 167, 255, 189]
abbrev dktX0_waysHeld_3 : List UInt8 := dkwX0_waysHeld_3 ++ dktX0_waysHeld_4
def dkwX0_waysHeld_2 : List UInt8 := [22, 8, 22, 10, 109, 109, 55, 12, 22, 6, 22, 10, 109, 20, 0, 78, 22, 12, 109, 148, 158, 0, 7]
abbrev dktX0_waysHeld_2 : List UInt8 := dkwX0_waysHeld_2 ++ dktX0_waysHeld_3
def dkwX0_waysHeld_1 : List UInt8 := [22, 8, 22, 4, 148, 157, 0, 65, 22, 6, 22, 8, 184, 0, 66, 55, 10, 30, 22, 4, 101, 22, 8, 97]
abbrev dktX0_waysHeld_1 : List UInt8 := dkwX0_waysHeld_1 ++ dktX0_waysHeld_2
def dkwX0_waysHeld_0 : List UInt8 := [32, 30, 148, 158, 0, 5, 9, 173, 32, 30, 32, 101, 184, 0, 70, 55, 4, 10, 55, 6, 10, 55, 8]
abbrev dktX0_waysHeld_0 : List UInt8 := dkwX0_waysHeld_0 ++ dktX0_waysHeld_1
theorem dksX0_waysHeld_0 : cX0_waysHeld.data.toList.drop 0 = dktX0_waysHeld_0 := by decide +kernel
theorem dksX0_waysHeld_1 : cX0_waysHeld.data.toList.drop 23 = dktX0_waysHeld_1 := dk_seg dksX0_waysHeld_0 23 rfl rfl
theorem dksX0_waysHeld_2 : cX0_waysHeld.data.toList.drop 47 = dktX0_waysHeld_2 := dk_seg dksX0_waysHeld_1 24 rfl rfl
theorem dksX0_waysHeld_3 : cX0_waysHeld.data.toList.drop 70 = dktX0_waysHeld_3 := dk_seg dksX0_waysHeld_2 23 rfl rfl
theorem dksX0_waysHeld_4 : cX0_waysHeld.data.toList.drop 93 = dktX0_waysHeld_4 := dk_seg dksX0_waysHeld_3 23 rfl rfl
theorem dX0_waysHeld_0 : decode cX0_waysHeld 0 = .ok (.lload_n 2, 1) := dk_32 (dk_at dksX0_waysHeld_0 0 rfl rfl)
theorem dX0_waysHeld_1 : decode cX0_waysHeld 1 = .ok (.lload_n 0, 1) := dk_30 (dk_at dksX0_waysHeld_0 1 rfl rfl)
theorem dX0_waysHeld_2 : decode cX0_waysHeld 2 = .ok (.lcmp, 1) := dk_148 (dk_at dksX0_waysHeld_0 2 rfl rfl)
theorem dX0_waysHeld_3 : decode cX0_waysHeld 3 = .ok (.ifCond .le 5, 3) := dk_158 0 5 (dk_at dksX0_waysHeld_0 3 rfl rfl)
theorem dX0_waysHeld_6 : decode cX0_waysHeld 6 = .ok (.lconst 0, 1) := dk_9 (dk_at dksX0_waysHeld_0 6 rfl rfl)
theorem dX0_waysHeld_7 : decode cX0_waysHeld 7 = .ok (.lreturn, 1) := dk_173 (dk_at dksX0_waysHeld_0 7 rfl rfl)
theorem dX0_waysHeld_8 : decode cX0_waysHeld 8 = .ok (.lload_n 2, 1) := dk_32 (dk_at dksX0_waysHeld_0 8 rfl rfl)
theorem dX0_waysHeld_9 : decode cX0_waysHeld 9 = .ok (.lload_n 0, 1) := dk_30 (dk_at dksX0_waysHeld_0 9 rfl rfl)
theorem dX0_waysHeld_10 : decode cX0_waysHeld 10 = .ok (.lload_n 2, 1) := dk_32 (dk_at dksX0_waysHeld_0 10 rfl rfl)
theorem dX0_waysHeld_11 : decode cX0_waysHeld 11 = .ok (.lsub, 1) := dk_101 (dk_at dksX0_waysHeld_0 11 rfl rfl)
theorem dX0_waysHeld_12 : decode cX0_waysHeld 12 = .ok (.invokestatic 70, 3) := dk_184 0 70 (dk_at dksX0_waysHeld_0 12 rfl rfl)
theorem dX0_waysHeld_15 : decode cX0_waysHeld 15 = .ok (.lstore 4, 2) := dk_55 4 (dk_at dksX0_waysHeld_0 15 rfl rfl)
theorem dX0_waysHeld_17 : decode cX0_waysHeld 17 = .ok (.lconst 1, 1) := dk_10 (dk_at dksX0_waysHeld_0 17 rfl rfl)
theorem dX0_waysHeld_18 : decode cX0_waysHeld 18 = .ok (.lstore 6, 2) := dk_55 6 (dk_at dksX0_waysHeld_0 18 rfl rfl)
theorem dX0_waysHeld_20 : decode cX0_waysHeld 20 = .ok (.lconst 1, 1) := dk_10 (dk_at dksX0_waysHeld_0 20 rfl rfl)
theorem dX0_waysHeld_21 : decode cX0_waysHeld 21 = .ok (.lstore 8, 2) := dk_55 8 (dk_at dksX0_waysHeld_0 21 rfl rfl)
theorem dX0_waysHeld_23 : decode cX0_waysHeld 23 = .ok (.lload 8, 2) := dk_22 8 (dk_at dksX0_waysHeld_1 0 rfl rfl)
theorem dX0_waysHeld_25 : decode cX0_waysHeld 25 = .ok (.lload 4, 2) := dk_22 4 (dk_at dksX0_waysHeld_1 2 rfl rfl)
theorem dX0_waysHeld_27 : decode cX0_waysHeld 27 = .ok (.lcmp, 1) := dk_148 (dk_at dksX0_waysHeld_1 4 rfl rfl)
theorem dX0_waysHeld_28 : decode cX0_waysHeld 28 = .ok (.ifCond .gt 65, 3) := dk_157 0 65 (dk_at dksX0_waysHeld_1 5 rfl rfl)
theorem dX0_waysHeld_31 : decode cX0_waysHeld 31 = .ok (.lload 6, 2) := dk_22 6 (dk_at dksX0_waysHeld_1 8 rfl rfl)
theorem dX0_waysHeld_33 : decode cX0_waysHeld 33 = .ok (.lload 8, 2) := dk_22 8 (dk_at dksX0_waysHeld_1 10 rfl rfl)
theorem dX0_waysHeld_35 : decode cX0_waysHeld 35 = .ok (.invokestatic 66, 3) := dk_184 0 66 (dk_at dksX0_waysHeld_1 12 rfl rfl)
theorem dX0_waysHeld_38 : decode cX0_waysHeld 38 = .ok (.lstore 10, 2) := dk_55 10 (dk_at dksX0_waysHeld_1 15 rfl rfl)
theorem dX0_waysHeld_40 : decode cX0_waysHeld 40 = .ok (.lload_n 0, 1) := dk_30 (dk_at dksX0_waysHeld_1 17 rfl rfl)
theorem dX0_waysHeld_41 : decode cX0_waysHeld 41 = .ok (.lload 4, 2) := dk_22 4 (dk_at dksX0_waysHeld_1 18 rfl rfl)
theorem dX0_waysHeld_43 : decode cX0_waysHeld 43 = .ok (.lsub, 1) := dk_101 (dk_at dksX0_waysHeld_1 20 rfl rfl)
theorem dX0_waysHeld_44 : decode cX0_waysHeld 44 = .ok (.lload 8, 2) := dk_22 8 (dk_at dksX0_waysHeld_1 21 rfl rfl)
theorem dX0_waysHeld_46 : decode cX0_waysHeld 46 = .ok (.ladd, 1) := dk_97 (dk_at dksX0_waysHeld_1 23 rfl rfl)
theorem dX0_waysHeld_47 : decode cX0_waysHeld 47 = .ok (.lload 8, 2) := dk_22 8 (dk_at dksX0_waysHeld_2 0 rfl rfl)
theorem dX0_waysHeld_49 : decode cX0_waysHeld 49 = .ok (.lload 10, 2) := dk_22 10 (dk_at dksX0_waysHeld_2 2 rfl rfl)
theorem dX0_waysHeld_51 : decode cX0_waysHeld 51 = .ok (.ldiv, 1) := dk_109 (dk_at dksX0_waysHeld_2 4 rfl rfl)
theorem dX0_waysHeld_52 : decode cX0_waysHeld 52 = .ok (.ldiv, 1) := dk_109 (dk_at dksX0_waysHeld_2 5 rfl rfl)
theorem dX0_waysHeld_53 : decode cX0_waysHeld 53 = .ok (.lstore 12, 2) := dk_55 12 (dk_at dksX0_waysHeld_2 6 rfl rfl)
theorem dX0_waysHeld_55 : decode cX0_waysHeld 55 = .ok (.lload 6, 2) := dk_22 6 (dk_at dksX0_waysHeld_2 8 rfl rfl)
theorem dX0_waysHeld_57 : decode cX0_waysHeld 57 = .ok (.lload 10, 2) := dk_22 10 (dk_at dksX0_waysHeld_2 10 rfl rfl)
theorem dX0_waysHeld_59 : decode cX0_waysHeld 59 = .ok (.ldiv, 1) := dk_109 (dk_at dksX0_waysHeld_2 12 rfl rfl)
theorem dX0_waysHeld_60 : decode cX0_waysHeld 60 = .ok (.ldc2_w 78, 3) := dk_20 0 78 (dk_at dksX0_waysHeld_2 13 rfl rfl)
theorem dX0_waysHeld_63 : decode cX0_waysHeld 63 = .ok (.lload 12, 2) := dk_22 12 (dk_at dksX0_waysHeld_2 16 rfl rfl)
theorem dX0_waysHeld_65 : decode cX0_waysHeld 65 = .ok (.ldiv, 1) := dk_109 (dk_at dksX0_waysHeld_2 18 rfl rfl)
theorem dX0_waysHeld_66 : decode cX0_waysHeld 66 = .ok (.lcmp, 1) := dk_148 (dk_at dksX0_waysHeld_2 19 rfl rfl)
theorem dX0_waysHeld_67 : decode cX0_waysHeld 67 = .ok (.ifCond .le 7, 3) := dk_158 0 7 (dk_at dksX0_waysHeld_2 20 rfl rfl)
theorem dX0_waysHeld_70 : decode cX0_waysHeld 70 = .ok (.ldc2_w 78, 3) := dk_20 0 78 (dk_at dksX0_waysHeld_3 0 rfl rfl)
theorem dX0_waysHeld_73 : decode cX0_waysHeld 73 = .ok (.lreturn, 1) := dk_173 (dk_at dksX0_waysHeld_3 3 rfl rfl)
theorem dX0_waysHeld_74 : decode cX0_waysHeld 74 = .ok (.lload 6, 2) := dk_22 6 (dk_at dksX0_waysHeld_3 4 rfl rfl)
theorem dX0_waysHeld_76 : decode cX0_waysHeld 76 = .ok (.lload 10, 2) := dk_22 10 (dk_at dksX0_waysHeld_3 6 rfl rfl)
theorem dX0_waysHeld_78 : decode cX0_waysHeld 78 = .ok (.ldiv, 1) := dk_109 (dk_at dksX0_waysHeld_3 8 rfl rfl)
theorem dX0_waysHeld_79 : decode cX0_waysHeld 79 = .ok (.lload 12, 2) := dk_22 12 (dk_at dksX0_waysHeld_3 9 rfl rfl)
theorem dX0_waysHeld_81 : decode cX0_waysHeld 81 = .ok (.lmul, 1) := dk_105 (dk_at dksX0_waysHeld_3 11 rfl rfl)
theorem dX0_waysHeld_82 : decode cX0_waysHeld 82 = .ok (.lstore 6, 2) := dk_55 6 (dk_at dksX0_waysHeld_3 12 rfl rfl)
theorem dX0_waysHeld_84 : decode cX0_waysHeld 84 = .ok (.lload 8, 2) := dk_22 8 (dk_at dksX0_waysHeld_3 14 rfl rfl)
theorem dX0_waysHeld_86 : decode cX0_waysHeld 86 = .ok (.lconst 1, 1) := dk_10 (dk_at dksX0_waysHeld_3 16 rfl rfl)
theorem dX0_waysHeld_87 : decode cX0_waysHeld 87 = .ok (.ladd, 1) := dk_97 (dk_at dksX0_waysHeld_3 17 rfl rfl)
theorem dX0_waysHeld_88 : decode cX0_waysHeld 88 = .ok (.lstore 8, 2) := dk_55 8 (dk_at dksX0_waysHeld_3 18 rfl rfl)
theorem dX0_waysHeld_90 : decode cX0_waysHeld 90 = .ok (.goto (-67), 3) := dk_167 255 189 (dk_at dksX0_waysHeld_3 20 rfl rfl)
theorem dX0_waysHeld_93 : decode cX0_waysHeld 93 = .ok (.lload 6, 2) := dk_22 6 (dk_at dksX0_waysHeld_4 0 rfl rfl)
theorem dX0_waysHeld_95 : decode cX0_waysHeld 95 = .ok (.ldc2_w 78, 3) := dk_20 0 78 (dk_at dksX0_waysHeld_4 2 rfl rfl)
theorem dX0_waysHeld_98 : decode cX0_waysHeld 98 = .ok (.invokestatic 70, 3) := dk_184 0 70 (dk_at dksX0_waysHeld_4 5 rfl rfl)
theorem dX0_waysHeld_101 : decode cX0_waysHeld 101 = .ok (.lreturn, 1) := dk_173 (dk_at dksX0_waysHeld_4 8 rfl rfl)
abbrev cX0_gcd : ByteArray := prog_1_method_8_code
def yX0_gcd : MethodName := ⟨RX0, "gcd", "(JJ)J"⟩
def dkwX0_gcd_0 : List UInt8 := [32, 9, 148, 154, 0, 7, 30, 167, 0, 10, 32, 30, 32, 113, 184, 0, 66, 173]
abbrev dktX0_gcd_0 : List UInt8 := dkwX0_gcd_0 ++ []
theorem dksX0_gcd_0 : cX0_gcd.data.toList.drop 0 = dktX0_gcd_0 := by decide +kernel
theorem dX0_gcd_0 : decode cX0_gcd 0 = .ok (.lload_n 2, 1) := dk_32 (dk_at dksX0_gcd_0 0 rfl rfl)
theorem dX0_gcd_1 : decode cX0_gcd 1 = .ok (.lconst 0, 1) := dk_9 (dk_at dksX0_gcd_0 1 rfl rfl)
theorem dX0_gcd_2 : decode cX0_gcd 2 = .ok (.lcmp, 1) := dk_148 (dk_at dksX0_gcd_0 2 rfl rfl)
theorem dX0_gcd_3 : decode cX0_gcd 3 = .ok (.ifCond .ne 7, 3) := dk_154 0 7 (dk_at dksX0_gcd_0 3 rfl rfl)
theorem dX0_gcd_6 : decode cX0_gcd 6 = .ok (.lload_n 0, 1) := dk_30 (dk_at dksX0_gcd_0 6 rfl rfl)
theorem dX0_gcd_7 : decode cX0_gcd 7 = .ok (.goto 10, 3) := dk_167 0 10 (dk_at dksX0_gcd_0 7 rfl rfl)
theorem dX0_gcd_10 : decode cX0_gcd 10 = .ok (.lload_n 2, 1) := dk_32 (dk_at dksX0_gcd_0 10 rfl rfl)
theorem dX0_gcd_11 : decode cX0_gcd 11 = .ok (.lload_n 0, 1) := dk_30 (dk_at dksX0_gcd_0 11 rfl rfl)
theorem dX0_gcd_12 : decode cX0_gcd 12 = .ok (.lload_n 2, 1) := dk_32 (dk_at dksX0_gcd_0 12 rfl rfl)
theorem dX0_gcd_13 : decode cX0_gcd 13 = .ok (.lrem, 1) := dk_113 (dk_at dksX0_gcd_0 13 rfl rfl)
theorem dX0_gcd_14 : decode cX0_gcd 14 = .ok (.invokestatic 66, 3) := dk_184 0 66 (dk_at dksX0_gcd_0 14 rfl rfl)
theorem dX0_gcd_17 : decode cX0_gcd 17 = .ok (.lreturn, 1) := dk_173 (dk_at dksX0_gcd_0 17 rfl rfl)
abbrev cX0_ways : ByteArray := prog_1_method_9_code
def yX0_ways : MethodName := ⟨RX0, "ways", "(JJ)J"⟩
def dkwX0_ways_3 : List UInt8 := [55, 6, 22, 8, 10, 97, 55, 8, 167, 255, 206, 22, 6, 173]
abbrev dktX0_ways_3 : List UInt8 := dkwX0_ways_3 ++ []
def dkwX0_ways_2 : List UInt8 := [22, 4, 101, 22, 8, 97, 55, 12, 22, 6, 22, 10, 109, 22, 12, 22, 8, 22, 10, 109, 109, 184, 0, 75]
abbrev dktX0_ways_2 : List UInt8 := dkwX0_ways_2 ++ dktX0_ways_3
def dkwX0_ways_1 : List UInt8 := [55, 6, 10, 55, 8, 22, 8, 22, 4, 148, 157, 0, 48, 22, 6, 22, 8, 184, 0, 66, 55, 10, 30]
abbrev dktX0_ways_1 : List UInt8 := dkwX0_ways_1 ++ dktX0_ways_2
def dkwX0_ways_0 : List UInt8 := [32, 9, 148, 155, 0, 9, 32, 30, 148, 158, 0, 5, 9, 173, 32, 30, 32, 101, 184, 0, 70, 55, 4, 10]
abbrev dktX0_ways_0 : List UInt8 := dkwX0_ways_0 ++ dktX0_ways_1
theorem dksX0_ways_0 : cX0_ways.data.toList.drop 0 = dktX0_ways_0 := by decide +kernel
theorem dksX0_ways_1 : cX0_ways.data.toList.drop 24 = dktX0_ways_1 := dk_seg dksX0_ways_0 24 rfl rfl
theorem dksX0_ways_2 : cX0_ways.data.toList.drop 47 = dktX0_ways_2 := dk_seg dksX0_ways_1 23 rfl rfl
theorem dksX0_ways_3 : cX0_ways.data.toList.drop 71 = dktX0_ways_3 := dk_seg dksX0_ways_2 24 rfl rfl
theorem dX0_ways_0 : decode cX0_ways 0 = .ok (.lload_n 2, 1) := dk_32 (dk_at dksX0_ways_0 0 rfl rfl)
theorem dX0_ways_1 : decode cX0_ways 1 = .ok (.lconst 0, 1) := dk_9 (dk_at dksX0_ways_0 1 rfl rfl)
theorem dX0_ways_2 : decode cX0_ways 2 = .ok (.lcmp, 1) := dk_148 (dk_at dksX0_ways_0 2 rfl rfl)
theorem dX0_ways_3 : decode cX0_ways 3 = .ok (.ifCond .lt 9, 3) := dk_155 0 9 (dk_at dksX0_ways_0 3 rfl rfl)
theorem dX0_ways_6 : decode cX0_ways 6 = .ok (.lload_n 2, 1) := dk_32 (dk_at dksX0_ways_0 6 rfl rfl)
theorem dX0_ways_7 : decode cX0_ways 7 = .ok (.lload_n 0, 1) := dk_30 (dk_at dksX0_ways_0 7 rfl rfl)
theorem dX0_ways_8 : decode cX0_ways 8 = .ok (.lcmp, 1) := dk_148 (dk_at dksX0_ways_0 8 rfl rfl)
theorem dX0_ways_9 : decode cX0_ways 9 = .ok (.ifCond .le 5, 3) := dk_158 0 5 (dk_at dksX0_ways_0 9 rfl rfl)
theorem dX0_ways_12 : decode cX0_ways 12 = .ok (.lconst 0, 1) := dk_9 (dk_at dksX0_ways_0 12 rfl rfl)
theorem dX0_ways_13 : decode cX0_ways 13 = .ok (.lreturn, 1) := dk_173 (dk_at dksX0_ways_0 13 rfl rfl)
theorem dX0_ways_14 : decode cX0_ways 14 = .ok (.lload_n 2, 1) := dk_32 (dk_at dksX0_ways_0 14 rfl rfl)
theorem dX0_ways_15 : decode cX0_ways 15 = .ok (.lload_n 0, 1) := dk_30 (dk_at dksX0_ways_0 15 rfl rfl)
theorem dX0_ways_16 : decode cX0_ways 16 = .ok (.lload_n 2, 1) := dk_32 (dk_at dksX0_ways_0 16 rfl rfl)
theorem dX0_ways_17 : decode cX0_ways 17 = .ok (.lsub, 1) := dk_101 (dk_at dksX0_ways_0 17 rfl rfl)
theorem dX0_ways_18 : decode cX0_ways 18 = .ok (.invokestatic 70, 3) := dk_184 0 70 (dk_at dksX0_ways_0 18 rfl rfl)
theorem dX0_ways_21 : decode cX0_ways 21 = .ok (.lstore 4, 2) := dk_55 4 (dk_at dksX0_ways_0 21 rfl rfl)
theorem dX0_ways_23 : decode cX0_ways 23 = .ok (.lconst 1, 1) := dk_10 (dk_at dksX0_ways_0 23 rfl rfl)
theorem dX0_ways_24 : decode cX0_ways 24 = .ok (.lstore 6, 2) := dk_55 6 (dk_at dksX0_ways_1 0 rfl rfl)
theorem dX0_ways_26 : decode cX0_ways 26 = .ok (.lconst 1, 1) := dk_10 (dk_at dksX0_ways_1 2 rfl rfl)
theorem dX0_ways_27 : decode cX0_ways 27 = .ok (.lstore 8, 2) := dk_55 8 (dk_at dksX0_ways_1 3 rfl rfl)
theorem dX0_ways_29 : decode cX0_ways 29 = .ok (.lload 8, 2) := dk_22 8 (dk_at dksX0_ways_1 5 rfl rfl)
theorem dX0_ways_31 : decode cX0_ways 31 = .ok (.lload 4, 2) := dk_22 4 (dk_at dksX0_ways_1 7 rfl rfl)
theorem dX0_ways_33 : decode cX0_ways 33 = .ok (.lcmp, 1) := dk_148 (dk_at dksX0_ways_1 9 rfl rfl)
theorem dX0_ways_34 : decode cX0_ways 34 = .ok (.ifCond .gt 48, 3) := dk_157 0 48 (dk_at dksX0_ways_1 10 rfl rfl)
theorem dX0_ways_37 : decode cX0_ways 37 = .ok (.lload 6, 2) := dk_22 6 (dk_at dksX0_ways_1 13 rfl rfl)
theorem dX0_ways_39 : decode cX0_ways 39 = .ok (.lload 8, 2) := dk_22 8 (dk_at dksX0_ways_1 15 rfl rfl)
theorem dX0_ways_41 : decode cX0_ways 41 = .ok (.invokestatic 66, 3) := dk_184 0 66 (dk_at dksX0_ways_1 17 rfl rfl)
theorem dX0_ways_44 : decode cX0_ways 44 = .ok (.lstore 10, 2) := dk_55 10 (dk_at dksX0_ways_1 20 rfl rfl)
theorem dX0_ways_46 : decode cX0_ways 46 = .ok (.lload_n 0, 1) := dk_30 (dk_at dksX0_ways_1 22 rfl rfl)
theorem dX0_ways_47 : decode cX0_ways 47 = .ok (.lload 4, 2) := dk_22 4 (dk_at dksX0_ways_2 0 rfl rfl)
theorem dX0_ways_49 : decode cX0_ways 49 = .ok (.lsub, 1) := dk_101 (dk_at dksX0_ways_2 2 rfl rfl)
theorem dX0_ways_50 : decode cX0_ways 50 = .ok (.lload 8, 2) := dk_22 8 (dk_at dksX0_ways_2 3 rfl rfl)
theorem dX0_ways_52 : decode cX0_ways 52 = .ok (.ladd, 1) := dk_97 (dk_at dksX0_ways_2 5 rfl rfl)
theorem dX0_ways_53 : decode cX0_ways 53 = .ok (.lstore 12, 2) := dk_55 12 (dk_at dksX0_ways_2 6 rfl rfl)
theorem dX0_ways_55 : decode cX0_ways 55 = .ok (.lload 6, 2) := dk_22 6 (dk_at dksX0_ways_2 8 rfl rfl)
theorem dX0_ways_57 : decode cX0_ways 57 = .ok (.lload 10, 2) := dk_22 10 (dk_at dksX0_ways_2 10 rfl rfl)
theorem dX0_ways_59 : decode cX0_ways 59 = .ok (.ldiv, 1) := dk_109 (dk_at dksX0_ways_2 12 rfl rfl)
theorem dX0_ways_60 : decode cX0_ways 60 = .ok (.lload 12, 2) := dk_22 12 (dk_at dksX0_ways_2 13 rfl rfl)
theorem dX0_ways_62 : decode cX0_ways 62 = .ok (.lload 8, 2) := dk_22 8 (dk_at dksX0_ways_2 15 rfl rfl)
theorem dX0_ways_64 : decode cX0_ways 64 = .ok (.lload 10, 2) := dk_22 10 (dk_at dksX0_ways_2 17 rfl rfl)
theorem dX0_ways_66 : decode cX0_ways 66 = .ok (.ldiv, 1) := dk_109 (dk_at dksX0_ways_2 19 rfl rfl)
theorem dX0_ways_67 : decode cX0_ways 67 = .ok (.ldiv, 1) := dk_109 (dk_at dksX0_ways_2 20 rfl rfl)
theorem dX0_ways_68 : decode cX0_ways 68 = .ok (.invokestatic 75, 3) := dk_184 0 75 (dk_at dksX0_ways_2 21 rfl rfl)
theorem dX0_ways_71 : decode cX0_ways 71 = .ok (.lstore 6, 2) := dk_55 6 (dk_at dksX0_ways_3 0 rfl rfl)
theorem dX0_ways_73 : decode cX0_ways 73 = .ok (.lload 8, 2) := dk_22 8 (dk_at dksX0_ways_3 2 rfl rfl)
theorem dX0_ways_75 : decode cX0_ways 75 = .ok (.lconst 1, 1) := dk_10 (dk_at dksX0_ways_3 4 rfl rfl)
theorem dX0_ways_76 : decode cX0_ways 76 = .ok (.ladd, 1) := dk_97 (dk_at dksX0_ways_3 5 rfl rfl)
theorem dX0_ways_77 : decode cX0_ways 77 = .ok (.lstore 8, 2) := dk_55 8 (dk_at dksX0_ways_3 6 rfl rfl)
theorem dX0_ways_79 : decode cX0_ways 79 = .ok (.goto (-50), 3) := dk_167 255 206 (dk_at dksX0_ways_3 8 rfl rfl)
theorem dX0_ways_82 : decode cX0_ways 82 = .ok (.lload 6, 2) := dk_22 6 (dk_at dksX0_ways_3 11 rfl rfl)
theorem dX0_ways_84 : decode cX0_ways 84 = .ok (.lreturn, 1) := dk_173 (dk_at dksX0_ways_3 13 rfl rfl)
abbrev cX0_growth : ByteArray := prog_1_method_39_code
def yX0_growth : MethodName := ⟨RX0, "growth", "(I)I"⟩
def dkwX0_growth_1 : List UInt8 := [3, 167, 0, 19, 42, 180, 0, 20, 182, 0, 243, 27, 164, 0, 7, 4, 167, 0, 4, 5, 172]
abbrev dktX0_growth_1 : List UInt8 := dkwX0_growth_1 ++ []
def dkwX0_growth_0 : List UInt8 := [27, 133, 10, 20, 0, 232, 184, 0, 110, 154, 0, 5, 2, 172, 42, 27, 182, 0, 240, 9, 148, 158, 0, 7]
abbrev dktX0_growth_0 : List UInt8 := dkwX0_growth_0 ++ dktX0_growth_1
theorem dksX0_growth_0 : cX0_growth.data.toList.drop 0 = dktX0_growth_0 := by decide +kernel
theorem dksX0_growth_1 : cX0_growth.data.toList.drop 24 = dktX0_growth_1 := dk_seg dksX0_growth_0 24 rfl rfl
theorem dX0_growth_0 : decode cX0_growth 0 = .ok (.iload_n 1, 1) := dk_27 (dk_at dksX0_growth_0 0 rfl rfl)
theorem dX0_growth_1 : decode cX0_growth 1 = .ok (.i2l, 1) := dk_133 (dk_at dksX0_growth_0 1 rfl rfl)
theorem dX0_growth_2 : decode cX0_growth 2 = .ok (.lconst 1, 1) := dk_10 (dk_at dksX0_growth_0 2 rfl rfl)
theorem dX0_growth_3 : decode cX0_growth 3 = .ok (.ldc2_w 232, 3) := dk_20 0 232 (dk_at dksX0_growth_0 3 rfl rfl)
theorem dX0_growth_6 : decode cX0_growth 6 = .ok (.invokestatic 110, 3) := dk_184 0 110 (dk_at dksX0_growth_0 6 rfl rfl)
theorem dX0_growth_9 : decode cX0_growth 9 = .ok (.ifCond .ne 5, 3) := dk_154 0 5 (dk_at dksX0_growth_0 9 rfl rfl)
theorem dX0_growth_12 : decode cX0_growth 12 = .ok (.iconst (-1), 1) := dk_2 (dk_at dksX0_growth_0 12 rfl rfl)
theorem dX0_growth_13 : decode cX0_growth 13 = .ok (.ireturn, 1) := dk_172 (dk_at dksX0_growth_0 13 rfl rfl)
theorem dX0_growth_14 : decode cX0_growth 14 = .ok (.aload_n 0, 1) := dk_42 (dk_at dksX0_growth_0 14 rfl rfl)
theorem dX0_growth_15 : decode cX0_growth 15 = .ok (.iload_n 1, 1) := dk_27 (dk_at dksX0_growth_0 15 rfl rfl)
theorem dX0_growth_16 : decode cX0_growth 16 = .ok (.invokevirtual 240, 3) := dk_182 0 240 (dk_at dksX0_growth_0 16 rfl rfl)
theorem dX0_growth_19 : decode cX0_growth 19 = .ok (.lconst 0, 1) := dk_9 (dk_at dksX0_growth_0 19 rfl rfl)
theorem dX0_growth_20 : decode cX0_growth 20 = .ok (.lcmp, 1) := dk_148 (dk_at dksX0_growth_0 20 rfl rfl)
theorem dX0_growth_21 : decode cX0_growth 21 = .ok (.ifCond .le 7, 3) := dk_158 0 7 (dk_at dksX0_growth_0 21 rfl rfl)
theorem dX0_growth_24 : decode cX0_growth 24 = .ok (.iconst 0, 1) := dk_3 (dk_at dksX0_growth_1 0 rfl rfl)
theorem dX0_growth_25 : decode cX0_growth 25 = .ok (.goto 19, 3) := dk_167 0 19 (dk_at dksX0_growth_1 1 rfl rfl)
theorem dX0_growth_28 : decode cX0_growth 28 = .ok (.aload_n 0, 1) := dk_42 (dk_at dksX0_growth_1 4 rfl rfl)
theorem dX0_growth_29 : decode cX0_growth 29 = .ok (.getfield 20, 3) := dk_180 0 20 (dk_at dksX0_growth_1 5 rfl rfl)
theorem dX0_growth_32 : decode cX0_growth 32 = .ok (.invokevirtual 243, 3) := dk_182 0 243 (dk_at dksX0_growth_1 8 rfl rfl)
theorem dX0_growth_35 : decode cX0_growth 35 = .ok (.iload_n 1, 1) := dk_27 (dk_at dksX0_growth_1 11 rfl rfl)
theorem dX0_growth_36 : decode cX0_growth 36 = .ok (.if_icmp .le 7, 3) := dk_164 0 7 (dk_at dksX0_growth_1 12 rfl rfl)
theorem dX0_growth_39 : decode cX0_growth 39 = .ok (.iconst 1, 1) := dk_4 (dk_at dksX0_growth_1 15 rfl rfl)
theorem dX0_growth_40 : decode cX0_growth 40 = .ok (.goto 4, 3) := dk_167 0 4 (dk_at dksX0_growth_1 16 rfl rfl)
theorem dX0_growth_43 : decode cX0_growth 43 = .ok (.iconst 2, 1) := dk_5 (dk_at dksX0_growth_1 19 rfl rfl)
theorem dX0_growth_44 : decode cX0_growth 44 = .ok (.ireturn, 1) := dk_172 (dk_at dksX0_growth_1 20 rfl rfl)
abbrev cX0_free : ByteArray := prog_1_method_42_code
def yX0_free : MethodName := ⟨RX0, "free", "(II)I"⟩
def dkwX0_free_1 : List UInt8 := [182, 1, 7, 87, 42, 180, 0, 252, 172]
abbrev dktX0_free_1 : List UInt8 := dkwX0_free_1 ++ []
def dkwX0_free_0 : List UInt8 := [27, 184, 0, 177, 153, 0, 7, 28, 156, 0, 5, 2, 172, 42, 27, 42, 28, 186, 1, 3, 0, 0]
abbrev dktX0_free_0 : List UInt8 := dkwX0_free_0 ++ dktX0_free_1
theorem dksX0_free_0 : cX0_free.data.toList.drop 0 = dktX0_free_0 := by decide +kernel
theorem dksX0_free_1 : cX0_free.data.toList.drop 22 = dktX0_free_1 := dk_seg dksX0_free_0 22 rfl rfl
theorem dX0_free_0 : decode cX0_free 0 = .ok (.iload_n 1, 1) := dk_27 (dk_at dksX0_free_0 0 rfl rfl)
theorem dX0_free_1 : decode cX0_free 1 = .ok (.invokestatic 177, 3) := dk_184 0 177 (dk_at dksX0_free_0 1 rfl rfl)
theorem dX0_free_4 : decode cX0_free 4 = .ok (.ifCond .eq 7, 3) := dk_153 0 7 (dk_at dksX0_free_0 4 rfl rfl)
theorem dX0_free_7 : decode cX0_free 7 = .ok (.iload_n 2, 1) := dk_28 (dk_at dksX0_free_0 7 rfl rfl)
theorem dX0_free_8 : decode cX0_free 8 = .ok (.ifCond .ge 5, 3) := dk_156 0 5 (dk_at dksX0_free_0 8 rfl rfl)
theorem dX0_free_11 : decode cX0_free 11 = .ok (.iconst (-1), 1) := dk_2 (dk_at dksX0_free_0 11 rfl rfl)
theorem dX0_free_12 : decode cX0_free 12 = .ok (.ireturn, 1) := dk_172 (dk_at dksX0_free_0 12 rfl rfl)
theorem dX0_free_13 : decode cX0_free 13 = .ok (.aload_n 0, 1) := dk_42 (dk_at dksX0_free_0 13 rfl rfl)
theorem dX0_free_14 : decode cX0_free 14 = .ok (.iload_n 1, 1) := dk_27 (dk_at dksX0_free_0 14 rfl rfl)
theorem dX0_free_15 : decode cX0_free 15 = .ok (.aload_n 0, 1) := dk_42 (dk_at dksX0_free_0 15 rfl rfl)
theorem dX0_free_16 : decode cX0_free 16 = .ok (.iload_n 2, 1) := dk_28 (dk_at dksX0_free_0 16 rfl rfl)
theorem dX0_free_17 : decode cX0_free 17 = .ok (.invokedynamic 259, 5) := by decide +kernel
theorem dX0_free_22 : decode cX0_free 22 = .ok (.invokevirtual 263, 3) := dk_182 1 7 (dk_at dksX0_free_1 0 rfl rfl)
theorem dX0_free_25 : decode cX0_free 25 = .ok (.pop, 1) := dk_87 (dk_at dksX0_free_1 3 rfl rfl)
theorem dX0_free_26 : decode cX0_free 26 = .ok (.aload_n 0, 1) := dk_42 (dk_at dksX0_free_1 4 rfl rfl)
theorem dX0_free_27 : decode cX0_free 27 = .ok (.getfield 252, 3) := dk_180 0 252 (dk_at dksX0_free_1 5 rfl rfl)
theorem dX0_free_30 : decode cX0_free 30 = .ok (.ireturn, 1) := dk_172 (dk_at dksX0_free_1 8 rfl rfl)
abbrev cX0_lambda_free_0 : ByteArray := prog_1_method_107_code
def yX0_lambda_free_0 : MethodName := ⟨RX0, "lambda$free$0", "(I[I)Z"⟩
def dkwX0_lambda_free_0_0 : List UInt8 := [42, 44, 27, 182, 1, 197, 172]
abbrev dktX0_lambda_free_0_0 : List UInt8 := dkwX0_lambda_free_0_0 ++ []
theorem dksX0_lambda_free_0_0 : cX0_lambda_free_0.data.toList.drop 0 = dktX0_lambda_free_0_0 := by decide +kernel
theorem dX0_lambda_free_0_0 : decode cX0_lambda_free_0 0 = .ok (.aload_n 0, 1) := dk_42 (dk_at dksX0_lambda_free_0_0 0 rfl rfl)
theorem dX0_lambda_free_0_1 : decode cX0_lambda_free_0 1 = .ok (.aload_n 2, 1) := dk_44 (dk_at dksX0_lambda_free_0_0 1 rfl rfl)
theorem dX0_lambda_free_0_2 : decode cX0_lambda_free_0 2 = .ok (.iload_n 1, 1) := dk_27 (dk_at dksX0_lambda_free_0_0 2 rfl rfl)
theorem dX0_lambda_free_0_3 : decode cX0_lambda_free_0 3 = .ok (.invokevirtual 453, 3) := dk_182 1 197 (dk_at dksX0_lambda_free_0_0 3 rfl rfl)
theorem dX0_lambda_free_0_6 : decode cX0_lambda_free_0 6 = .ok (.ireturn, 1) := dk_172 (dk_at dksX0_lambda_free_0_0 6 rfl rfl)
abbrev cX0_isFree : ByteArray := prog_1_method_40_code
def yX0_isFree : MethodName := ⟨RX0, "isFree", "([II)Z"⟩
def dkwX0_isFree_2 : List UInt8 := [181, 0, 249, 4, 172]
abbrev dktX0_isFree_2 : List UInt8 := dkwX0_isFree_2 ++ []
def dkwX0_isFree_1 : List UInt8 := [180, 0, 249, 28, 160, 0, 13, 42, 42, 180, 0, 246, 4, 100, 181, 0, 252, 42, 89, 180, 0, 249, 4, 96]
abbrev dktX0_isFree_1 : List UInt8 := dkwX0_isFree_1 ++ dktX0_isFree_2
def dkwX0_isFree_0 : List UInt8 := [42, 89, 180, 0, 246, 4, 96, 181, 0, 246, 42, 180, 0, 20, 43, 182, 0, 212, 153, 0, 5, 3, 172, 42]
abbrev dktX0_isFree_0 : List UInt8 := dkwX0_isFree_0 ++ dktX0_isFree_1
theorem dksX0_isFree_0 : cX0_isFree.data.toList.drop 0 = dktX0_isFree_0 := by decide +kernel
theorem dksX0_isFree_1 : cX0_isFree.data.toList.drop 24 = dktX0_isFree_1 := dk_seg dksX0_isFree_0 24 rfl rfl
theorem dksX0_isFree_2 : cX0_isFree.data.toList.drop 48 = dktX0_isFree_2 := dk_seg dksX0_isFree_1 24 rfl rfl
theorem dX0_isFree_0 : decode cX0_isFree 0 = .ok (.aload_n 0, 1) := dk_42 (dk_at dksX0_isFree_0 0 rfl rfl)
theorem dX0_isFree_1 : decode cX0_isFree 1 = .ok (.dup, 1) := dk_89 (dk_at dksX0_isFree_0 1 rfl rfl)
theorem dX0_isFree_2 : decode cX0_isFree 2 = .ok (.getfield 246, 3) := dk_180 0 246 (dk_at dksX0_isFree_0 2 rfl rfl)
theorem dX0_isFree_5 : decode cX0_isFree 5 = .ok (.iconst 1, 1) := dk_4 (dk_at dksX0_isFree_0 5 rfl rfl)
theorem dX0_isFree_6 : decode cX0_isFree 6 = .ok (.iadd, 1) := dk_96 (dk_at dksX0_isFree_0 6 rfl rfl)
theorem dX0_isFree_7 : decode cX0_isFree 7 = .ok (.putfield 246, 3) := dk_181 0 246 (dk_at dksX0_isFree_0 7 rfl rfl)
theorem dX0_isFree_10 : decode cX0_isFree 10 = .ok (.aload_n 0, 1) := dk_42 (dk_at dksX0_isFree_0 10 rfl rfl)
theorem dX0_isFree_11 : decode cX0_isFree 11 = .ok (.getfield 20, 3) := dk_180 0 20 (dk_at dksX0_isFree_0 11 rfl rfl)
theorem dX0_isFree_14 : decode cX0_isFree 14 = .ok (.aload_n 1, 1) := dk_43 (dk_at dksX0_isFree_0 14 rfl rfl)
theorem dX0_isFree_15 : decode cX0_isFree 15 = .ok (.invokevirtual 212, 3) := dk_182 0 212 (dk_at dksX0_isFree_0 15 rfl rfl)
theorem dX0_isFree_18 : decode cX0_isFree 18 = .ok (.ifCond .eq 5, 3) := dk_153 0 5 (dk_at dksX0_isFree_0 18 rfl rfl)
theorem dX0_isFree_21 : decode cX0_isFree 21 = .ok (.iconst 0, 1) := dk_3 (dk_at dksX0_isFree_0 21 rfl rfl)
theorem dX0_isFree_22 : decode cX0_isFree 22 = .ok (.ireturn, 1) := dk_172 (dk_at dksX0_isFree_0 22 rfl rfl)
theorem dX0_isFree_23 : decode cX0_isFree 23 = .ok (.aload_n 0, 1) := dk_42 (dk_at dksX0_isFree_0 23 rfl rfl)
theorem dX0_isFree_24 : decode cX0_isFree 24 = .ok (.getfield 249, 3) := dk_180 0 249 (dk_at dksX0_isFree_1 0 rfl rfl)
theorem dX0_isFree_27 : decode cX0_isFree 27 = .ok (.iload_n 2, 1) := dk_28 (dk_at dksX0_isFree_1 3 rfl rfl)
theorem dX0_isFree_28 : decode cX0_isFree 28 = .ok (.if_icmp .ne 13, 3) := dk_160 0 13 (dk_at dksX0_isFree_1 4 rfl rfl)
theorem dX0_isFree_31 : decode cX0_isFree 31 = .ok (.aload_n 0, 1) := dk_42 (dk_at dksX0_isFree_1 7 rfl rfl)
theorem dX0_isFree_32 : decode cX0_isFree 32 = .ok (.aload_n 0, 1) := dk_42 (dk_at dksX0_isFree_1 8 rfl rfl)
theorem dX0_isFree_33 : decode cX0_isFree 33 = .ok (.getfield 246, 3) := dk_180 0 246 (dk_at dksX0_isFree_1 9 rfl rfl)
theorem dX0_isFree_36 : decode cX0_isFree 36 = .ok (.iconst 1, 1) := dk_4 (dk_at dksX0_isFree_1 12 rfl rfl)
theorem dX0_isFree_37 : decode cX0_isFree 37 = .ok (.isub, 1) := dk_100 (dk_at dksX0_isFree_1 13 rfl rfl)
theorem dX0_isFree_38 : decode cX0_isFree 38 = .ok (.putfield 252, 3) := dk_181 0 252 (dk_at dksX0_isFree_1 14 rfl rfl)
theorem dX0_isFree_41 : decode cX0_isFree 41 = .ok (.aload_n 0, 1) := dk_42 (dk_at dksX0_isFree_1 17 rfl rfl)
theorem dX0_isFree_42 : decode cX0_isFree 42 = .ok (.dup, 1) := dk_89 (dk_at dksX0_isFree_1 18 rfl rfl)
theorem dX0_isFree_43 : decode cX0_isFree 43 = .ok (.getfield 249, 3) := dk_180 0 249 (dk_at dksX0_isFree_1 19 rfl rfl)
theorem dX0_isFree_46 : decode cX0_isFree 46 = .ok (.iconst 1, 1) := dk_4 (dk_at dksX0_isFree_1 22 rfl rfl)
theorem dX0_isFree_47 : decode cX0_isFree 47 = .ok (.iadd, 1) := dk_96 (dk_at dksX0_isFree_1 23 rfl rfl)
theorem dX0_isFree_48 : decode cX0_isFree 48 = .ok (.putfield 249, 3) := dk_181 0 249 (dk_at dksX0_isFree_2 0 rfl rfl)
theorem dX0_isFree_51 : decode cX0_isFree 51 = .ok (.iconst 1, 1) := dk_4 (dk_at dksX0_isFree_2 3 rfl rfl)
theorem dX0_isFree_52 : decode cX0_isFree 52 = .ok (.ireturn, 1) := dk_172 (dk_at dksX0_isFree_2 4 rfl rfl)
abbrev cX0_goesBy : ByteArray := prog_1_method_41_code
def yX0_goesBy : MethodName := ⟨RX0, "goesBy", "(ILQuotientRows$Asked;)I"⟩
def dkwX0_goesBy_1 : List UInt8 := [182, 0, 255, 172]
abbrev dktX0_goesBy_1 : List UInt8 := dkwX0_goesBy_1 ++ []
def dkwX0_goesBy_0 : List UInt8 := [42, 3, 181, 0, 246, 42, 3, 181, 0, 249, 42, 2, 181, 0, 252, 42, 180, 0, 20, 3, 27, 44]
abbrev dktX0_goesBy_0 : List UInt8 := dkwX0_goesBy_0 ++ dktX0_goesBy_1
theorem dksX0_goesBy_0 : cX0_goesBy.data.toList.drop 0 = dktX0_goesBy_0 := by decide +kernel
theorem dksX0_goesBy_1 : cX0_goesBy.data.toList.drop 22 = dktX0_goesBy_1 := dk_seg dksX0_goesBy_0 22 rfl rfl
theorem dX0_goesBy_0 : decode cX0_goesBy 0 = .ok (.aload_n 0, 1) := dk_42 (dk_at dksX0_goesBy_0 0 rfl rfl)
theorem dX0_goesBy_1 : decode cX0_goesBy 1 = .ok (.iconst 0, 1) := dk_3 (dk_at dksX0_goesBy_0 1 rfl rfl)
theorem dX0_goesBy_2 : decode cX0_goesBy 2 = .ok (.putfield 246, 3) := dk_181 0 246 (dk_at dksX0_goesBy_0 2 rfl rfl)
theorem dX0_goesBy_5 : decode cX0_goesBy 5 = .ok (.aload_n 0, 1) := dk_42 (dk_at dksX0_goesBy_0 5 rfl rfl)
theorem dX0_goesBy_6 : decode cX0_goesBy 6 = .ok (.iconst 0, 1) := dk_3 (dk_at dksX0_goesBy_0 6 rfl rfl)
theorem dX0_goesBy_7 : decode cX0_goesBy 7 = .ok (.putfield 249, 3) := dk_181 0 249 (dk_at dksX0_goesBy_0 7 rfl rfl)
theorem dX0_goesBy_10 : decode cX0_goesBy 10 = .ok (.aload_n 0, 1) := dk_42 (dk_at dksX0_goesBy_0 10 rfl rfl)
theorem dX0_goesBy_11 : decode cX0_goesBy 11 = .ok (.iconst (-1), 1) := dk_2 (dk_at dksX0_goesBy_0 11 rfl rfl)
theorem dX0_goesBy_12 : decode cX0_goesBy 12 = .ok (.putfield 252, 3) := dk_181 0 252 (dk_at dksX0_goesBy_0 12 rfl rfl)
theorem dX0_goesBy_15 : decode cX0_goesBy 15 = .ok (.aload_n 0, 1) := dk_42 (dk_at dksX0_goesBy_0 15 rfl rfl)
theorem dX0_goesBy_16 : decode cX0_goesBy 16 = .ok (.getfield 20, 3) := dk_180 0 20 (dk_at dksX0_goesBy_0 16 rfl rfl)
theorem dX0_goesBy_19 : decode cX0_goesBy 19 = .ok (.iconst 0, 1) := dk_3 (dk_at dksX0_goesBy_0 19 rfl rfl)
theorem dX0_goesBy_20 : decode cX0_goesBy 20 = .ok (.iload_n 1, 1) := dk_27 (dk_at dksX0_goesBy_0 20 rfl rfl)
theorem dX0_goesBy_21 : decode cX0_goesBy 21 = .ok (.aload_n 2, 1) := dk_44 (dk_at dksX0_goesBy_0 21 rfl rfl)
theorem dX0_goesBy_22 : decode cX0_goesBy 22 = .ok (.invokevirtual 255, 3) := dk_182 0 255 (dk_at dksX0_goesBy_1 0 rfl rfl)
theorem dX0_goesBy_25 : decode cX0_goesBy 25 = .ok (.ireturn, 1) := dk_172 (dk_at dksX0_goesBy_1 3 rfl rfl)
abbrev cX0_upTo : ByteArray := prog_1_method_43_code
def yX0_upTo : MethodName := ⟨RX0, "upTo", "(I)I"⟩
def dkwX0_upTo_1 : List UInt8 := [182, 0, 215, 96, 61, 132, 3, 1, 167, 255, 237, 28, 172]
abbrev dktX0_upTo_1 : List UInt8 := dkwX0_upTo_1 ++ []
def dkwX0_upTo_0 : List UInt8 := [27, 184, 0, 177, 154, 0, 5, 2, 172, 3, 61, 3, 62, 29, 27, 163, 0, 20, 28, 42, 180, 0, 20, 29]
abbrev dktX0_upTo_0 : List UInt8 := dkwX0_upTo_0 ++ dktX0_upTo_1
theorem dksX0_upTo_0 : cX0_upTo.data.toList.drop 0 = dktX0_upTo_0 := by decide +kernel
theorem dksX0_upTo_1 : cX0_upTo.data.toList.drop 24 = dktX0_upTo_1 := dk_seg dksX0_upTo_0 24 rfl rfl
theorem dX0_upTo_0 : decode cX0_upTo 0 = .ok (.iload_n 1, 1) := dk_27 (dk_at dksX0_upTo_0 0 rfl rfl)
theorem dX0_upTo_1 : decode cX0_upTo 1 = .ok (.invokestatic 177, 3) := dk_184 0 177 (dk_at dksX0_upTo_0 1 rfl rfl)
theorem dX0_upTo_4 : decode cX0_upTo 4 = .ok (.ifCond .ne 5, 3) := dk_154 0 5 (dk_at dksX0_upTo_0 4 rfl rfl)
theorem dX0_upTo_7 : decode cX0_upTo 7 = .ok (.iconst (-1), 1) := dk_2 (dk_at dksX0_upTo_0 7 rfl rfl)
theorem dX0_upTo_8 : decode cX0_upTo 8 = .ok (.ireturn, 1) := dk_172 (dk_at dksX0_upTo_0 8 rfl rfl)
theorem dX0_upTo_9 : decode cX0_upTo 9 = .ok (.iconst 0, 1) := dk_3 (dk_at dksX0_upTo_0 9 rfl rfl)
theorem dX0_upTo_10 : decode cX0_upTo 10 = .ok (.istore_n 2, 1) := dk_61 (dk_at dksX0_upTo_0 10 rfl rfl)
theorem dX0_upTo_11 : decode cX0_upTo 11 = .ok (.iconst 0, 1) := dk_3 (dk_at dksX0_upTo_0 11 rfl rfl)
theorem dX0_upTo_12 : decode cX0_upTo 12 = .ok (.istore_n 3, 1) := dk_62 (dk_at dksX0_upTo_0 12 rfl rfl)
theorem dX0_upTo_13 : decode cX0_upTo 13 = .ok (.iload_n 3, 1) := dk_29 (dk_at dksX0_upTo_0 13 rfl rfl)
theorem dX0_upTo_14 : decode cX0_upTo 14 = .ok (.iload_n 1, 1) := dk_27 (dk_at dksX0_upTo_0 14 rfl rfl)
theorem dX0_upTo_15 : decode cX0_upTo 15 = .ok (.if_icmp .gt 20, 3) := dk_163 0 20 (dk_at dksX0_upTo_0 15 rfl rfl)
theorem dX0_upTo_18 : decode cX0_upTo 18 = .ok (.iload_n 2, 1) := dk_28 (dk_at dksX0_upTo_0 18 rfl rfl)
theorem dX0_upTo_19 : decode cX0_upTo 19 = .ok (.aload_n 0, 1) := dk_42 (dk_at dksX0_upTo_0 19 rfl rfl)
theorem dX0_upTo_20 : decode cX0_upTo 20 = .ok (.getfield 20, 3) := dk_180 0 20 (dk_at dksX0_upTo_0 20 rfl rfl)
theorem dX0_upTo_23 : decode cX0_upTo 23 = .ok (.iload_n 3, 1) := dk_29 (dk_at dksX0_upTo_0 23 rfl rfl)
theorem dX0_upTo_24 : decode cX0_upTo 24 = .ok (.invokevirtual 215, 3) := dk_182 0 215 (dk_at dksX0_upTo_1 0 rfl rfl)
theorem dX0_upTo_27 : decode cX0_upTo 27 = .ok (.iadd, 1) := dk_96 (dk_at dksX0_upTo_1 3 rfl rfl)
theorem dX0_upTo_28 : decode cX0_upTo 28 = .ok (.istore_n 2, 1) := dk_61 (dk_at dksX0_upTo_1 4 rfl rfl)
theorem dX0_upTo_29 : decode cX0_upTo 29 = .ok (.iinc 3 1, 3) := dk_132 3 1 (dk_at dksX0_upTo_1 5 rfl rfl)
theorem dX0_upTo_32 : decode cX0_upTo 32 = .ok (.goto (-19), 3) := dk_167 255 237 (dk_at dksX0_upTo_1 8 rfl rfl)
theorem dX0_upTo_35 : decode cX0_upTo 35 = .ok (.iload_n 2, 1) := dk_28 (dk_at dksX0_upTo_1 11 rfl rfl)
theorem dX0_upTo_36 : decode cX0_upTo 36 = .ok (.ireturn, 1) := dk_172 (dk_at dksX0_upTo_1 12 rfl rfl)
abbrev cX0_term : ByteArray := prog_1_method_46_code
def yX0_term : MethodName := ⟨RX0, "term", "(I)I"⟩
def dkwX0_term_6 : List UInt8 := [2, 172]
abbrev dktX0_term_6 : List UInt8 := dkwX0_term_6 ++ []
def dkwX0_term_5 : List UInt8 := [167, 255, 227, 132, 3, 1, 44, 184, 1, 17, 54, 4, 167, 255, 179, 27, 2, 160, 0, 7, 29, 167, 0, 4]
abbrev dktX0_term_5 : List UInt8 := dkwX0_term_5 ++ dktX0_term_6
def dkwX0_term_4 : List UInt8 := [44, 21, 5, 92, 47, 21, 5, 21, 4, 96, 29, 100, 133, 21, 4, 184, 1, 21, 101, 80, 132, 5, 1]
abbrev dktX0_term_4 : List UInt8 := dkwX0_term_4 ++ dktX0_term_5
def dkwX0_term_3 : List UInt8 := [160, 0, 15, 27, 2, 160, 0, 8, 16, 254, 167, 0, 4, 2, 172, 3, 54, 5, 21, 5, 7, 162, 0, 29]
abbrev dktX0_term_3 : List UInt8 := dkwX0_term_3 ++ dktX0_term_4
def dkwX0_term_2 : List UInt8 := [184, 1, 17, 54, 4, 21, 4, 2, 159, 0, 77, 29, 27, 160, 0, 6, 21, 4, 172, 29, 17, 3, 232]
abbrev dktX0_term_2 : List UInt8 := dkwX0_term_2 ++ dktX0_term_3
def dkwX0_term_1 : List UInt8 := [162, 0, 20, 44, 29, 42, 180, 0, 20, 29, 182, 0, 219, 80, 132, 3, 1, 167, 255, 237, 3, 62, 44]
abbrev dktX0_term_1 : List UInt8 := dkwX0_term_1 ++ dktX0_term_2
def dkwX0_term_0 : List UInt8 := [27, 2, 161, 0, 10, 27, 17, 3, 232, 161, 0, 5, 2, 172, 7, 188, 11, 77, 3, 62, 29, 7]
abbrev dktX0_term_0 : List UInt8 := dkwX0_term_0 ++ dktX0_term_1
theorem dksX0_term_0 : cX0_term.data.toList.drop 0 = dktX0_term_0 := by decide +kernel
theorem dksX0_term_1 : cX0_term.data.toList.drop 22 = dktX0_term_1 := dk_seg dksX0_term_0 22 rfl rfl
theorem dksX0_term_2 : cX0_term.data.toList.drop 45 = dktX0_term_2 := dk_seg dksX0_term_1 23 rfl rfl
theorem dksX0_term_3 : cX0_term.data.toList.drop 68 = dktX0_term_3 := dk_seg dksX0_term_2 23 rfl rfl
theorem dksX0_term_4 : cX0_term.data.toList.drop 92 = dktX0_term_4 := dk_seg dksX0_term_3 24 rfl rfl
theorem dksX0_term_5 : cX0_term.data.toList.drop 115 = dktX0_term_5 := dk_seg dksX0_term_4 23 rfl rfl
theorem dksX0_term_6 : cX0_term.data.toList.drop 139 = dktX0_term_6 := dk_seg dksX0_term_5 24 rfl rfl
theorem dX0_term_0 : decode cX0_term 0 = .ok (.iload_n 1, 1) := dk_27 (dk_at dksX0_term_0 0 rfl rfl)
theorem dX0_term_1 : decode cX0_term 1 = .ok (.iconst (-1), 1) := dk_2 (dk_at dksX0_term_0 1 rfl rfl)
theorem dX0_term_2 : decode cX0_term 2 = .ok (.if_icmp .lt 10, 3) := dk_161 0 10 (dk_at dksX0_term_0 2 rfl rfl)
theorem dX0_term_5 : decode cX0_term 5 = .ok (.iload_n 1, 1) := dk_27 (dk_at dksX0_term_0 5 rfl rfl)
theorem dX0_term_6 : decode cX0_term 6 = .ok (.sipush 1000, 3) := dk_17 3 232 (dk_at dksX0_term_0 6 rfl rfl)
theorem dX0_term_9 : decode cX0_term 9 = .ok (.if_icmp .lt 5, 3) := dk_161 0 5 (dk_at dksX0_term_0 9 rfl rfl)
theorem dX0_term_12 : decode cX0_term 12 = .ok (.iconst (-1), 1) := dk_2 (dk_at dksX0_term_0 12 rfl rfl)
theorem dX0_term_13 : decode cX0_term 13 = .ok (.ireturn, 1) := dk_172 (dk_at dksX0_term_0 13 rfl rfl)
theorem dX0_term_14 : decode cX0_term 14 = .ok (.iconst 4, 1) := dk_7 (dk_at dksX0_term_0 14 rfl rfl)
theorem dX0_term_15 : decode cX0_term 15 = .ok (.newarray .long, 2) := dk_188_11 (dk_at dksX0_term_0 15 rfl rfl)
theorem dX0_term_17 : decode cX0_term 17 = .ok (.astore_n 2, 1) := dk_77 (dk_at dksX0_term_0 17 rfl rfl)
theorem dX0_term_18 : decode cX0_term 18 = .ok (.iconst 0, 1) := dk_3 (dk_at dksX0_term_0 18 rfl rfl)
theorem dX0_term_19 : decode cX0_term 19 = .ok (.istore_n 3, 1) := dk_62 (dk_at dksX0_term_0 19 rfl rfl)
theorem dX0_term_20 : decode cX0_term 20 = .ok (.iload_n 3, 1) := dk_29 (dk_at dksX0_term_0 20 rfl rfl)
theorem dX0_term_21 : decode cX0_term 21 = .ok (.iconst 4, 1) := dk_7 (dk_at dksX0_term_0 21 rfl rfl)
theorem dX0_term_22 : decode cX0_term 22 = .ok (.if_icmp .ge 20, 3) := dk_162 0 20 (dk_at dksX0_term_1 0 rfl rfl)
theorem dX0_term_25 : decode cX0_term 25 = .ok (.aload_n 2, 1) := dk_44 (dk_at dksX0_term_1 3 rfl rfl)
theorem dX0_term_26 : decode cX0_term 26 = .ok (.iload_n 3, 1) := dk_29 (dk_at dksX0_term_1 4 rfl rfl)
theorem dX0_term_27 : decode cX0_term 27 = .ok (.aload_n 0, 1) := dk_42 (dk_at dksX0_term_1 5 rfl rfl)
theorem dX0_term_28 : decode cX0_term 28 = .ok (.getfield 20, 3) := dk_180 0 20 (dk_at dksX0_term_1 6 rfl rfl)
theorem dX0_term_31 : decode cX0_term 31 = .ok (.iload_n 3, 1) := dk_29 (dk_at dksX0_term_1 9 rfl rfl)
theorem dX0_term_32 : decode cX0_term 32 = .ok (.invokevirtual 219, 3) := dk_182 0 219 (dk_at dksX0_term_1 10 rfl rfl)
theorem dX0_term_35 : decode cX0_term 35 = .ok (.lastore, 1) := dk_80 (dk_at dksX0_term_1 13 rfl rfl)
theorem dX0_term_36 : decode cX0_term 36 = .ok (.iinc 3 1, 3) := dk_132 3 1 (dk_at dksX0_term_1 14 rfl rfl)
theorem dX0_term_39 : decode cX0_term 39 = .ok (.goto (-19), 3) := dk_167 255 237 (dk_at dksX0_term_1 17 rfl rfl)
theorem dX0_term_42 : decode cX0_term 42 = .ok (.iconst 0, 1) := dk_3 (dk_at dksX0_term_1 20 rfl rfl)
theorem dX0_term_43 : decode cX0_term 43 = .ok (.istore_n 3, 1) := dk_62 (dk_at dksX0_term_1 21 rfl rfl)
theorem dX0_term_44 : decode cX0_term 44 = .ok (.aload_n 2, 1) := dk_44 (dk_at dksX0_term_1 22 rfl rfl)
theorem dX0_term_45 : decode cX0_term 45 = .ok (.invokestatic 273, 3) := dk_184 1 17 (dk_at dksX0_term_2 0 rfl rfl)
theorem dX0_term_48 : decode cX0_term 48 = .ok (.istore 4, 2) := dk_54 4 (dk_at dksX0_term_2 3 rfl rfl)
theorem dX0_term_50 : decode cX0_term 50 = .ok (.iload 4, 2) := dk_21 4 (dk_at dksX0_term_2 5 rfl rfl)
theorem dX0_term_52 : decode cX0_term 52 = .ok (.iconst (-1), 1) := dk_2 (dk_at dksX0_term_2 7 rfl rfl)
theorem dX0_term_53 : decode cX0_term 53 = .ok (.if_icmp .eq 77, 3) := dk_159 0 77 (dk_at dksX0_term_2 8 rfl rfl)
theorem dX0_term_56 : decode cX0_term 56 = .ok (.iload_n 3, 1) := dk_29 (dk_at dksX0_term_2 11 rfl rfl)
theorem dX0_term_57 : decode cX0_term 57 = .ok (.iload_n 1, 1) := dk_27 (dk_at dksX0_term_2 12 rfl rfl)
theorem dX0_term_58 : decode cX0_term 58 = .ok (.if_icmp .ne 6, 3) := dk_160 0 6 (dk_at dksX0_term_2 13 rfl rfl)
theorem dX0_term_61 : decode cX0_term 61 = .ok (.iload 4, 2) := dk_21 4 (dk_at dksX0_term_2 16 rfl rfl)
theorem dX0_term_63 : decode cX0_term 63 = .ok (.ireturn, 1) := dk_172 (dk_at dksX0_term_2 18 rfl rfl)
theorem dX0_term_64 : decode cX0_term 64 = .ok (.iload_n 3, 1) := dk_29 (dk_at dksX0_term_2 19 rfl rfl)
theorem dX0_term_65 : decode cX0_term 65 = .ok (.sipush 1000, 3) := dk_17 3 232 (dk_at dksX0_term_2 20 rfl rfl)
theorem dX0_term_68 : decode cX0_term 68 = .ok (.if_icmp .ne 15, 3) := dk_160 0 15 (dk_at dksX0_term_3 0 rfl rfl)
theorem dX0_term_71 : decode cX0_term 71 = .ok (.iload_n 1, 1) := dk_27 (dk_at dksX0_term_3 3 rfl rfl)
theorem dX0_term_72 : decode cX0_term 72 = .ok (.iconst (-1), 1) := dk_2 (dk_at dksX0_term_3 4 rfl rfl)
theorem dX0_term_73 : decode cX0_term 73 = .ok (.if_icmp .ne 8, 3) := dk_160 0 8 (dk_at dksX0_term_3 5 rfl rfl)
theorem dX0_term_76 : decode cX0_term 76 = .ok (.bipush (-2), 2) := dk_16 254 (dk_at dksX0_term_3 8 rfl rfl)
theorem dX0_term_78 : decode cX0_term 78 = .ok (.goto 4, 3) := dk_167 0 4 (dk_at dksX0_term_3 10 rfl rfl)
theorem dX0_term_81 : decode cX0_term 81 = .ok (.iconst (-1), 1) := dk_2 (dk_at dksX0_term_3 13 rfl rfl)
theorem dX0_term_82 : decode cX0_term 82 = .ok (.ireturn, 1) := dk_172 (dk_at dksX0_term_3 14 rfl rfl)
theorem dX0_term_83 : decode cX0_term 83 = .ok (.iconst 0, 1) := dk_3 (dk_at dksX0_term_3 15 rfl rfl)
theorem dX0_term_84 : decode cX0_term 84 = .ok (.istore 5, 2) := dk_54 5 (dk_at dksX0_term_3 16 rfl rfl)
theorem dX0_term_86 : decode cX0_term 86 = .ok (.iload 5, 2) := dk_21 5 (dk_at dksX0_term_3 18 rfl rfl)
theorem dX0_term_88 : decode cX0_term 88 = .ok (.iconst 4, 1) := dk_7 (dk_at dksX0_term_3 20 rfl rfl)
theorem dX0_term_89 : decode cX0_term 89 = .ok (.if_icmp .ge 29, 3) := dk_162 0 29 (dk_at dksX0_term_3 21 rfl rfl)
theorem dX0_term_92 : decode cX0_term 92 = .ok (.aload_n 2, 1) := dk_44 (dk_at dksX0_term_4 0 rfl rfl)
theorem dX0_term_93 : decode cX0_term 93 = .ok (.iload 5, 2) := dk_21 5 (dk_at dksX0_term_4 1 rfl rfl)
theorem dX0_term_95 : decode cX0_term 95 = .ok (.dup2, 1) := dk_92 (dk_at dksX0_term_4 3 rfl rfl)
theorem dX0_term_96 : decode cX0_term 96 = .ok (.laload, 1) := dk_47 (dk_at dksX0_term_4 4 rfl rfl)
theorem dX0_term_97 : decode cX0_term 97 = .ok (.iload 5, 2) := dk_21 5 (dk_at dksX0_term_4 5 rfl rfl)
theorem dX0_term_99 : decode cX0_term 99 = .ok (.iload 4, 2) := dk_21 4 (dk_at dksX0_term_4 7 rfl rfl)
theorem dX0_term_101 : decode cX0_term 101 = .ok (.iadd, 1) := dk_96 (dk_at dksX0_term_4 9 rfl rfl)
theorem dX0_term_102 : decode cX0_term 102 = .ok (.iload_n 3, 1) := dk_29 (dk_at dksX0_term_4 10 rfl rfl)
theorem dX0_term_103 : decode cX0_term 103 = .ok (.isub, 1) := dk_100 (dk_at dksX0_term_4 11 rfl rfl)
theorem dX0_term_104 : decode cX0_term 104 = .ok (.i2l, 1) := dk_133 (dk_at dksX0_term_4 12 rfl rfl)
theorem dX0_term_105 : decode cX0_term 105 = .ok (.iload 4, 2) := dk_21 4 (dk_at dksX0_term_4 13 rfl rfl)
theorem dX0_term_107 : decode cX0_term 107 = .ok (.invokestatic 277, 3) := dk_184 1 21 (dk_at dksX0_term_4 15 rfl rfl)
theorem dX0_term_110 : decode cX0_term 110 = .ok (.lsub, 1) := dk_101 (dk_at dksX0_term_4 18 rfl rfl)
theorem dX0_term_111 : decode cX0_term 111 = .ok (.lastore, 1) := dk_80 (dk_at dksX0_term_4 19 rfl rfl)
theorem dX0_term_112 : decode cX0_term 112 = .ok (.iinc 5 1, 3) := dk_132 5 1 (dk_at dksX0_term_4 20 rfl rfl)
theorem dX0_term_115 : decode cX0_term 115 = .ok (.goto (-29), 3) := dk_167 255 227 (dk_at dksX0_term_5 0 rfl rfl)
theorem dX0_term_118 : decode cX0_term 118 = .ok (.iinc 3 1, 3) := dk_132 3 1 (dk_at dksX0_term_5 3 rfl rfl)
theorem dX0_term_121 : decode cX0_term 121 = .ok (.aload_n 2, 1) := dk_44 (dk_at dksX0_term_5 6 rfl rfl)
theorem dX0_term_122 : decode cX0_term 122 = .ok (.invokestatic 273, 3) := dk_184 1 17 (dk_at dksX0_term_5 7 rfl rfl)
theorem dX0_term_125 : decode cX0_term 125 = .ok (.istore 4, 2) := dk_54 4 (dk_at dksX0_term_5 10 rfl rfl)
theorem dX0_term_127 : decode cX0_term 127 = .ok (.goto (-77), 3) := dk_167 255 179 (dk_at dksX0_term_5 12 rfl rfl)
theorem dX0_term_130 : decode cX0_term 130 = .ok (.iload_n 1, 1) := dk_27 (dk_at dksX0_term_5 15 rfl rfl)
theorem dX0_term_131 : decode cX0_term 131 = .ok (.iconst (-1), 1) := dk_2 (dk_at dksX0_term_5 16 rfl rfl)
theorem dX0_term_132 : decode cX0_term 132 = .ok (.if_icmp .ne 7, 3) := dk_160 0 7 (dk_at dksX0_term_5 17 rfl rfl)
theorem dX0_term_135 : decode cX0_term 135 = .ok (.iload_n 3, 1) := dk_29 (dk_at dksX0_term_5 20 rfl rfl)
theorem dX0_term_136 : decode cX0_term 136 = .ok (.goto 4, 3) := dk_167 0 4 (dk_at dksX0_term_5 21 rfl rfl)
theorem dX0_term_139 : decode cX0_term 139 = .ok (.iconst (-1), 1) := dk_2 (dk_at dksX0_term_6 0 rfl rfl)
theorem dX0_term_140 : decode cX0_term 140 = .ok (.ireturn, 1) := dk_172 (dk_at dksX0_term_6 1 rfl rfl)
abbrev cX0_degreeOf : ByteArray := prog_1_method_45_code
def yX0_degreeOf : MethodName := ⟨RX0, "degreeOf", "([J)I"⟩
def dkwX0_degreeOf_3 : List UInt8 := [167, 255, 202, 28, 172]
abbrev dktX0_degreeOf_3 : List UInt8 := dkwX0_degreeOf_3 ++ []
def dkwX0_degreeOf_2 : List UInt8 := [43, 21, 4, 43, 21, 4, 4, 96, 47, 43, 21, 4, 47, 101, 80, 132, 4, 1, 167, 255, 227, 132, 3, 1]
abbrev dktX0_degreeOf_2 : List UInt8 := dkwX0_degreeOf_2 ++ dktX0_degreeOf_3
def dkwX0_degreeOf_1 : List UInt8 := [43, 3, 47, 9, 148, 153, 0, 5, 29, 61, 3, 54, 4, 21, 4, 4, 96, 43, 190, 29, 100, 162, 0, 24]
abbrev dktX0_degreeOf_1 : List UInt8 := dkwX0_degreeOf_1 ++ dktX0_degreeOf_2
def dkwX0_degreeOf_0 : List UInt8 := [42, 190, 188, 11, 76, 42, 3, 43, 3, 43, 190, 184, 1, 11, 2, 61, 3, 62, 29, 43, 190, 162, 0, 54]
abbrev dktX0_degreeOf_0 : List UInt8 := dkwX0_degreeOf_0 ++ dktX0_degreeOf_1
theorem dksX0_degreeOf_0 : cX0_degreeOf.data.toList.drop 0 = dktX0_degreeOf_0 := by decide +kernel
theorem dksX0_degreeOf_1 : cX0_degreeOf.data.toList.drop 24 = dktX0_degreeOf_1 := dk_seg dksX0_degreeOf_0 24 rfl rfl
theorem dksX0_degreeOf_2 : cX0_degreeOf.data.toList.drop 48 = dktX0_degreeOf_2 := dk_seg dksX0_degreeOf_1 24 rfl rfl
theorem dksX0_degreeOf_3 : cX0_degreeOf.data.toList.drop 72 = dktX0_degreeOf_3 := dk_seg dksX0_degreeOf_2 24 rfl rfl
theorem dX0_degreeOf_0 : decode cX0_degreeOf 0 = .ok (.aload_n 0, 1) := dk_42 (dk_at dksX0_degreeOf_0 0 rfl rfl)
theorem dX0_degreeOf_1 : decode cX0_degreeOf 1 = .ok (.arraylength, 1) := dk_190 (dk_at dksX0_degreeOf_0 1 rfl rfl)
theorem dX0_degreeOf_2 : decode cX0_degreeOf 2 = .ok (.newarray .long, 2) := dk_188_11 (dk_at dksX0_degreeOf_0 2 rfl rfl)
theorem dX0_degreeOf_4 : decode cX0_degreeOf 4 = .ok (.astore_n 1, 1) := dk_76 (dk_at dksX0_degreeOf_0 4 rfl rfl)
theorem dX0_degreeOf_5 : decode cX0_degreeOf 5 = .ok (.aload_n 0, 1) := dk_42 (dk_at dksX0_degreeOf_0 5 rfl rfl)
theorem dX0_degreeOf_6 : decode cX0_degreeOf 6 = .ok (.iconst 0, 1) := dk_3 (dk_at dksX0_degreeOf_0 6 rfl rfl)
theorem dX0_degreeOf_7 : decode cX0_degreeOf 7 = .ok (.aload_n 1, 1) := dk_43 (dk_at dksX0_degreeOf_0 7 rfl rfl)
theorem dX0_degreeOf_8 : decode cX0_degreeOf 8 = .ok (.iconst 0, 1) := dk_3 (dk_at dksX0_degreeOf_0 8 rfl rfl)
theorem dX0_degreeOf_9 : decode cX0_degreeOf 9 = .ok (.aload_n 1, 1) := dk_43 (dk_at dksX0_degreeOf_0 9 rfl rfl)
theorem dX0_degreeOf_10 : decode cX0_degreeOf 10 = .ok (.arraylength, 1) := dk_190 (dk_at dksX0_degreeOf_0 10 rfl rfl)
theorem dX0_degreeOf_11 : decode cX0_degreeOf 11 = .ok (.invokestatic 267, 3) := dk_184 1 11 (dk_at dksX0_degreeOf_0 11 rfl rfl)
theorem dX0_degreeOf_14 : decode cX0_degreeOf 14 = .ok (.iconst (-1), 1) := dk_2 (dk_at dksX0_degreeOf_0 14 rfl rfl)
theorem dX0_degreeOf_15 : decode cX0_degreeOf 15 = .ok (.istore_n 2, 1) := dk_61 (dk_at dksX0_degreeOf_0 15 rfl rfl)
theorem dX0_degreeOf_16 : decode cX0_degreeOf 16 = .ok (.iconst 0, 1) := dk_3 (dk_at dksX0_degreeOf_0 16 rfl rfl)
theorem dX0_degreeOf_17 : decode cX0_degreeOf 17 = .ok (.istore_n 3, 1) := dk_62 (dk_at dksX0_degreeOf_0 17 rfl rfl)
theorem dX0_degreeOf_18 : decode cX0_degreeOf 18 = .ok (.iload_n 3, 1) := dk_29 (dk_at dksX0_degreeOf_0 18 rfl rfl)
theorem dX0_degreeOf_19 : decode cX0_degreeOf 19 = .ok (.aload_n 1, 1) := dk_43 (dk_at dksX0_degreeOf_0 19 rfl rfl)
theorem dX0_degreeOf_20 : decode cX0_degreeOf 20 = .ok (.arraylength, 1) := dk_190 (dk_at dksX0_degreeOf_0 20 rfl rfl)
theorem dX0_degreeOf_21 : decode cX0_degreeOf 21 = .ok (.if_icmp .ge 54, 3) := dk_162 0 54 (dk_at dksX0_degreeOf_0 21 rfl rfl)
theorem dX0_degreeOf_24 : decode cX0_degreeOf 24 = .ok (.aload_n 1, 1) := dk_43 (dk_at dksX0_degreeOf_1 0 rfl rfl)
theorem dX0_degreeOf_25 : decode cX0_degreeOf 25 = .ok (.iconst 0, 1) := dk_3 (dk_at dksX0_degreeOf_1 1 rfl rfl)
theorem dX0_degreeOf_26 : decode cX0_degreeOf 26 = .ok (.laload, 1) := dk_47 (dk_at dksX0_degreeOf_1 2 rfl rfl)
theorem dX0_degreeOf_27 : decode cX0_degreeOf 27 = .ok (.lconst 0, 1) := dk_9 (dk_at dksX0_degreeOf_1 3 rfl rfl)
theorem dX0_degreeOf_28 : decode cX0_degreeOf 28 = .ok (.lcmp, 1) := dk_148 (dk_at dksX0_degreeOf_1 4 rfl rfl)
theorem dX0_degreeOf_29 : decode cX0_degreeOf 29 = .ok (.ifCond .eq 5, 3) := dk_153 0 5 (dk_at dksX0_degreeOf_1 5 rfl rfl)
theorem dX0_degreeOf_32 : decode cX0_degreeOf 32 = .ok (.iload_n 3, 1) := dk_29 (dk_at dksX0_degreeOf_1 8 rfl rfl)
theorem dX0_degreeOf_33 : decode cX0_degreeOf 33 = .ok (.istore_n 2, 1) := dk_61 (dk_at dksX0_degreeOf_1 9 rfl rfl)
theorem dX0_degreeOf_34 : decode cX0_degreeOf 34 = .ok (.iconst 0, 1) := dk_3 (dk_at dksX0_degreeOf_1 10 rfl rfl)
theorem dX0_degreeOf_35 : decode cX0_degreeOf 35 = .ok (.istore 4, 2) := dk_54 4 (dk_at dksX0_degreeOf_1 11 rfl rfl)
theorem dX0_degreeOf_37 : decode cX0_degreeOf 37 = .ok (.iload 4, 2) := dk_21 4 (dk_at dksX0_degreeOf_1 13 rfl rfl)
theorem dX0_degreeOf_39 : decode cX0_degreeOf 39 = .ok (.iconst 1, 1) := dk_4 (dk_at dksX0_degreeOf_1 15 rfl rfl)
theorem dX0_degreeOf_40 : decode cX0_degreeOf 40 = .ok (.iadd, 1) := dk_96 (dk_at dksX0_degreeOf_1 16 rfl rfl)
theorem dX0_degreeOf_41 : decode cX0_degreeOf 41 = .ok (.aload_n 1, 1) := dk_43 (dk_at dksX0_degreeOf_1 17 rfl rfl)
theorem dX0_degreeOf_42 : decode cX0_degreeOf 42 = .ok (.arraylength, 1) := dk_190 (dk_at dksX0_degreeOf_1 18 rfl rfl)
theorem dX0_degreeOf_43 : decode cX0_degreeOf 43 = .ok (.iload_n 3, 1) := dk_29 (dk_at dksX0_degreeOf_1 19 rfl rfl)
theorem dX0_degreeOf_44 : decode cX0_degreeOf 44 = .ok (.isub, 1) := dk_100 (dk_at dksX0_degreeOf_1 20 rfl rfl)
theorem dX0_degreeOf_45 : decode cX0_degreeOf 45 = .ok (.if_icmp .ge 24, 3) := dk_162 0 24 (dk_at dksX0_degreeOf_1 21 rfl rfl)
theorem dX0_degreeOf_48 : decode cX0_degreeOf 48 = .ok (.aload_n 1, 1) := dk_43 (dk_at dksX0_degreeOf_2 0 rfl rfl)
theorem dX0_degreeOf_49 : decode cX0_degreeOf 49 = .ok (.iload 4, 2) := dk_21 4 (dk_at dksX0_degreeOf_2 1 rfl rfl)
theorem dX0_degreeOf_51 : decode cX0_degreeOf 51 = .ok (.aload_n 1, 1) := dk_43 (dk_at dksX0_degreeOf_2 3 rfl rfl)
theorem dX0_degreeOf_52 : decode cX0_degreeOf 52 = .ok (.iload 4, 2) := dk_21 4 (dk_at dksX0_degreeOf_2 4 rfl rfl)
theorem dX0_degreeOf_54 : decode cX0_degreeOf 54 = .ok (.iconst 1, 1) := dk_4 (dk_at dksX0_degreeOf_2 6 rfl rfl)
theorem dX0_degreeOf_55 : decode cX0_degreeOf 55 = .ok (.iadd, 1) := dk_96 (dk_at dksX0_degreeOf_2 7 rfl rfl)
theorem dX0_degreeOf_56 : decode cX0_degreeOf 56 = .ok (.laload, 1) := dk_47 (dk_at dksX0_degreeOf_2 8 rfl rfl)
theorem dX0_degreeOf_57 : decode cX0_degreeOf 57 = .ok (.aload_n 1, 1) := dk_43 (dk_at dksX0_degreeOf_2 9 rfl rfl)
theorem dX0_degreeOf_58 : decode cX0_degreeOf 58 = .ok (.iload 4, 2) := dk_21 4 (dk_at dksX0_degreeOf_2 10 rfl rfl)
theorem dX0_degreeOf_60 : decode cX0_degreeOf 60 = .ok (.laload, 1) := dk_47 (dk_at dksX0_degreeOf_2 12 rfl rfl)
theorem dX0_degreeOf_61 : decode cX0_degreeOf 61 = .ok (.lsub, 1) := dk_101 (dk_at dksX0_degreeOf_2 13 rfl rfl)
theorem dX0_degreeOf_62 : decode cX0_degreeOf 62 = .ok (.lastore, 1) := dk_80 (dk_at dksX0_degreeOf_2 14 rfl rfl)
theorem dX0_degreeOf_63 : decode cX0_degreeOf 63 = .ok (.iinc 4 1, 3) := dk_132 4 1 (dk_at dksX0_degreeOf_2 15 rfl rfl)
theorem dX0_degreeOf_66 : decode cX0_degreeOf 66 = .ok (.goto (-29), 3) := dk_167 255 227 (dk_at dksX0_degreeOf_2 18 rfl rfl)
theorem dX0_degreeOf_69 : decode cX0_degreeOf 69 = .ok (.iinc 3 1, 3) := dk_132 3 1 (dk_at dksX0_degreeOf_2 21 rfl rfl)
theorem dX0_degreeOf_72 : decode cX0_degreeOf 72 = .ok (.goto (-54), 3) := dk_167 255 202 (dk_at dksX0_degreeOf_3 0 rfl rfl)
theorem dX0_degreeOf_75 : decode cX0_degreeOf 75 = .ok (.iload_n 2, 1) := dk_28 (dk_at dksX0_degreeOf_3 3 rfl rfl)
theorem dX0_degreeOf_76 : decode cX0_degreeOf 76 = .ok (.ireturn, 1) := dk_172 (dk_at dksX0_degreeOf_3 4 rfl rfl)
abbrev cX0_polyWays : ByteArray := prog_1_method_44_code
def yX0_polyWays : MethodName := ⟨RX0, "polyWays", "(JI)J"⟩
def dkwX0_polyWays_2 : List UInt8 := [33, 173]
abbrev dktX0_polyWays_2 : List UInt8 := dkwX0_polyWays_2 ++ []
def dkwX0_polyWays_1 : List UInt8 := [167, 255, 239, 5, 54, 5, 21, 5, 28, 163, 0, 15, 33, 21, 5, 133, 109, 66, 132, 5, 1, 167, 255, 241]
abbrev dktX0_polyWays_1 : List UInt8 := dkwX0_polyWays_1 ++ dktX0_polyWays_2
def dkwX0_polyWays_0 : List UInt8 := [10, 66, 3, 54, 5, 21, 5, 28, 162, 0, 17, 33, 30, 21, 5, 133, 101, 105, 66, 132, 5, 1]
abbrev dktX0_polyWays_0 : List UInt8 := dkwX0_polyWays_0 ++ dktX0_polyWays_1
theorem dksX0_polyWays_0 : cX0_polyWays.data.toList.drop 0 = dktX0_polyWays_0 := by decide +kernel
theorem dksX0_polyWays_1 : cX0_polyWays.data.toList.drop 22 = dktX0_polyWays_1 := dk_seg dksX0_polyWays_0 22 rfl rfl
theorem dksX0_polyWays_2 : cX0_polyWays.data.toList.drop 46 = dktX0_polyWays_2 := dk_seg dksX0_polyWays_1 24 rfl rfl
theorem dX0_polyWays_0 : decode cX0_polyWays 0 = .ok (.lconst 1, 1) := dk_10 (dk_at dksX0_polyWays_0 0 rfl rfl)
theorem dX0_polyWays_1 : decode cX0_polyWays 1 = .ok (.lstore_n 3, 1) := dk_66 (dk_at dksX0_polyWays_0 1 rfl rfl)
theorem dX0_polyWays_2 : decode cX0_polyWays 2 = .ok (.iconst 0, 1) := dk_3 (dk_at dksX0_polyWays_0 2 rfl rfl)
theorem dX0_polyWays_3 : decode cX0_polyWays 3 = .ok (.istore 5, 2) := dk_54 5 (dk_at dksX0_polyWays_0 3 rfl rfl)
theorem dX0_polyWays_5 : decode cX0_polyWays 5 = .ok (.iload 5, 2) := dk_21 5 (dk_at dksX0_polyWays_0 5 rfl rfl)
theorem dX0_polyWays_7 : decode cX0_polyWays 7 = .ok (.iload_n 2, 1) := dk_28 (dk_at dksX0_polyWays_0 7 rfl rfl)
theorem dX0_polyWays_8 : decode cX0_polyWays 8 = .ok (.if_icmp .ge 17, 3) := dk_162 0 17 (dk_at dksX0_polyWays_0 8 rfl rfl)
theorem dX0_polyWays_11 : decode cX0_polyWays 11 = .ok (.lload_n 3, 1) := dk_33 (dk_at dksX0_polyWays_0 11 rfl rfl)
theorem dX0_polyWays_12 : decode cX0_polyWays 12 = .ok (.lload_n 0, 1) := dk_30 (dk_at dksX0_polyWays_0 12 rfl rfl)
theorem dX0_polyWays_13 : decode cX0_polyWays 13 = .ok (.iload 5, 2) := dk_21 5 (dk_at dksX0_polyWays_0 13 rfl rfl)
theorem dX0_polyWays_15 : decode cX0_polyWays 15 = .ok (.i2l, 1) := dk_133 (dk_at dksX0_polyWays_0 15 rfl rfl)
theorem dX0_polyWays_16 : decode cX0_polyWays 16 = .ok (.lsub, 1) := dk_101 (dk_at dksX0_polyWays_0 16 rfl rfl)
theorem dX0_polyWays_17 : decode cX0_polyWays 17 = .ok (.lmul, 1) := dk_105 (dk_at dksX0_polyWays_0 17 rfl rfl)
theorem dX0_polyWays_18 : decode cX0_polyWays 18 = .ok (.lstore_n 3, 1) := dk_66 (dk_at dksX0_polyWays_0 18 rfl rfl)
theorem dX0_polyWays_19 : decode cX0_polyWays 19 = .ok (.iinc 5 1, 3) := dk_132 5 1 (dk_at dksX0_polyWays_0 19 rfl rfl)
theorem dX0_polyWays_22 : decode cX0_polyWays 22 = .ok (.goto (-17), 3) := dk_167 255 239 (dk_at dksX0_polyWays_1 0 rfl rfl)
theorem dX0_polyWays_25 : decode cX0_polyWays 25 = .ok (.iconst 2, 1) := dk_5 (dk_at dksX0_polyWays_1 3 rfl rfl)
theorem dX0_polyWays_26 : decode cX0_polyWays 26 = .ok (.istore 5, 2) := dk_54 5 (dk_at dksX0_polyWays_1 4 rfl rfl)
theorem dX0_polyWays_28 : decode cX0_polyWays 28 = .ok (.iload 5, 2) := dk_21 5 (dk_at dksX0_polyWays_1 6 rfl rfl)
theorem dX0_polyWays_30 : decode cX0_polyWays 30 = .ok (.iload_n 2, 1) := dk_28 (dk_at dksX0_polyWays_1 8 rfl rfl)
theorem dX0_polyWays_31 : decode cX0_polyWays 31 = .ok (.if_icmp .gt 15, 3) := dk_163 0 15 (dk_at dksX0_polyWays_1 9 rfl rfl)
theorem dX0_polyWays_34 : decode cX0_polyWays 34 = .ok (.lload_n 3, 1) := dk_33 (dk_at dksX0_polyWays_1 12 rfl rfl)
theorem dX0_polyWays_35 : decode cX0_polyWays 35 = .ok (.iload 5, 2) := dk_21 5 (dk_at dksX0_polyWays_1 13 rfl rfl)
theorem dX0_polyWays_37 : decode cX0_polyWays 37 = .ok (.i2l, 1) := dk_133 (dk_at dksX0_polyWays_1 15 rfl rfl)
theorem dX0_polyWays_38 : decode cX0_polyWays 38 = .ok (.ldiv, 1) := dk_109 (dk_at dksX0_polyWays_1 16 rfl rfl)
theorem dX0_polyWays_39 : decode cX0_polyWays 39 = .ok (.lstore_n 3, 1) := dk_66 (dk_at dksX0_polyWays_1 17 rfl rfl)
theorem dX0_polyWays_40 : decode cX0_polyWays 40 = .ok (.iinc 5 1, 3) := dk_132 5 1 (dk_at dksX0_polyWays_1 18 rfl rfl)
theorem dX0_polyWays_43 : decode cX0_polyWays 43 = .ok (.goto (-15), 3) := dk_167 255 241 (dk_at dksX0_polyWays_1 21 rfl rfl)
theorem dX0_polyWays_46 : decode cX0_polyWays 46 = .ok (.lload_n 3, 1) := dk_33 (dk_at dksX0_polyWays_2 0 rfl rfl)
theorem dX0_polyWays_47 : decode cX0_polyWays 47 = .ok (.lreturn, 1) := dk_173 (dk_at dksX0_polyWays_2 1 rfl rfl)
abbrev cX0_corner : ByteArray := prog_1_method_49_code
def yX0_corner : MethodName := ⟨RX0, "corner", "(II)I"⟩
def dkwX0_corner_1 : List UInt8 := [182, 1, 7, 62, 28, 2, 160, 0, 7, 29, 167, 0, 7, 42, 180, 0, 252, 172]
abbrev dktX0_corner_1 : List UInt8 := dkwX0_corner_1 ++ []
def dkwX0_corner_0 : List UInt8 := [27, 133, 9, 20, 0, 232, 184, 0, 110, 154, 0, 5, 2, 172, 42, 27, 42, 28, 186, 1, 27, 0, 0]
abbrev dktX0_corner_0 : List UInt8 := dkwX0_corner_0 ++ dktX0_corner_1
theorem dksX0_corner_0 : cX0_corner.data.toList.drop 0 = dktX0_corner_0 := by decide +kernel
theorem dksX0_corner_1 : cX0_corner.data.toList.drop 23 = dktX0_corner_1 := dk_seg dksX0_corner_0 23 rfl rfl
theorem dX0_corner_0 : decode cX0_corner 0 = .ok (.iload_n 1, 1) := dk_27 (dk_at dksX0_corner_0 0 rfl rfl)
theorem dX0_corner_1 : decode cX0_corner 1 = .ok (.i2l, 1) := dk_133 (dk_at dksX0_corner_0 1 rfl rfl)
theorem dX0_corner_2 : decode cX0_corner 2 = .ok (.lconst 0, 1) := dk_9 (dk_at dksX0_corner_0 2 rfl rfl)
theorem dX0_corner_3 : decode cX0_corner 3 = .ok (.ldc2_w 232, 3) := dk_20 0 232 (dk_at dksX0_corner_0 3 rfl rfl)
theorem dX0_corner_6 : decode cX0_corner 6 = .ok (.invokestatic 110, 3) := dk_184 0 110 (dk_at dksX0_corner_0 6 rfl rfl)
theorem dX0_corner_9 : decode cX0_corner 9 = .ok (.ifCond .ne 5, 3) := dk_154 0 5 (dk_at dksX0_corner_0 9 rfl rfl)
theorem dX0_corner_12 : decode cX0_corner 12 = .ok (.iconst (-1), 1) := dk_2 (dk_at dksX0_corner_0 12 rfl rfl)
theorem dX0_corner_13 : decode cX0_corner 13 = .ok (.ireturn, 1) := dk_172 (dk_at dksX0_corner_0 13 rfl rfl)
theorem dX0_corner_14 : decode cX0_corner 14 = .ok (.aload_n 0, 1) := dk_42 (dk_at dksX0_corner_0 14 rfl rfl)
theorem dX0_corner_15 : decode cX0_corner 15 = .ok (.iload_n 1, 1) := dk_27 (dk_at dksX0_corner_0 15 rfl rfl)
theorem dX0_corner_16 : decode cX0_corner 16 = .ok (.aload_n 0, 1) := dk_42 (dk_at dksX0_corner_0 16 rfl rfl)
theorem dX0_corner_17 : decode cX0_corner 17 = .ok (.iload_n 2, 1) := dk_28 (dk_at dksX0_corner_0 17 rfl rfl)
theorem dX0_corner_18 : decode cX0_corner 18 = .ok (.invokedynamic 283, 5) := by decide +kernel
theorem dX0_corner_23 : decode cX0_corner 23 = .ok (.invokevirtual 263, 3) := dk_182 1 7 (dk_at dksX0_corner_1 0 rfl rfl)
theorem dX0_corner_26 : decode cX0_corner 26 = .ok (.istore_n 3, 1) := dk_62 (dk_at dksX0_corner_1 3 rfl rfl)
theorem dX0_corner_27 : decode cX0_corner 27 = .ok (.iload_n 2, 1) := dk_28 (dk_at dksX0_corner_1 4 rfl rfl)
theorem dX0_corner_28 : decode cX0_corner 28 = .ok (.iconst (-1), 1) := dk_2 (dk_at dksX0_corner_1 5 rfl rfl)
theorem dX0_corner_29 : decode cX0_corner 29 = .ok (.if_icmp .ne 7, 3) := dk_160 0 7 (dk_at dksX0_corner_1 6 rfl rfl)
theorem dX0_corner_32 : decode cX0_corner 32 = .ok (.iload_n 3, 1) := dk_29 (dk_at dksX0_corner_1 9 rfl rfl)
theorem dX0_corner_33 : decode cX0_corner 33 = .ok (.goto 7, 3) := dk_167 0 7 (dk_at dksX0_corner_1 10 rfl rfl)
theorem dX0_corner_36 : decode cX0_corner 36 = .ok (.aload_n 0, 1) := dk_42 (dk_at dksX0_corner_1 13 rfl rfl)
theorem dX0_corner_37 : decode cX0_corner 37 = .ok (.getfield 252, 3) := dk_180 0 252 (dk_at dksX0_corner_1 14 rfl rfl)
theorem dX0_corner_40 : decode cX0_corner 40 = .ok (.ireturn, 1) := dk_172 (dk_at dksX0_corner_1 17 rfl rfl)
abbrev cX0_lambda_corner_1 : ByteArray := prog_1_method_106_code
def yX0_lambda_corner_1 : MethodName := ⟨RX0, "lambda$corner$1", "(I[I)Z"⟩
def dkwX0_lambda_corner_1_0 : List UInt8 := [42, 44, 27, 182, 1, 193, 172]
abbrev dktX0_lambda_corner_1_0 : List UInt8 := dkwX0_lambda_corner_1_0 ++ []
theorem dksX0_lambda_corner_1_0 : cX0_lambda_corner_1.data.toList.drop 0 = dktX0_lambda_corner_1_0 := by decide +kernel
theorem dX0_lambda_corner_1_0 : decode cX0_lambda_corner_1 0 = .ok (.aload_n 0, 1) := dk_42 (dk_at dksX0_lambda_corner_1_0 0 rfl rfl)
theorem dX0_lambda_corner_1_1 : decode cX0_lambda_corner_1 1 = .ok (.aload_n 2, 1) := dk_44 (dk_at dksX0_lambda_corner_1_0 1 rfl rfl)
theorem dX0_lambda_corner_1_2 : decode cX0_lambda_corner_1 2 = .ok (.iload_n 1, 1) := dk_27 (dk_at dksX0_lambda_corner_1_0 2 rfl rfl)
theorem dX0_lambda_corner_1_3 : decode cX0_lambda_corner_1 3 = .ok (.invokevirtual 449, 3) := dk_182 1 193 (dk_at dksX0_lambda_corner_1_0 3 rfl rfl)
theorem dX0_lambda_corner_1_6 : decode cX0_lambda_corner_1 6 = .ok (.ireturn, 1) := dk_172 (dk_at dksX0_lambda_corner_1_0 6 rfl rfl)
abbrev cX0_meets : ByteArray := prog_1_method_48_code
def yX0_meets : MethodName := ⟨RX0, "meets", "([II)Z"⟩
def dkwX0_meets_2 : List UInt8 := [4, 172]
abbrev dktX0_meets_2 : List UInt8 := dkwX0_meets_2 ++ []
def dkwX0_meets_1 : List UInt8 := [28, 160, 0, 13, 42, 42, 180, 0, 246, 4, 100, 181, 0, 252, 42, 89, 180, 0, 249, 4, 96, 181, 0, 249]
abbrev dktX0_meets_1 : List UInt8 := dkwX0_meets_1 ++ dktX0_meets_2
def dkwX0_meets_0 : List UInt8 := [42, 89, 180, 0, 246, 4, 96, 181, 0, 246, 42, 43, 182, 1, 24, 154, 0, 5, 3, 172, 42, 180, 0, 249]
abbrev dktX0_meets_0 : List UInt8 := dkwX0_meets_0 ++ dktX0_meets_1
theorem dksX0_meets_0 : cX0_meets.data.toList.drop 0 = dktX0_meets_0 := by decide +kernel
theorem dksX0_meets_1 : cX0_meets.data.toList.drop 24 = dktX0_meets_1 := dk_seg dksX0_meets_0 24 rfl rfl
theorem dksX0_meets_2 : cX0_meets.data.toList.drop 48 = dktX0_meets_2 := dk_seg dksX0_meets_1 24 rfl rfl
theorem dX0_meets_0 : decode cX0_meets 0 = .ok (.aload_n 0, 1) := dk_42 (dk_at dksX0_meets_0 0 rfl rfl)
theorem dX0_meets_1 : decode cX0_meets 1 = .ok (.dup, 1) := dk_89 (dk_at dksX0_meets_0 1 rfl rfl)
theorem dX0_meets_2 : decode cX0_meets 2 = .ok (.getfield 246, 3) := dk_180 0 246 (dk_at dksX0_meets_0 2 rfl rfl)
theorem dX0_meets_5 : decode cX0_meets 5 = .ok (.iconst 1, 1) := dk_4 (dk_at dksX0_meets_0 5 rfl rfl)
theorem dX0_meets_6 : decode cX0_meets 6 = .ok (.iadd, 1) := dk_96 (dk_at dksX0_meets_0 6 rfl rfl)
theorem dX0_meets_7 : decode cX0_meets 7 = .ok (.putfield 246, 3) := dk_181 0 246 (dk_at dksX0_meets_0 7 rfl rfl)
theorem dX0_meets_10 : decode cX0_meets 10 = .ok (.aload_n 0, 1) := dk_42 (dk_at dksX0_meets_0 10 rfl rfl)
theorem dX0_meets_11 : decode cX0_meets 11 = .ok (.aload_n 1, 1) := dk_43 (dk_at dksX0_meets_0 11 rfl rfl)
theorem dX0_meets_12 : decode cX0_meets 12 = .ok (.invokevirtual 280, 3) := dk_182 1 24 (dk_at dksX0_meets_0 12 rfl rfl)
theorem dX0_meets_15 : decode cX0_meets 15 = .ok (.ifCond .ne 5, 3) := dk_154 0 5 (dk_at dksX0_meets_0 15 rfl rfl)
theorem dX0_meets_18 : decode cX0_meets 18 = .ok (.iconst 0, 1) := dk_3 (dk_at dksX0_meets_0 18 rfl rfl)
theorem dX0_meets_19 : decode cX0_meets 19 = .ok (.ireturn, 1) := dk_172 (dk_at dksX0_meets_0 19 rfl rfl)
theorem dX0_meets_20 : decode cX0_meets 20 = .ok (.aload_n 0, 1) := dk_42 (dk_at dksX0_meets_0 20 rfl rfl)
theorem dX0_meets_21 : decode cX0_meets 21 = .ok (.getfield 249, 3) := dk_180 0 249 (dk_at dksX0_meets_0 21 rfl rfl)
theorem dX0_meets_24 : decode cX0_meets 24 = .ok (.iload_n 2, 1) := dk_28 (dk_at dksX0_meets_1 0 rfl rfl)
theorem dX0_meets_25 : decode cX0_meets 25 = .ok (.if_icmp .ne 13, 3) := dk_160 0 13 (dk_at dksX0_meets_1 1 rfl rfl)
theorem dX0_meets_28 : decode cX0_meets 28 = .ok (.aload_n 0, 1) := dk_42 (dk_at dksX0_meets_1 4 rfl rfl)
theorem dX0_meets_29 : decode cX0_meets 29 = .ok (.aload_n 0, 1) := dk_42 (dk_at dksX0_meets_1 5 rfl rfl)
theorem dX0_meets_30 : decode cX0_meets 30 = .ok (.getfield 246, 3) := dk_180 0 246 (dk_at dksX0_meets_1 6 rfl rfl)
theorem dX0_meets_33 : decode cX0_meets 33 = .ok (.iconst 1, 1) := dk_4 (dk_at dksX0_meets_1 9 rfl rfl)
theorem dX0_meets_34 : decode cX0_meets 34 = .ok (.isub, 1) := dk_100 (dk_at dksX0_meets_1 10 rfl rfl)
theorem dX0_meets_35 : decode cX0_meets 35 = .ok (.putfield 252, 3) := dk_181 0 252 (dk_at dksX0_meets_1 11 rfl rfl)
theorem dX0_meets_38 : decode cX0_meets 38 = .ok (.aload_n 0, 1) := dk_42 (dk_at dksX0_meets_1 14 rfl rfl)
theorem dX0_meets_39 : decode cX0_meets 39 = .ok (.dup, 1) := dk_89 (dk_at dksX0_meets_1 15 rfl rfl)
theorem dX0_meets_40 : decode cX0_meets 40 = .ok (.getfield 249, 3) := dk_180 0 249 (dk_at dksX0_meets_1 16 rfl rfl)
theorem dX0_meets_43 : decode cX0_meets 43 = .ok (.iconst 1, 1) := dk_4 (dk_at dksX0_meets_1 19 rfl rfl)
theorem dX0_meets_44 : decode cX0_meets 44 = .ok (.iadd, 1) := dk_96 (dk_at dksX0_meets_1 20 rfl rfl)
theorem dX0_meets_45 : decode cX0_meets 45 = .ok (.putfield 249, 3) := dk_181 0 249 (dk_at dksX0_meets_1 21 rfl rfl)
theorem dX0_meets_48 : decode cX0_meets 48 = .ok (.iconst 1, 1) := dk_4 (dk_at dksX0_meets_2 0 rfl rfl)
theorem dX0_meets_49 : decode cX0_meets 49 = .ok (.ireturn, 1) := dk_172 (dk_at dksX0_meets_2 1 rfl rfl)
abbrev cX0_isCorner : ByteArray := prog_1_method_47_code
def yX0_isCorner : MethodName := ⟨RX0, "isCorner", "([I)Z"⟩
def dkwX0_isCorner_2 : List UInt8 := [100, 79, 29, 154, 0, 5, 3, 172, 132, 2, 1, 167, 255, 213, 4, 172]
abbrev dktX0_isCorner_2 : List UInt8 := dkwX0_isCorner_2 ++ []
def dkwX0_isCorner_1 : List UInt8 := [162, 0, 38, 43, 28, 92, 46, 4, 96, 79, 42, 180, 0, 20, 43, 182, 0, 212, 62, 43, 28, 92, 46, 4]
abbrev dktX0_isCorner_1 : List UInt8 := dkwX0_isCorner_1 ++ dktX0_isCorner_2
def dkwX0_isCorner_0 : List UInt8 := [42, 180, 0, 20, 43, 182, 0, 212, 153, 0, 5, 3, 172, 3, 61, 28, 42, 180, 0, 20, 180, 0, 162]
abbrev dktX0_isCorner_0 : List UInt8 := dkwX0_isCorner_0 ++ dktX0_isCorner_1
theorem dksX0_isCorner_0 : cX0_isCorner.data.toList.drop 0 = dktX0_isCorner_0 := by decide +kernel
theorem dksX0_isCorner_1 : cX0_isCorner.data.toList.drop 23 = dktX0_isCorner_1 := dk_seg dksX0_isCorner_0 23 rfl rfl
theorem dksX0_isCorner_2 : cX0_isCorner.data.toList.drop 47 = dktX0_isCorner_2 := dk_seg dksX0_isCorner_1 24 rfl rfl
theorem dX0_isCorner_0 : decode cX0_isCorner 0 = .ok (.aload_n 0, 1) := dk_42 (dk_at dksX0_isCorner_0 0 rfl rfl)
theorem dX0_isCorner_1 : decode cX0_isCorner 1 = .ok (.getfield 20, 3) := dk_180 0 20 (dk_at dksX0_isCorner_0 1 rfl rfl)
theorem dX0_isCorner_4 : decode cX0_isCorner 4 = .ok (.aload_n 1, 1) := dk_43 (dk_at dksX0_isCorner_0 4 rfl rfl)
theorem dX0_isCorner_5 : decode cX0_isCorner 5 = .ok (.invokevirtual 212, 3) := dk_182 0 212 (dk_at dksX0_isCorner_0 5 rfl rfl)
theorem dX0_isCorner_8 : decode cX0_isCorner 8 = .ok (.ifCond .eq 5, 3) := dk_153 0 5 (dk_at dksX0_isCorner_0 8 rfl rfl)
theorem dX0_isCorner_11 : decode cX0_isCorner 11 = .ok (.iconst 0, 1) := dk_3 (dk_at dksX0_isCorner_0 11 rfl rfl)
theorem dX0_isCorner_12 : decode cX0_isCorner 12 = .ok (.ireturn, 1) := dk_172 (dk_at dksX0_isCorner_0 12 rfl rfl)
theorem dX0_isCorner_13 : decode cX0_isCorner 13 = .ok (.iconst 0, 1) := dk_3 (dk_at dksX0_isCorner_0 13 rfl rfl)
theorem dX0_isCorner_14 : decode cX0_isCorner 14 = .ok (.istore_n 2, 1) := dk_61 (dk_at dksX0_isCorner_0 14 rfl rfl)
theorem dX0_isCorner_15 : decode cX0_isCorner 15 = .ok (.iload_n 2, 1) := dk_28 (dk_at dksX0_isCorner_0 15 rfl rfl)
theorem dX0_isCorner_16 : decode cX0_isCorner 16 = .ok (.aload_n 0, 1) := dk_42 (dk_at dksX0_isCorner_0 16 rfl rfl)
theorem dX0_isCorner_17 : decode cX0_isCorner 17 = .ok (.getfield 20, 3) := dk_180 0 20 (dk_at dksX0_isCorner_0 17 rfl rfl)
theorem dX0_isCorner_20 : decode cX0_isCorner 20 = .ok (.getfield 162, 3) := dk_180 0 162 (dk_at dksX0_isCorner_0 20 rfl rfl)
theorem dX0_isCorner_23 : decode cX0_isCorner 23 = .ok (.if_icmp .ge 38, 3) := dk_162 0 38 (dk_at dksX0_isCorner_1 0 rfl rfl)
theorem dX0_isCorner_26 : decode cX0_isCorner 26 = .ok (.aload_n 1, 1) := dk_43 (dk_at dksX0_isCorner_1 3 rfl rfl)
theorem dX0_isCorner_27 : decode cX0_isCorner 27 = .ok (.iload_n 2, 1) := dk_28 (dk_at dksX0_isCorner_1 4 rfl rfl)
theorem dX0_isCorner_28 : decode cX0_isCorner 28 = .ok (.dup2, 1) := dk_92 (dk_at dksX0_isCorner_1 5 rfl rfl)
theorem dX0_isCorner_29 : decode cX0_isCorner 29 = .ok (.iaload, 1) := dk_46 (dk_at dksX0_isCorner_1 6 rfl rfl)
theorem dX0_isCorner_30 : decode cX0_isCorner 30 = .ok (.iconst 1, 1) := dk_4 (dk_at dksX0_isCorner_1 7 rfl rfl)
theorem dX0_isCorner_31 : decode cX0_isCorner 31 = .ok (.iadd, 1) := dk_96 (dk_at dksX0_isCorner_1 8 rfl rfl)
theorem dX0_isCorner_32 : decode cX0_isCorner 32 = .ok (.iastore, 1) := dk_79 (dk_at dksX0_isCorner_1 9 rfl rfl)
theorem dX0_isCorner_33 : decode cX0_isCorner 33 = .ok (.aload_n 0, 1) := dk_42 (dk_at dksX0_isCorner_1 10 rfl rfl)
theorem dX0_isCorner_34 : decode cX0_isCorner 34 = .ok (.getfield 20, 3) := dk_180 0 20 (dk_at dksX0_isCorner_1 11 rfl rfl)
theorem dX0_isCorner_37 : decode cX0_isCorner 37 = .ok (.aload_n 1, 1) := dk_43 (dk_at dksX0_isCorner_1 14 rfl rfl)
theorem dX0_isCorner_38 : decode cX0_isCorner 38 = .ok (.invokevirtual 212, 3) := dk_182 0 212 (dk_at dksX0_isCorner_1 15 rfl rfl)
theorem dX0_isCorner_41 : decode cX0_isCorner 41 = .ok (.istore_n 3, 1) := dk_62 (dk_at dksX0_isCorner_1 18 rfl rfl)
theorem dX0_isCorner_42 : decode cX0_isCorner 42 = .ok (.aload_n 1, 1) := dk_43 (dk_at dksX0_isCorner_1 19 rfl rfl)
theorem dX0_isCorner_43 : decode cX0_isCorner 43 = .ok (.iload_n 2, 1) := dk_28 (dk_at dksX0_isCorner_1 20 rfl rfl)
theorem dX0_isCorner_44 : decode cX0_isCorner 44 = .ok (.dup2, 1) := dk_92 (dk_at dksX0_isCorner_1 21 rfl rfl)
theorem dX0_isCorner_45 : decode cX0_isCorner 45 = .ok (.iaload, 1) := dk_46 (dk_at dksX0_isCorner_1 22 rfl rfl)
theorem dX0_isCorner_46 : decode cX0_isCorner 46 = .ok (.iconst 1, 1) := dk_4 (dk_at dksX0_isCorner_1 23 rfl rfl)
theorem dX0_isCorner_47 : decode cX0_isCorner 47 = .ok (.isub, 1) := dk_100 (dk_at dksX0_isCorner_2 0 rfl rfl)
theorem dX0_isCorner_48 : decode cX0_isCorner 48 = .ok (.iastore, 1) := dk_79 (dk_at dksX0_isCorner_2 1 rfl rfl)
theorem dX0_isCorner_49 : decode cX0_isCorner 49 = .ok (.iload_n 3, 1) := dk_29 (dk_at dksX0_isCorner_2 2 rfl rfl)
theorem dX0_isCorner_50 : decode cX0_isCorner 50 = .ok (.ifCond .ne 5, 3) := dk_154 0 5 (dk_at dksX0_isCorner_2 3 rfl rfl)
theorem dX0_isCorner_53 : decode cX0_isCorner 53 = .ok (.iconst 0, 1) := dk_3 (dk_at dksX0_isCorner_2 6 rfl rfl)
theorem dX0_isCorner_54 : decode cX0_isCorner 54 = .ok (.ireturn, 1) := dk_172 (dk_at dksX0_isCorner_2 7 rfl rfl)
theorem dX0_isCorner_55 : decode cX0_isCorner 55 = .ok (.iinc 2 1, 3) := dk_132 2 1 (dk_at dksX0_isCorner_2 8 rfl rfl)
theorem dX0_isCorner_58 : decode cX0_isCorner 58 = .ok (.goto (-43), 3) := dk_167 255 213 (dk_at dksX0_isCorner_2 11 rfl rfl)
theorem dX0_isCorner_61 : decode cX0_isCorner 61 = .ok (.iconst 1, 1) := dk_4 (dk_at dksX0_isCorner_2 14 rfl rfl)
theorem dX0_isCorner_62 : decode cX0_isCorner 62 = .ok (.ireturn, 1) := dk_172 (dk_at dksX0_isCorner_2 15 rfl rfl)
abbrev cX0_part : ByteArray := prog_1_method_53_code
def yX0_part : MethodName := ⟨RX0, "part", "(II)I"⟩
def dkwX0_part_3 : List UInt8 := [172]
abbrev dktX0_part_3 : List UInt8 := dkwX0_part_3 ++ []
def dkwX0_part_2 : List UInt8 := [167, 0, 24, 42, 180, 0, 35, 28, 46, 16, 8, 164, 0, 7, 3, 167, 0, 9, 42, 180, 0, 35, 28, 46]
abbrev dktX0_part_2 : List UInt8 := dkwX0_part_2 ++ dktX0_part_3
def dkwX0_part_1 : List UInt8 := [153, 0, 22, 28, 133, 9, 42, 180, 0, 20, 180, 0, 162, 4, 100, 133, 184, 0, 110, 154, 0, 7, 2]
abbrev dktX0_part_1 : List UInt8 := dkwX0_part_1 ++ dktX0_part_2
def dkwX0_part_0 : List UInt8 := [42, 3, 181, 1, 34, 42, 3, 27, 182, 1, 37, 62, 27, 2, 160, 0, 8, 42, 180, 1, 34, 172, 29]
abbrev dktX0_part_0 : List UInt8 := dkwX0_part_0 ++ dktX0_part_1
theorem dksX0_part_0 : cX0_part.data.toList.drop 0 = dktX0_part_0 := by decide +kernel
theorem dksX0_part_1 : cX0_part.data.toList.drop 23 = dktX0_part_1 := dk_seg dksX0_part_0 23 rfl rfl
theorem dksX0_part_2 : cX0_part.data.toList.drop 46 = dktX0_part_2 := dk_seg dksX0_part_1 23 rfl rfl
theorem dksX0_part_3 : cX0_part.data.toList.drop 70 = dktX0_part_3 := dk_seg dksX0_part_2 24 rfl rfl
theorem dX0_part_0 : decode cX0_part 0 = .ok (.aload_n 0, 1) := dk_42 (dk_at dksX0_part_0 0 rfl rfl)
theorem dX0_part_1 : decode cX0_part 1 = .ok (.iconst 0, 1) := dk_3 (dk_at dksX0_part_0 1 rfl rfl)
theorem dX0_part_2 : decode cX0_part 2 = .ok (.putfield 290, 3) := dk_181 1 34 (dk_at dksX0_part_0 2 rfl rfl)
theorem dX0_part_5 : decode cX0_part 5 = .ok (.aload_n 0, 1) := dk_42 (dk_at dksX0_part_0 5 rfl rfl)
theorem dX0_part_6 : decode cX0_part 6 = .ok (.iconst 0, 1) := dk_3 (dk_at dksX0_part_0 6 rfl rfl)
theorem dX0_part_7 : decode cX0_part 7 = .ok (.iload_n 1, 1) := dk_27 (dk_at dksX0_part_0 7 rfl rfl)
theorem dX0_part_8 : decode cX0_part 8 = .ok (.invokevirtual 293, 3) := dk_182 1 37 (dk_at dksX0_part_0 8 rfl rfl)
theorem dX0_part_11 : decode cX0_part 11 = .ok (.istore_n 3, 1) := dk_62 (dk_at dksX0_part_0 11 rfl rfl)
theorem dX0_part_12 : decode cX0_part 12 = .ok (.iload_n 1, 1) := dk_27 (dk_at dksX0_part_0 12 rfl rfl)
theorem dX0_part_13 : decode cX0_part 13 = .ok (.iconst (-1), 1) := dk_2 (dk_at dksX0_part_0 13 rfl rfl)
theorem dX0_part_14 : decode cX0_part 14 = .ok (.if_icmp .ne 8, 3) := dk_160 0 8 (dk_at dksX0_part_0 14 rfl rfl)
theorem dX0_part_17 : decode cX0_part 17 = .ok (.aload_n 0, 1) := dk_42 (dk_at dksX0_part_0 17 rfl rfl)
theorem dX0_part_18 : decode cX0_part 18 = .ok (.getfield 290, 3) := dk_180 1 34 (dk_at dksX0_part_0 18 rfl rfl)
theorem dX0_part_21 : decode cX0_part 21 = .ok (.ireturn, 1) := dk_172 (dk_at dksX0_part_0 21 rfl rfl)
theorem dX0_part_22 : decode cX0_part 22 = .ok (.iload_n 3, 1) := dk_29 (dk_at dksX0_part_0 22 rfl rfl)
theorem dX0_part_23 : decode cX0_part 23 = .ok (.ifCond .eq 22, 3) := dk_153 0 22 (dk_at dksX0_part_1 0 rfl rfl)
theorem dX0_part_26 : decode cX0_part 26 = .ok (.iload_n 2, 1) := dk_28 (dk_at dksX0_part_1 3 rfl rfl)
theorem dX0_part_27 : decode cX0_part 27 = .ok (.i2l, 1) := dk_133 (dk_at dksX0_part_1 4 rfl rfl)
theorem dX0_part_28 : decode cX0_part 28 = .ok (.lconst 0, 1) := dk_9 (dk_at dksX0_part_1 5 rfl rfl)
theorem dX0_part_29 : decode cX0_part 29 = .ok (.aload_n 0, 1) := dk_42 (dk_at dksX0_part_1 6 rfl rfl)
theorem dX0_part_30 : decode cX0_part 30 = .ok (.getfield 20, 3) := dk_180 0 20 (dk_at dksX0_part_1 7 rfl rfl)
theorem dX0_part_33 : decode cX0_part 33 = .ok (.getfield 162, 3) := dk_180 0 162 (dk_at dksX0_part_1 10 rfl rfl)
theorem dX0_part_36 : decode cX0_part 36 = .ok (.iconst 1, 1) := dk_4 (dk_at dksX0_part_1 13 rfl rfl)
theorem dX0_part_37 : decode cX0_part 37 = .ok (.isub, 1) := dk_100 (dk_at dksX0_part_1 14 rfl rfl)
theorem dX0_part_38 : decode cX0_part 38 = .ok (.i2l, 1) := dk_133 (dk_at dksX0_part_1 15 rfl rfl)
theorem dX0_part_39 : decode cX0_part 39 = .ok (.invokestatic 110, 3) := dk_184 0 110 (dk_at dksX0_part_1 16 rfl rfl)
theorem dX0_part_42 : decode cX0_part 42 = .ok (.ifCond .ne 7, 3) := dk_154 0 7 (dk_at dksX0_part_1 19 rfl rfl)
theorem dX0_part_45 : decode cX0_part 45 = .ok (.iconst (-1), 1) := dk_2 (dk_at dksX0_part_1 22 rfl rfl)
theorem dX0_part_46 : decode cX0_part 46 = .ok (.goto 24, 3) := dk_167 0 24 (dk_at dksX0_part_2 0 rfl rfl)
theorem dX0_part_49 : decode cX0_part 49 = .ok (.aload_n 0, 1) := dk_42 (dk_at dksX0_part_2 3 rfl rfl)
theorem dX0_part_50 : decode cX0_part 50 = .ok (.getfield 35, 3) := dk_180 0 35 (dk_at dksX0_part_2 4 rfl rfl)
theorem dX0_part_53 : decode cX0_part 53 = .ok (.iload_n 2, 1) := dk_28 (dk_at dksX0_part_2 7 rfl rfl)
theorem dX0_part_54 : decode cX0_part 54 = .ok (.iaload, 1) := dk_46 (dk_at dksX0_part_2 8 rfl rfl)
theorem dX0_part_55 : decode cX0_part 55 = .ok (.bipush 8, 2) := dk_16 8 (dk_at dksX0_part_2 9 rfl rfl)
theorem dX0_part_57 : decode cX0_part 57 = .ok (.if_icmp .le 7, 3) := dk_164 0 7 (dk_at dksX0_part_2 11 rfl rfl)
theorem dX0_part_60 : decode cX0_part 60 = .ok (.iconst 0, 1) := dk_3 (dk_at dksX0_part_2 14 rfl rfl)
theorem dX0_part_61 : decode cX0_part 61 = .ok (.goto 9, 3) := dk_167 0 9 (dk_at dksX0_part_2 15 rfl rfl)
theorem dX0_part_64 : decode cX0_part 64 = .ok (.aload_n 0, 1) := dk_42 (dk_at dksX0_part_2 18 rfl rfl)
theorem dX0_part_65 : decode cX0_part 65 = .ok (.getfield 35, 3) := dk_180 0 35 (dk_at dksX0_part_2 19 rfl rfl)
theorem dX0_part_68 : decode cX0_part 68 = .ok (.iload_n 2, 1) := dk_28 (dk_at dksX0_part_2 22 rfl rfl)
theorem dX0_part_69 : decode cX0_part 69 = .ok (.iaload, 1) := dk_46 (dk_at dksX0_part_2 23 rfl rfl)
theorem dX0_part_70 : decode cX0_part 70 = .ok (.ireturn, 1) := dk_172 (dk_at dksX0_part_3 0 rfl rfl)
abbrev cX0_goesTo : ByteArray := prog_1_method_52_code
def yX0_goesTo : MethodName := ⟨RX0, "goesTo", "(II)Z"⟩
def dkwX0_goesTo_3 : List UInt8 := [28, 182, 1, 37, 153, 0, 5, 4, 172, 42, 180, 0, 35, 27, 92, 46, 4, 96, 79, 167, 255, 222, 3, 172]
abbrev dktX0_goesTo_3 : List UInt8 := dkwX0_goesTo_3 ++ []
def dkwX0_goesTo_2 : List UInt8 := [3, 172, 42, 180, 0, 35, 27, 4, 79, 42, 180, 0, 35, 27, 46, 16, 9, 163, 0, 29, 42, 27, 4, 96]
abbrev dktX0_goesTo_2 : List UInt8 := dkwX0_goesTo_2 ++ dktX0_goesTo_3
def dkwX0_goesTo_1 : List UInt8 := [42, 89, 180, 1, 34, 4, 96, 181, 1, 34, 42, 180, 1, 34, 28, 4, 96, 160, 0, 7, 4, 167, 0, 4]
abbrev dktX0_goesTo_1 : List UInt8 := dkwX0_goesTo_1 ++ dktX0_goesTo_2
def dkwX0_goesTo_0 : List UInt8 := [27, 42, 180, 0, 20, 180, 0, 162, 160, 0, 42, 42, 42, 180, 0, 35, 182, 1, 31, 154, 0, 5, 3, 172]
abbrev dktX0_goesTo_0 : List UInt8 := dkwX0_goesTo_0 ++ dktX0_goesTo_1
theorem dksX0_goesTo_0 : cX0_goesTo.data.toList.drop 0 = dktX0_goesTo_0 := by decide +kernel
theorem dksX0_goesTo_1 : cX0_goesTo.data.toList.drop 24 = dktX0_goesTo_1 := dk_seg dksX0_goesTo_0 24 rfl rfl
theorem dksX0_goesTo_2 : cX0_goesTo.data.toList.drop 48 = dktX0_goesTo_2 := dk_seg dksX0_goesTo_1 24 rfl rfl
theorem dksX0_goesTo_3 : cX0_goesTo.data.toList.drop 72 = dktX0_goesTo_3 := dk_seg dksX0_goesTo_2 24 rfl rfl
theorem dX0_goesTo_0 : decode cX0_goesTo 0 = .ok (.iload_n 1, 1) := dk_27 (dk_at dksX0_goesTo_0 0 rfl rfl)
theorem dX0_goesTo_1 : decode cX0_goesTo 1 = .ok (.aload_n 0, 1) := dk_42 (dk_at dksX0_goesTo_0 1 rfl rfl)
theorem dX0_goesTo_2 : decode cX0_goesTo 2 = .ok (.getfield 20, 3) := dk_180 0 20 (dk_at dksX0_goesTo_0 2 rfl rfl)
theorem dX0_goesTo_5 : decode cX0_goesTo 5 = .ok (.getfield 162, 3) := dk_180 0 162 (dk_at dksX0_goesTo_0 5 rfl rfl)
theorem dX0_goesTo_8 : decode cX0_goesTo 8 = .ok (.if_icmp .ne 42, 3) := dk_160 0 42 (dk_at dksX0_goesTo_0 8 rfl rfl)
theorem dX0_goesTo_11 : decode cX0_goesTo 11 = .ok (.aload_n 0, 1) := dk_42 (dk_at dksX0_goesTo_0 11 rfl rfl)
theorem dX0_goesTo_12 : decode cX0_goesTo 12 = .ok (.aload_n 0, 1) := dk_42 (dk_at dksX0_goesTo_0 12 rfl rfl)
theorem dX0_goesTo_13 : decode cX0_goesTo 13 = .ok (.getfield 35, 3) := dk_180 0 35 (dk_at dksX0_goesTo_0 13 rfl rfl)
theorem dX0_goesTo_16 : decode cX0_goesTo 16 = .ok (.invokevirtual 287, 3) := dk_182 1 31 (dk_at dksX0_goesTo_0 16 rfl rfl)
theorem dX0_goesTo_19 : decode cX0_goesTo 19 = .ok (.ifCond .ne 5, 3) := dk_154 0 5 (dk_at dksX0_goesTo_0 19 rfl rfl)
theorem dX0_goesTo_22 : decode cX0_goesTo 22 = .ok (.iconst 0, 1) := dk_3 (dk_at dksX0_goesTo_0 22 rfl rfl)
theorem dX0_goesTo_23 : decode cX0_goesTo 23 = .ok (.ireturn, 1) := dk_172 (dk_at dksX0_goesTo_0 23 rfl rfl)
theorem dX0_goesTo_24 : decode cX0_goesTo 24 = .ok (.aload_n 0, 1) := dk_42 (dk_at dksX0_goesTo_1 0 rfl rfl)
theorem dX0_goesTo_25 : decode cX0_goesTo 25 = .ok (.dup, 1) := dk_89 (dk_at dksX0_goesTo_1 1 rfl rfl)
theorem dX0_goesTo_26 : decode cX0_goesTo 26 = .ok (.getfield 290, 3) := dk_180 1 34 (dk_at dksX0_goesTo_1 2 rfl rfl)
theorem dX0_goesTo_29 : decode cX0_goesTo 29 = .ok (.iconst 1, 1) := dk_4 (dk_at dksX0_goesTo_1 5 rfl rfl)
theorem dX0_goesTo_30 : decode cX0_goesTo 30 = .ok (.iadd, 1) := dk_96 (dk_at dksX0_goesTo_1 6 rfl rfl)
theorem dX0_goesTo_31 : decode cX0_goesTo 31 = .ok (.putfield 290, 3) := dk_181 1 34 (dk_at dksX0_goesTo_1 7 rfl rfl)
theorem dX0_goesTo_34 : decode cX0_goesTo 34 = .ok (.aload_n 0, 1) := dk_42 (dk_at dksX0_goesTo_1 10 rfl rfl)
theorem dX0_goesTo_35 : decode cX0_goesTo 35 = .ok (.getfield 290, 3) := dk_180 1 34 (dk_at dksX0_goesTo_1 11 rfl rfl)
theorem dX0_goesTo_38 : decode cX0_goesTo 38 = .ok (.iload_n 2, 1) := dk_28 (dk_at dksX0_goesTo_1 14 rfl rfl)
theorem dX0_goesTo_39 : decode cX0_goesTo 39 = .ok (.iconst 1, 1) := dk_4 (dk_at dksX0_goesTo_1 15 rfl rfl)
theorem dX0_goesTo_40 : decode cX0_goesTo 40 = .ok (.iadd, 1) := dk_96 (dk_at dksX0_goesTo_1 16 rfl rfl)
theorem dX0_goesTo_41 : decode cX0_goesTo 41 = .ok (.if_icmp .ne 7, 3) := dk_160 0 7 (dk_at dksX0_goesTo_1 17 rfl rfl)
theorem dX0_goesTo_44 : decode cX0_goesTo 44 = .ok (.iconst 1, 1) := dk_4 (dk_at dksX0_goesTo_1 20 rfl rfl)
theorem dX0_goesTo_45 : decode cX0_goesTo 45 = .ok (.goto 4, 3) := dk_167 0 4 (dk_at dksX0_goesTo_1 21 rfl rfl)
theorem dX0_goesTo_48 : decode cX0_goesTo 48 = .ok (.iconst 0, 1) := dk_3 (dk_at dksX0_goesTo_2 0 rfl rfl)
theorem dX0_goesTo_49 : decode cX0_goesTo 49 = .ok (.ireturn, 1) := dk_172 (dk_at dksX0_goesTo_2 1 rfl rfl)
theorem dX0_goesTo_50 : decode cX0_goesTo 50 = .ok (.aload_n 0, 1) := dk_42 (dk_at dksX0_goesTo_2 2 rfl rfl)
theorem dX0_goesTo_51 : decode cX0_goesTo 51 = .ok (.getfield 35, 3) := dk_180 0 35 (dk_at dksX0_goesTo_2 3 rfl rfl)
theorem dX0_goesTo_54 : decode cX0_goesTo 54 = .ok (.iload_n 1, 1) := dk_27 (dk_at dksX0_goesTo_2 6 rfl rfl)
theorem dX0_goesTo_55 : decode cX0_goesTo 55 = .ok (.iconst 1, 1) := dk_4 (dk_at dksX0_goesTo_2 7 rfl rfl)
theorem dX0_goesTo_56 : decode cX0_goesTo 56 = .ok (.iastore, 1) := dk_79 (dk_at dksX0_goesTo_2 8 rfl rfl)
theorem dX0_goesTo_57 : decode cX0_goesTo 57 = .ok (.aload_n 0, 1) := dk_42 (dk_at dksX0_goesTo_2 9 rfl rfl)
theorem dX0_goesTo_58 : decode cX0_goesTo 58 = .ok (.getfield 35, 3) := dk_180 0 35 (dk_at dksX0_goesTo_2 10 rfl rfl)
theorem dX0_goesTo_61 : decode cX0_goesTo 61 = .ok (.iload_n 1, 1) := dk_27 (dk_at dksX0_goesTo_2 13 rfl rfl)
theorem dX0_goesTo_62 : decode cX0_goesTo 62 = .ok (.iaload, 1) := dk_46 (dk_at dksX0_goesTo_2 14 rfl rfl)
theorem dX0_goesTo_63 : decode cX0_goesTo 63 = .ok (.bipush 9, 2) := dk_16 9 (dk_at dksX0_goesTo_2 15 rfl rfl)
theorem dX0_goesTo_65 : decode cX0_goesTo 65 = .ok (.if_icmp .gt 29, 3) := dk_163 0 29 (dk_at dksX0_goesTo_2 17 rfl rfl)
theorem dX0_goesTo_68 : decode cX0_goesTo 68 = .ok (.aload_n 0, 1) := dk_42 (dk_at dksX0_goesTo_2 20 rfl rfl)
theorem dX0_goesTo_69 : decode cX0_goesTo 69 = .ok (.iload_n 1, 1) := dk_27 (dk_at dksX0_goesTo_2 21 rfl rfl)
theorem dX0_goesTo_70 : decode cX0_goesTo 70 = .ok (.iconst 1, 1) := dk_4 (dk_at dksX0_goesTo_2 22 rfl rfl)
theorem dX0_goesTo_71 : decode cX0_goesTo 71 = .ok (.iadd, 1) := dk_96 (dk_at dksX0_goesTo_2 23 rfl rfl)
theorem dX0_goesTo_72 : decode cX0_goesTo 72 = .ok (.iload_n 2, 1) := dk_28 (dk_at dksX0_goesTo_3 0 rfl rfl)
theorem dX0_goesTo_73 : decode cX0_goesTo 73 = .ok (.invokevirtual 293, 3) := dk_182 1 37 (dk_at dksX0_goesTo_3 1 rfl rfl)
theorem dX0_goesTo_76 : decode cX0_goesTo 76 = .ok (.ifCond .eq 5, 3) := dk_153 0 5 (dk_at dksX0_goesTo_3 4 rfl rfl)
theorem dX0_goesTo_79 : decode cX0_goesTo 79 = .ok (.iconst 1, 1) := dk_4 (dk_at dksX0_goesTo_3 7 rfl rfl)
theorem dX0_goesTo_80 : decode cX0_goesTo 80 = .ok (.ireturn, 1) := dk_172 (dk_at dksX0_goesTo_3 8 rfl rfl)
theorem dX0_goesTo_81 : decode cX0_goesTo 81 = .ok (.aload_n 0, 1) := dk_42 (dk_at dksX0_goesTo_3 9 rfl rfl)
theorem dX0_goesTo_82 : decode cX0_goesTo 82 = .ok (.getfield 35, 3) := dk_180 0 35 (dk_at dksX0_goesTo_3 10 rfl rfl)
theorem dX0_goesTo_85 : decode cX0_goesTo 85 = .ok (.iload_n 1, 1) := dk_27 (dk_at dksX0_goesTo_3 13 rfl rfl)
theorem dX0_goesTo_86 : decode cX0_goesTo 86 = .ok (.dup2, 1) := dk_92 (dk_at dksX0_goesTo_3 14 rfl rfl)
theorem dX0_goesTo_87 : decode cX0_goesTo 87 = .ok (.iaload, 1) := dk_46 (dk_at dksX0_goesTo_3 15 rfl rfl)
theorem dX0_goesTo_88 : decode cX0_goesTo 88 = .ok (.iconst 1, 1) := dk_4 (dk_at dksX0_goesTo_3 16 rfl rfl)
theorem dX0_goesTo_89 : decode cX0_goesTo 89 = .ok (.iadd, 1) := dk_96 (dk_at dksX0_goesTo_3 17 rfl rfl)
theorem dX0_goesTo_90 : decode cX0_goesTo 90 = .ok (.iastore, 1) := dk_79 (dk_at dksX0_goesTo_3 18 rfl rfl)
theorem dX0_goesTo_91 : decode cX0_goesTo 91 = .ok (.goto (-34), 3) := dk_167 255 222 (dk_at dksX0_goesTo_3 19 rfl rfl)
theorem dX0_goesTo_94 : decode cX0_goesTo 94 = .ok (.iconst 0, 1) := dk_3 (dk_at dksX0_goesTo_3 22 rfl rfl)
theorem dX0_goesTo_95 : decode cX0_goesTo 95 = .ok (.ireturn, 1) := dk_172 (dk_at dksX0_goesTo_3 23 rfl rfl)
abbrev cX0_isPart : ByteArray := prog_1_method_51_code
def yX0_isPart : MethodName := ⟨RX0, "isPart", "([I)Z"⟩
def dkwX0_isPart_2 : List UInt8 := [28, 92, 46, 4, 100, 79, 29, 153, 0, 5, 3, 172, 132, 2, 1, 167, 255, 205, 4, 172]
abbrev dktX0_isPart_2 : List UInt8 := dkwX0_isPart_2 ++ []
def dkwX0_isPart_1 : List UInt8 := [28, 46, 16, 8, 164, 0, 6, 167, 0, 29, 43, 28, 92, 46, 4, 96, 79, 42, 43, 182, 1, 28, 62, 43]
abbrev dktX0_isPart_1 : List UInt8 := dkwX0_isPart_1 ++ dktX0_isPart_2
def dkwX0_isPart_0 : List UInt8 := [42, 43, 182, 1, 28, 154, 0, 5, 3, 172, 3, 61, 28, 42, 180, 0, 20, 180, 0, 162, 162, 0, 46, 43]
abbrev dktX0_isPart_0 : List UInt8 := dkwX0_isPart_0 ++ dktX0_isPart_1
theorem dksX0_isPart_0 : cX0_isPart.data.toList.drop 0 = dktX0_isPart_0 := by decide +kernel
theorem dksX0_isPart_1 : cX0_isPart.data.toList.drop 24 = dktX0_isPart_1 := dk_seg dksX0_isPart_0 24 rfl rfl
theorem dksX0_isPart_2 : cX0_isPart.data.toList.drop 48 = dktX0_isPart_2 := dk_seg dksX0_isPart_1 24 rfl rfl
theorem dX0_isPart_0 : decode cX0_isPart 0 = .ok (.aload_n 0, 1) := dk_42 (dk_at dksX0_isPart_0 0 rfl rfl)
theorem dX0_isPart_1 : decode cX0_isPart 1 = .ok (.aload_n 1, 1) := dk_43 (dk_at dksX0_isPart_0 1 rfl rfl)
theorem dX0_isPart_2 : decode cX0_isPart 2 = .ok (.invokevirtual 284, 3) := dk_182 1 28 (dk_at dksX0_isPart_0 2 rfl rfl)
theorem dX0_isPart_5 : decode cX0_isPart 5 = .ok (.ifCond .ne 5, 3) := dk_154 0 5 (dk_at dksX0_isPart_0 5 rfl rfl)
theorem dX0_isPart_8 : decode cX0_isPart 8 = .ok (.iconst 0, 1) := dk_3 (dk_at dksX0_isPart_0 8 rfl rfl)
theorem dX0_isPart_9 : decode cX0_isPart 9 = .ok (.ireturn, 1) := dk_172 (dk_at dksX0_isPart_0 9 rfl rfl)
theorem dX0_isPart_10 : decode cX0_isPart 10 = .ok (.iconst 0, 1) := dk_3 (dk_at dksX0_isPart_0 10 rfl rfl)
theorem dX0_isPart_11 : decode cX0_isPart 11 = .ok (.istore_n 2, 1) := dk_61 (dk_at dksX0_isPart_0 11 rfl rfl)
theorem dX0_isPart_12 : decode cX0_isPart 12 = .ok (.iload_n 2, 1) := dk_28 (dk_at dksX0_isPart_0 12 rfl rfl)
theorem dX0_isPart_13 : decode cX0_isPart 13 = .ok (.aload_n 0, 1) := dk_42 (dk_at dksX0_isPart_0 13 rfl rfl)
theorem dX0_isPart_14 : decode cX0_isPart 14 = .ok (.getfield 20, 3) := dk_180 0 20 (dk_at dksX0_isPart_0 14 rfl rfl)
theorem dX0_isPart_17 : decode cX0_isPart 17 = .ok (.getfield 162, 3) := dk_180 0 162 (dk_at dksX0_isPart_0 17 rfl rfl)
theorem dX0_isPart_20 : decode cX0_isPart 20 = .ok (.if_icmp .ge 46, 3) := dk_162 0 46 (dk_at dksX0_isPart_0 20 rfl rfl)
theorem dX0_isPart_23 : decode cX0_isPart 23 = .ok (.aload_n 1, 1) := dk_43 (dk_at dksX0_isPart_0 23 rfl rfl)
theorem dX0_isPart_24 : decode cX0_isPart 24 = .ok (.iload_n 2, 1) := dk_28 (dk_at dksX0_isPart_1 0 rfl rfl)
theorem dX0_isPart_25 : decode cX0_isPart 25 = .ok (.iaload, 1) := dk_46 (dk_at dksX0_isPart_1 1 rfl rfl)
theorem dX0_isPart_26 : decode cX0_isPart 26 = .ok (.bipush 8, 2) := dk_16 8 (dk_at dksX0_isPart_1 2 rfl rfl)
theorem dX0_isPart_28 : decode cX0_isPart 28 = .ok (.if_icmp .le 6, 3) := dk_164 0 6 (dk_at dksX0_isPart_1 4 rfl rfl)
theorem dX0_isPart_31 : decode cX0_isPart 31 = .ok (.goto 29, 3) := dk_167 0 29 (dk_at dksX0_isPart_1 7 rfl rfl)
theorem dX0_isPart_34 : decode cX0_isPart 34 = .ok (.aload_n 1, 1) := dk_43 (dk_at dksX0_isPart_1 10 rfl rfl)
theorem dX0_isPart_35 : decode cX0_isPart 35 = .ok (.iload_n 2, 1) := dk_28 (dk_at dksX0_isPart_1 11 rfl rfl)
theorem dX0_isPart_36 : decode cX0_isPart 36 = .ok (.dup2, 1) := dk_92 (dk_at dksX0_isPart_1 12 rfl rfl)
theorem dX0_isPart_37 : decode cX0_isPart 37 = .ok (.iaload, 1) := dk_46 (dk_at dksX0_isPart_1 13 rfl rfl)
theorem dX0_isPart_38 : decode cX0_isPart 38 = .ok (.iconst 1, 1) := dk_4 (dk_at dksX0_isPart_1 14 rfl rfl)
theorem dX0_isPart_39 : decode cX0_isPart 39 = .ok (.iadd, 1) := dk_96 (dk_at dksX0_isPart_1 15 rfl rfl)
theorem dX0_isPart_40 : decode cX0_isPart 40 = .ok (.iastore, 1) := dk_79 (dk_at dksX0_isPart_1 16 rfl rfl)
theorem dX0_isPart_41 : decode cX0_isPart 41 = .ok (.aload_n 0, 1) := dk_42 (dk_at dksX0_isPart_1 17 rfl rfl)
theorem dX0_isPart_42 : decode cX0_isPart 42 = .ok (.aload_n 1, 1) := dk_43 (dk_at dksX0_isPart_1 18 rfl rfl)
theorem dX0_isPart_43 : decode cX0_isPart 43 = .ok (.invokevirtual 284, 3) := dk_182 1 28 (dk_at dksX0_isPart_1 19 rfl rfl)
theorem dX0_isPart_46 : decode cX0_isPart 46 = .ok (.istore_n 3, 1) := dk_62 (dk_at dksX0_isPart_1 22 rfl rfl)
theorem dX0_isPart_47 : decode cX0_isPart 47 = .ok (.aload_n 1, 1) := dk_43 (dk_at dksX0_isPart_1 23 rfl rfl)
theorem dX0_isPart_48 : decode cX0_isPart 48 = .ok (.iload_n 2, 1) := dk_28 (dk_at dksX0_isPart_2 0 rfl rfl)
theorem dX0_isPart_49 : decode cX0_isPart 49 = .ok (.dup2, 1) := dk_92 (dk_at dksX0_isPart_2 1 rfl rfl)
theorem dX0_isPart_50 : decode cX0_isPart 50 = .ok (.iaload, 1) := dk_46 (dk_at dksX0_isPart_2 2 rfl rfl)
theorem dX0_isPart_51 : decode cX0_isPart 51 = .ok (.iconst 1, 1) := dk_4 (dk_at dksX0_isPart_2 3 rfl rfl)
theorem dX0_isPart_52 : decode cX0_isPart 52 = .ok (.isub, 1) := dk_100 (dk_at dksX0_isPart_2 4 rfl rfl)
theorem dX0_isPart_53 : decode cX0_isPart 53 = .ok (.iastore, 1) := dk_79 (dk_at dksX0_isPart_2 5 rfl rfl)
theorem dX0_isPart_54 : decode cX0_isPart 54 = .ok (.iload_n 3, 1) := dk_29 (dk_at dksX0_isPart_2 6 rfl rfl)
theorem dX0_isPart_55 : decode cX0_isPart 55 = .ok (.ifCond .eq 5, 3) := dk_153 0 5 (dk_at dksX0_isPart_2 7 rfl rfl)
theorem dX0_isPart_58 : decode cX0_isPart 58 = .ok (.iconst 0, 1) := dk_3 (dk_at dksX0_isPart_2 10 rfl rfl)
theorem dX0_isPart_59 : decode cX0_isPart 59 = .ok (.ireturn, 1) := dk_172 (dk_at dksX0_isPart_2 11 rfl rfl)
theorem dX0_isPart_60 : decode cX0_isPart 60 = .ok (.iinc 2 1, 3) := dk_132 2 1 (dk_at dksX0_isPart_2 12 rfl rfl)
theorem dX0_isPart_63 : decode cX0_isPart 63 = .ok (.goto (-51), 3) := dk_167 255 205 (dk_at dksX0_isPart_2 15 rfl rfl)
theorem dX0_isPart_66 : decode cX0_isPart 66 = .ok (.iconst 1, 1) := dk_4 (dk_at dksX0_isPart_2 18 rfl rfl)
theorem dX0_isPart_67 : decode cX0_isPart 67 = .ok (.ireturn, 1) := dk_172 (dk_at dksX0_isPart_2 19 rfl rfl)
abbrev cX0_holdsAll : ByteArray := prog_1_method_50_code
def yX0_holdsAll : MethodName := ⟨RX0, "holdsAll", "([I)Z"⟩
def dkwX0_holdsAll_4 : List UInt8 := [132, 2, 1, 167, 255, 165, 4, 172]
abbrev dktX0_holdsAll_4 : List UInt8 := dkwX0_holdsAll_4 ++ []
def dkwX0_holdsAll_3 : List UInt8 := [161, 0, 7, 4, 167, 0, 4, 3, 128, 54, 4, 132, 5, 1, 167, 255, 217, 21, 4, 154, 0, 5, 3, 172]
abbrev dktX0_holdsAll_3 : List UInt8 := dkwX0_holdsAll_3 ++ dktX0_holdsAll_4
def dkwX0_holdsAll_2 : List UInt8 := [180, 0, 20, 180, 0, 162, 162, 0, 33, 21, 4, 45, 180, 0, 196, 21, 5, 46, 43, 21, 5, 46]
abbrev dktX0_holdsAll_2 : List UInt8 := dkwX0_holdsAll_2 ++ dktX0_holdsAll_3
def dkwX0_holdsAll_1 : List UInt8 := [180, 0, 151, 28, 185, 0, 208, 2, 0, 192, 0, 183, 78, 3, 54, 4, 3, 54, 5, 21, 5, 42]
abbrev dktX0_holdsAll_1 : List UInt8 := dkwX0_holdsAll_1 ++ dktX0_holdsAll_2
def dkwX0_holdsAll_0 : List UInt8 := [3, 61, 28, 42, 180, 0, 20, 180, 0, 151, 185, 0, 114, 1, 0, 162, 0, 81, 42, 180, 0, 20]
abbrev dktX0_holdsAll_0 : List UInt8 := dkwX0_holdsAll_0 ++ dktX0_holdsAll_1
theorem dksX0_holdsAll_0 : cX0_holdsAll.data.toList.drop 0 = dktX0_holdsAll_0 := by decide +kernel
theorem dksX0_holdsAll_1 : cX0_holdsAll.data.toList.drop 22 = dktX0_holdsAll_1 := dk_seg dksX0_holdsAll_0 22 rfl rfl
theorem dksX0_holdsAll_2 : cX0_holdsAll.data.toList.drop 44 = dktX0_holdsAll_2 := dk_seg dksX0_holdsAll_1 22 rfl rfl
theorem dksX0_holdsAll_3 : cX0_holdsAll.data.toList.drop 66 = dktX0_holdsAll_3 := dk_seg dksX0_holdsAll_2 22 rfl rfl
theorem dksX0_holdsAll_4 : cX0_holdsAll.data.toList.drop 90 = dktX0_holdsAll_4 := dk_seg dksX0_holdsAll_3 24 rfl rfl
theorem dX0_holdsAll_0 : decode cX0_holdsAll 0 = .ok (.iconst 0, 1) := dk_3 (dk_at dksX0_holdsAll_0 0 rfl rfl)
theorem dX0_holdsAll_1 : decode cX0_holdsAll 1 = .ok (.istore_n 2, 1) := dk_61 (dk_at dksX0_holdsAll_0 1 rfl rfl)
theorem dX0_holdsAll_2 : decode cX0_holdsAll 2 = .ok (.iload_n 2, 1) := dk_28 (dk_at dksX0_holdsAll_0 2 rfl rfl)
theorem dX0_holdsAll_3 : decode cX0_holdsAll 3 = .ok (.aload_n 0, 1) := dk_42 (dk_at dksX0_holdsAll_0 3 rfl rfl)
theorem dX0_holdsAll_4 : decode cX0_holdsAll 4 = .ok (.getfield 20, 3) := dk_180 0 20 (dk_at dksX0_holdsAll_0 4 rfl rfl)
theorem dX0_holdsAll_7 : decode cX0_holdsAll 7 = .ok (.getfield 151, 3) := dk_180 0 151 (dk_at dksX0_holdsAll_0 7 rfl rfl)
theorem dX0_holdsAll_10 : decode cX0_holdsAll 10 = .ok (.invokeinterface 114 1, 5) := by decide +kernel
theorem dX0_holdsAll_15 : decode cX0_holdsAll 15 = .ok (.if_icmp .ge 81, 3) := dk_162 0 81 (dk_at dksX0_holdsAll_0 15 rfl rfl)
theorem dX0_holdsAll_18 : decode cX0_holdsAll 18 = .ok (.aload_n 0, 1) := dk_42 (dk_at dksX0_holdsAll_0 18 rfl rfl)
theorem dX0_holdsAll_19 : decode cX0_holdsAll 19 = .ok (.getfield 20, 3) := dk_180 0 20 (dk_at dksX0_holdsAll_0 19 rfl rfl)
theorem dX0_holdsAll_22 : decode cX0_holdsAll 22 = .ok (.getfield 151, 3) := dk_180 0 151 (dk_at dksX0_holdsAll_1 0 rfl rfl)
theorem dX0_holdsAll_25 : decode cX0_holdsAll 25 = .ok (.iload_n 2, 1) := dk_28 (dk_at dksX0_holdsAll_1 3 rfl rfl)
theorem dX0_holdsAll_26 : decode cX0_holdsAll 26 = .ok (.invokeinterface 208 2, 5) := by decide +kernel
theorem dX0_holdsAll_31 : decode cX0_holdsAll 31 = .ok (.checkcast 183, 3) := dk_192 0 183 (dk_at dksX0_holdsAll_1 9 rfl rfl)
theorem dX0_holdsAll_34 : decode cX0_holdsAll 34 = .ok (.astore_n 3, 1) := dk_78 (dk_at dksX0_holdsAll_1 12 rfl rfl)
theorem dX0_holdsAll_35 : decode cX0_holdsAll 35 = .ok (.iconst 0, 1) := dk_3 (dk_at dksX0_holdsAll_1 13 rfl rfl)
theorem dX0_holdsAll_36 : decode cX0_holdsAll 36 = .ok (.istore 4, 2) := dk_54 4 (dk_at dksX0_holdsAll_1 14 rfl rfl)
theorem dX0_holdsAll_38 : decode cX0_holdsAll 38 = .ok (.iconst 0, 1) := dk_3 (dk_at dksX0_holdsAll_1 16 rfl rfl)
theorem dX0_holdsAll_39 : decode cX0_holdsAll 39 = .ok (.istore 5, 2) := dk_54 5 (dk_at dksX0_holdsAll_1 17 rfl rfl)
theorem dX0_holdsAll_41 : decode cX0_holdsAll 41 = .ok (.iload 5, 2) := dk_21 5 (dk_at dksX0_holdsAll_1 19 rfl rfl)
theorem dX0_holdsAll_43 : decode cX0_holdsAll 43 = .ok (.aload_n 0, 1) := dk_42 (dk_at dksX0_holdsAll_1 21 rfl rfl)
theorem dX0_holdsAll_44 : decode cX0_holdsAll 44 = .ok (.getfield 20, 3) := dk_180 0 20 (dk_at dksX0_holdsAll_2 0 rfl rfl)
theorem dX0_holdsAll_47 : decode cX0_holdsAll 47 = .ok (.getfield 162, 3) := dk_180 0 162 (dk_at dksX0_holdsAll_2 3 rfl rfl)
theorem dX0_holdsAll_50 : decode cX0_holdsAll 50 = .ok (.if_icmp .ge 33, 3) := dk_162 0 33 (dk_at dksX0_holdsAll_2 6 rfl rfl)
theorem dX0_holdsAll_53 : decode cX0_holdsAll 53 = .ok (.iload 4, 2) := dk_21 4 (dk_at dksX0_holdsAll_2 9 rfl rfl)
theorem dX0_holdsAll_55 : decode cX0_holdsAll 55 = .ok (.aload_n 3, 1) := dk_45 (dk_at dksX0_holdsAll_2 11 rfl rfl)
theorem dX0_holdsAll_56 : decode cX0_holdsAll 56 = .ok (.getfield 196, 3) := dk_180 0 196 (dk_at dksX0_holdsAll_2 12 rfl rfl)
theorem dX0_holdsAll_59 : decode cX0_holdsAll 59 = .ok (.iload 5, 2) := dk_21 5 (dk_at dksX0_holdsAll_2 15 rfl rfl)
theorem dX0_holdsAll_61 : decode cX0_holdsAll 61 = .ok (.iaload, 1) := dk_46 (dk_at dksX0_holdsAll_2 17 rfl rfl)
theorem dX0_holdsAll_62 : decode cX0_holdsAll 62 = .ok (.aload_n 1, 1) := dk_43 (dk_at dksX0_holdsAll_2 18 rfl rfl)
theorem dX0_holdsAll_63 : decode cX0_holdsAll 63 = .ok (.iload 5, 2) := dk_21 5 (dk_at dksX0_holdsAll_2 19 rfl rfl)
theorem dX0_holdsAll_65 : decode cX0_holdsAll 65 = .ok (.iaload, 1) := dk_46 (dk_at dksX0_holdsAll_2 21 rfl rfl)
theorem dX0_holdsAll_66 : decode cX0_holdsAll 66 = .ok (.if_icmp .lt 7, 3) := dk_161 0 7 (dk_at dksX0_holdsAll_3 0 rfl rfl)
theorem dX0_holdsAll_69 : decode cX0_holdsAll 69 = .ok (.iconst 1, 1) := dk_4 (dk_at dksX0_holdsAll_3 3 rfl rfl)
theorem dX0_holdsAll_70 : decode cX0_holdsAll 70 = .ok (.goto 4, 3) := dk_167 0 4 (dk_at dksX0_holdsAll_3 4 rfl rfl)
theorem dX0_holdsAll_73 : decode cX0_holdsAll 73 = .ok (.iconst 0, 1) := dk_3 (dk_at dksX0_holdsAll_3 7 rfl rfl)
theorem dX0_holdsAll_74 : decode cX0_holdsAll 74 = .ok (.ior, 1) := dk_128 (dk_at dksX0_holdsAll_3 8 rfl rfl)
theorem dX0_holdsAll_75 : decode cX0_holdsAll 75 = .ok (.istore 4, 2) := dk_54 4 (dk_at dksX0_holdsAll_3 9 rfl rfl)
theorem dX0_holdsAll_77 : decode cX0_holdsAll 77 = .ok (.iinc 5 1, 3) := dk_132 5 1 (dk_at dksX0_holdsAll_3 11 rfl rfl)
theorem dX0_holdsAll_80 : decode cX0_holdsAll 80 = .ok (.goto (-39), 3) := dk_167 255 217 (dk_at dksX0_holdsAll_3 14 rfl rfl)
theorem dX0_holdsAll_83 : decode cX0_holdsAll 83 = .ok (.iload 4, 2) := dk_21 4 (dk_at dksX0_holdsAll_3 17 rfl rfl)
theorem dX0_holdsAll_85 : decode cX0_holdsAll 85 = .ok (.ifCond .ne 5, 3) := dk_154 0 5 (dk_at dksX0_holdsAll_3 19 rfl rfl)
theorem dX0_holdsAll_88 : decode cX0_holdsAll 88 = .ok (.iconst 0, 1) := dk_3 (dk_at dksX0_holdsAll_3 22 rfl rfl)
theorem dX0_holdsAll_89 : decode cX0_holdsAll 89 = .ok (.ireturn, 1) := dk_172 (dk_at dksX0_holdsAll_3 23 rfl rfl)
theorem dX0_holdsAll_90 : decode cX0_holdsAll 90 = .ok (.iinc 2 1, 3) := dk_132 2 1 (dk_at dksX0_holdsAll_4 0 rfl rfl)
theorem dX0_holdsAll_93 : decode cX0_holdsAll 93 = .ok (.goto (-91), 3) := dk_167 255 165 (dk_at dksX0_holdsAll_4 3 rfl rfl)
theorem dX0_holdsAll_96 : decode cX0_holdsAll 96 = .ok (.iconst 1, 1) := dk_4 (dk_at dksX0_holdsAll_4 6 rfl rfl)
theorem dX0_holdsAll_97 : decode cX0_holdsAll 97 = .ok (.ireturn, 1) := dk_172 (dk_at dksX0_holdsAll_4 7 rfl rfl)
abbrev cX0_pure : ByteArray := prog_1_method_54_code
def yX0_pure : MethodName := ⟨RX0, "pure", "(I)I"⟩
def dkwX0_pure_2 : List UInt8 := [44, 27, 92, 46, 4, 96, 79, 167, 255, 226, 2, 172]
abbrev dktX0_pure_2 : List UInt8 := dkwX0_pure_2 ++ []
def dkwX0_pure_1 : List UInt8 := [77, 44, 27, 46, 16, 8, 163, 0, 28, 42, 180, 0, 20, 44, 182, 0, 212, 153, 0, 7, 44, 27, 46, 172]
abbrev dktX0_pure_1 : List UInt8 := dkwX0_pure_1 ++ dktX0_pure_2
def dkwX0_pure_0 : List UInt8 := [27, 133, 9, 42, 180, 0, 20, 180, 0, 162, 4, 100, 133, 184, 0, 110, 154, 0, 5, 2, 172, 7, 188, 10]
abbrev dktX0_pure_0 : List UInt8 := dkwX0_pure_0 ++ dktX0_pure_1
theorem dksX0_pure_0 : cX0_pure.data.toList.drop 0 = dktX0_pure_0 := by decide +kernel
theorem dksX0_pure_1 : cX0_pure.data.toList.drop 24 = dktX0_pure_1 := dk_seg dksX0_pure_0 24 rfl rfl
theorem dksX0_pure_2 : cX0_pure.data.toList.drop 48 = dktX0_pure_2 := dk_seg dksX0_pure_1 24 rfl rfl
theorem dX0_pure_0 : decode cX0_pure 0 = .ok (.iload_n 1, 1) := dk_27 (dk_at dksX0_pure_0 0 rfl rfl)
theorem dX0_pure_1 : decode cX0_pure 1 = .ok (.i2l, 1) := dk_133 (dk_at dksX0_pure_0 1 rfl rfl)
theorem dX0_pure_2 : decode cX0_pure 2 = .ok (.lconst 0, 1) := dk_9 (dk_at dksX0_pure_0 2 rfl rfl)
theorem dX0_pure_3 : decode cX0_pure 3 = .ok (.aload_n 0, 1) := dk_42 (dk_at dksX0_pure_0 3 rfl rfl)
theorem dX0_pure_4 : decode cX0_pure 4 = .ok (.getfield 20, 3) := dk_180 0 20 (dk_at dksX0_pure_0 4 rfl rfl)
theorem dX0_pure_7 : decode cX0_pure 7 = .ok (.getfield 162, 3) := dk_180 0 162 (dk_at dksX0_pure_0 7 rfl rfl)
theorem dX0_pure_10 : decode cX0_pure 10 = .ok (.iconst 1, 1) := dk_4 (dk_at dksX0_pure_0 10 rfl rfl)
theorem dX0_pure_11 : decode cX0_pure 11 = .ok (.isub, 1) := dk_100 (dk_at dksX0_pure_0 11 rfl rfl)
theorem dX0_pure_12 : decode cX0_pure 12 = .ok (.i2l, 1) := dk_133 (dk_at dksX0_pure_0 12 rfl rfl)
theorem dX0_pure_13 : decode cX0_pure 13 = .ok (.invokestatic 110, 3) := dk_184 0 110 (dk_at dksX0_pure_0 13 rfl rfl)
theorem dX0_pure_16 : decode cX0_pure 16 = .ok (.ifCond .ne 5, 3) := dk_154 0 5 (dk_at dksX0_pure_0 16 rfl rfl)
theorem dX0_pure_19 : decode cX0_pure 19 = .ok (.iconst (-1), 1) := dk_2 (dk_at dksX0_pure_0 19 rfl rfl)
theorem dX0_pure_20 : decode cX0_pure 20 = .ok (.ireturn, 1) := dk_172 (dk_at dksX0_pure_0 20 rfl rfl)
theorem dX0_pure_21 : decode cX0_pure 21 = .ok (.iconst 4, 1) := dk_7 (dk_at dksX0_pure_0 21 rfl rfl)
theorem dX0_pure_22 : decode cX0_pure 22 = .ok (.newarray .int, 2) := dk_188_10 (dk_at dksX0_pure_0 22 rfl rfl)
theorem dX0_pure_24 : decode cX0_pure 24 = .ok (.astore_n 2, 1) := dk_77 (dk_at dksX0_pure_1 0 rfl rfl)
theorem dX0_pure_25 : decode cX0_pure 25 = .ok (.aload_n 2, 1) := dk_44 (dk_at dksX0_pure_1 1 rfl rfl)
theorem dX0_pure_26 : decode cX0_pure 26 = .ok (.iload_n 1, 1) := dk_27 (dk_at dksX0_pure_1 2 rfl rfl)
theorem dX0_pure_27 : decode cX0_pure 27 = .ok (.iaload, 1) := dk_46 (dk_at dksX0_pure_1 3 rfl rfl)
theorem dX0_pure_28 : decode cX0_pure 28 = .ok (.bipush 8, 2) := dk_16 8 (dk_at dksX0_pure_1 4 rfl rfl)
theorem dX0_pure_30 : decode cX0_pure 30 = .ok (.if_icmp .gt 28, 3) := dk_163 0 28 (dk_at dksX0_pure_1 6 rfl rfl)
theorem dX0_pure_33 : decode cX0_pure 33 = .ok (.aload_n 0, 1) := dk_42 (dk_at dksX0_pure_1 9 rfl rfl)
theorem dX0_pure_34 : decode cX0_pure 34 = .ok (.getfield 20, 3) := dk_180 0 20 (dk_at dksX0_pure_1 10 rfl rfl)
theorem dX0_pure_37 : decode cX0_pure 37 = .ok (.aload_n 2, 1) := dk_44 (dk_at dksX0_pure_1 13 rfl rfl)
theorem dX0_pure_38 : decode cX0_pure 38 = .ok (.invokevirtual 212, 3) := dk_182 0 212 (dk_at dksX0_pure_1 14 rfl rfl)
theorem dX0_pure_41 : decode cX0_pure 41 = .ok (.ifCond .eq 7, 3) := dk_153 0 7 (dk_at dksX0_pure_1 17 rfl rfl)
theorem dX0_pure_44 : decode cX0_pure 44 = .ok (.aload_n 2, 1) := dk_44 (dk_at dksX0_pure_1 20 rfl rfl)
theorem dX0_pure_45 : decode cX0_pure 45 = .ok (.iload_n 1, 1) := dk_27 (dk_at dksX0_pure_1 21 rfl rfl)
theorem dX0_pure_46 : decode cX0_pure 46 = .ok (.iaload, 1) := dk_46 (dk_at dksX0_pure_1 22 rfl rfl)
theorem dX0_pure_47 : decode cX0_pure 47 = .ok (.ireturn, 1) := dk_172 (dk_at dksX0_pure_1 23 rfl rfl)
theorem dX0_pure_48 : decode cX0_pure 48 = .ok (.aload_n 2, 1) := dk_44 (dk_at dksX0_pure_2 0 rfl rfl)
theorem dX0_pure_49 : decode cX0_pure 49 = .ok (.iload_n 1, 1) := dk_27 (dk_at dksX0_pure_2 1 rfl rfl)
theorem dX0_pure_50 : decode cX0_pure 50 = .ok (.dup2, 1) := dk_92 (dk_at dksX0_pure_2 2 rfl rfl)
theorem dX0_pure_51 : decode cX0_pure 51 = .ok (.iaload, 1) := dk_46 (dk_at dksX0_pure_2 3 rfl rfl)
theorem dX0_pure_52 : decode cX0_pure 52 = .ok (.iconst 1, 1) := dk_4 (dk_at dksX0_pure_2 4 rfl rfl)
theorem dX0_pure_53 : decode cX0_pure 53 = .ok (.iadd, 1) := dk_96 (dk_at dksX0_pure_2 5 rfl rfl)
theorem dX0_pure_54 : decode cX0_pure 54 = .ok (.iastore, 1) := dk_79 (dk_at dksX0_pure_2 6 rfl rfl)
theorem dX0_pure_55 : decode cX0_pure 55 = .ok (.goto (-30), 3) := dk_167 255 226 (dk_at dksX0_pure_2 7 rfl rfl)
theorem dX0_pure_58 : decode cX0_pure 58 = .ok (.iconst (-1), 1) := dk_2 (dk_at dksX0_pure_2 10 rfl rfl)
theorem dX0_pure_59 : decode cX0_pure 59 = .ok (.ireturn, 1) := dk_172 (dk_at dksX0_pure_2 11 rfl rfl)
abbrev cX0_level : ByteArray := prog_1_method_56_code
def yX0_level : MethodName := ⟨RX0, "level", "()I"⟩
def dkwX0_level_0 : List UInt8 := [42, 180, 0, 20, 184, 1, 54, 199, 0, 7, 4, 167, 0, 4, 3, 184, 0, 54, 172]
abbrev dktX0_level_0 : List UInt8 := dkwX0_level_0 ++ []
theorem dksX0_level_0 : cX0_level.data.toList.drop 0 = dktX0_level_0 := by decide +kernel
theorem dX0_level_0 : decode cX0_level 0 = .ok (.aload_n 0, 1) := dk_42 (dk_at dksX0_level_0 0 rfl rfl)
theorem dX0_level_1 : decode cX0_level 1 = .ok (.getfield 20, 3) := dk_180 0 20 (dk_at dksX0_level_0 1 rfl rfl)
theorem dX0_level_4 : decode cX0_level 4 = .ok (.invokestatic 310, 3) := dk_184 1 54 (dk_at dksX0_level_0 4 rfl rfl)
theorem dX0_level_7 : decode cX0_level 7 = .ok (.ifnonnull 7, 3) := dk_199 0 7 (dk_at dksX0_level_0 7 rfl rfl)
theorem dX0_level_10 : decode cX0_level 10 = .ok (.iconst 1, 1) := dk_4 (dk_at dksX0_level_0 10 rfl rfl)
theorem dX0_level_11 : decode cX0_level 11 = .ok (.goto 4, 3) := dk_167 0 4 (dk_at dksX0_level_0 11 rfl rfl)
theorem dX0_level_14 : decode cX0_level 14 = .ok (.iconst 0, 1) := dk_3 (dk_at dksX0_level_0 14 rfl rfl)
theorem dX0_level_15 : decode cX0_level 15 = .ok (.invokestatic 54, 3) := dk_184 0 54 (dk_at dksX0_level_0 15 rfl rfl)
theorem dX0_level_18 : decode cX0_level 18 = .ok (.ireturn, 1) := dk_172 (dk_at dksX0_level_0 18 rfl rfl)
abbrev cX0_lacking : ByteArray := prog_1_method_55_code
def yX0_lacking : MethodName := ⟨RX0, "lacking", "(LQuotientRows$State;)LQuotientRows$Mono;"⟩
def dkwX0_lacking_5 : List UInt8 := [167, 255, 174, 167, 255, 149, 1, 176]
abbrev dktX0_lacking_5 : List UInt8 := dkwX0_lacking_5 ++ []
def dkwX0_lacking_4 : List UInt8 := [182, 0, 212, 154, 0, 12, 187, 0, 183, 89, 43, 183, 0, 203, 176, 132, 5, 1, 167, 255, 192, 132, 4, 1]
abbrev dktX0_lacking_4 : List UInt8 := dkwX0_lacking_4 ++ dktX0_lacking_5
def dkwX0_lacking_3 : List UInt8 := [7, 184, 1, 11, 43, 21, 4, 92, 46, 4, 100, 79, 43, 21, 5, 92, 46, 4, 96, 79, 42, 43]
abbrev dktX0_lacking_3 : List UInt8 := dkwX0_lacking_3 ++ dktX0_lacking_4
def dkwX0_lacking_2 : List UInt8 := [21, 5, 21, 4, 162, 0, 63, 45, 180, 0, 196, 21, 4, 46, 158, 0, 53, 45, 180, 0, 196, 3, 43, 3]
abbrev dktX0_lacking_2 : List UInt8 := dkwX0_lacking_2 ++ dktX0_lacking_3
def dkwX0_lacking_1 : List UInt8 := [185, 1, 50, 1, 0, 192, 0, 183, 78, 4, 54, 4, 21, 4, 42, 180, 0, 162, 162, 0, 79, 3, 54, 5]
abbrev dktX0_lacking_1 : List UInt8 := dkwX0_lacking_1 ++ dktX0_lacking_2
def dkwX0_lacking_0 : List UInt8 := [7, 188, 10, 76, 42, 180, 0, 151, 185, 1, 40, 1, 0, 77, 44, 185, 1, 44, 1, 0, 153, 0, 104, 44]
abbrev dktX0_lacking_0 : List UInt8 := dkwX0_lacking_0 ++ dktX0_lacking_1
theorem dksX0_lacking_0 : cX0_lacking.data.toList.drop 0 = dktX0_lacking_0 := by decide +kernel
theorem dksX0_lacking_1 : cX0_lacking.data.toList.drop 24 = dktX0_lacking_1 := dk_seg dksX0_lacking_0 24 rfl rfl
theorem dksX0_lacking_2 : cX0_lacking.data.toList.drop 48 = dktX0_lacking_2 := dk_seg dksX0_lacking_1 24 rfl rfl
theorem dksX0_lacking_3 : cX0_lacking.data.toList.drop 72 = dktX0_lacking_3 := dk_seg dksX0_lacking_2 24 rfl rfl
theorem dksX0_lacking_4 : cX0_lacking.data.toList.drop 94 = dktX0_lacking_4 := dk_seg dksX0_lacking_3 22 rfl rfl
theorem dksX0_lacking_5 : cX0_lacking.data.toList.drop 118 = dktX0_lacking_5 := dk_seg dksX0_lacking_4 24 rfl rfl
theorem dX0_lacking_0 : decode cX0_lacking 0 = .ok (.iconst 4, 1) := dk_7 (dk_at dksX0_lacking_0 0 rfl rfl)
theorem dX0_lacking_1 : decode cX0_lacking 1 = .ok (.newarray .int, 2) := dk_188_10 (dk_at dksX0_lacking_0 1 rfl rfl)
theorem dX0_lacking_3 : decode cX0_lacking 3 = .ok (.astore_n 1, 1) := dk_76 (dk_at dksX0_lacking_0 3 rfl rfl)
theorem dX0_lacking_4 : decode cX0_lacking 4 = .ok (.aload_n 0, 1) := dk_42 (dk_at dksX0_lacking_0 4 rfl rfl)
theorem dX0_lacking_5 : decode cX0_lacking 5 = .ok (.getfield 151, 3) := dk_180 0 151 (dk_at dksX0_lacking_0 5 rfl rfl)
theorem dX0_lacking_8 : decode cX0_lacking 8 = .ok (.invokeinterface 296 1, 5) := by decide +kernel
theorem dX0_lacking_13 : decode cX0_lacking 13 = .ok (.astore_n 2, 1) := dk_77 (dk_at dksX0_lacking_0 13 rfl rfl)
theorem dX0_lacking_14 : decode cX0_lacking 14 = .ok (.aload_n 2, 1) := dk_44 (dk_at dksX0_lacking_0 14 rfl rfl)
theorem dX0_lacking_15 : decode cX0_lacking 15 = .ok (.invokeinterface 300 1, 5) := by decide +kernel
theorem dX0_lacking_20 : decode cX0_lacking 20 = .ok (.ifCond .eq 104, 3) := dk_153 0 104 (dk_at dksX0_lacking_0 20 rfl rfl)
theorem dX0_lacking_23 : decode cX0_lacking 23 = .ok (.aload_n 2, 1) := dk_44 (dk_at dksX0_lacking_0 23 rfl rfl)
theorem dX0_lacking_24 : decode cX0_lacking 24 = .ok (.invokeinterface 306 1, 5) := by decide +kernel
theorem dX0_lacking_29 : decode cX0_lacking 29 = .ok (.checkcast 183, 3) := dk_192 0 183 (dk_at dksX0_lacking_1 5 rfl rfl)
theorem dX0_lacking_32 : decode cX0_lacking 32 = .ok (.astore_n 3, 1) := dk_78 (dk_at dksX0_lacking_1 8 rfl rfl)
theorem dX0_lacking_33 : decode cX0_lacking 33 = .ok (.iconst 1, 1) := dk_4 (dk_at dksX0_lacking_1 9 rfl rfl)
theorem dX0_lacking_34 : decode cX0_lacking 34 = .ok (.istore 4, 2) := dk_54 4 (dk_at dksX0_lacking_1 10 rfl rfl)
theorem dX0_lacking_36 : decode cX0_lacking 36 = .ok (.iload 4, 2) := dk_21 4 (dk_at dksX0_lacking_1 12 rfl rfl)
theorem dX0_lacking_38 : decode cX0_lacking 38 = .ok (.aload_n 0, 1) := dk_42 (dk_at dksX0_lacking_1 14 rfl rfl)
theorem dX0_lacking_39 : decode cX0_lacking 39 = .ok (.getfield 162, 3) := dk_180 0 162 (dk_at dksX0_lacking_1 15 rfl rfl)
theorem dX0_lacking_42 : decode cX0_lacking 42 = .ok (.if_icmp .ge 79, 3) := dk_162 0 79 (dk_at dksX0_lacking_1 18 rfl rfl)
theorem dX0_lacking_45 : decode cX0_lacking 45 = .ok (.iconst 0, 1) := dk_3 (dk_at dksX0_lacking_1 21 rfl rfl)
theorem dX0_lacking_46 : decode cX0_lacking 46 = .ok (.istore 5, 2) := dk_54 5 (dk_at dksX0_lacking_1 22 rfl rfl)
theorem dX0_lacking_48 : decode cX0_lacking 48 = .ok (.iload 5, 2) := dk_21 5 (dk_at dksX0_lacking_2 0 rfl rfl)
theorem dX0_lacking_50 : decode cX0_lacking 50 = .ok (.iload 4, 2) := dk_21 4 (dk_at dksX0_lacking_2 2 rfl rfl)
theorem dX0_lacking_52 : decode cX0_lacking 52 = .ok (.if_icmp .ge 63, 3) := dk_162 0 63 (dk_at dksX0_lacking_2 4 rfl rfl)
theorem dX0_lacking_55 : decode cX0_lacking 55 = .ok (.aload_n 3, 1) := dk_45 (dk_at dksX0_lacking_2 7 rfl rfl)
theorem dX0_lacking_56 : decode cX0_lacking 56 = .ok (.getfield 196, 3) := dk_180 0 196 (dk_at dksX0_lacking_2 8 rfl rfl)
theorem dX0_lacking_59 : decode cX0_lacking 59 = .ok (.iload 4, 2) := dk_21 4 (dk_at dksX0_lacking_2 11 rfl rfl)
theorem dX0_lacking_61 : decode cX0_lacking 61 = .ok (.iaload, 1) := dk_46 (dk_at dksX0_lacking_2 13 rfl rfl)
theorem dX0_lacking_62 : decode cX0_lacking 62 = .ok (.ifCond .le 53, 3) := dk_158 0 53 (dk_at dksX0_lacking_2 14 rfl rfl)
theorem dX0_lacking_65 : decode cX0_lacking 65 = .ok (.aload_n 3, 1) := dk_45 (dk_at dksX0_lacking_2 17 rfl rfl)
theorem dX0_lacking_66 : decode cX0_lacking 66 = .ok (.getfield 196, 3) := dk_180 0 196 (dk_at dksX0_lacking_2 18 rfl rfl)
theorem dX0_lacking_69 : decode cX0_lacking 69 = .ok (.iconst 0, 1) := dk_3 (dk_at dksX0_lacking_2 21 rfl rfl)
theorem dX0_lacking_70 : decode cX0_lacking 70 = .ok (.aload_n 1, 1) := dk_43 (dk_at dksX0_lacking_2 22 rfl rfl)
theorem dX0_lacking_71 : decode cX0_lacking 71 = .ok (.iconst 0, 1) := dk_3 (dk_at dksX0_lacking_2 23 rfl rfl)
theorem dX0_lacking_72 : decode cX0_lacking 72 = .ok (.iconst 4, 1) := dk_7 (dk_at dksX0_lacking_3 0 rfl rfl)
theorem dX0_lacking_73 : decode cX0_lacking 73 = .ok (.invokestatic 267, 3) := dk_184 1 11 (dk_at dksX0_lacking_3 1 rfl rfl)
theorem dX0_lacking_76 : decode cX0_lacking 76 = .ok (.aload_n 1, 1) := dk_43 (dk_at dksX0_lacking_3 4 rfl rfl)
theorem dX0_lacking_77 : decode cX0_lacking 77 = .ok (.iload 4, 2) := dk_21 4 (dk_at dksX0_lacking_3 5 rfl rfl)
theorem dX0_lacking_79 : decode cX0_lacking 79 = .ok (.dup2, 1) := dk_92 (dk_at dksX0_lacking_3 7 rfl rfl)
theorem dX0_lacking_80 : decode cX0_lacking 80 = .ok (.iaload, 1) := dk_46 (dk_at dksX0_lacking_3 8 rfl rfl)
theorem dX0_lacking_81 : decode cX0_lacking 81 = .ok (.iconst 1, 1) := dk_4 (dk_at dksX0_lacking_3 9 rfl rfl)
theorem dX0_lacking_82 : decode cX0_lacking 82 = .ok (.isub, 1) := dk_100 (dk_at dksX0_lacking_3 10 rfl rfl)
theorem dX0_lacking_83 : decode cX0_lacking 83 = .ok (.iastore, 1) := dk_79 (dk_at dksX0_lacking_3 11 rfl rfl)
theorem dX0_lacking_84 : decode cX0_lacking 84 = .ok (.aload_n 1, 1) := dk_43 (dk_at dksX0_lacking_3 12 rfl rfl)
theorem dX0_lacking_85 : decode cX0_lacking 85 = .ok (.iload 5, 2) := dk_21 5 (dk_at dksX0_lacking_3 13 rfl rfl)
theorem dX0_lacking_87 : decode cX0_lacking 87 = .ok (.dup2, 1) := dk_92 (dk_at dksX0_lacking_3 15 rfl rfl)
theorem dX0_lacking_88 : decode cX0_lacking 88 = .ok (.iaload, 1) := dk_46 (dk_at dksX0_lacking_3 16 rfl rfl)
theorem dX0_lacking_89 : decode cX0_lacking 89 = .ok (.iconst 1, 1) := dk_4 (dk_at dksX0_lacking_3 17 rfl rfl)
theorem dX0_lacking_90 : decode cX0_lacking 90 = .ok (.iadd, 1) := dk_96 (dk_at dksX0_lacking_3 18 rfl rfl)
theorem dX0_lacking_91 : decode cX0_lacking 91 = .ok (.iastore, 1) := dk_79 (dk_at dksX0_lacking_3 19 rfl rfl)
theorem dX0_lacking_92 : decode cX0_lacking 92 = .ok (.aload_n 0, 1) := dk_42 (dk_at dksX0_lacking_3 20 rfl rfl)
theorem dX0_lacking_93 : decode cX0_lacking 93 = .ok (.aload_n 1, 1) := dk_43 (dk_at dksX0_lacking_3 21 rfl rfl)
theorem dX0_lacking_94 : decode cX0_lacking 94 = .ok (.invokevirtual 212, 3) := dk_182 0 212 (dk_at dksX0_lacking_4 0 rfl rfl)
theorem dX0_lacking_97 : decode cX0_lacking 97 = .ok (.ifCond .ne 12, 3) := dk_154 0 12 (dk_at dksX0_lacking_4 3 rfl rfl)
theorem dX0_lacking_100 : decode cX0_lacking 100 = .ok (.new 183, 3) := dk_187 0 183 (dk_at dksX0_lacking_4 6 rfl rfl)
theorem dX0_lacking_103 : decode cX0_lacking 103 = .ok (.dup, 1) := dk_89 (dk_at dksX0_lacking_4 9 rfl rfl)
theorem dX0_lacking_104 : decode cX0_lacking 104 = .ok (.aload_n 1, 1) := dk_43 (dk_at dksX0_lacking_4 10 rfl rfl)
theorem dX0_lacking_105 : decode cX0_lacking 105 = .ok (.invokespecial 203, 3) := dk_183 0 203 (dk_at dksX0_lacking_4 11 rfl rfl)
theorem dX0_lacking_108 : decode cX0_lacking 108 = .ok (.areturn, 1) := dk_176 (dk_at dksX0_lacking_4 14 rfl rfl)
theorem dX0_lacking_109 : decode cX0_lacking 109 = .ok (.iinc 5 1, 3) := dk_132 5 1 (dk_at dksX0_lacking_4 15 rfl rfl)
theorem dX0_lacking_112 : decode cX0_lacking 112 = .ok (.goto (-64), 3) := dk_167 255 192 (dk_at dksX0_lacking_4 18 rfl rfl)
theorem dX0_lacking_115 : decode cX0_lacking 115 = .ok (.iinc 4 1, 3) := dk_132 4 1 (dk_at dksX0_lacking_4 21 rfl rfl)
theorem dX0_lacking_118 : decode cX0_lacking 118 = .ok (.goto (-82), 3) := dk_167 255 174 (dk_at dksX0_lacking_5 0 rfl rfl)
theorem dX0_lacking_121 : decode cX0_lacking 121 = .ok (.goto (-107), 3) := dk_167 255 149 (dk_at dksX0_lacking_5 3 rfl rfl)
theorem dX0_lacking_124 : decode cX0_lacking 124 = .ok (.aconst_null, 1) := dk_1 (dk_at dksX0_lacking_5 6 rfl rfl)
theorem dX0_lacking_125 : decode cX0_lacking 125 = .ok (.areturn, 1) := dk_176 (dk_at dksX0_lacking_5 7 rfl rfl)
abbrev cX0_choose : ByteArray := prog_1_method_57_code
def yX0_choose : MethodName := ⟨RX0, "choose", "(II)J"⟩
def dkwX0_choose_1 : List UInt8 := [20, 0, 238, 173, 27, 133, 28, 133, 184, 1, 58, 173, 78, 20, 0, 91, 173]
abbrev dktX0_choose_1 : List UInt8 := dkwX0_choose_1 ++ []
def dkwX0_choose_0 : List UInt8 := [27, 133, 9, 20, 0, 217, 184, 0, 110, 153, 0, 15, 28, 133, 9, 20, 0, 217, 184, 0, 110, 154, 0, 7]
abbrev dktX0_choose_0 : List UInt8 := dkwX0_choose_0 ++ dktX0_choose_1
theorem dksX0_choose_0 : cX0_choose.data.toList.drop 0 = dktX0_choose_0 := by decide +kernel
theorem dksX0_choose_1 : cX0_choose.data.toList.drop 24 = dktX0_choose_1 := dk_seg dksX0_choose_0 24 rfl rfl
theorem dX0_choose_0 : decode cX0_choose 0 = .ok (.iload_n 1, 1) := dk_27 (dk_at dksX0_choose_0 0 rfl rfl)
theorem dX0_choose_1 : decode cX0_choose 1 = .ok (.i2l, 1) := dk_133 (dk_at dksX0_choose_0 1 rfl rfl)
theorem dX0_choose_2 : decode cX0_choose 2 = .ok (.lconst 0, 1) := dk_9 (dk_at dksX0_choose_0 2 rfl rfl)
theorem dX0_choose_3 : decode cX0_choose 3 = .ok (.ldc2_w 217, 3) := dk_20 0 217 (dk_at dksX0_choose_0 3 rfl rfl)
theorem dX0_choose_6 : decode cX0_choose 6 = .ok (.invokestatic 110, 3) := dk_184 0 110 (dk_at dksX0_choose_0 6 rfl rfl)
theorem dX0_choose_9 : decode cX0_choose 9 = .ok (.ifCond .eq 15, 3) := dk_153 0 15 (dk_at dksX0_choose_0 9 rfl rfl)
theorem dX0_choose_12 : decode cX0_choose 12 = .ok (.iload_n 2, 1) := dk_28 (dk_at dksX0_choose_0 12 rfl rfl)
theorem dX0_choose_13 : decode cX0_choose 13 = .ok (.i2l, 1) := dk_133 (dk_at dksX0_choose_0 13 rfl rfl)
theorem dX0_choose_14 : decode cX0_choose 14 = .ok (.lconst 0, 1) := dk_9 (dk_at dksX0_choose_0 14 rfl rfl)
theorem dX0_choose_15 : decode cX0_choose 15 = .ok (.ldc2_w 217, 3) := dk_20 0 217 (dk_at dksX0_choose_0 15 rfl rfl)
theorem dX0_choose_18 : decode cX0_choose 18 = .ok (.invokestatic 110, 3) := dk_184 0 110 (dk_at dksX0_choose_0 18 rfl rfl)
theorem dX0_choose_21 : decode cX0_choose 21 = .ok (.ifCond .ne 7, 3) := dk_154 0 7 (dk_at dksX0_choose_0 21 rfl rfl)
theorem dX0_choose_24 : decode cX0_choose 24 = .ok (.ldc2_w 238, 3) := dk_20 0 238 (dk_at dksX0_choose_1 0 rfl rfl)
theorem dX0_choose_27 : decode cX0_choose 27 = .ok (.lreturn, 1) := dk_173 (dk_at dksX0_choose_1 3 rfl rfl)
theorem dX0_choose_28 : decode cX0_choose 28 = .ok (.iload_n 1, 1) := dk_27 (dk_at dksX0_choose_1 4 rfl rfl)
theorem dX0_choose_29 : decode cX0_choose 29 = .ok (.i2l, 1) := dk_133 (dk_at dksX0_choose_1 5 rfl rfl)
theorem dX0_choose_30 : decode cX0_choose 30 = .ok (.iload_n 2, 1) := dk_28 (dk_at dksX0_choose_1 6 rfl rfl)
theorem dX0_choose_31 : decode cX0_choose 31 = .ok (.i2l, 1) := dk_133 (dk_at dksX0_choose_1 7 rfl rfl)
theorem dX0_choose_32 : decode cX0_choose 32 = .ok (.invokestatic 314, 3) := dk_184 1 58 (dk_at dksX0_choose_1 8 rfl rfl)
theorem dX0_choose_35 : decode cX0_choose 35 = .ok (.lreturn, 1) := dk_173 (dk_at dksX0_choose_1 11 rfl rfl)
theorem dX0_choose_36 : decode cX0_choose 36 = .ok (.astore_n 3, 1) := dk_78 (dk_at dksX0_choose_1 12 rfl rfl)
theorem dX0_choose_37 : decode cX0_choose 37 = .ok (.ldc2_w 91, 3) := dk_20 0 91 (dk_at dksX0_choose_1 13 rfl rfl)
theorem dX0_choose_40 : decode cX0_choose 40 = .ok (.lreturn, 1) := dk_173 (dk_at dksX0_choose_1 16 rfl rfl)
abbrev cX0_expand : ByteArray := prog_1_method_59_code
def yX0_expand : MethodName := ⟨RX0, "expand", "(JII)J"⟩
def dkwX0_expand_1 : List UInt8 := [21, 4, 182, 1, 67, 167, 0, 6, 20, 0, 238, 173]
abbrev dktX0_expand_1 : List UInt8 := dkwX0_expand_1 ++ []
def dkwX0_expand_0 : List UInt8 := [31, 29, 184, 1, 63, 153, 0, 26, 31, 9, 148, 158, 0, 20, 187, 0, 80, 89, 31, 29, 183, 0, 82]
abbrev dktX0_expand_0 : List UInt8 := dkwX0_expand_0 ++ dktX0_expand_1
theorem dksX0_expand_0 : cX0_expand.data.toList.drop 0 = dktX0_expand_0 := by decide +kernel
theorem dksX0_expand_1 : cX0_expand.data.toList.drop 23 = dktX0_expand_1 := dk_seg dksX0_expand_0 23 rfl rfl
theorem dX0_expand_0 : decode cX0_expand 0 = .ok (.lload_n 1, 1) := dk_31 (dk_at dksX0_expand_0 0 rfl rfl)
theorem dX0_expand_1 : decode cX0_expand 1 = .ok (.iload_n 3, 1) := dk_29 (dk_at dksX0_expand_0 1 rfl rfl)
theorem dX0_expand_2 : decode cX0_expand 2 = .ok (.invokestatic 319, 3) := dk_184 1 63 (dk_at dksX0_expand_0 2 rfl rfl)
theorem dX0_expand_5 : decode cX0_expand 5 = .ok (.ifCond .eq 26, 3) := dk_153 0 26 (dk_at dksX0_expand_0 5 rfl rfl)
theorem dX0_expand_8 : decode cX0_expand 8 = .ok (.lload_n 1, 1) := dk_31 (dk_at dksX0_expand_0 8 rfl rfl)
theorem dX0_expand_9 : decode cX0_expand 9 = .ok (.lconst 0, 1) := dk_9 (dk_at dksX0_expand_0 9 rfl rfl)
theorem dX0_expand_10 : decode cX0_expand 10 = .ok (.lcmp, 1) := dk_148 (dk_at dksX0_expand_0 10 rfl rfl)
theorem dX0_expand_11 : decode cX0_expand 11 = .ok (.ifCond .le 20, 3) := dk_158 0 20 (dk_at dksX0_expand_0 11 rfl rfl)
theorem dX0_expand_14 : decode cX0_expand 14 = .ok (.new 80, 3) := dk_187 0 80 (dk_at dksX0_expand_0 14 rfl rfl)
theorem dX0_expand_17 : decode cX0_expand 17 = .ok (.dup, 1) := dk_89 (dk_at dksX0_expand_0 17 rfl rfl)
theorem dX0_expand_18 : decode cX0_expand 18 = .ok (.lload_n 1, 1) := dk_31 (dk_at dksX0_expand_0 18 rfl rfl)
theorem dX0_expand_19 : decode cX0_expand 19 = .ok (.iload_n 3, 1) := dk_29 (dk_at dksX0_expand_0 19 rfl rfl)
theorem dX0_expand_20 : decode cX0_expand 20 = .ok (.invokespecial 82, 3) := dk_183 0 82 (dk_at dksX0_expand_0 20 rfl rfl)
theorem dX0_expand_23 : decode cX0_expand 23 = .ok (.iload 4, 2) := dk_21 4 (dk_at dksX0_expand_1 0 rfl rfl)
theorem dX0_expand_25 : decode cX0_expand 25 = .ok (.invokevirtual 323, 3) := dk_182 1 67 (dk_at dksX0_expand_1 2 rfl rfl)
theorem dX0_expand_28 : decode cX0_expand 28 = .ok (.goto 6, 3) := dk_167 0 6 (dk_at dksX0_expand_1 5 rfl rfl)
theorem dX0_expand_31 : decode cX0_expand 31 = .ok (.ldc2_w 238, 3) := dk_20 0 238 (dk_at dksX0_expand_1 8 rfl rfl)
theorem dX0_expand_34 : decode cX0_expand 34 = .ok (.lreturn, 1) := dk_173 (dk_at dksX0_expand_1 11 rfl rfl)
abbrev cX0_canExpand : ByteArray := prog_1_method_58_code
def yX0_canExpand : MethodName := ⟨RX0, "canExpand", "(JI)Z"⟩
def dkwX0_canExpand_1 : List UInt8 := [167, 0, 4, 3, 172]
abbrev dktX0_canExpand_1 : List UInt8 := dkwX0_canExpand_1 ++ []
def dkwX0_canExpand_0 : List UInt8 := [30, 9, 20, 1, 61, 184, 0, 110, 153, 0, 19, 28, 133, 10, 20, 0, 175, 184, 0, 110, 153, 0, 7, 4]
abbrev dktX0_canExpand_0 : List UInt8 := dkwX0_canExpand_0 ++ dktX0_canExpand_1
theorem dksX0_canExpand_0 : cX0_canExpand.data.toList.drop 0 = dktX0_canExpand_0 := by decide +kernel
theorem dksX0_canExpand_1 : cX0_canExpand.data.toList.drop 24 = dktX0_canExpand_1 := dk_seg dksX0_canExpand_0 24 rfl rfl
theorem dX0_canExpand_0 : decode cX0_canExpand 0 = .ok (.lload_n 0, 1) := dk_30 (dk_at dksX0_canExpand_0 0 rfl rfl)
theorem dX0_canExpand_1 : decode cX0_canExpand 1 = .ok (.lconst 0, 1) := dk_9 (dk_at dksX0_canExpand_0 1 rfl rfl)
theorem dX0_canExpand_2 : decode cX0_canExpand 2 = .ok (.ldc2_w 317, 3) := dk_20 1 61 (dk_at dksX0_canExpand_0 2 rfl rfl)
theorem dX0_canExpand_5 : decode cX0_canExpand 5 = .ok (.invokestatic 110, 3) := dk_184 0 110 (dk_at dksX0_canExpand_0 5 rfl rfl)
theorem dX0_canExpand_8 : decode cX0_canExpand 8 = .ok (.ifCond .eq 19, 3) := dk_153 0 19 (dk_at dksX0_canExpand_0 8 rfl rfl)
theorem dX0_canExpand_11 : decode cX0_canExpand 11 = .ok (.iload_n 2, 1) := dk_28 (dk_at dksX0_canExpand_0 11 rfl rfl)
theorem dX0_canExpand_12 : decode cX0_canExpand 12 = .ok (.i2l, 1) := dk_133 (dk_at dksX0_canExpand_0 12 rfl rfl)
theorem dX0_canExpand_13 : decode cX0_canExpand 13 = .ok (.lconst 1, 1) := dk_10 (dk_at dksX0_canExpand_0 13 rfl rfl)
theorem dX0_canExpand_14 : decode cX0_canExpand 14 = .ok (.ldc2_w 175, 3) := dk_20 0 175 (dk_at dksX0_canExpand_0 14 rfl rfl)
theorem dX0_canExpand_17 : decode cX0_canExpand 17 = .ok (.invokestatic 110, 3) := dk_184 0 110 (dk_at dksX0_canExpand_0 17 rfl rfl)
theorem dX0_canExpand_20 : decode cX0_canExpand 20 = .ok (.ifCond .eq 7, 3) := dk_153 0 7 (dk_at dksX0_canExpand_0 20 rfl rfl)
theorem dX0_canExpand_23 : decode cX0_canExpand 23 = .ok (.iconst 1, 1) := dk_4 (dk_at dksX0_canExpand_0 23 rfl rfl)
theorem dX0_canExpand_24 : decode cX0_canExpand 24 = .ok (.goto 4, 3) := dk_167 0 4 (dk_at dksX0_canExpand_1 0 rfl rfl)
theorem dX0_canExpand_27 : decode cX0_canExpand 27 = .ok (.iconst 0, 1) := dk_3 (dk_at dksX0_canExpand_1 3 rfl rfl)
theorem dX0_canExpand_28 : decode cX0_canExpand 28 = .ok (.ireturn, 1) := dk_172 (dk_at dksX0_canExpand_1 4 rfl rfl)
abbrev cX0_up : ByteArray := prog_1_method_60_code
def yX0_up : MethodName := ⟨RX0, "up", "(JI)J"⟩
def dkwX0_up_0 : List UInt8 := [31, 29, 184, 1, 63, 153, 0, 11, 31, 29, 184, 0, 234, 167, 0, 6, 20, 0, 238, 173]
abbrev dktX0_up_0 : List UInt8 := dkwX0_up_0 ++ []
theorem dksX0_up_0 : cX0_up.data.toList.drop 0 = dktX0_up_0 := by decide +kernel
theorem dX0_up_0 : decode cX0_up 0 = .ok (.lload_n 1, 1) := dk_31 (dk_at dksX0_up_0 0 rfl rfl)
theorem dX0_up_1 : decode cX0_up 1 = .ok (.iload_n 3, 1) := dk_29 (dk_at dksX0_up_0 1 rfl rfl)
theorem dX0_up_2 : decode cX0_up 2 = .ok (.invokestatic 319, 3) := dk_184 1 63 (dk_at dksX0_up_0 2 rfl rfl)
theorem dX0_up_5 : decode cX0_up 5 = .ok (.ifCond .eq 11, 3) := dk_153 0 11 (dk_at dksX0_up_0 5 rfl rfl)
theorem dX0_up_8 : decode cX0_up 8 = .ok (.lload_n 1, 1) := dk_31 (dk_at dksX0_up_0 8 rfl rfl)
theorem dX0_up_9 : decode cX0_up 9 = .ok (.iload_n 3, 1) := dk_29 (dk_at dksX0_up_0 9 rfl rfl)
theorem dX0_up_10 : decode cX0_up 10 = .ok (.invokestatic 234, 3) := dk_184 0 234 (dk_at dksX0_up_0 10 rfl rfl)
theorem dX0_up_13 : decode cX0_up 13 = .ok (.goto 6, 3) := dk_167 0 6 (dk_at dksX0_up_0 13 rfl rfl)
theorem dX0_up_16 : decode cX0_up 16 = .ok (.ldc2_w 238, 3) := dk_20 0 238 (dk_at dksX0_up_0 16 rfl rfl)
theorem dX0_up_19 : decode cX0_up 19 = .ok (.lreturn, 1) := dk_173 (dk_at dksX0_up_0 19 rfl rfl)
abbrev cX0_down : ByteArray := prog_1_method_61_code
def yX0_down : MethodName := ⟨RX0, "down", "(JI)J"⟩
def dkwX0_down_1 : List UInt8 := [167, 0, 6, 20, 0, 238, 173]
abbrev dktX0_down_1 : List UInt8 := dkwX0_down_1 ++ []
def dkwX0_down_0 : List UInt8 := [31, 29, 184, 1, 63, 153, 0, 20, 187, 0, 80, 89, 31, 29, 183, 0, 82, 2, 3, 182, 0, 85]
abbrev dktX0_down_0 : List UInt8 := dkwX0_down_0 ++ dktX0_down_1
theorem dksX0_down_0 : cX0_down.data.toList.drop 0 = dktX0_down_0 := by decide +kernel
theorem dksX0_down_1 : cX0_down.data.toList.drop 22 = dktX0_down_1 := dk_seg dksX0_down_0 22 rfl rfl
theorem dX0_down_0 : decode cX0_down 0 = .ok (.lload_n 1, 1) := dk_31 (dk_at dksX0_down_0 0 rfl rfl)
theorem dX0_down_1 : decode cX0_down 1 = .ok (.iload_n 3, 1) := dk_29 (dk_at dksX0_down_0 1 rfl rfl)
theorem dX0_down_2 : decode cX0_down 2 = .ok (.invokestatic 319, 3) := dk_184 1 63 (dk_at dksX0_down_0 2 rfl rfl)
theorem dX0_down_5 : decode cX0_down 5 = .ok (.ifCond .eq 20, 3) := dk_153 0 20 (dk_at dksX0_down_0 5 rfl rfl)
theorem dX0_down_8 : decode cX0_down 8 = .ok (.new 80, 3) := dk_187 0 80 (dk_at dksX0_down_0 8 rfl rfl)
theorem dX0_down_11 : decode cX0_down 11 = .ok (.dup, 1) := dk_89 (dk_at dksX0_down_0 11 rfl rfl)
theorem dX0_down_12 : decode cX0_down 12 = .ok (.lload_n 1, 1) := dk_31 (dk_at dksX0_down_0 12 rfl rfl)
theorem dX0_down_13 : decode cX0_down 13 = .ok (.iload_n 3, 1) := dk_29 (dk_at dksX0_down_0 13 rfl rfl)
theorem dX0_down_14 : decode cX0_down 14 = .ok (.invokespecial 82, 3) := dk_183 0 82 (dk_at dksX0_down_0 14 rfl rfl)
theorem dX0_down_17 : decode cX0_down 17 = .ok (.iconst (-1), 1) := dk_2 (dk_at dksX0_down_0 17 rfl rfl)
theorem dX0_down_18 : decode cX0_down 18 = .ok (.iconst 0, 1) := dk_3 (dk_at dksX0_down_0 18 rfl rfl)
theorem dX0_down_19 : decode cX0_down 19 = .ok (.invokevirtual 85, 3) := dk_182 0 85 (dk_at dksX0_down_0 19 rfl rfl)
theorem dX0_down_22 : decode cX0_down 22 = .ok (.goto 6, 3) := dk_167 0 6 (dk_at dksX0_down_1 0 rfl rfl)
theorem dX0_down_25 : decode cX0_down 25 = .ok (.ldc2_w 238, 3) := dk_20 0 238 (dk_at dksX0_down_1 3 rfl rfl)
theorem dX0_down_28 : decode cX0_down 28 = .ok (.lreturn, 1) := dk_173 (dk_at dksX0_down_1 6 rfl rfl)
abbrev cX0_ups : ByteArray := prog_1_method_62_code
def yX0_ups : MethodName := ⟨RX0, "ups", "(JII)J"⟩
def dkwX0_ups_3 : List UInt8 := [29, 21, 7, 96, 184, 0, 234, 55, 5, 132, 7, 1, 167, 255, 213, 22, 5, 173]
abbrev dktX0_ups_3 : List UInt8 := dkwX0_ups_3 ++ []
def dkwX0_ups_2 : List UInt8 := [22, 5, 20, 1, 61, 148, 157, 0, 12, 22, 5, 20, 0, 91, 148, 154, 0, 7, 20, 0, 91, 173, 22, 5]
abbrev dktX0_ups_2 : List UInt8 := dkwX0_ups_2 ++ dktX0_ups_3
def dkwX0_ups_1 : List UInt8 := [96, 16, 41, 164, 0, 7, 20, 0, 238, 173, 31, 55, 5, 3, 54, 7, 21, 7, 21, 4, 162, 0, 42]
abbrev dktX0_ups_1 : List UInt8 := dkwX0_ups_1 ++ dktX0_ups_2
def dkwX0_ups_0 : List UInt8 := [31, 29, 184, 1, 63, 153, 0, 25, 21, 4, 133, 9, 20, 0, 175, 184, 0, 110, 153, 0, 12, 29, 21, 4]
abbrev dktX0_ups_0 : List UInt8 := dkwX0_ups_0 ++ dktX0_ups_1
theorem dksX0_ups_0 : cX0_ups.data.toList.drop 0 = dktX0_ups_0 := by decide +kernel
theorem dksX0_ups_1 : cX0_ups.data.toList.drop 24 = dktX0_ups_1 := dk_seg dksX0_ups_0 24 rfl rfl
theorem dksX0_ups_2 : cX0_ups.data.toList.drop 47 = dktX0_ups_2 := dk_seg dksX0_ups_1 23 rfl rfl
theorem dksX0_ups_3 : cX0_ups.data.toList.drop 71 = dktX0_ups_3 := dk_seg dksX0_ups_2 24 rfl rfl
theorem dX0_ups_0 : decode cX0_ups 0 = .ok (.lload_n 1, 1) := dk_31 (dk_at dksX0_ups_0 0 rfl rfl)
theorem dX0_ups_1 : decode cX0_ups 1 = .ok (.iload_n 3, 1) := dk_29 (dk_at dksX0_ups_0 1 rfl rfl)
theorem dX0_ups_2 : decode cX0_ups 2 = .ok (.invokestatic 319, 3) := dk_184 1 63 (dk_at dksX0_ups_0 2 rfl rfl)
theorem dX0_ups_5 : decode cX0_ups 5 = .ok (.ifCond .eq 25, 3) := dk_153 0 25 (dk_at dksX0_ups_0 5 rfl rfl)
theorem dX0_ups_8 : decode cX0_ups 8 = .ok (.iload 4, 2) := dk_21 4 (dk_at dksX0_ups_0 8 rfl rfl)
theorem dX0_ups_10 : decode cX0_ups 10 = .ok (.i2l, 1) := dk_133 (dk_at dksX0_ups_0 10 rfl rfl)
theorem dX0_ups_11 : decode cX0_ups 11 = .ok (.lconst 0, 1) := dk_9 (dk_at dksX0_ups_0 11 rfl rfl)
theorem dX0_ups_12 : decode cX0_ups 12 = .ok (.ldc2_w 175, 3) := dk_20 0 175 (dk_at dksX0_ups_0 12 rfl rfl)
theorem dX0_ups_15 : decode cX0_ups 15 = .ok (.invokestatic 110, 3) := dk_184 0 110 (dk_at dksX0_ups_0 15 rfl rfl)
theorem dX0_ups_18 : decode cX0_ups 18 = .ok (.ifCond .eq 12, 3) := dk_153 0 12 (dk_at dksX0_ups_0 18 rfl rfl)
theorem dX0_ups_21 : decode cX0_ups 21 = .ok (.iload_n 3, 1) := dk_29 (dk_at dksX0_ups_0 21 rfl rfl)
theorem dX0_ups_22 : decode cX0_ups 22 = .ok (.iload 4, 2) := dk_21 4 (dk_at dksX0_ups_0 22 rfl rfl)
theorem dX0_ups_24 : decode cX0_ups 24 = .ok (.iadd, 1) := dk_96 (dk_at dksX0_ups_1 0 rfl rfl)
theorem dX0_ups_25 : decode cX0_ups 25 = .ok (.bipush 41, 2) := dk_16 41 (dk_at dksX0_ups_1 1 rfl rfl)
theorem dX0_ups_27 : decode cX0_ups 27 = .ok (.if_icmp .le 7, 3) := dk_164 0 7 (dk_at dksX0_ups_1 3 rfl rfl)
theorem dX0_ups_30 : decode cX0_ups 30 = .ok (.ldc2_w 238, 3) := dk_20 0 238 (dk_at dksX0_ups_1 6 rfl rfl)
theorem dX0_ups_33 : decode cX0_ups 33 = .ok (.lreturn, 1) := dk_173 (dk_at dksX0_ups_1 9 rfl rfl)
theorem dX0_ups_34 : decode cX0_ups 34 = .ok (.lload_n 1, 1) := dk_31 (dk_at dksX0_ups_1 10 rfl rfl)
theorem dX0_ups_35 : decode cX0_ups 35 = .ok (.lstore 5, 2) := dk_55 5 (dk_at dksX0_ups_1 11 rfl rfl)
theorem dX0_ups_37 : decode cX0_ups 37 = .ok (.iconst 0, 1) := dk_3 (dk_at dksX0_ups_1 13 rfl rfl)
theorem dX0_ups_38 : decode cX0_ups 38 = .ok (.istore 7, 2) := dk_54 7 (dk_at dksX0_ups_1 14 rfl rfl)
theorem dX0_ups_40 : decode cX0_ups 40 = .ok (.iload 7, 2) := dk_21 7 (dk_at dksX0_ups_1 16 rfl rfl)
theorem dX0_ups_42 : decode cX0_ups 42 = .ok (.iload 4, 2) := dk_21 4 (dk_at dksX0_ups_1 18 rfl rfl)
theorem dX0_ups_44 : decode cX0_ups 44 = .ok (.if_icmp .ge 42, 3) := dk_162 0 42 (dk_at dksX0_ups_1 20 rfl rfl)
theorem dX0_ups_47 : decode cX0_ups 47 = .ok (.lload 5, 2) := dk_22 5 (dk_at dksX0_ups_2 0 rfl rfl)
theorem dX0_ups_49 : decode cX0_ups 49 = .ok (.ldc2_w 317, 3) := dk_20 1 61 (dk_at dksX0_ups_2 2 rfl rfl)
theorem dX0_ups_52 : decode cX0_ups 52 = .ok (.lcmp, 1) := dk_148 (dk_at dksX0_ups_2 5 rfl rfl)
theorem dX0_ups_53 : decode cX0_ups 53 = .ok (.ifCond .gt 12, 3) := dk_157 0 12 (dk_at dksX0_ups_2 6 rfl rfl)
theorem dX0_ups_56 : decode cX0_ups 56 = .ok (.lload 5, 2) := dk_22 5 (dk_at dksX0_ups_2 9 rfl rfl)
theorem dX0_ups_58 : decode cX0_ups 58 = .ok (.ldc2_w 91, 3) := dk_20 0 91 (dk_at dksX0_ups_2 11 rfl rfl)
theorem dX0_ups_61 : decode cX0_ups 61 = .ok (.lcmp, 1) := dk_148 (dk_at dksX0_ups_2 14 rfl rfl)
theorem dX0_ups_62 : decode cX0_ups 62 = .ok (.ifCond .ne 7, 3) := dk_154 0 7 (dk_at dksX0_ups_2 15 rfl rfl)
theorem dX0_ups_65 : decode cX0_ups 65 = .ok (.ldc2_w 91, 3) := dk_20 0 91 (dk_at dksX0_ups_2 18 rfl rfl)
theorem dX0_ups_68 : decode cX0_ups 68 = .ok (.lreturn, 1) := dk_173 (dk_at dksX0_ups_2 21 rfl rfl)
theorem dX0_ups_69 : decode cX0_ups 69 = .ok (.lload 5, 2) := dk_22 5 (dk_at dksX0_ups_2 22 rfl rfl)
theorem dX0_ups_71 : decode cX0_ups 71 = .ok (.iload_n 3, 1) := dk_29 (dk_at dksX0_ups_3 0 rfl rfl)
theorem dX0_ups_72 : decode cX0_ups 72 = .ok (.iload 7, 2) := dk_21 7 (dk_at dksX0_ups_3 1 rfl rfl)
theorem dX0_ups_74 : decode cX0_ups 74 = .ok (.iadd, 1) := dk_96 (dk_at dksX0_ups_3 3 rfl rfl)
theorem dX0_ups_75 : decode cX0_ups 75 = .ok (.invokestatic 234, 3) := dk_184 0 234 (dk_at dksX0_ups_3 4 rfl rfl)
theorem dX0_ups_78 : decode cX0_ups 78 = .ok (.lstore 5, 2) := dk_55 5 (dk_at dksX0_ups_3 7 rfl rfl)
theorem dX0_ups_80 : decode cX0_ups 80 = .ok (.iinc 7 1, 3) := dk_132 7 1 (dk_at dksX0_ups_3 9 rfl rfl)
theorem dX0_ups_83 : decode cX0_ups 83 = .ok (.goto (-43), 3) := dk_167 255 213 (dk_at dksX0_ups_3 12 rfl rfl)
theorem dX0_ups_86 : decode cX0_ups 86 = .ok (.lload 5, 2) := dk_22 5 (dk_at dksX0_ups_3 15 rfl rfl)
theorem dX0_ups_88 : decode cX0_ups 88 = .ok (.lreturn, 1) := dk_173 (dk_at dksX0_ups_3 17 rfl rfl)
abbrev cX0_row : ByteArray := prog_1_method_63_code
def yX0_row : MethodName := ⟨RX0, "row", "(I)I"⟩
def dkwX0_row_1 : List UInt8 := [180, 0, 165, 27, 46, 167, 0, 4, 2, 172]
abbrev dktX0_row_1 : List UInt8 := dkwX0_row_1 ++ []
def dkwX0_row_0 : List UInt8 := [27, 133, 9, 42, 180, 0, 20, 180, 0, 165, 190, 4, 100, 133, 184, 0, 110, 153, 0, 15, 42, 180, 0, 20]
abbrev dktX0_row_0 : List UInt8 := dkwX0_row_0 ++ dktX0_row_1
theorem dksX0_row_0 : cX0_row.data.toList.drop 0 = dktX0_row_0 := by decide +kernel
theorem dksX0_row_1 : cX0_row.data.toList.drop 24 = dktX0_row_1 := dk_seg dksX0_row_0 24 rfl rfl
theorem dX0_row_0 : decode cX0_row 0 = .ok (.iload_n 1, 1) := dk_27 (dk_at dksX0_row_0 0 rfl rfl)
theorem dX0_row_1 : decode cX0_row 1 = .ok (.i2l, 1) := dk_133 (dk_at dksX0_row_0 1 rfl rfl)
theorem dX0_row_2 : decode cX0_row 2 = .ok (.lconst 0, 1) := dk_9 (dk_at dksX0_row_0 2 rfl rfl)
theorem dX0_row_3 : decode cX0_row 3 = .ok (.aload_n 0, 1) := dk_42 (dk_at dksX0_row_0 3 rfl rfl)
theorem dX0_row_4 : decode cX0_row 4 = .ok (.getfield 20, 3) := dk_180 0 20 (dk_at dksX0_row_0 4 rfl rfl)
theorem dX0_row_7 : decode cX0_row 7 = .ok (.getfield 165, 3) := dk_180 0 165 (dk_at dksX0_row_0 7 rfl rfl)
theorem dX0_row_10 : decode cX0_row 10 = .ok (.arraylength, 1) := dk_190 (dk_at dksX0_row_0 10 rfl rfl)
theorem dX0_row_11 : decode cX0_row 11 = .ok (.iconst 1, 1) := dk_4 (dk_at dksX0_row_0 11 rfl rfl)
theorem dX0_row_12 : decode cX0_row 12 = .ok (.isub, 1) := dk_100 (dk_at dksX0_row_0 12 rfl rfl)
theorem dX0_row_13 : decode cX0_row 13 = .ok (.i2l, 1) := dk_133 (dk_at dksX0_row_0 13 rfl rfl)
theorem dX0_row_14 : decode cX0_row 14 = .ok (.invokestatic 110, 3) := dk_184 0 110 (dk_at dksX0_row_0 14 rfl rfl)
theorem dX0_row_17 : decode cX0_row 17 = .ok (.ifCond .eq 15, 3) := dk_153 0 15 (dk_at dksX0_row_0 17 rfl rfl)
theorem dX0_row_20 : decode cX0_row 20 = .ok (.aload_n 0, 1) := dk_42 (dk_at dksX0_row_0 20 rfl rfl)
theorem dX0_row_21 : decode cX0_row 21 = .ok (.getfield 20, 3) := dk_180 0 20 (dk_at dksX0_row_0 21 rfl rfl)
theorem dX0_row_24 : decode cX0_row 24 = .ok (.getfield 165, 3) := dk_180 0 165 (dk_at dksX0_row_1 0 rfl rfl)
theorem dX0_row_27 : decode cX0_row 27 = .ok (.iload_n 1, 1) := dk_27 (dk_at dksX0_row_1 3 rfl rfl)
theorem dX0_row_28 : decode cX0_row 28 = .ok (.iaload, 1) := dk_46 (dk_at dksX0_row_1 4 rfl rfl)
theorem dX0_row_29 : decode cX0_row 29 = .ok (.goto 4, 3) := dk_167 0 4 (dk_at dksX0_row_1 5 rfl rfl)
theorem dX0_row_32 : decode cX0_row 32 = .ok (.iconst (-1), 1) := dk_2 (dk_at dksX0_row_1 8 rfl rfl)
theorem dX0_row_33 : decode cX0_row 33 = .ok (.ireturn, 1) := dk_172 (dk_at dksX0_row_1 9 rfl rfl)
abbrev cX0_breaks : ByteArray := prog_1_method_66_code
def yX0_breaks : MethodName := ⟨RX0, "breaks", "(I)J"⟩
def dkwX0_breaks_2 : List UInt8 := [182, 1, 70, 173]
abbrev dktX0_breaks_2 : List UInt8 := dkwX0_breaks_2 ++ []
def dkwX0_breaks_1 : List UInt8 := [173, 42, 182, 1, 73, 61, 27, 153, 0, 8, 28, 2, 160, 0, 8, 28, 133, 167, 0, 8, 42, 28]
abbrev dktX0_breaks_1 : List UInt8 := dkwX0_breaks_1 ++ dktX0_breaks_2
def dkwX0_breaks_0 : List UInt8 := [42, 180, 0, 20, 180, 0, 165, 190, 153, 0, 13, 27, 133, 9, 10, 184, 0, 110, 154, 0, 7, 20, 0, 238]
abbrev dktX0_breaks_0 : List UInt8 := dkwX0_breaks_0 ++ dktX0_breaks_1
theorem dksX0_breaks_0 : cX0_breaks.data.toList.drop 0 = dktX0_breaks_0 := by decide +kernel
theorem dksX0_breaks_1 : cX0_breaks.data.toList.drop 24 = dktX0_breaks_1 := dk_seg dksX0_breaks_0 24 rfl rfl
theorem dksX0_breaks_2 : cX0_breaks.data.toList.drop 46 = dktX0_breaks_2 := dk_seg dksX0_breaks_1 22 rfl rfl
theorem dX0_breaks_0 : decode cX0_breaks 0 = .ok (.aload_n 0, 1) := dk_42 (dk_at dksX0_breaks_0 0 rfl rfl)
theorem dX0_breaks_1 : decode cX0_breaks 1 = .ok (.getfield 20, 3) := dk_180 0 20 (dk_at dksX0_breaks_0 1 rfl rfl)
theorem dX0_breaks_4 : decode cX0_breaks 4 = .ok (.getfield 165, 3) := dk_180 0 165 (dk_at dksX0_breaks_0 4 rfl rfl)
theorem dX0_breaks_7 : decode cX0_breaks 7 = .ok (.arraylength, 1) := dk_190 (dk_at dksX0_breaks_0 7 rfl rfl)
theorem dX0_breaks_8 : decode cX0_breaks 8 = .ok (.ifCond .eq 13, 3) := dk_153 0 13 (dk_at dksX0_breaks_0 8 rfl rfl)
theorem dX0_breaks_11 : decode cX0_breaks 11 = .ok (.iload_n 1, 1) := dk_27 (dk_at dksX0_breaks_0 11 rfl rfl)
theorem dX0_breaks_12 : decode cX0_breaks 12 = .ok (.i2l, 1) := dk_133 (dk_at dksX0_breaks_0 12 rfl rfl)
theorem dX0_breaks_13 : decode cX0_breaks 13 = .ok (.lconst 0, 1) := dk_9 (dk_at dksX0_breaks_0 13 rfl rfl)
theorem dX0_breaks_14 : decode cX0_breaks 14 = .ok (.lconst 1, 1) := dk_10 (dk_at dksX0_breaks_0 14 rfl rfl)
theorem dX0_breaks_15 : decode cX0_breaks 15 = .ok (.invokestatic 110, 3) := dk_184 0 110 (dk_at dksX0_breaks_0 15 rfl rfl)
theorem dX0_breaks_18 : decode cX0_breaks 18 = .ok (.ifCond .ne 7, 3) := dk_154 0 7 (dk_at dksX0_breaks_0 18 rfl rfl)
theorem dX0_breaks_21 : decode cX0_breaks 21 = .ok (.ldc2_w 238, 3) := dk_20 0 238 (dk_at dksX0_breaks_0 21 rfl rfl)
theorem dX0_breaks_24 : decode cX0_breaks 24 = .ok (.lreturn, 1) := dk_173 (dk_at dksX0_breaks_1 0 rfl rfl)
theorem dX0_breaks_25 : decode cX0_breaks 25 = .ok (.aload_n 0, 1) := dk_42 (dk_at dksX0_breaks_1 1 rfl rfl)
theorem dX0_breaks_26 : decode cX0_breaks 26 = .ok (.invokevirtual 329, 3) := dk_182 1 73 (dk_at dksX0_breaks_1 2 rfl rfl)
theorem dX0_breaks_29 : decode cX0_breaks 29 = .ok (.istore_n 2, 1) := dk_61 (dk_at dksX0_breaks_1 5 rfl rfl)
theorem dX0_breaks_30 : decode cX0_breaks 30 = .ok (.iload_n 1, 1) := dk_27 (dk_at dksX0_breaks_1 6 rfl rfl)
theorem dX0_breaks_31 : decode cX0_breaks 31 = .ok (.ifCond .eq 8, 3) := dk_153 0 8 (dk_at dksX0_breaks_1 7 rfl rfl)
theorem dX0_breaks_34 : decode cX0_breaks 34 = .ok (.iload_n 2, 1) := dk_28 (dk_at dksX0_breaks_1 10 rfl rfl)
theorem dX0_breaks_35 : decode cX0_breaks 35 = .ok (.iconst (-1), 1) := dk_2 (dk_at dksX0_breaks_1 11 rfl rfl)
theorem dX0_breaks_36 : decode cX0_breaks 36 = .ok (.if_icmp .ne 8, 3) := dk_160 0 8 (dk_at dksX0_breaks_1 12 rfl rfl)
theorem dX0_breaks_39 : decode cX0_breaks 39 = .ok (.iload_n 2, 1) := dk_28 (dk_at dksX0_breaks_1 15 rfl rfl)
theorem dX0_breaks_40 : decode cX0_breaks 40 = .ok (.i2l, 1) := dk_133 (dk_at dksX0_breaks_1 16 rfl rfl)
theorem dX0_breaks_41 : decode cX0_breaks 41 = .ok (.goto 8, 3) := dk_167 0 8 (dk_at dksX0_breaks_1 17 rfl rfl)
theorem dX0_breaks_44 : decode cX0_breaks 44 = .ok (.aload_n 0, 1) := dk_42 (dk_at dksX0_breaks_1 20 rfl rfl)
theorem dX0_breaks_45 : decode cX0_breaks 45 = .ok (.iload_n 2, 1) := dk_28 (dk_at dksX0_breaks_1 21 rfl rfl)
theorem dX0_breaks_46 : decode cX0_breaks 46 = .ok (.invokevirtual 326, 3) := dk_182 1 70 (dk_at dksX0_breaks_2 0 rfl rfl)
theorem dX0_breaks_49 : decode cX0_breaks 49 = .ok (.lreturn, 1) := dk_173 (dk_at dksX0_breaks_2 3 rfl rfl)
abbrev cX0_broken : ByteArray := prog_1_method_65_code
def yX0_broken : MethodName := ⟨RX0, "broken", "()I"⟩
def dkwX0_broken_2 : List UInt8 := [159, 0, 5, 27, 172, 132, 1, 1, 167, 255, 203, 2, 172]
abbrev dktX0_broken_2 : List UInt8 := dkwX0_broken_2 ++ []
def dkwX0_broken_1 : List UInt8 := [42, 27, 182, 1, 70, 148, 157, 0, 20, 27, 154, 0, 18, 42, 180, 0, 20, 180, 0, 165, 3, 46, 4]
abbrev dktX0_broken_1 : List UInt8 := dkwX0_broken_1 ++ dktX0_broken_2
def dkwX0_broken_0 : List UInt8 := [3, 60, 27, 42, 180, 0, 20, 180, 0, 165, 190, 162, 0, 47, 42, 180, 0, 20, 180, 0, 165, 27, 46, 133]
abbrev dktX0_broken_0 : List UInt8 := dkwX0_broken_0 ++ dktX0_broken_1
theorem dksX0_broken_0 : cX0_broken.data.toList.drop 0 = dktX0_broken_0 := by decide +kernel
theorem dksX0_broken_1 : cX0_broken.data.toList.drop 24 = dktX0_broken_1 := dk_seg dksX0_broken_0 24 rfl rfl
theorem dksX0_broken_2 : cX0_broken.data.toList.drop 47 = dktX0_broken_2 := dk_seg dksX0_broken_1 23 rfl rfl
theorem dX0_broken_0 : decode cX0_broken 0 = .ok (.iconst 0, 1) := dk_3 (dk_at dksX0_broken_0 0 rfl rfl)
theorem dX0_broken_1 : decode cX0_broken 1 = .ok (.istore_n 1, 1) := dk_60 (dk_at dksX0_broken_0 1 rfl rfl)
theorem dX0_broken_2 : decode cX0_broken 2 = .ok (.iload_n 1, 1) := dk_27 (dk_at dksX0_broken_0 2 rfl rfl)
theorem dX0_broken_3 : decode cX0_broken 3 = .ok (.aload_n 0, 1) := dk_42 (dk_at dksX0_broken_0 3 rfl rfl)
theorem dX0_broken_4 : decode cX0_broken 4 = .ok (.getfield 20, 3) := dk_180 0 20 (dk_at dksX0_broken_0 4 rfl rfl)
theorem dX0_broken_7 : decode cX0_broken 7 = .ok (.getfield 165, 3) := dk_180 0 165 (dk_at dksX0_broken_0 7 rfl rfl)
theorem dX0_broken_10 : decode cX0_broken 10 = .ok (.arraylength, 1) := dk_190 (dk_at dksX0_broken_0 10 rfl rfl)
theorem dX0_broken_11 : decode cX0_broken 11 = .ok (.if_icmp .ge 47, 3) := dk_162 0 47 (dk_at dksX0_broken_0 11 rfl rfl)
theorem dX0_broken_14 : decode cX0_broken 14 = .ok (.aload_n 0, 1) := dk_42 (dk_at dksX0_broken_0 14 rfl rfl)
theorem dX0_broken_15 : decode cX0_broken 15 = .ok (.getfield 20, 3) := dk_180 0 20 (dk_at dksX0_broken_0 15 rfl rfl)
theorem dX0_broken_18 : decode cX0_broken 18 = .ok (.getfield 165, 3) := dk_180 0 165 (dk_at dksX0_broken_0 18 rfl rfl)
theorem dX0_broken_21 : decode cX0_broken 21 = .ok (.iload_n 1, 1) := dk_27 (dk_at dksX0_broken_0 21 rfl rfl)
theorem dX0_broken_22 : decode cX0_broken 22 = .ok (.iaload, 1) := dk_46 (dk_at dksX0_broken_0 22 rfl rfl)
theorem dX0_broken_23 : decode cX0_broken 23 = .ok (.i2l, 1) := dk_133 (dk_at dksX0_broken_0 23 rfl rfl)
theorem dX0_broken_24 : decode cX0_broken 24 = .ok (.aload_n 0, 1) := dk_42 (dk_at dksX0_broken_1 0 rfl rfl)
theorem dX0_broken_25 : decode cX0_broken 25 = .ok (.iload_n 1, 1) := dk_27 (dk_at dksX0_broken_1 1 rfl rfl)
theorem dX0_broken_26 : decode cX0_broken 26 = .ok (.invokevirtual 326, 3) := dk_182 1 70 (dk_at dksX0_broken_1 2 rfl rfl)
theorem dX0_broken_29 : decode cX0_broken 29 = .ok (.lcmp, 1) := dk_148 (dk_at dksX0_broken_1 5 rfl rfl)
theorem dX0_broken_30 : decode cX0_broken 30 = .ok (.ifCond .gt 20, 3) := dk_157 0 20 (dk_at dksX0_broken_1 6 rfl rfl)
theorem dX0_broken_33 : decode cX0_broken 33 = .ok (.iload_n 1, 1) := dk_27 (dk_at dksX0_broken_1 9 rfl rfl)
theorem dX0_broken_34 : decode cX0_broken 34 = .ok (.ifCond .ne 18, 3) := dk_154 0 18 (dk_at dksX0_broken_1 10 rfl rfl)
theorem dX0_broken_37 : decode cX0_broken 37 = .ok (.aload_n 0, 1) := dk_42 (dk_at dksX0_broken_1 13 rfl rfl)
theorem dX0_broken_38 : decode cX0_broken 38 = .ok (.getfield 20, 3) := dk_180 0 20 (dk_at dksX0_broken_1 14 rfl rfl)
theorem dX0_broken_41 : decode cX0_broken 41 = .ok (.getfield 165, 3) := dk_180 0 165 (dk_at dksX0_broken_1 17 rfl rfl)
theorem dX0_broken_44 : decode cX0_broken 44 = .ok (.iconst 0, 1) := dk_3 (dk_at dksX0_broken_1 20 rfl rfl)
theorem dX0_broken_45 : decode cX0_broken 45 = .ok (.iaload, 1) := dk_46 (dk_at dksX0_broken_1 21 rfl rfl)
theorem dX0_broken_46 : decode cX0_broken 46 = .ok (.iconst 1, 1) := dk_4 (dk_at dksX0_broken_1 22 rfl rfl)
theorem dX0_broken_47 : decode cX0_broken 47 = .ok (.if_icmp .eq 5, 3) := dk_159 0 5 (dk_at dksX0_broken_2 0 rfl rfl)
theorem dX0_broken_50 : decode cX0_broken 50 = .ok (.iload_n 1, 1) := dk_27 (dk_at dksX0_broken_2 3 rfl rfl)
theorem dX0_broken_51 : decode cX0_broken 51 = .ok (.ireturn, 1) := dk_172 (dk_at dksX0_broken_2 4 rfl rfl)
theorem dX0_broken_52 : decode cX0_broken 52 = .ok (.iinc 1 1, 3) := dk_132 1 1 (dk_at dksX0_broken_2 5 rfl rfl)
theorem dX0_broken_55 : decode cX0_broken 55 = .ok (.goto (-53), 3) := dk_167 255 203 (dk_at dksX0_broken_2 8 rfl rfl)
theorem dX0_broken_58 : decode cX0_broken 58 = .ok (.iconst (-1), 1) := dk_2 (dk_at dksX0_broken_2 11 rfl rfl)
theorem dX0_broken_59 : decode cX0_broken 59 = .ok (.ireturn, 1) := dk_172 (dk_at dksX0_broken_2 12 rfl rfl)
abbrev cX0_most : ByteArray := prog_1_method_64_code
def yX0_most : MethodName := ⟨RX0, "most", "(I)J"⟩
def dkwX0_most_1 : List UInt8 := [42, 180, 0, 20, 180, 0, 165, 27, 4, 100, 46, 133, 27, 4, 100, 184, 0, 234, 173]
abbrev dktX0_most_1 : List UInt8 := dkwX0_most_1 ++ []
def dkwX0_most_0 : List UInt8 := [27, 154, 0, 7, 10, 167, 0, 37, 27, 4, 160, 0, 14, 42, 180, 0, 20, 180, 0, 162, 133, 167, 0, 21]
abbrev dktX0_most_0 : List UInt8 := dkwX0_most_0 ++ dktX0_most_1
theorem dksX0_most_0 : cX0_most.data.toList.drop 0 = dktX0_most_0 := by decide +kernel
theorem dksX0_most_1 : cX0_most.data.toList.drop 24 = dktX0_most_1 := dk_seg dksX0_most_0 24 rfl rfl
theorem dX0_most_0 : decode cX0_most 0 = .ok (.iload_n 1, 1) := dk_27 (dk_at dksX0_most_0 0 rfl rfl)
theorem dX0_most_1 : decode cX0_most 1 = .ok (.ifCond .ne 7, 3) := dk_154 0 7 (dk_at dksX0_most_0 1 rfl rfl)
theorem dX0_most_4 : decode cX0_most 4 = .ok (.lconst 1, 1) := dk_10 (dk_at dksX0_most_0 4 rfl rfl)
theorem dX0_most_5 : decode cX0_most 5 = .ok (.goto 37, 3) := dk_167 0 37 (dk_at dksX0_most_0 5 rfl rfl)
theorem dX0_most_8 : decode cX0_most 8 = .ok (.iload_n 1, 1) := dk_27 (dk_at dksX0_most_0 8 rfl rfl)
theorem dX0_most_9 : decode cX0_most 9 = .ok (.iconst 1, 1) := dk_4 (dk_at dksX0_most_0 9 rfl rfl)
theorem dX0_most_10 : decode cX0_most 10 = .ok (.if_icmp .ne 14, 3) := dk_160 0 14 (dk_at dksX0_most_0 10 rfl rfl)
theorem dX0_most_13 : decode cX0_most 13 = .ok (.aload_n 0, 1) := dk_42 (dk_at dksX0_most_0 13 rfl rfl)
theorem dX0_most_14 : decode cX0_most 14 = .ok (.getfield 20, 3) := dk_180 0 20 (dk_at dksX0_most_0 14 rfl rfl)
theorem dX0_most_17 : decode cX0_most 17 = .ok (.getfield 162, 3) := dk_180 0 162 (dk_at dksX0_most_0 17 rfl rfl)
theorem dX0_most_20 : decode cX0_most 20 = .ok (.i2l, 1) := dk_133 (dk_at dksX0_most_0 20 rfl rfl)
theorem dX0_most_21 : decode cX0_most 21 = .ok (.goto 21, 3) := dk_167 0 21 (dk_at dksX0_most_0 21 rfl rfl)
theorem dX0_most_24 : decode cX0_most 24 = .ok (.aload_n 0, 1) := dk_42 (dk_at dksX0_most_1 0 rfl rfl)
theorem dX0_most_25 : decode cX0_most 25 = .ok (.getfield 20, 3) := dk_180 0 20 (dk_at dksX0_most_1 1 rfl rfl)
theorem dX0_most_28 : decode cX0_most 28 = .ok (.getfield 165, 3) := dk_180 0 165 (dk_at dksX0_most_1 4 rfl rfl)
theorem dX0_most_31 : decode cX0_most 31 = .ok (.iload_n 1, 1) := dk_27 (dk_at dksX0_most_1 7 rfl rfl)
theorem dX0_most_32 : decode cX0_most 32 = .ok (.iconst 1, 1) := dk_4 (dk_at dksX0_most_1 8 rfl rfl)
theorem dX0_most_33 : decode cX0_most 33 = .ok (.isub, 1) := dk_100 (dk_at dksX0_most_1 9 rfl rfl)
theorem dX0_most_34 : decode cX0_most 34 = .ok (.iaload, 1) := dk_46 (dk_at dksX0_most_1 10 rfl rfl)
theorem dX0_most_35 : decode cX0_most 35 = .ok (.i2l, 1) := dk_133 (dk_at dksX0_most_1 11 rfl rfl)
theorem dX0_most_36 : decode cX0_most 36 = .ok (.iload_n 1, 1) := dk_27 (dk_at dksX0_most_1 12 rfl rfl)
theorem dX0_most_37 : decode cX0_most 37 = .ok (.iconst 1, 1) := dk_4 (dk_at dksX0_most_1 13 rfl rfl)
theorem dX0_most_38 : decode cX0_most 38 = .ok (.isub, 1) := dk_100 (dk_at dksX0_most_1 14 rfl rfl)
theorem dX0_most_39 : decode cX0_most 39 = .ok (.invokestatic 234, 3) := dk_184 0 234 (dk_at dksX0_most_1 15 rfl rfl)
theorem dX0_most_42 : decode cX0_most 42 = .ok (.lreturn, 1) := dk_173 (dk_at dksX0_most_1 18 rfl rfl)
abbrev cX0_segment : ByteArray := prog_1_method_68_code
def yX0_segment : MethodName := ⟨RX0, "segment", "(I)I"⟩
def dkwX0_segment_1 : List UInt8 := [167, 0, 4, 2, 172]
abbrev dktX0_segment_1 : List UInt8 := dkwX0_segment_1 ++ []
def dkwX0_segment_0 : List UInt8 := [42, 27, 182, 1, 76, 153, 0, 21, 42, 27, 182, 0, 180, 42, 180, 0, 20, 180, 0, 165, 27, 46, 100]
abbrev dktX0_segment_0 : List UInt8 := dkwX0_segment_0 ++ dktX0_segment_1
theorem dksX0_segment_0 : cX0_segment.data.toList.drop 0 = dktX0_segment_0 := by decide +kernel
theorem dksX0_segment_1 : cX0_segment.data.toList.drop 23 = dktX0_segment_1 := dk_seg dksX0_segment_0 23 rfl rfl
theorem dX0_segment_0 : decode cX0_segment 0 = .ok (.aload_n 0, 1) := dk_42 (dk_at dksX0_segment_0 0 rfl rfl)
theorem dX0_segment_1 : decode cX0_segment 1 = .ok (.iload_n 1, 1) := dk_27 (dk_at dksX0_segment_0 1 rfl rfl)
theorem dX0_segment_2 : decode cX0_segment 2 = .ok (.invokevirtual 332, 3) := dk_182 1 76 (dk_at dksX0_segment_0 2 rfl rfl)
theorem dX0_segment_5 : decode cX0_segment 5 = .ok (.ifCond .eq 21, 3) := dk_153 0 21 (dk_at dksX0_segment_0 5 rfl rfl)
theorem dX0_segment_8 : decode cX0_segment 8 = .ok (.aload_n 0, 1) := dk_42 (dk_at dksX0_segment_0 8 rfl rfl)
theorem dX0_segment_9 : decode cX0_segment 9 = .ok (.iload_n 1, 1) := dk_27 (dk_at dksX0_segment_0 9 rfl rfl)
theorem dX0_segment_10 : decode cX0_segment 10 = .ok (.invokevirtual 180, 3) := dk_182 0 180 (dk_at dksX0_segment_0 10 rfl rfl)
theorem dX0_segment_13 : decode cX0_segment 13 = .ok (.aload_n 0, 1) := dk_42 (dk_at dksX0_segment_0 13 rfl rfl)
theorem dX0_segment_14 : decode cX0_segment 14 = .ok (.getfield 20, 3) := dk_180 0 20 (dk_at dksX0_segment_0 14 rfl rfl)
theorem dX0_segment_17 : decode cX0_segment 17 = .ok (.getfield 165, 3) := dk_180 0 165 (dk_at dksX0_segment_0 17 rfl rfl)
theorem dX0_segment_20 : decode cX0_segment 20 = .ok (.iload_n 1, 1) := dk_27 (dk_at dksX0_segment_0 20 rfl rfl)
theorem dX0_segment_21 : decode cX0_segment 21 = .ok (.iaload, 1) := dk_46 (dk_at dksX0_segment_0 21 rfl rfl)
theorem dX0_segment_22 : decode cX0_segment 22 = .ok (.isub, 1) := dk_100 (dk_at dksX0_segment_0 22 rfl rfl)
theorem dX0_segment_23 : decode cX0_segment 23 = .ok (.goto 4, 3) := dk_167 0 4 (dk_at dksX0_segment_1 0 rfl rfl)
theorem dX0_segment_26 : decode cX0_segment 26 = .ok (.iconst (-1), 1) := dk_2 (dk_at dksX0_segment_1 3 rfl rfl)
theorem dX0_segment_27 : decode cX0_segment 27 = .ok (.ireturn, 1) := dk_172 (dk_at dksX0_segment_1 4 rfl rfl)
abbrev cX0_isSegment : ByteArray := prog_1_method_67_code
def yX0_isSegment : MethodName := ⟨RX0, "isSegment", "(I)Z"⟩
def dkwX0_isSegment_1 : List UInt8 := [2, 160, 0, 7, 4, 167, 0, 4, 3, 172]
abbrev dktX0_isSegment_1 : List UInt8 := dkwX0_isSegment_1 ++ []
def dkwX0_isSegment_0 : List UInt8 := [27, 133, 9, 42, 180, 0, 20, 180, 0, 165, 190, 4, 100, 133, 184, 0, 110, 153, 0, 15, 42, 182, 1, 73]
abbrev dktX0_isSegment_0 : List UInt8 := dkwX0_isSegment_0 ++ dktX0_isSegment_1
theorem dksX0_isSegment_0 : cX0_isSegment.data.toList.drop 0 = dktX0_isSegment_0 := by decide +kernel
theorem dksX0_isSegment_1 : cX0_isSegment.data.toList.drop 24 = dktX0_isSegment_1 := dk_seg dksX0_isSegment_0 24 rfl rfl
theorem dX0_isSegment_0 : decode cX0_isSegment 0 = .ok (.iload_n 1, 1) := dk_27 (dk_at dksX0_isSegment_0 0 rfl rfl)
theorem dX0_isSegment_1 : decode cX0_isSegment 1 = .ok (.i2l, 1) := dk_133 (dk_at dksX0_isSegment_0 1 rfl rfl)
theorem dX0_isSegment_2 : decode cX0_isSegment 2 = .ok (.lconst 0, 1) := dk_9 (dk_at dksX0_isSegment_0 2 rfl rfl)
theorem dX0_isSegment_3 : decode cX0_isSegment 3 = .ok (.aload_n 0, 1) := dk_42 (dk_at dksX0_isSegment_0 3 rfl rfl)
theorem dX0_isSegment_4 : decode cX0_isSegment 4 = .ok (.getfield 20, 3) := dk_180 0 20 (dk_at dksX0_isSegment_0 4 rfl rfl)
theorem dX0_isSegment_7 : decode cX0_isSegment 7 = .ok (.getfield 165, 3) := dk_180 0 165 (dk_at dksX0_isSegment_0 7 rfl rfl)
theorem dX0_isSegment_10 : decode cX0_isSegment 10 = .ok (.arraylength, 1) := dk_190 (dk_at dksX0_isSegment_0 10 rfl rfl)
theorem dX0_isSegment_11 : decode cX0_isSegment 11 = .ok (.iconst 1, 1) := dk_4 (dk_at dksX0_isSegment_0 11 rfl rfl)
theorem dX0_isSegment_12 : decode cX0_isSegment 12 = .ok (.isub, 1) := dk_100 (dk_at dksX0_isSegment_0 12 rfl rfl)
theorem dX0_isSegment_13 : decode cX0_isSegment 13 = .ok (.i2l, 1) := dk_133 (dk_at dksX0_isSegment_0 13 rfl rfl)
theorem dX0_isSegment_14 : decode cX0_isSegment 14 = .ok (.invokestatic 110, 3) := dk_184 0 110 (dk_at dksX0_isSegment_0 14 rfl rfl)
theorem dX0_isSegment_17 : decode cX0_isSegment 17 = .ok (.ifCond .eq 15, 3) := dk_153 0 15 (dk_at dksX0_isSegment_0 17 rfl rfl)
theorem dX0_isSegment_20 : decode cX0_isSegment 20 = .ok (.aload_n 0, 1) := dk_42 (dk_at dksX0_isSegment_0 20 rfl rfl)
theorem dX0_isSegment_21 : decode cX0_isSegment 21 = .ok (.invokevirtual 329, 3) := dk_182 1 73 (dk_at dksX0_isSegment_0 21 rfl rfl)
theorem dX0_isSegment_24 : decode cX0_isSegment 24 = .ok (.iconst (-1), 1) := dk_2 (dk_at dksX0_isSegment_1 0 rfl rfl)
theorem dX0_isSegment_25 : decode cX0_isSegment 25 = .ok (.if_icmp .ne 7, 3) := dk_160 0 7 (dk_at dksX0_isSegment_1 1 rfl rfl)
theorem dX0_isSegment_28 : decode cX0_isSegment 28 = .ok (.iconst 1, 1) := dk_4 (dk_at dksX0_isSegment_1 4 rfl rfl)
theorem dX0_isSegment_29 : decode cX0_isSegment 29 = .ok (.goto 4, 3) := dk_167 0 4 (dk_at dksX0_isSegment_1 5 rfl rfl)
theorem dX0_isSegment_32 : decode cX0_isSegment 32 = .ok (.iconst 0, 1) := dk_3 (dk_at dksX0_isSegment_1 8 rfl rfl)
theorem dX0_isSegment_33 : decode cX0_isSegment 33 = .ok (.ireturn, 1) := dk_172 (dk_at dksX0_isSegment_1 9 rfl rfl)
abbrev cX0_fresh : ByteArray := prog_1_method_70_code
def yX0_fresh : MethodName := ⟨RX0, "fresh", "(II)I"⟩
def dkwX0_fresh_2 : List UInt8 := [27, 46, 100, 29, 100, 28, 96, 167, 0, 4, 2, 172]
abbrev dktX0_fresh_2 : List UInt8 := dkwX0_fresh_2 ++ []
def dkwX0_fresh_1 : List UInt8 := [133, 9, 29, 4, 100, 133, 184, 0, 110, 153, 0, 25, 42, 27, 182, 0, 180, 42, 180, 0, 20, 180, 0, 165]
abbrev dktX0_fresh_1 : List UInt8 := dkwX0_fresh_1 ++ dktX0_fresh_2
def dkwX0_fresh_0 : List UInt8 := [42, 27, 182, 1, 76, 154, 0, 5, 2, 172, 42, 27, 182, 1, 79, 62, 28, 2, 160, 0, 5, 29, 172, 28]
abbrev dktX0_fresh_0 : List UInt8 := dkwX0_fresh_0 ++ dktX0_fresh_1
theorem dksX0_fresh_0 : cX0_fresh.data.toList.drop 0 = dktX0_fresh_0 := by decide +kernel
theorem dksX0_fresh_1 : cX0_fresh.data.toList.drop 24 = dktX0_fresh_1 := dk_seg dksX0_fresh_0 24 rfl rfl
theorem dksX0_fresh_2 : cX0_fresh.data.toList.drop 48 = dktX0_fresh_2 := dk_seg dksX0_fresh_1 24 rfl rfl
theorem dX0_fresh_0 : decode cX0_fresh 0 = .ok (.aload_n 0, 1) := dk_42 (dk_at dksX0_fresh_0 0 rfl rfl)
theorem dX0_fresh_1 : decode cX0_fresh 1 = .ok (.iload_n 1, 1) := dk_27 (dk_at dksX0_fresh_0 1 rfl rfl)
theorem dX0_fresh_2 : decode cX0_fresh 2 = .ok (.invokevirtual 332, 3) := dk_182 1 76 (dk_at dksX0_fresh_0 2 rfl rfl)
theorem dX0_fresh_5 : decode cX0_fresh 5 = .ok (.ifCond .ne 5, 3) := dk_154 0 5 (dk_at dksX0_fresh_0 5 rfl rfl)
theorem dX0_fresh_8 : decode cX0_fresh 8 = .ok (.iconst (-1), 1) := dk_2 (dk_at dksX0_fresh_0 8 rfl rfl)
theorem dX0_fresh_9 : decode cX0_fresh 9 = .ok (.ireturn, 1) := dk_172 (dk_at dksX0_fresh_0 9 rfl rfl)
theorem dX0_fresh_10 : decode cX0_fresh 10 = .ok (.aload_n 0, 1) := dk_42 (dk_at dksX0_fresh_0 10 rfl rfl)
theorem dX0_fresh_11 : decode cX0_fresh 11 = .ok (.iload_n 1, 1) := dk_27 (dk_at dksX0_fresh_0 11 rfl rfl)
theorem dX0_fresh_12 : decode cX0_fresh 12 = .ok (.invokevirtual 335, 3) := dk_182 1 79 (dk_at dksX0_fresh_0 12 rfl rfl)
theorem dX0_fresh_15 : decode cX0_fresh 15 = .ok (.istore_n 3, 1) := dk_62 (dk_at dksX0_fresh_0 15 rfl rfl)
theorem dX0_fresh_16 : decode cX0_fresh 16 = .ok (.iload_n 2, 1) := dk_28 (dk_at dksX0_fresh_0 16 rfl rfl)
theorem dX0_fresh_17 : decode cX0_fresh 17 = .ok (.iconst (-1), 1) := dk_2 (dk_at dksX0_fresh_0 17 rfl rfl)
theorem dX0_fresh_18 : decode cX0_fresh 18 = .ok (.if_icmp .ne 5, 3) := dk_160 0 5 (dk_at dksX0_fresh_0 18 rfl rfl)
theorem dX0_fresh_21 : decode cX0_fresh 21 = .ok (.iload_n 3, 1) := dk_29 (dk_at dksX0_fresh_0 21 rfl rfl)
theorem dX0_fresh_22 : decode cX0_fresh 22 = .ok (.ireturn, 1) := dk_172 (dk_at dksX0_fresh_0 22 rfl rfl)
theorem dX0_fresh_23 : decode cX0_fresh 23 = .ok (.iload_n 2, 1) := dk_28 (dk_at dksX0_fresh_0 23 rfl rfl)
theorem dX0_fresh_24 : decode cX0_fresh 24 = .ok (.i2l, 1) := dk_133 (dk_at dksX0_fresh_1 0 rfl rfl)
theorem dX0_fresh_25 : decode cX0_fresh 25 = .ok (.lconst 0, 1) := dk_9 (dk_at dksX0_fresh_1 1 rfl rfl)
theorem dX0_fresh_26 : decode cX0_fresh 26 = .ok (.iload_n 3, 1) := dk_29 (dk_at dksX0_fresh_1 2 rfl rfl)
theorem dX0_fresh_27 : decode cX0_fresh 27 = .ok (.iconst 1, 1) := dk_4 (dk_at dksX0_fresh_1 3 rfl rfl)
theorem dX0_fresh_28 : decode cX0_fresh 28 = .ok (.isub, 1) := dk_100 (dk_at dksX0_fresh_1 4 rfl rfl)
theorem dX0_fresh_29 : decode cX0_fresh 29 = .ok (.i2l, 1) := dk_133 (dk_at dksX0_fresh_1 5 rfl rfl)
theorem dX0_fresh_30 : decode cX0_fresh 30 = .ok (.invokestatic 110, 3) := dk_184 0 110 (dk_at dksX0_fresh_1 6 rfl rfl)
theorem dX0_fresh_33 : decode cX0_fresh 33 = .ok (.ifCond .eq 25, 3) := dk_153 0 25 (dk_at dksX0_fresh_1 9 rfl rfl)
theorem dX0_fresh_36 : decode cX0_fresh 36 = .ok (.aload_n 0, 1) := dk_42 (dk_at dksX0_fresh_1 12 rfl rfl)
theorem dX0_fresh_37 : decode cX0_fresh 37 = .ok (.iload_n 1, 1) := dk_27 (dk_at dksX0_fresh_1 13 rfl rfl)
theorem dX0_fresh_38 : decode cX0_fresh 38 = .ok (.invokevirtual 180, 3) := dk_182 0 180 (dk_at dksX0_fresh_1 14 rfl rfl)
theorem dX0_fresh_41 : decode cX0_fresh 41 = .ok (.aload_n 0, 1) := dk_42 (dk_at dksX0_fresh_1 17 rfl rfl)
theorem dX0_fresh_42 : decode cX0_fresh 42 = .ok (.getfield 20, 3) := dk_180 0 20 (dk_at dksX0_fresh_1 18 rfl rfl)
theorem dX0_fresh_45 : decode cX0_fresh 45 = .ok (.getfield 165, 3) := dk_180 0 165 (dk_at dksX0_fresh_1 21 rfl rfl)
theorem dX0_fresh_48 : decode cX0_fresh 48 = .ok (.iload_n 1, 1) := dk_27 (dk_at dksX0_fresh_2 0 rfl rfl)
theorem dX0_fresh_49 : decode cX0_fresh 49 = .ok (.iaload, 1) := dk_46 (dk_at dksX0_fresh_2 1 rfl rfl)
theorem dX0_fresh_50 : decode cX0_fresh 50 = .ok (.isub, 1) := dk_100 (dk_at dksX0_fresh_2 2 rfl rfl)
theorem dX0_fresh_51 : decode cX0_fresh 51 = .ok (.iload_n 3, 1) := dk_29 (dk_at dksX0_fresh_2 3 rfl rfl)
theorem dX0_fresh_52 : decode cX0_fresh 52 = .ok (.isub, 1) := dk_100 (dk_at dksX0_fresh_2 4 rfl rfl)
theorem dX0_fresh_53 : decode cX0_fresh 53 = .ok (.iload_n 2, 1) := dk_28 (dk_at dksX0_fresh_2 5 rfl rfl)
theorem dX0_fresh_54 : decode cX0_fresh 54 = .ok (.iadd, 1) := dk_96 (dk_at dksX0_fresh_2 6 rfl rfl)
theorem dX0_fresh_55 : decode cX0_fresh 55 = .ok (.goto 4, 3) := dk_167 0 4 (dk_at dksX0_fresh_2 7 rfl rfl)
theorem dX0_fresh_58 : decode cX0_fresh 58 = .ok (.iconst (-1), 1) := dk_2 (dk_at dksX0_fresh_2 10 rfl rfl)
theorem dX0_fresh_59 : decode cX0_fresh 59 = .ok (.ireturn, 1) := dk_172 (dk_at dksX0_fresh_2 11 rfl rfl)
abbrev cX0_freshOf : ByteArray := prog_1_method_69_code
def yX0_freshOf : MethodName := ⟨RX0, "freshOf", "(I)I"⟩
def dkwX0_freshOf_1 : List UInt8 := [136, 172]
abbrev dktX0_freshOf_1 : List UInt8 := dkwX0_freshOf_1 ++ []
def dkwX0_freshOf_0 : List UInt8 := [27, 154, 0, 7, 3, 167, 0, 20, 42, 27, 182, 1, 70, 42, 180, 0, 20, 180, 0, 165, 27, 46, 133, 101]
abbrev dktX0_freshOf_0 : List UInt8 := dkwX0_freshOf_0 ++ dktX0_freshOf_1
theorem dksX0_freshOf_0 : cX0_freshOf.data.toList.drop 0 = dktX0_freshOf_0 := by decide +kernel
theorem dksX0_freshOf_1 : cX0_freshOf.data.toList.drop 24 = dktX0_freshOf_1 := dk_seg dksX0_freshOf_0 24 rfl rfl
theorem dX0_freshOf_0 : decode cX0_freshOf 0 = .ok (.iload_n 1, 1) := dk_27 (dk_at dksX0_freshOf_0 0 rfl rfl)
theorem dX0_freshOf_1 : decode cX0_freshOf 1 = .ok (.ifCond .ne 7, 3) := dk_154 0 7 (dk_at dksX0_freshOf_0 1 rfl rfl)
theorem dX0_freshOf_4 : decode cX0_freshOf 4 = .ok (.iconst 0, 1) := dk_3 (dk_at dksX0_freshOf_0 4 rfl rfl)
theorem dX0_freshOf_5 : decode cX0_freshOf 5 = .ok (.goto 20, 3) := dk_167 0 20 (dk_at dksX0_freshOf_0 5 rfl rfl)
theorem dX0_freshOf_8 : decode cX0_freshOf 8 = .ok (.aload_n 0, 1) := dk_42 (dk_at dksX0_freshOf_0 8 rfl rfl)
theorem dX0_freshOf_9 : decode cX0_freshOf 9 = .ok (.iload_n 1, 1) := dk_27 (dk_at dksX0_freshOf_0 9 rfl rfl)
theorem dX0_freshOf_10 : decode cX0_freshOf 10 = .ok (.invokevirtual 326, 3) := dk_182 1 70 (dk_at dksX0_freshOf_0 10 rfl rfl)
theorem dX0_freshOf_13 : decode cX0_freshOf 13 = .ok (.aload_n 0, 1) := dk_42 (dk_at dksX0_freshOf_0 13 rfl rfl)
theorem dX0_freshOf_14 : decode cX0_freshOf 14 = .ok (.getfield 20, 3) := dk_180 0 20 (dk_at dksX0_freshOf_0 14 rfl rfl)
theorem dX0_freshOf_17 : decode cX0_freshOf 17 = .ok (.getfield 165, 3) := dk_180 0 165 (dk_at dksX0_freshOf_0 17 rfl rfl)
theorem dX0_freshOf_20 : decode cX0_freshOf 20 = .ok (.iload_n 1, 1) := dk_27 (dk_at dksX0_freshOf_0 20 rfl rfl)
theorem dX0_freshOf_21 : decode cX0_freshOf 21 = .ok (.iaload, 1) := dk_46 (dk_at dksX0_freshOf_0 21 rfl rfl)
theorem dX0_freshOf_22 : decode cX0_freshOf 22 = .ok (.i2l, 1) := dk_133 (dk_at dksX0_freshOf_0 22 rfl rfl)
theorem dX0_freshOf_23 : decode cX0_freshOf 23 = .ok (.lsub, 1) := dk_101 (dk_at dksX0_freshOf_0 23 rfl rfl)
theorem dX0_freshOf_24 : decode cX0_freshOf 24 = .ok (.l2i, 1) := dk_136 (dk_at dksX0_freshOf_1 0 rfl rfl)
theorem dX0_freshOf_25 : decode cX0_freshOf 25 = .ok (.ireturn, 1) := dk_172 (dk_at dksX0_freshOf_1 1 rfl rfl)
abbrev cX0_betti : ByteArray := prog_1_method_71_code
def yX0_betti : MethodName := ⟨RX0, "betti", "(II)I"⟩
def dkwX0_betti_4 : List UInt8 := [46, 96, 54, 5, 132, 7, 1, 167, 255, 213, 21, 5, 172]
abbrev dktX0_betti_4 : List UInt8 := dkwX0_betti_4 ++ []
def dkwX0_betti_3 : List UInt8 := [180, 0, 20, 180, 0, 162, 27, 21, 7, 184, 1, 82, 21, 5, 178, 0, 58, 25, 6, 184, 1, 86, 50, 28]
abbrev dktX0_betti_3 : List UInt8 := dkwX0_betti_3 ++ dktX0_betti_4
def dkwX0_betti_2 : List UInt8 := [54, 5, 7, 188, 10, 58, 6, 21, 4, 54, 7, 21, 7, 21, 4, 29, 96, 162, 0, 40, 25, 6, 42]
abbrev dktX0_betti_2 : List UInt8 := dkwX0_betti_2 ++ dktX0_betti_3
def dkwX0_betti_1 : List UInt8 := [182, 1, 79, 62, 42, 27, 182, 0, 180, 42, 180, 0, 20, 180, 0, 165, 27, 46, 100, 29, 100, 54, 4, 3]
abbrev dktX0_betti_1 : List UInt8 := dkwX0_betti_1 ++ dktX0_betti_2
def dkwX0_betti_0 : List UInt8 := [42, 27, 182, 1, 76, 153, 0, 15, 28, 133, 9, 20, 0, 108, 184, 0, 110, 154, 0, 5, 2, 172, 42, 27]
abbrev dktX0_betti_0 : List UInt8 := dkwX0_betti_0 ++ dktX0_betti_1
theorem dksX0_betti_0 : cX0_betti.data.toList.drop 0 = dktX0_betti_0 := by decide +kernel
theorem dksX0_betti_1 : cX0_betti.data.toList.drop 24 = dktX0_betti_1 := dk_seg dksX0_betti_0 24 rfl rfl
theorem dksX0_betti_2 : cX0_betti.data.toList.drop 48 = dktX0_betti_2 := dk_seg dksX0_betti_1 24 rfl rfl
theorem dksX0_betti_3 : cX0_betti.data.toList.drop 71 = dktX0_betti_3 := dk_seg dksX0_betti_2 23 rfl rfl
theorem dksX0_betti_4 : cX0_betti.data.toList.drop 95 = dktX0_betti_4 := dk_seg dksX0_betti_3 24 rfl rfl
theorem dX0_betti_0 : decode cX0_betti 0 = .ok (.aload_n 0, 1) := dk_42 (dk_at dksX0_betti_0 0 rfl rfl)
theorem dX0_betti_1 : decode cX0_betti 1 = .ok (.iload_n 1, 1) := dk_27 (dk_at dksX0_betti_0 1 rfl rfl)
theorem dX0_betti_2 : decode cX0_betti 2 = .ok (.invokevirtual 332, 3) := dk_182 1 76 (dk_at dksX0_betti_0 2 rfl rfl)
theorem dX0_betti_5 : decode cX0_betti 5 = .ok (.ifCond .eq 15, 3) := dk_153 0 15 (dk_at dksX0_betti_0 5 rfl rfl)
theorem dX0_betti_8 : decode cX0_betti 8 = .ok (.iload_n 2, 1) := dk_28 (dk_at dksX0_betti_0 8 rfl rfl)
theorem dX0_betti_9 : decode cX0_betti 9 = .ok (.i2l, 1) := dk_133 (dk_at dksX0_betti_0 9 rfl rfl)
theorem dX0_betti_10 : decode cX0_betti 10 = .ok (.lconst 0, 1) := dk_9 (dk_at dksX0_betti_0 10 rfl rfl)
theorem dX0_betti_11 : decode cX0_betti 11 = .ok (.ldc2_w 108, 3) := dk_20 0 108 (dk_at dksX0_betti_0 11 rfl rfl)
theorem dX0_betti_14 : decode cX0_betti 14 = .ok (.invokestatic 110, 3) := dk_184 0 110 (dk_at dksX0_betti_0 14 rfl rfl)
theorem dX0_betti_17 : decode cX0_betti 17 = .ok (.ifCond .ne 5, 3) := dk_154 0 5 (dk_at dksX0_betti_0 17 rfl rfl)
theorem dX0_betti_20 : decode cX0_betti 20 = .ok (.iconst (-1), 1) := dk_2 (dk_at dksX0_betti_0 20 rfl rfl)
theorem dX0_betti_21 : decode cX0_betti 21 = .ok (.ireturn, 1) := dk_172 (dk_at dksX0_betti_0 21 rfl rfl)
theorem dX0_betti_22 : decode cX0_betti 22 = .ok (.aload_n 0, 1) := dk_42 (dk_at dksX0_betti_0 22 rfl rfl)
theorem dX0_betti_23 : decode cX0_betti 23 = .ok (.iload_n 1, 1) := dk_27 (dk_at dksX0_betti_0 23 rfl rfl)
theorem dX0_betti_24 : decode cX0_betti 24 = .ok (.invokevirtual 335, 3) := dk_182 1 79 (dk_at dksX0_betti_1 0 rfl rfl)
theorem dX0_betti_27 : decode cX0_betti 27 = .ok (.istore_n 3, 1) := dk_62 (dk_at dksX0_betti_1 3 rfl rfl)
theorem dX0_betti_28 : decode cX0_betti 28 = .ok (.aload_n 0, 1) := dk_42 (dk_at dksX0_betti_1 4 rfl rfl)
theorem dX0_betti_29 : decode cX0_betti 29 = .ok (.iload_n 1, 1) := dk_27 (dk_at dksX0_betti_1 5 rfl rfl)
theorem dX0_betti_30 : decode cX0_betti 30 = .ok (.invokevirtual 180, 3) := dk_182 0 180 (dk_at dksX0_betti_1 6 rfl rfl)
theorem dX0_betti_33 : decode cX0_betti 33 = .ok (.aload_n 0, 1) := dk_42 (dk_at dksX0_betti_1 9 rfl rfl)
theorem dX0_betti_34 : decode cX0_betti 34 = .ok (.getfield 20, 3) := dk_180 0 20 (dk_at dksX0_betti_1 10 rfl rfl)
theorem dX0_betti_37 : decode cX0_betti 37 = .ok (.getfield 165, 3) := dk_180 0 165 (dk_at dksX0_betti_1 13 rfl rfl)
theorem dX0_betti_40 : decode cX0_betti 40 = .ok (.iload_n 1, 1) := dk_27 (dk_at dksX0_betti_1 16 rfl rfl)
theorem dX0_betti_41 : decode cX0_betti 41 = .ok (.iaload, 1) := dk_46 (dk_at dksX0_betti_1 17 rfl rfl)
theorem dX0_betti_42 : decode cX0_betti 42 = .ok (.isub, 1) := dk_100 (dk_at dksX0_betti_1 18 rfl rfl)
theorem dX0_betti_43 : decode cX0_betti 43 = .ok (.iload_n 3, 1) := dk_29 (dk_at dksX0_betti_1 19 rfl rfl)
theorem dX0_betti_44 : decode cX0_betti 44 = .ok (.isub, 1) := dk_100 (dk_at dksX0_betti_1 20 rfl rfl)
theorem dX0_betti_45 : decode cX0_betti 45 = .ok (.istore 4, 2) := dk_54 4 (dk_at dksX0_betti_1 21 rfl rfl)
theorem dX0_betti_47 : decode cX0_betti 47 = .ok (.iconst 0, 1) := dk_3 (dk_at dksX0_betti_1 23 rfl rfl)
theorem dX0_betti_48 : decode cX0_betti 48 = .ok (.istore 5, 2) := dk_54 5 (dk_at dksX0_betti_2 0 rfl rfl)
theorem dX0_betti_50 : decode cX0_betti 50 = .ok (.iconst 4, 1) := dk_7 (dk_at dksX0_betti_2 2 rfl rfl)
theorem dX0_betti_51 : decode cX0_betti 51 = .ok (.newarray .int, 2) := dk_188_10 (dk_at dksX0_betti_2 3 rfl rfl)
theorem dX0_betti_53 : decode cX0_betti 53 = .ok (.astore 6, 2) := dk_58 6 (dk_at dksX0_betti_2 5 rfl rfl)
theorem dX0_betti_55 : decode cX0_betti 55 = .ok (.iload 4, 2) := dk_21 4 (dk_at dksX0_betti_2 7 rfl rfl)
theorem dX0_betti_57 : decode cX0_betti 57 = .ok (.istore 7, 2) := dk_54 7 (dk_at dksX0_betti_2 9 rfl rfl)
theorem dX0_betti_59 : decode cX0_betti 59 = .ok (.iload 7, 2) := dk_21 7 (dk_at dksX0_betti_2 11 rfl rfl)
theorem dX0_betti_61 : decode cX0_betti 61 = .ok (.iload 4, 2) := dk_21 4 (dk_at dksX0_betti_2 13 rfl rfl)
theorem dX0_betti_63 : decode cX0_betti 63 = .ok (.iload_n 3, 1) := dk_29 (dk_at dksX0_betti_2 15 rfl rfl)
theorem dX0_betti_64 : decode cX0_betti 64 = .ok (.iadd, 1) := dk_96 (dk_at dksX0_betti_2 16 rfl rfl)
theorem dX0_betti_65 : decode cX0_betti 65 = .ok (.if_icmp .ge 40, 3) := dk_162 0 40 (dk_at dksX0_betti_2 17 rfl rfl)
theorem dX0_betti_68 : decode cX0_betti 68 = .ok (.aload 6, 2) := dk_25 6 (dk_at dksX0_betti_2 20 rfl rfl)
theorem dX0_betti_70 : decode cX0_betti 70 = .ok (.aload_n 0, 1) := dk_42 (dk_at dksX0_betti_2 22 rfl rfl)
theorem dX0_betti_71 : decode cX0_betti 71 = .ok (.getfield 20, 3) := dk_180 0 20 (dk_at dksX0_betti_3 0 rfl rfl)
theorem dX0_betti_74 : decode cX0_betti 74 = .ok (.getfield 162, 3) := dk_180 0 162 (dk_at dksX0_betti_3 3 rfl rfl)
theorem dX0_betti_77 : decode cX0_betti 77 = .ok (.iload_n 1, 1) := dk_27 (dk_at dksX0_betti_3 6 rfl rfl)
theorem dX0_betti_78 : decode cX0_betti 78 = .ok (.iload 7, 2) := dk_21 7 (dk_at dksX0_betti_3 7 rfl rfl)
theorem dX0_betti_80 : decode cX0_betti 80 = .ok (.invokestatic 338, 3) := dk_184 1 82 (dk_at dksX0_betti_3 9 rfl rfl)
theorem dX0_betti_83 : decode cX0_betti 83 = .ok (.iload 5, 2) := dk_21 5 (dk_at dksX0_betti_3 12 rfl rfl)
theorem dX0_betti_85 : decode cX0_betti 85 = .ok (.getstatic 58, 3) := dk_178 0 58 (dk_at dksX0_betti_3 14 rfl rfl)
theorem dX0_betti_88 : decode cX0_betti 88 = .ok (.aload 6, 2) := dk_25 6 (dk_at dksX0_betti_3 17 rfl rfl)
theorem dX0_betti_90 : decode cX0_betti 90 = .ok (.invokestatic 342, 3) := dk_184 1 86 (dk_at dksX0_betti_3 19 rfl rfl)
theorem dX0_betti_93 : decode cX0_betti 93 = .ok (.aaload, 1) := dk_50 (dk_at dksX0_betti_3 22 rfl rfl)
theorem dX0_betti_94 : decode cX0_betti 94 = .ok (.iload_n 2, 1) := dk_28 (dk_at dksX0_betti_3 23 rfl rfl)
theorem dX0_betti_95 : decode cX0_betti 95 = .ok (.iaload, 1) := dk_46 (dk_at dksX0_betti_4 0 rfl rfl)
theorem dX0_betti_96 : decode cX0_betti 96 = .ok (.iadd, 1) := dk_96 (dk_at dksX0_betti_4 1 rfl rfl)
theorem dX0_betti_97 : decode cX0_betti 97 = .ok (.istore 5, 2) := dk_54 5 (dk_at dksX0_betti_4 2 rfl rfl)
theorem dX0_betti_99 : decode cX0_betti 99 = .ok (.iinc 7 1, 3) := dk_132 7 1 (dk_at dksX0_betti_4 4 rfl rfl)
theorem dX0_betti_102 : decode cX0_betti 102 = .ok (.goto (-43), 3) := dk_167 255 213 (dk_at dksX0_betti_4 7 rfl rfl)
theorem dX0_betti_105 : decode cX0_betti 105 = .ok (.iload 5, 2) := dk_21 5 (dk_at dksX0_betti_4 10 rfl rfl)
theorem dX0_betti_107 : decode cX0_betti 107 = .ok (.ireturn, 1) := dk_172 (dk_at dksX0_betti_4 12 rfl rfl)
abbrev cX0_lastOf : ByteArray := prog_1_method_7_code
def yX0_lastOf : MethodName := ⟨RX0, "lastOf", "([I)I"⟩
def dkwX0_lastOf_0 : List UInt8 := [6, 60, 27, 158, 0, 15, 42, 27, 46, 154, 0, 9, 132, 1, 255, 167, 255, 243, 27, 172]
abbrev dktX0_lastOf_0 : List UInt8 := dkwX0_lastOf_0 ++ []
theorem dksX0_lastOf_0 : cX0_lastOf.data.toList.drop 0 = dktX0_lastOf_0 := by decide +kernel
theorem dX0_lastOf_0 : decode cX0_lastOf 0 = .ok (.iconst 3, 1) := dk_6 (dk_at dksX0_lastOf_0 0 rfl rfl)
theorem dX0_lastOf_1 : decode cX0_lastOf 1 = .ok (.istore_n 1, 1) := dk_60 (dk_at dksX0_lastOf_0 1 rfl rfl)
theorem dX0_lastOf_2 : decode cX0_lastOf 2 = .ok (.iload_n 1, 1) := dk_27 (dk_at dksX0_lastOf_0 2 rfl rfl)
theorem dX0_lastOf_3 : decode cX0_lastOf 3 = .ok (.ifCond .le 15, 3) := dk_158 0 15 (dk_at dksX0_lastOf_0 3 rfl rfl)
theorem dX0_lastOf_6 : decode cX0_lastOf 6 = .ok (.aload_n 0, 1) := dk_42 (dk_at dksX0_lastOf_0 6 rfl rfl)
theorem dX0_lastOf_7 : decode cX0_lastOf 7 = .ok (.iload_n 1, 1) := dk_27 (dk_at dksX0_lastOf_0 7 rfl rfl)
theorem dX0_lastOf_8 : decode cX0_lastOf 8 = .ok (.iaload, 1) := dk_46 (dk_at dksX0_lastOf_0 8 rfl rfl)
theorem dX0_lastOf_9 : decode cX0_lastOf 9 = .ok (.ifCond .ne 9, 3) := dk_154 0 9 (dk_at dksX0_lastOf_0 9 rfl rfl)
theorem dX0_lastOf_12 : decode cX0_lastOf 12 = .ok (.iinc 1 (-1), 3) := dk_132 1 255 (dk_at dksX0_lastOf_0 12 rfl rfl)
theorem dX0_lastOf_15 : decode cX0_lastOf 15 = .ok (.goto (-13), 3) := dk_167 255 243 (dk_at dksX0_lastOf_0 15 rfl rfl)
theorem dX0_lastOf_18 : decode cX0_lastOf 18 = .ok (.iload_n 1, 1) := dk_27 (dk_at dksX0_lastOf_0 18 rfl rfl)
theorem dX0_lastOf_19 : decode cX0_lastOf 19 = .ok (.ireturn, 1) := dk_172 (dk_at dksX0_lastOf_0 19 rfl rfl)
abbrev cX0_take : ByteArray := prog_1_method_72_code
def yX0_take : MethodName := ⟨RX0, "take", "(I)I"⟩
def dkwX0_take_3 : List UInt8 := [182, 1, 95, 182, 0, 143, 27, 4, 96, 172]
abbrev dktX0_take_3 : List UInt8 := dkwX0_take_3 ++ []
def dkwX0_take_2 : List UInt8 := [42, 187, 0, 17, 89, 42, 180, 0, 20, 180, 0, 162, 44, 183, 1, 92, 42, 180, 0, 20, 180, 0, 151]
abbrev dktX0_take_2 : List UInt8 := dkwX0_take_2 ++ dktX0_take_3
def dkwX0_take_1 : List UInt8 := [3, 62, 29, 27, 163, 0, 20, 44, 29, 42, 180, 0, 20, 29, 182, 0, 215, 79, 132, 3, 1, 167, 255, 237]
abbrev dktX0_take_1 : List UInt8 := dkwX0_take_1 ++ dktX0_take_2
def dkwX0_take_0 : List UInt8 := [27, 133, 9, 20, 1, 90, 184, 0, 110, 154, 0, 9, 42, 5, 182, 0, 93, 172, 27, 4, 96, 188, 10, 77]
abbrev dktX0_take_0 : List UInt8 := dkwX0_take_0 ++ dktX0_take_1
theorem dksX0_take_0 : cX0_take.data.toList.drop 0 = dktX0_take_0 := by decide +kernel
theorem dksX0_take_1 : cX0_take.data.toList.drop 24 = dktX0_take_1 := dk_seg dksX0_take_0 24 rfl rfl
theorem dksX0_take_2 : cX0_take.data.toList.drop 48 = dktX0_take_2 := dk_seg dksX0_take_1 24 rfl rfl
theorem dksX0_take_3 : cX0_take.data.toList.drop 71 = dktX0_take_3 := dk_seg dksX0_take_2 23 rfl rfl
theorem dX0_take_0 : decode cX0_take 0 = .ok (.iload_n 1, 1) := dk_27 (dk_at dksX0_take_0 0 rfl rfl)
theorem dX0_take_1 : decode cX0_take 1 = .ok (.i2l, 1) := dk_133 (dk_at dksX0_take_0 1 rfl rfl)
theorem dX0_take_2 : decode cX0_take 2 = .ok (.lconst 0, 1) := dk_9 (dk_at dksX0_take_0 2 rfl rfl)
theorem dX0_take_3 : decode cX0_take 3 = .ok (.ldc2_w 346, 3) := dk_20 1 90 (dk_at dksX0_take_0 3 rfl rfl)
theorem dX0_take_6 : decode cX0_take 6 = .ok (.invokestatic 110, 3) := dk_184 0 110 (dk_at dksX0_take_0 6 rfl rfl)
theorem dX0_take_9 : decode cX0_take 9 = .ok (.ifCond .ne 9, 3) := dk_154 0 9 (dk_at dksX0_take_0 9 rfl rfl)
theorem dX0_take_12 : decode cX0_take 12 = .ok (.aload_n 0, 1) := dk_42 (dk_at dksX0_take_0 12 rfl rfl)
theorem dX0_take_13 : decode cX0_take 13 = .ok (.iconst 2, 1) := dk_5 (dk_at dksX0_take_0 13 rfl rfl)
theorem dX0_take_14 : decode cX0_take 14 = .ok (.invokevirtual 93, 3) := dk_182 0 93 (dk_at dksX0_take_0 14 rfl rfl)
theorem dX0_take_17 : decode cX0_take 17 = .ok (.ireturn, 1) := dk_172 (dk_at dksX0_take_0 17 rfl rfl)
theorem dX0_take_18 : decode cX0_take 18 = .ok (.iload_n 1, 1) := dk_27 (dk_at dksX0_take_0 18 rfl rfl)
theorem dX0_take_19 : decode cX0_take 19 = .ok (.iconst 1, 1) := dk_4 (dk_at dksX0_take_0 19 rfl rfl)
theorem dX0_take_20 : decode cX0_take 20 = .ok (.iadd, 1) := dk_96 (dk_at dksX0_take_0 20 rfl rfl)
theorem dX0_take_21 : decode cX0_take 21 = .ok (.newarray .int, 2) := dk_188_10 (dk_at dksX0_take_0 21 rfl rfl)
theorem dX0_take_23 : decode cX0_take 23 = .ok (.astore_n 2, 1) := dk_77 (dk_at dksX0_take_0 23 rfl rfl)
theorem dX0_take_24 : decode cX0_take 24 = .ok (.iconst 0, 1) := dk_3 (dk_at dksX0_take_1 0 rfl rfl)
theorem dX0_take_25 : decode cX0_take 25 = .ok (.istore_n 3, 1) := dk_62 (dk_at dksX0_take_1 1 rfl rfl)
theorem dX0_take_26 : decode cX0_take 26 = .ok (.iload_n 3, 1) := dk_29 (dk_at dksX0_take_1 2 rfl rfl)
theorem dX0_take_27 : decode cX0_take 27 = .ok (.iload_n 1, 1) := dk_27 (dk_at dksX0_take_1 3 rfl rfl)
theorem dX0_take_28 : decode cX0_take 28 = .ok (.if_icmp .gt 20, 3) := dk_163 0 20 (dk_at dksX0_take_1 4 rfl rfl)
theorem dX0_take_31 : decode cX0_take 31 = .ok (.aload_n 2, 1) := dk_44 (dk_at dksX0_take_1 7 rfl rfl)
theorem dX0_take_32 : decode cX0_take 32 = .ok (.iload_n 3, 1) := dk_29 (dk_at dksX0_take_1 8 rfl rfl)
theorem dX0_take_33 : decode cX0_take 33 = .ok (.aload_n 0, 1) := dk_42 (dk_at dksX0_take_1 9 rfl rfl)
theorem dX0_take_34 : decode cX0_take 34 = .ok (.getfield 20, 3) := dk_180 0 20 (dk_at dksX0_take_1 10 rfl rfl)
theorem dX0_take_37 : decode cX0_take 37 = .ok (.iload_n 3, 1) := dk_29 (dk_at dksX0_take_1 13 rfl rfl)
theorem dX0_take_38 : decode cX0_take 38 = .ok (.invokevirtual 215, 3) := dk_182 0 215 (dk_at dksX0_take_1 14 rfl rfl)
theorem dX0_take_41 : decode cX0_take 41 = .ok (.iastore, 1) := dk_79 (dk_at dksX0_take_1 17 rfl rfl)
theorem dX0_take_42 : decode cX0_take 42 = .ok (.iinc 3 1, 3) := dk_132 3 1 (dk_at dksX0_take_1 18 rfl rfl)
theorem dX0_take_45 : decode cX0_take 45 = .ok (.goto (-19), 3) := dk_167 255 237 (dk_at dksX0_take_1 21 rfl rfl)
theorem dX0_take_48 : decode cX0_take 48 = .ok (.aload_n 0, 1) := dk_42 (dk_at dksX0_take_2 0 rfl rfl)
theorem dX0_take_49 : decode cX0_take 49 = .ok (.new 17, 3) := dk_187 0 17 (dk_at dksX0_take_2 1 rfl rfl)
theorem dX0_take_52 : decode cX0_take 52 = .ok (.dup, 1) := dk_89 (dk_at dksX0_take_2 4 rfl rfl)
theorem dX0_take_53 : decode cX0_take 53 = .ok (.aload_n 0, 1) := dk_42 (dk_at dksX0_take_2 5 rfl rfl)
theorem dX0_take_54 : decode cX0_take 54 = .ok (.getfield 20, 3) := dk_180 0 20 (dk_at dksX0_take_2 6 rfl rfl)
theorem dX0_take_57 : decode cX0_take 57 = .ok (.getfield 162, 3) := dk_180 0 162 (dk_at dksX0_take_2 9 rfl rfl)
theorem dX0_take_60 : decode cX0_take 60 = .ok (.aload_n 2, 1) := dk_44 (dk_at dksX0_take_2 12 rfl rfl)
theorem dX0_take_61 : decode cX0_take 61 = .ok (.invokespecial 348, 3) := dk_183 1 92 (dk_at dksX0_take_2 13 rfl rfl)
theorem dX0_take_64 : decode cX0_take 64 = .ok (.aload_n 0, 1) := dk_42 (dk_at dksX0_take_2 16 rfl rfl)
theorem dX0_take_65 : decode cX0_take 65 = .ok (.getfield 20, 3) := dk_180 0 20 (dk_at dksX0_take_2 17 rfl rfl)
theorem dX0_take_68 : decode cX0_take 68 = .ok (.getfield 151, 3) := dk_180 0 151 (dk_at dksX0_take_2 20 rfl rfl)
theorem dX0_take_71 : decode cX0_take 71 = .ok (.invokevirtual 351, 3) := dk_182 1 95 (dk_at dksX0_take_3 0 rfl rfl)
theorem dX0_take_74 : decode cX0_take 74 = .ok (.invokevirtual 143, 3) := dk_182 0 143 (dk_at dksX0_take_3 3 rfl rfl)
theorem dX0_take_77 : decode cX0_take 77 = .ok (.iload_n 1, 1) := dk_27 (dk_at dksX0_take_3 6 rfl rfl)
theorem dX0_take_78 : decode cX0_take 78 = .ok (.iconst 1, 1) := dk_4 (dk_at dksX0_take_3 7 rfl rfl)
theorem dX0_take_79 : decode cX0_take 79 = .ok (.iadd, 1) := dk_96 (dk_at dksX0_take_3 8 rfl rfl)
theorem dX0_take_80 : decode cX0_take 80 = .ok (.ireturn, 1) := dk_172 (dk_at dksX0_take_3 9 rfl rfl)
abbrev cX0_set : ByteArray := prog_1_method_77_code
def yX0_set : MethodName := ⟨RX0, "set", "()I"⟩
def dkwX0_set_2 : List UInt8 := [100, 172]
abbrev dktX0_set_2 : List UInt8 := dkwX0_set_2 ++ []
def dkwX0_set_1 : List UInt8 := [181, 0, 147, 42, 42, 180, 0, 9, 3, 51, 181, 0, 172, 42, 3, 181, 1, 105, 42, 182, 1, 108, 27, 4]
abbrev dktX0_set_1 : List UInt8 := dkwX0_set_1 ++ dktX0_set_2
def dkwX0_set_0 : List UInt8 := [42, 182, 0, 130, 60, 42, 27, 182, 1, 101, 77, 44, 199, 0, 9, 42, 4, 182, 0, 93, 172, 42, 44]
abbrev dktX0_set_0 : List UInt8 := dkwX0_set_0 ++ dktX0_set_1
theorem dksX0_set_0 : cX0_set.data.toList.drop 0 = dktX0_set_0 := by decide +kernel
theorem dksX0_set_1 : cX0_set.data.toList.drop 23 = dktX0_set_1 := dk_seg dksX0_set_0 23 rfl rfl
theorem dksX0_set_2 : cX0_set.data.toList.drop 47 = dktX0_set_2 := dk_seg dksX0_set_1 24 rfl rfl
theorem dX0_set_0 : decode cX0_set 0 = .ok (.aload_n 0, 1) := dk_42 (dk_at dksX0_set_0 0 rfl rfl)
theorem dX0_set_1 : decode cX0_set 1 = .ok (.invokevirtual 130, 3) := dk_182 0 130 (dk_at dksX0_set_0 1 rfl rfl)
theorem dX0_set_4 : decode cX0_set 4 = .ok (.istore_n 1, 1) := dk_60 (dk_at dksX0_set_0 4 rfl rfl)
theorem dX0_set_5 : decode cX0_set 5 = .ok (.aload_n 0, 1) := dk_42 (dk_at dksX0_set_0 5 rfl rfl)
theorem dX0_set_6 : decode cX0_set 6 = .ok (.iload_n 1, 1) := dk_27 (dk_at dksX0_set_0 6 rfl rfl)
theorem dX0_set_7 : decode cX0_set 7 = .ok (.invokevirtual 357, 3) := dk_182 1 101 (dk_at dksX0_set_0 7 rfl rfl)
theorem dX0_set_10 : decode cX0_set 10 = .ok (.astore_n 2, 1) := dk_77 (dk_at dksX0_set_0 10 rfl rfl)
theorem dX0_set_11 : decode cX0_set 11 = .ok (.aload_n 2, 1) := dk_44 (dk_at dksX0_set_0 11 rfl rfl)
theorem dX0_set_12 : decode cX0_set 12 = .ok (.ifnonnull 9, 3) := dk_199 0 9 (dk_at dksX0_set_0 12 rfl rfl)
theorem dX0_set_15 : decode cX0_set 15 = .ok (.aload_n 0, 1) := dk_42 (dk_at dksX0_set_0 15 rfl rfl)
theorem dX0_set_16 : decode cX0_set 16 = .ok (.iconst 1, 1) := dk_4 (dk_at dksX0_set_0 16 rfl rfl)
theorem dX0_set_17 : decode cX0_set 17 = .ok (.invokevirtual 93, 3) := dk_182 0 93 (dk_at dksX0_set_0 17 rfl rfl)
theorem dX0_set_20 : decode cX0_set 20 = .ok (.ireturn, 1) := dk_172 (dk_at dksX0_set_0 20 rfl rfl)
theorem dX0_set_21 : decode cX0_set 21 = .ok (.aload_n 0, 1) := dk_42 (dk_at dksX0_set_0 21 rfl rfl)
theorem dX0_set_22 : decode cX0_set 22 = .ok (.aload_n 2, 1) := dk_44 (dk_at dksX0_set_0 22 rfl rfl)
theorem dX0_set_23 : decode cX0_set 23 = .ok (.putfield 147, 3) := dk_181 0 147 (dk_at dksX0_set_1 0 rfl rfl)
theorem dX0_set_26 : decode cX0_set 26 = .ok (.aload_n 0, 1) := dk_42 (dk_at dksX0_set_1 3 rfl rfl)
theorem dX0_set_27 : decode cX0_set 27 = .ok (.aload_n 0, 1) := dk_42 (dk_at dksX0_set_1 4 rfl rfl)
theorem dX0_set_28 : decode cX0_set 28 = .ok (.getfield 9, 3) := dk_180 0 9 (dk_at dksX0_set_1 5 rfl rfl)
theorem dX0_set_31 : decode cX0_set 31 = .ok (.iconst 0, 1) := dk_3 (dk_at dksX0_set_1 8 rfl rfl)
theorem dX0_set_32 : decode cX0_set 32 = .ok (.baload, 1) := dk_51 (dk_at dksX0_set_1 9 rfl rfl)
theorem dX0_set_33 : decode cX0_set 33 = .ok (.putfield 172, 3) := dk_181 0 172 (dk_at dksX0_set_1 10 rfl rfl)
theorem dX0_set_36 : decode cX0_set 36 = .ok (.aload_n 0, 1) := dk_42 (dk_at dksX0_set_1 13 rfl rfl)
theorem dX0_set_37 : decode cX0_set 37 = .ok (.iconst 0, 1) := dk_3 (dk_at dksX0_set_1 14 rfl rfl)
theorem dX0_set_38 : decode cX0_set 38 = .ok (.putfield 361, 3) := dk_181 1 105 (dk_at dksX0_set_1 15 rfl rfl)
theorem dX0_set_41 : decode cX0_set 41 = .ok (.aload_n 0, 1) := dk_42 (dk_at dksX0_set_1 18 rfl rfl)
theorem dX0_set_42 : decode cX0_set 42 = .ok (.invokevirtual 364, 3) := dk_182 1 108 (dk_at dksX0_set_1 19 rfl rfl)
theorem dX0_set_45 : decode cX0_set 45 = .ok (.iload_n 1, 1) := dk_27 (dk_at dksX0_set_1 22 rfl rfl)
theorem dX0_set_46 : decode cX0_set 46 = .ok (.iconst 1, 1) := dk_4 (dk_at dksX0_set_1 23 rfl rfl)
theorem dX0_set_47 : decode cX0_set 47 = .ok (.isub, 1) := dk_100 (dk_at dksX0_set_2 0 rfl rfl)
theorem dX0_set_48 : decode cX0_set 48 = .ok (.ireturn, 1) := dk_172 (dk_at dksX0_set_2 1 rfl rfl)
abbrev cX0_setRead : ByteArray := prog_1_method_76_code
def yX0_setRead : MethodName := ⟨RX0, "setRead", "(I)[Z"⟩
def dkwX0_setRead_3 : List UInt8 := [21, 4, 4, 84, 132, 3, 1, 167, 255, 215, 44, 176]
abbrev dktX0_setRead_3 : List UInt8 := dkwX0_setRead_3 ++ []
def dkwX0_setRead_2 : List UInt8 := [51, 17, 0, 255, 126, 54, 4, 21, 4, 44, 190, 162, 0, 10, 44, 21, 4, 51, 153, 0, 5, 1, 176, 44]
abbrev dktX0_setRead_2 : List UInt8 := dkwX0_setRead_2 ++ dktX0_setRead_3
def dkwX0_setRead_1 : List UInt8 := [42, 180, 0, 9, 3, 51, 182, 0, 180, 188, 4, 77, 4, 62, 29, 27, 162, 0, 42, 42, 180, 0, 9, 29]
abbrev dktX0_setRead_1 : List UInt8 := dkwX0_setRead_1 ++ dktX0_setRead_2
def dkwX0_setRead_0 : List UInt8 := [27, 153, 0, 20, 42, 180, 0, 9, 3, 51, 133, 10, 20, 1, 99, 184, 0, 110, 154, 0, 5, 1, 176, 42]
abbrev dktX0_setRead_0 : List UInt8 := dkwX0_setRead_0 ++ dktX0_setRead_1
theorem dksX0_setRead_0 : cX0_setRead.data.toList.drop 0 = dktX0_setRead_0 := by decide +kernel
theorem dksX0_setRead_1 : cX0_setRead.data.toList.drop 24 = dktX0_setRead_1 := dk_seg dksX0_setRead_0 24 rfl rfl
theorem dksX0_setRead_2 : cX0_setRead.data.toList.drop 48 = dktX0_setRead_2 := dk_seg dksX0_setRead_1 24 rfl rfl
theorem dksX0_setRead_3 : cX0_setRead.data.toList.drop 72 = dktX0_setRead_3 := dk_seg dksX0_setRead_2 24 rfl rfl
theorem dX0_setRead_0 : decode cX0_setRead 0 = .ok (.iload_n 1, 1) := dk_27 (dk_at dksX0_setRead_0 0 rfl rfl)
theorem dX0_setRead_1 : decode cX0_setRead 1 = .ok (.ifCond .eq 20, 3) := dk_153 0 20 (dk_at dksX0_setRead_0 1 rfl rfl)
theorem dX0_setRead_4 : decode cX0_setRead 4 = .ok (.aload_n 0, 1) := dk_42 (dk_at dksX0_setRead_0 4 rfl rfl)
theorem dX0_setRead_5 : decode cX0_setRead 5 = .ok (.getfield 9, 3) := dk_180 0 9 (dk_at dksX0_setRead_0 5 rfl rfl)
theorem dX0_setRead_8 : decode cX0_setRead 8 = .ok (.iconst 0, 1) := dk_3 (dk_at dksX0_setRead_0 8 rfl rfl)
theorem dX0_setRead_9 : decode cX0_setRead 9 = .ok (.baload, 1) := dk_51 (dk_at dksX0_setRead_0 9 rfl rfl)
theorem dX0_setRead_10 : decode cX0_setRead 10 = .ok (.i2l, 1) := dk_133 (dk_at dksX0_setRead_0 10 rfl rfl)
theorem dX0_setRead_11 : decode cX0_setRead 11 = .ok (.lconst 1, 1) := dk_10 (dk_at dksX0_setRead_0 11 rfl rfl)
theorem dX0_setRead_12 : decode cX0_setRead 12 = .ok (.ldc2_w 355, 3) := dk_20 1 99 (dk_at dksX0_setRead_0 12 rfl rfl)
theorem dX0_setRead_15 : decode cX0_setRead 15 = .ok (.invokestatic 110, 3) := dk_184 0 110 (dk_at dksX0_setRead_0 15 rfl rfl)
theorem dX0_setRead_18 : decode cX0_setRead 18 = .ok (.ifCond .ne 5, 3) := dk_154 0 5 (dk_at dksX0_setRead_0 18 rfl rfl)
theorem dX0_setRead_21 : decode cX0_setRead 21 = .ok (.aconst_null, 1) := dk_1 (dk_at dksX0_setRead_0 21 rfl rfl)
theorem dX0_setRead_22 : decode cX0_setRead 22 = .ok (.areturn, 1) := dk_176 (dk_at dksX0_setRead_0 22 rfl rfl)
theorem dX0_setRead_23 : decode cX0_setRead 23 = .ok (.aload_n 0, 1) := dk_42 (dk_at dksX0_setRead_0 23 rfl rfl)
theorem dX0_setRead_24 : decode cX0_setRead 24 = .ok (.aload_n 0, 1) := dk_42 (dk_at dksX0_setRead_1 0 rfl rfl)
theorem dX0_setRead_25 : decode cX0_setRead 25 = .ok (.getfield 9, 3) := dk_180 0 9 (dk_at dksX0_setRead_1 1 rfl rfl)
theorem dX0_setRead_28 : decode cX0_setRead 28 = .ok (.iconst 0, 1) := dk_3 (dk_at dksX0_setRead_1 4 rfl rfl)
theorem dX0_setRead_29 : decode cX0_setRead 29 = .ok (.baload, 1) := dk_51 (dk_at dksX0_setRead_1 5 rfl rfl)
theorem dX0_setRead_30 : decode cX0_setRead 30 = .ok (.invokevirtual 180, 3) := dk_182 0 180 (dk_at dksX0_setRead_1 6 rfl rfl)
theorem dX0_setRead_33 : decode cX0_setRead 33 = .ok (.newarray .boolean, 2) := dk_188_4 (dk_at dksX0_setRead_1 9 rfl rfl)
theorem dX0_setRead_35 : decode cX0_setRead 35 = .ok (.astore_n 2, 1) := dk_77 (dk_at dksX0_setRead_1 11 rfl rfl)
theorem dX0_setRead_36 : decode cX0_setRead 36 = .ok (.iconst 1, 1) := dk_4 (dk_at dksX0_setRead_1 12 rfl rfl)
theorem dX0_setRead_37 : decode cX0_setRead 37 = .ok (.istore_n 3, 1) := dk_62 (dk_at dksX0_setRead_1 13 rfl rfl)
theorem dX0_setRead_38 : decode cX0_setRead 38 = .ok (.iload_n 3, 1) := dk_29 (dk_at dksX0_setRead_1 14 rfl rfl)
theorem dX0_setRead_39 : decode cX0_setRead 39 = .ok (.iload_n 1, 1) := dk_27 (dk_at dksX0_setRead_1 15 rfl rfl)
theorem dX0_setRead_40 : decode cX0_setRead 40 = .ok (.if_icmp .ge 42, 3) := dk_162 0 42 (dk_at dksX0_setRead_1 16 rfl rfl)
theorem dX0_setRead_43 : decode cX0_setRead 43 = .ok (.aload_n 0, 1) := dk_42 (dk_at dksX0_setRead_1 19 rfl rfl)
theorem dX0_setRead_44 : decode cX0_setRead 44 = .ok (.getfield 9, 3) := dk_180 0 9 (dk_at dksX0_setRead_1 20 rfl rfl)
theorem dX0_setRead_47 : decode cX0_setRead 47 = .ok (.iload_n 3, 1) := dk_29 (dk_at dksX0_setRead_1 23 rfl rfl)
theorem dX0_setRead_48 : decode cX0_setRead 48 = .ok (.baload, 1) := dk_51 (dk_at dksX0_setRead_2 0 rfl rfl)
theorem dX0_setRead_49 : decode cX0_setRead 49 = .ok (.sipush 255, 3) := dk_17 0 255 (dk_at dksX0_setRead_2 1 rfl rfl)
theorem dX0_setRead_52 : decode cX0_setRead 52 = .ok (.iand, 1) := dk_126 (dk_at dksX0_setRead_2 4 rfl rfl)
theorem dX0_setRead_53 : decode cX0_setRead 53 = .ok (.istore 4, 2) := dk_54 4 (dk_at dksX0_setRead_2 5 rfl rfl)
theorem dX0_setRead_55 : decode cX0_setRead 55 = .ok (.iload 4, 2) := dk_21 4 (dk_at dksX0_setRead_2 7 rfl rfl)
theorem dX0_setRead_57 : decode cX0_setRead 57 = .ok (.aload_n 2, 1) := dk_44 (dk_at dksX0_setRead_2 9 rfl rfl)
theorem dX0_setRead_58 : decode cX0_setRead 58 = .ok (.arraylength, 1) := dk_190 (dk_at dksX0_setRead_2 10 rfl rfl)
theorem dX0_setRead_59 : decode cX0_setRead 59 = .ok (.if_icmp .ge 10, 3) := dk_162 0 10 (dk_at dksX0_setRead_2 11 rfl rfl)
theorem dX0_setRead_62 : decode cX0_setRead 62 = .ok (.aload_n 2, 1) := dk_44 (dk_at dksX0_setRead_2 14 rfl rfl)
theorem dX0_setRead_63 : decode cX0_setRead 63 = .ok (.iload 4, 2) := dk_21 4 (dk_at dksX0_setRead_2 15 rfl rfl)
theorem dX0_setRead_65 : decode cX0_setRead 65 = .ok (.baload, 1) := dk_51 (dk_at dksX0_setRead_2 17 rfl rfl)
theorem dX0_setRead_66 : decode cX0_setRead 66 = .ok (.ifCond .eq 5, 3) := dk_153 0 5 (dk_at dksX0_setRead_2 18 rfl rfl)
theorem dX0_setRead_69 : decode cX0_setRead 69 = .ok (.aconst_null, 1) := dk_1 (dk_at dksX0_setRead_2 21 rfl rfl)
theorem dX0_setRead_70 : decode cX0_setRead 70 = .ok (.areturn, 1) := dk_176 (dk_at dksX0_setRead_2 22 rfl rfl)
theorem dX0_setRead_71 : decode cX0_setRead 71 = .ok (.aload_n 2, 1) := dk_44 (dk_at dksX0_setRead_2 23 rfl rfl)
theorem dX0_setRead_72 : decode cX0_setRead 72 = .ok (.iload 4, 2) := dk_21 4 (dk_at dksX0_setRead_3 0 rfl rfl)
theorem dX0_setRead_74 : decode cX0_setRead 74 = .ok (.iconst 1, 1) := dk_4 (dk_at dksX0_setRead_3 2 rfl rfl)
theorem dX0_setRead_75 : decode cX0_setRead 75 = .ok (.bastore, 1) := dk_84 (dk_at dksX0_setRead_3 3 rfl rfl)
theorem dX0_setRead_76 : decode cX0_setRead 76 = .ok (.iinc 3 1, 3) := dk_132 3 1 (dk_at dksX0_setRead_3 4 rfl rfl)
theorem dX0_setRead_79 : decode cX0_setRead 79 = .ok (.goto (-41), 3) := dk_167 255 215 (dk_at dksX0_setRead_3 7 rfl rfl)
theorem dX0_setRead_82 : decode cX0_setRead 82 = .ok (.aload_n 2, 1) := dk_44 (dk_at dksX0_setRead_3 10 rfl rfl)
theorem dX0_setRead_83 : decode cX0_setRead 83 = .ok (.areturn, 1) := dk_176 (dk_at dksX0_setRead_3 11 rfl rfl)
abbrev cX0_laysPowers : ByteArray := prog_1_method_73_code
def yX0_laysPowers : MethodName := ⟨RX0, "laysPowers", "()V"⟩
def dkwX0_laysPowers_2 : List UInt8 := [132, 1, 1, 167, 255, 220, 177]
abbrev dktX0_laysPowers_2 : List UInt8 := dkwX0_laysPowers_2 ++ []
def dkwX0_laysPowers_1 : List UInt8 := [42, 42, 180, 0, 172, 27, 182, 0, 192, 180, 0, 196, 3, 42, 180, 0, 38, 7, 27, 104, 7, 184, 1, 11]
abbrev dktX0_laysPowers_1 : List UInt8 := dkwX0_laysPowers_1 ++ dktX0_laysPowers_2
def dkwX0_laysPowers_0 : List UInt8 := [42, 7, 42, 180, 0, 147, 190, 104, 188, 10, 181, 0, 38, 3, 60, 27, 42, 180, 0, 147, 190, 162, 0, 33]
abbrev dktX0_laysPowers_0 : List UInt8 := dkwX0_laysPowers_0 ++ dktX0_laysPowers_1
theorem dksX0_laysPowers_0 : cX0_laysPowers.data.toList.drop 0 = dktX0_laysPowers_0 := by decide +kernel
theorem dksX0_laysPowers_1 : cX0_laysPowers.data.toList.drop 24 = dktX0_laysPowers_1 := dk_seg dksX0_laysPowers_0 24 rfl rfl
theorem dksX0_laysPowers_2 : cX0_laysPowers.data.toList.drop 48 = dktX0_laysPowers_2 := dk_seg dksX0_laysPowers_1 24 rfl rfl
theorem dX0_laysPowers_0 : decode cX0_laysPowers 0 = .ok (.aload_n 0, 1) := dk_42 (dk_at dksX0_laysPowers_0 0 rfl rfl)
theorem dX0_laysPowers_1 : decode cX0_laysPowers 1 = .ok (.iconst 4, 1) := dk_7 (dk_at dksX0_laysPowers_0 1 rfl rfl)
theorem dX0_laysPowers_2 : decode cX0_laysPowers 2 = .ok (.aload_n 0, 1) := dk_42 (dk_at dksX0_laysPowers_0 2 rfl rfl)
theorem dX0_laysPowers_3 : decode cX0_laysPowers 3 = .ok (.getfield 147, 3) := dk_180 0 147 (dk_at dksX0_laysPowers_0 3 rfl rfl)
theorem dX0_laysPowers_6 : decode cX0_laysPowers 6 = .ok (.arraylength, 1) := dk_190 (dk_at dksX0_laysPowers_0 6 rfl rfl)
theorem dX0_laysPowers_7 : decode cX0_laysPowers 7 = .ok (.imul, 1) := dk_104 (dk_at dksX0_laysPowers_0 7 rfl rfl)
theorem dX0_laysPowers_8 : decode cX0_laysPowers 8 = .ok (.newarray .int, 2) := dk_188_10 (dk_at dksX0_laysPowers_0 8 rfl rfl)
theorem dX0_laysPowers_10 : decode cX0_laysPowers 10 = .ok (.putfield 38, 3) := dk_181 0 38 (dk_at dksX0_laysPowers_0 10 rfl rfl)
theorem dX0_laysPowers_13 : decode cX0_laysPowers 13 = .ok (.iconst 0, 1) := dk_3 (dk_at dksX0_laysPowers_0 13 rfl rfl)
theorem dX0_laysPowers_14 : decode cX0_laysPowers 14 = .ok (.istore_n 1, 1) := dk_60 (dk_at dksX0_laysPowers_0 14 rfl rfl)
theorem dX0_laysPowers_15 : decode cX0_laysPowers 15 = .ok (.iload_n 1, 1) := dk_27 (dk_at dksX0_laysPowers_0 15 rfl rfl)
theorem dX0_laysPowers_16 : decode cX0_laysPowers 16 = .ok (.aload_n 0, 1) := dk_42 (dk_at dksX0_laysPowers_0 16 rfl rfl)
theorem dX0_laysPowers_17 : decode cX0_laysPowers 17 = .ok (.getfield 147, 3) := dk_180 0 147 (dk_at dksX0_laysPowers_0 17 rfl rfl)
theorem dX0_laysPowers_20 : decode cX0_laysPowers 20 = .ok (.arraylength, 1) := dk_190 (dk_at dksX0_laysPowers_0 20 rfl rfl)
theorem dX0_laysPowers_21 : decode cX0_laysPowers 21 = .ok (.if_icmp .ge 33, 3) := dk_162 0 33 (dk_at dksX0_laysPowers_0 21 rfl rfl)
theorem dX0_laysPowers_24 : decode cX0_laysPowers 24 = .ok (.aload_n 0, 1) := dk_42 (dk_at dksX0_laysPowers_1 0 rfl rfl)
theorem dX0_laysPowers_25 : decode cX0_laysPowers 25 = .ok (.aload_n 0, 1) := dk_42 (dk_at dksX0_laysPowers_1 1 rfl rfl)
theorem dX0_laysPowers_26 : decode cX0_laysPowers 26 = .ok (.getfield 172, 3) := dk_180 0 172 (dk_at dksX0_laysPowers_1 2 rfl rfl)
theorem dX0_laysPowers_29 : decode cX0_laysPowers 29 = .ok (.iload_n 1, 1) := dk_27 (dk_at dksX0_laysPowers_1 5 rfl rfl)
theorem dX0_laysPowers_30 : decode cX0_laysPowers 30 = .ok (.invokevirtual 192, 3) := dk_182 0 192 (dk_at dksX0_laysPowers_1 6 rfl rfl)
theorem dX0_laysPowers_33 : decode cX0_laysPowers 33 = .ok (.getfield 196, 3) := dk_180 0 196 (dk_at dksX0_laysPowers_1 9 rfl rfl)
theorem dX0_laysPowers_36 : decode cX0_laysPowers 36 = .ok (.iconst 0, 1) := dk_3 (dk_at dksX0_laysPowers_1 12 rfl rfl)
theorem dX0_laysPowers_37 : decode cX0_laysPowers 37 = .ok (.aload_n 0, 1) := dk_42 (dk_at dksX0_laysPowers_1 13 rfl rfl)
theorem dX0_laysPowers_38 : decode cX0_laysPowers 38 = .ok (.getfield 38, 3) := dk_180 0 38 (dk_at dksX0_laysPowers_1 14 rfl rfl)
theorem dX0_laysPowers_41 : decode cX0_laysPowers 41 = .ok (.iconst 4, 1) := dk_7 (dk_at dksX0_laysPowers_1 17 rfl rfl)
theorem dX0_laysPowers_42 : decode cX0_laysPowers 42 = .ok (.iload_n 1, 1) := dk_27 (dk_at dksX0_laysPowers_1 18 rfl rfl)
theorem dX0_laysPowers_43 : decode cX0_laysPowers 43 = .ok (.imul, 1) := dk_104 (dk_at dksX0_laysPowers_1 19 rfl rfl)
theorem dX0_laysPowers_44 : decode cX0_laysPowers 44 = .ok (.iconst 4, 1) := dk_7 (dk_at dksX0_laysPowers_1 20 rfl rfl)
theorem dX0_laysPowers_45 : decode cX0_laysPowers 45 = .ok (.invokestatic 267, 3) := dk_184 1 11 (dk_at dksX0_laysPowers_1 21 rfl rfl)
theorem dX0_laysPowers_48 : decode cX0_laysPowers 48 = .ok (.iinc 1 1, 3) := dk_132 1 1 (dk_at dksX0_laysPowers_2 0 rfl rfl)
theorem dX0_laysPowers_51 : decode cX0_laysPowers 51 = .ok (.goto (-36), 3) := dk_167 255 220 (dk_at dksX0_laysPowers_2 3 rfl rfl)
theorem dX0_laysPowers_54 : decode cX0_laysPowers 54 = .ok (.return_, 1) := dk_177 (dk_at dksX0_laysPowers_2 6 rfl rfl)
abbrev cX0_holds : ByteArray := prog_1_method_78_code
def yX0_holds : MethodName := ⟨RX0, "holds", "(I)I"⟩
def dkwX0_holds_1 : List UInt8 := [42, 180, 0, 147, 27, 51, 184, 0, 54, 167, 0, 4, 2, 172]
abbrev dktX0_holds_1 : List UInt8 := dkwX0_holds_1 ++ []
def dkwX0_holds_0 : List UInt8 := [42, 180, 0, 147, 198, 0, 32, 27, 133, 9, 42, 180, 0, 147, 190, 4, 100, 133, 184, 0, 110, 153, 0, 15]
abbrev dktX0_holds_0 : List UInt8 := dkwX0_holds_0 ++ dktX0_holds_1
theorem dksX0_holds_0 : cX0_holds.data.toList.drop 0 = dktX0_holds_0 := by decide +kernel
theorem dksX0_holds_1 : cX0_holds.data.toList.drop 24 = dktX0_holds_1 := dk_seg dksX0_holds_0 24 rfl rfl
theorem dX0_holds_0 : decode cX0_holds 0 = .ok (.aload_n 0, 1) := dk_42 (dk_at dksX0_holds_0 0 rfl rfl)
theorem dX0_holds_1 : decode cX0_holds 1 = .ok (.getfield 147, 3) := dk_180 0 147 (dk_at dksX0_holds_0 1 rfl rfl)
theorem dX0_holds_4 : decode cX0_holds 4 = .ok (.ifnull 32, 3) := dk_198 0 32 (dk_at dksX0_holds_0 4 rfl rfl)
theorem dX0_holds_7 : decode cX0_holds 7 = .ok (.iload_n 1, 1) := dk_27 (dk_at dksX0_holds_0 7 rfl rfl)
theorem dX0_holds_8 : decode cX0_holds 8 = .ok (.i2l, 1) := dk_133 (dk_at dksX0_holds_0 8 rfl rfl)
theorem dX0_holds_9 : decode cX0_holds 9 = .ok (.lconst 0, 1) := dk_9 (dk_at dksX0_holds_0 9 rfl rfl)
theorem dX0_holds_10 : decode cX0_holds 10 = .ok (.aload_n 0, 1) := dk_42 (dk_at dksX0_holds_0 10 rfl rfl)
theorem dX0_holds_11 : decode cX0_holds 11 = .ok (.getfield 147, 3) := dk_180 0 147 (dk_at dksX0_holds_0 11 rfl rfl)
theorem dX0_holds_14 : decode cX0_holds 14 = .ok (.arraylength, 1) := dk_190 (dk_at dksX0_holds_0 14 rfl rfl)
theorem dX0_holds_15 : decode cX0_holds 15 = .ok (.iconst 1, 1) := dk_4 (dk_at dksX0_holds_0 15 rfl rfl)
theorem dX0_holds_16 : decode cX0_holds 16 = .ok (.isub, 1) := dk_100 (dk_at dksX0_holds_0 16 rfl rfl)
theorem dX0_holds_17 : decode cX0_holds 17 = .ok (.i2l, 1) := dk_133 (dk_at dksX0_holds_0 17 rfl rfl)
theorem dX0_holds_18 : decode cX0_holds 18 = .ok (.invokestatic 110, 3) := dk_184 0 110 (dk_at dksX0_holds_0 18 rfl rfl)
theorem dX0_holds_21 : decode cX0_holds 21 = .ok (.ifCond .eq 15, 3) := dk_153 0 15 (dk_at dksX0_holds_0 21 rfl rfl)
theorem dX0_holds_24 : decode cX0_holds 24 = .ok (.aload_n 0, 1) := dk_42 (dk_at dksX0_holds_1 0 rfl rfl)
theorem dX0_holds_25 : decode cX0_holds 25 = .ok (.getfield 147, 3) := dk_180 0 147 (dk_at dksX0_holds_1 1 rfl rfl)
theorem dX0_holds_28 : decode cX0_holds 28 = .ok (.iload_n 1, 1) := dk_27 (dk_at dksX0_holds_1 4 rfl rfl)
theorem dX0_holds_29 : decode cX0_holds 29 = .ok (.baload, 1) := dk_51 (dk_at dksX0_holds_1 5 rfl rfl)
theorem dX0_holds_30 : decode cX0_holds 30 = .ok (.invokestatic 54, 3) := dk_184 0 54 (dk_at dksX0_holds_1 6 rfl rfl)
theorem dX0_holds_33 : decode cX0_holds 33 = .ok (.goto 4, 3) := dk_167 0 4 (dk_at dksX0_holds_1 9 rfl rfl)
theorem dX0_holds_36 : decode cX0_holds 36 = .ok (.iconst (-1), 1) := dk_2 (dk_at dksX0_holds_1 12 rfl rfl)
theorem dX0_holds_37 : decode cX0_holds 37 = .ok (.ireturn, 1) := dk_172 (dk_at dksX0_holds_1 13 rfl rfl)
abbrev cX0_press : ByteArray := prog_1_method_81_code
def yX0_press : MethodName := ⟨RX0, "press", "(I)I"⟩
def dkwX0_press_2 : List UInt8 := [180, 0, 147, 27, 182, 1, 114, 77, 44, 42, 180, 0, 147, 184, 1, 118, 62, 42, 44, 181, 0, 147, 29, 172]
abbrev dktX0_press_2 : List UInt8 := dkwX0_press_2 ++ []
def dkwX0_press_1 : List UInt8 := [180, 0, 20, 180, 0, 162, 4, 100, 133, 184, 0, 110, 154, 0, 9, 42, 5, 182, 0, 93, 172, 42, 42]
abbrev dktX0_press_1 : List UInt8 := dkwX0_press_1 ++ dktX0_press_2
def dkwX0_press_0 : List UInt8 := [42, 180, 0, 147, 198, 0, 33, 42, 180, 0, 20, 180, 0, 162, 4, 159, 0, 22, 27, 133, 9, 42]
abbrev dktX0_press_0 : List UInt8 := dkwX0_press_0 ++ dktX0_press_1
theorem dksX0_press_0 : cX0_press.data.toList.drop 0 = dktX0_press_0 := by decide +kernel
theorem dksX0_press_1 : cX0_press.data.toList.drop 22 = dktX0_press_1 := dk_seg dksX0_press_0 22 rfl rfl
theorem dksX0_press_2 : cX0_press.data.toList.drop 45 = dktX0_press_2 := dk_seg dksX0_press_1 23 rfl rfl
theorem dX0_press_0 : decode cX0_press 0 = .ok (.aload_n 0, 1) := dk_42 (dk_at dksX0_press_0 0 rfl rfl)
theorem dX0_press_1 : decode cX0_press 1 = .ok (.getfield 147, 3) := dk_180 0 147 (dk_at dksX0_press_0 1 rfl rfl)
theorem dX0_press_4 : decode cX0_press 4 = .ok (.ifnull 33, 3) := dk_198 0 33 (dk_at dksX0_press_0 4 rfl rfl)
theorem dX0_press_7 : decode cX0_press 7 = .ok (.aload_n 0, 1) := dk_42 (dk_at dksX0_press_0 7 rfl rfl)
theorem dX0_press_8 : decode cX0_press 8 = .ok (.getfield 20, 3) := dk_180 0 20 (dk_at dksX0_press_0 8 rfl rfl)
theorem dX0_press_11 : decode cX0_press 11 = .ok (.getfield 162, 3) := dk_180 0 162 (dk_at dksX0_press_0 11 rfl rfl)
theorem dX0_press_14 : decode cX0_press 14 = .ok (.iconst 1, 1) := dk_4 (dk_at dksX0_press_0 14 rfl rfl)
theorem dX0_press_15 : decode cX0_press 15 = .ok (.if_icmp .eq 22, 3) := dk_159 0 22 (dk_at dksX0_press_0 15 rfl rfl)
theorem dX0_press_18 : decode cX0_press 18 = .ok (.iload_n 1, 1) := dk_27 (dk_at dksX0_press_0 18 rfl rfl)
theorem dX0_press_19 : decode cX0_press 19 = .ok (.i2l, 1) := dk_133 (dk_at dksX0_press_0 19 rfl rfl)
theorem dX0_press_20 : decode cX0_press 20 = .ok (.lconst 0, 1) := dk_9 (dk_at dksX0_press_0 20 rfl rfl)
theorem dX0_press_21 : decode cX0_press 21 = .ok (.aload_n 0, 1) := dk_42 (dk_at dksX0_press_0 21 rfl rfl)
theorem dX0_press_22 : decode cX0_press 22 = .ok (.getfield 20, 3) := dk_180 0 20 (dk_at dksX0_press_1 0 rfl rfl)
theorem dX0_press_25 : decode cX0_press 25 = .ok (.getfield 162, 3) := dk_180 0 162 (dk_at dksX0_press_1 3 rfl rfl)
theorem dX0_press_28 : decode cX0_press 28 = .ok (.iconst 1, 1) := dk_4 (dk_at dksX0_press_1 6 rfl rfl)
theorem dX0_press_29 : decode cX0_press 29 = .ok (.isub, 1) := dk_100 (dk_at dksX0_press_1 7 rfl rfl)
theorem dX0_press_30 : decode cX0_press 30 = .ok (.i2l, 1) := dk_133 (dk_at dksX0_press_1 8 rfl rfl)
theorem dX0_press_31 : decode cX0_press 31 = .ok (.invokestatic 110, 3) := dk_184 0 110 (dk_at dksX0_press_1 9 rfl rfl)
theorem dX0_press_34 : decode cX0_press 34 = .ok (.ifCond .ne 9, 3) := dk_154 0 9 (dk_at dksX0_press_1 12 rfl rfl)
theorem dX0_press_37 : decode cX0_press 37 = .ok (.aload_n 0, 1) := dk_42 (dk_at dksX0_press_1 15 rfl rfl)
theorem dX0_press_38 : decode cX0_press 38 = .ok (.iconst 2, 1) := dk_5 (dk_at dksX0_press_1 16 rfl rfl)
theorem dX0_press_39 : decode cX0_press 39 = .ok (.invokevirtual 93, 3) := dk_182 0 93 (dk_at dksX0_press_1 17 rfl rfl)
theorem dX0_press_42 : decode cX0_press 42 = .ok (.ireturn, 1) := dk_172 (dk_at dksX0_press_1 20 rfl rfl)
theorem dX0_press_43 : decode cX0_press 43 = .ok (.aload_n 0, 1) := dk_42 (dk_at dksX0_press_1 21 rfl rfl)
theorem dX0_press_44 : decode cX0_press 44 = .ok (.aload_n 0, 1) := dk_42 (dk_at dksX0_press_1 22 rfl rfl)
theorem dX0_press_45 : decode cX0_press 45 = .ok (.getfield 147, 3) := dk_180 0 147 (dk_at dksX0_press_2 0 rfl rfl)
theorem dX0_press_48 : decode cX0_press 48 = .ok (.iload_n 1, 1) := dk_27 (dk_at dksX0_press_2 3 rfl rfl)
theorem dX0_press_49 : decode cX0_press 49 = .ok (.invokevirtual 370, 3) := dk_182 1 114 (dk_at dksX0_press_2 4 rfl rfl)
theorem dX0_press_52 : decode cX0_press 52 = .ok (.astore_n 2, 1) := dk_77 (dk_at dksX0_press_2 7 rfl rfl)
theorem dX0_press_53 : decode cX0_press 53 = .ok (.aload_n 2, 1) := dk_44 (dk_at dksX0_press_2 8 rfl rfl)
theorem dX0_press_54 : decode cX0_press 54 = .ok (.aload_n 0, 1) := dk_42 (dk_at dksX0_press_2 9 rfl rfl)
theorem dX0_press_55 : decode cX0_press 55 = .ok (.getfield 147, 3) := dk_180 0 147 (dk_at dksX0_press_2 10 rfl rfl)
theorem dX0_press_58 : decode cX0_press 58 = .ok (.invokestatic 374, 3) := dk_184 1 118 (dk_at dksX0_press_2 13 rfl rfl)
theorem dX0_press_61 : decode cX0_press 61 = .ok (.istore_n 3, 1) := dk_62 (dk_at dksX0_press_2 16 rfl rfl)
theorem dX0_press_62 : decode cX0_press 62 = .ok (.aload_n 0, 1) := dk_42 (dk_at dksX0_press_2 17 rfl rfl)
theorem dX0_press_63 : decode cX0_press 63 = .ok (.aload_n 2, 1) := dk_44 (dk_at dksX0_press_2 18 rfl rfl)
theorem dX0_press_64 : decode cX0_press 64 = .ok (.putfield 147, 3) := dk_181 0 147 (dk_at dksX0_press_2 19 rfl rfl)
theorem dX0_press_67 : decode cX0_press 67 = .ok (.iload_n 3, 1) := dk_29 (dk_at dksX0_press_2 22 rfl rfl)
theorem dX0_press_68 : decode cX0_press 68 = .ok (.ireturn, 1) := dk_172 (dk_at dksX0_press_2 23 rfl rfl)
abbrev cX0_pressedBy : ByteArray := prog_1_method_79_code
def yX0_pressedBy : MethodName := ⟨RX0, "pressedBy", "([ZI)[Z"⟩
def dkwX0_pressedBy_4 : List UInt8 := [46, 4, 100, 79, 132, 5, 1, 167, 255, 211, 45, 176]
abbrev dktX0_pressedBy_4 : List UInt8 := dkwX0_pressedBy_4 ++ []
def dkwX0_pressedBy_3 : List UInt8 := [54, 6, 45, 21, 5, 25, 4, 21, 6, 46, 158, 0, 7, 4, 167, 0, 4, 3, 84, 25, 4, 21, 6, 92]
abbrev dktX0_pressedBy_3 : List UInt8 := dkwX0_pressedBy_3 ++ dktX0_pressedBy_4
def dkwX0_pressedBy_2 : List UInt8 := [132, 5, 1, 167, 255, 225, 3, 54, 5, 21, 5, 43, 190, 162, 0, 44, 42, 21, 5, 28, 182, 1, 111]
abbrev dktX0_pressedBy_2 : List UInt8 := dkwX0_pressedBy_2 ++ dktX0_pressedBy_3
def dkwX0_pressedBy_1 : List UInt8 := [162, 0, 30, 43, 21, 5, 51, 153, 0, 17, 25, 4, 42, 21, 5, 28, 182, 1, 111, 92, 46, 4, 96, 79]
abbrev dktX0_pressedBy_1 : List UInt8 := dkwX0_pressedBy_1 ++ dktX0_pressedBy_2
def dkwX0_pressedBy_0 : List UInt8 := [43, 190, 188, 4, 78, 42, 180, 0, 172, 4, 96, 188, 10, 58, 4, 3, 54, 5, 21, 5, 43, 190]
abbrev dktX0_pressedBy_0 : List UInt8 := dkwX0_pressedBy_0 ++ dktX0_pressedBy_1
theorem dksX0_pressedBy_0 : cX0_pressedBy.data.toList.drop 0 = dktX0_pressedBy_0 := by decide +kernel
theorem dksX0_pressedBy_1 : cX0_pressedBy.data.toList.drop 22 = dktX0_pressedBy_1 := dk_seg dksX0_pressedBy_0 22 rfl rfl
theorem dksX0_pressedBy_2 : cX0_pressedBy.data.toList.drop 46 = dktX0_pressedBy_2 := dk_seg dksX0_pressedBy_1 24 rfl rfl
theorem dksX0_pressedBy_3 : cX0_pressedBy.data.toList.drop 69 = dktX0_pressedBy_3 := dk_seg dksX0_pressedBy_2 23 rfl rfl
theorem dksX0_pressedBy_4 : cX0_pressedBy.data.toList.drop 93 = dktX0_pressedBy_4 := dk_seg dksX0_pressedBy_3 24 rfl rfl
theorem dX0_pressedBy_0 : decode cX0_pressedBy 0 = .ok (.aload_n 1, 1) := dk_43 (dk_at dksX0_pressedBy_0 0 rfl rfl)
theorem dX0_pressedBy_1 : decode cX0_pressedBy 1 = .ok (.arraylength, 1) := dk_190 (dk_at dksX0_pressedBy_0 1 rfl rfl)
theorem dX0_pressedBy_2 : decode cX0_pressedBy 2 = .ok (.newarray .boolean, 2) := dk_188_4 (dk_at dksX0_pressedBy_0 2 rfl rfl)
theorem dX0_pressedBy_4 : decode cX0_pressedBy 4 = .ok (.astore_n 3, 1) := dk_78 (dk_at dksX0_pressedBy_0 4 rfl rfl)
theorem dX0_pressedBy_5 : decode cX0_pressedBy 5 = .ok (.aload_n 0, 1) := dk_42 (dk_at dksX0_pressedBy_0 5 rfl rfl)
theorem dX0_pressedBy_6 : decode cX0_pressedBy 6 = .ok (.getfield 172, 3) := dk_180 0 172 (dk_at dksX0_pressedBy_0 6 rfl rfl)
theorem dX0_pressedBy_9 : decode cX0_pressedBy 9 = .ok (.iconst 1, 1) := dk_4 (dk_at dksX0_pressedBy_0 9 rfl rfl)
theorem dX0_pressedBy_10 : decode cX0_pressedBy 10 = .ok (.iadd, 1) := dk_96 (dk_at dksX0_pressedBy_0 10 rfl rfl)
theorem dX0_pressedBy_11 : decode cX0_pressedBy 11 = .ok (.newarray .int, 2) := dk_188_10 (dk_at dksX0_pressedBy_0 11 rfl rfl)
theorem dX0_pressedBy_13 : decode cX0_pressedBy 13 = .ok (.astore 4, 2) := dk_58 4 (dk_at dksX0_pressedBy_0 13 rfl rfl)
theorem dX0_pressedBy_15 : decode cX0_pressedBy 15 = .ok (.iconst 0, 1) := dk_3 (dk_at dksX0_pressedBy_0 15 rfl rfl)
theorem dX0_pressedBy_16 : decode cX0_pressedBy 16 = .ok (.istore 5, 2) := dk_54 5 (dk_at dksX0_pressedBy_0 16 rfl rfl)
theorem dX0_pressedBy_18 : decode cX0_pressedBy 18 = .ok (.iload 5, 2) := dk_21 5 (dk_at dksX0_pressedBy_0 18 rfl rfl)
theorem dX0_pressedBy_20 : decode cX0_pressedBy 20 = .ok (.aload_n 1, 1) := dk_43 (dk_at dksX0_pressedBy_0 20 rfl rfl)
theorem dX0_pressedBy_21 : decode cX0_pressedBy 21 = .ok (.arraylength, 1) := dk_190 (dk_at dksX0_pressedBy_0 21 rfl rfl)
theorem dX0_pressedBy_22 : decode cX0_pressedBy 22 = .ok (.if_icmp .ge 30, 3) := dk_162 0 30 (dk_at dksX0_pressedBy_1 0 rfl rfl)
theorem dX0_pressedBy_25 : decode cX0_pressedBy 25 = .ok (.aload_n 1, 1) := dk_43 (dk_at dksX0_pressedBy_1 3 rfl rfl)
theorem dX0_pressedBy_26 : decode cX0_pressedBy 26 = .ok (.iload 5, 2) := dk_21 5 (dk_at dksX0_pressedBy_1 4 rfl rfl)
theorem dX0_pressedBy_28 : decode cX0_pressedBy 28 = .ok (.baload, 1) := dk_51 (dk_at dksX0_pressedBy_1 6 rfl rfl)
theorem dX0_pressedBy_29 : decode cX0_pressedBy 29 = .ok (.ifCond .eq 17, 3) := dk_153 0 17 (dk_at dksX0_pressedBy_1 7 rfl rfl)
theorem dX0_pressedBy_32 : decode cX0_pressedBy 32 = .ok (.aload 4, 2) := dk_25 4 (dk_at dksX0_pressedBy_1 10 rfl rfl)
theorem dX0_pressedBy_34 : decode cX0_pressedBy 34 = .ok (.aload_n 0, 1) := dk_42 (dk_at dksX0_pressedBy_1 12 rfl rfl)
theorem dX0_pressedBy_35 : decode cX0_pressedBy 35 = .ok (.iload 5, 2) := dk_21 5 (dk_at dksX0_pressedBy_1 13 rfl rfl)
theorem dX0_pressedBy_37 : decode cX0_pressedBy 37 = .ok (.iload_n 2, 1) := dk_28 (dk_at dksX0_pressedBy_1 15 rfl rfl)
theorem dX0_pressedBy_38 : decode cX0_pressedBy 38 = .ok (.invokevirtual 367, 3) := dk_182 1 111 (dk_at dksX0_pressedBy_1 16 rfl rfl)
theorem dX0_pressedBy_41 : decode cX0_pressedBy 41 = .ok (.dup2, 1) := dk_92 (dk_at dksX0_pressedBy_1 19 rfl rfl)
theorem dX0_pressedBy_42 : decode cX0_pressedBy 42 = .ok (.iaload, 1) := dk_46 (dk_at dksX0_pressedBy_1 20 rfl rfl)
theorem dX0_pressedBy_43 : decode cX0_pressedBy 43 = .ok (.iconst 1, 1) := dk_4 (dk_at dksX0_pressedBy_1 21 rfl rfl)
theorem dX0_pressedBy_44 : decode cX0_pressedBy 44 = .ok (.iadd, 1) := dk_96 (dk_at dksX0_pressedBy_1 22 rfl rfl)
theorem dX0_pressedBy_45 : decode cX0_pressedBy 45 = .ok (.iastore, 1) := dk_79 (dk_at dksX0_pressedBy_1 23 rfl rfl)
theorem dX0_pressedBy_46 : decode cX0_pressedBy 46 = .ok (.iinc 5 1, 3) := dk_132 5 1 (dk_at dksX0_pressedBy_2 0 rfl rfl)
theorem dX0_pressedBy_49 : decode cX0_pressedBy 49 = .ok (.goto (-31), 3) := dk_167 255 225 (dk_at dksX0_pressedBy_2 3 rfl rfl)
theorem dX0_pressedBy_52 : decode cX0_pressedBy 52 = .ok (.iconst 0, 1) := dk_3 (dk_at dksX0_pressedBy_2 6 rfl rfl)
theorem dX0_pressedBy_53 : decode cX0_pressedBy 53 = .ok (.istore 5, 2) := dk_54 5 (dk_at dksX0_pressedBy_2 7 rfl rfl)
theorem dX0_pressedBy_55 : decode cX0_pressedBy 55 = .ok (.iload 5, 2) := dk_21 5 (dk_at dksX0_pressedBy_2 9 rfl rfl)
theorem dX0_pressedBy_57 : decode cX0_pressedBy 57 = .ok (.aload_n 1, 1) := dk_43 (dk_at dksX0_pressedBy_2 11 rfl rfl)
theorem dX0_pressedBy_58 : decode cX0_pressedBy 58 = .ok (.arraylength, 1) := dk_190 (dk_at dksX0_pressedBy_2 12 rfl rfl)
theorem dX0_pressedBy_59 : decode cX0_pressedBy 59 = .ok (.if_icmp .ge 44, 3) := dk_162 0 44 (dk_at dksX0_pressedBy_2 13 rfl rfl)
theorem dX0_pressedBy_62 : decode cX0_pressedBy 62 = .ok (.aload_n 0, 1) := dk_42 (dk_at dksX0_pressedBy_2 16 rfl rfl)
theorem dX0_pressedBy_63 : decode cX0_pressedBy 63 = .ok (.iload 5, 2) := dk_21 5 (dk_at dksX0_pressedBy_2 17 rfl rfl)
theorem dX0_pressedBy_65 : decode cX0_pressedBy 65 = .ok (.iload_n 2, 1) := dk_28 (dk_at dksX0_pressedBy_2 19 rfl rfl)
theorem dX0_pressedBy_66 : decode cX0_pressedBy 66 = .ok (.invokevirtual 367, 3) := dk_182 1 111 (dk_at dksX0_pressedBy_2 20 rfl rfl)
theorem dX0_pressedBy_69 : decode cX0_pressedBy 69 = .ok (.istore 6, 2) := dk_54 6 (dk_at dksX0_pressedBy_3 0 rfl rfl)
theorem dX0_pressedBy_71 : decode cX0_pressedBy 71 = .ok (.aload_n 3, 1) := dk_45 (dk_at dksX0_pressedBy_3 2 rfl rfl)
theorem dX0_pressedBy_72 : decode cX0_pressedBy 72 = .ok (.iload 5, 2) := dk_21 5 (dk_at dksX0_pressedBy_3 3 rfl rfl)
theorem dX0_pressedBy_74 : decode cX0_pressedBy 74 = .ok (.aload 4, 2) := dk_25 4 (dk_at dksX0_pressedBy_3 5 rfl rfl)
theorem dX0_pressedBy_76 : decode cX0_pressedBy 76 = .ok (.iload 6, 2) := dk_21 6 (dk_at dksX0_pressedBy_3 7 rfl rfl)
theorem dX0_pressedBy_78 : decode cX0_pressedBy 78 = .ok (.iaload, 1) := dk_46 (dk_at dksX0_pressedBy_3 9 rfl rfl)
theorem dX0_pressedBy_79 : decode cX0_pressedBy 79 = .ok (.ifCond .le 7, 3) := dk_158 0 7 (dk_at dksX0_pressedBy_3 10 rfl rfl)
theorem dX0_pressedBy_82 : decode cX0_pressedBy 82 = .ok (.iconst 1, 1) := dk_4 (dk_at dksX0_pressedBy_3 13 rfl rfl)
theorem dX0_pressedBy_83 : decode cX0_pressedBy 83 = .ok (.goto 4, 3) := dk_167 0 4 (dk_at dksX0_pressedBy_3 14 rfl rfl)
theorem dX0_pressedBy_86 : decode cX0_pressedBy 86 = .ok (.iconst 0, 1) := dk_3 (dk_at dksX0_pressedBy_3 17 rfl rfl)
theorem dX0_pressedBy_87 : decode cX0_pressedBy 87 = .ok (.bastore, 1) := dk_84 (dk_at dksX0_pressedBy_3 18 rfl rfl)
theorem dX0_pressedBy_88 : decode cX0_pressedBy 88 = .ok (.aload 4, 2) := dk_25 4 (dk_at dksX0_pressedBy_3 19 rfl rfl)
theorem dX0_pressedBy_90 : decode cX0_pressedBy 90 = .ok (.iload 6, 2) := dk_21 6 (dk_at dksX0_pressedBy_3 21 rfl rfl)
theorem dX0_pressedBy_92 : decode cX0_pressedBy 92 = .ok (.dup2, 1) := dk_92 (dk_at dksX0_pressedBy_3 23 rfl rfl)
theorem dX0_pressedBy_93 : decode cX0_pressedBy 93 = .ok (.iaload, 1) := dk_46 (dk_at dksX0_pressedBy_4 0 rfl rfl)
theorem dX0_pressedBy_94 : decode cX0_pressedBy 94 = .ok (.iconst 1, 1) := dk_4 (dk_at dksX0_pressedBy_4 1 rfl rfl)
theorem dX0_pressedBy_95 : decode cX0_pressedBy 95 = .ok (.isub, 1) := dk_100 (dk_at dksX0_pressedBy_4 2 rfl rfl)
theorem dX0_pressedBy_96 : decode cX0_pressedBy 96 = .ok (.iastore, 1) := dk_79 (dk_at dksX0_pressedBy_4 3 rfl rfl)
theorem dX0_pressedBy_97 : decode cX0_pressedBy 97 = .ok (.iinc 5 1, 3) := dk_132 5 1 (dk_at dksX0_pressedBy_4 4 rfl rfl)
theorem dX0_pressedBy_100 : decode cX0_pressedBy 100 = .ok (.goto (-45), 3) := dk_167 255 211 (dk_at dksX0_pressedBy_4 7 rfl rfl)
theorem dX0_pressedBy_103 : decode cX0_pressedBy 103 = .ok (.aload_n 3, 1) := dk_45 (dk_at dksX0_pressedBy_4 10 rfl rfl)
theorem dX0_pressedBy_104 : decode cX0_pressedBy 104 = .ok (.areturn, 1) := dk_176 (dk_at dksX0_pressedBy_4 11 rfl rfl)
abbrev cX0_powerOf : ByteArray := prog_1_method_74_code
def yX0_powerOf : MethodName := ⟨RX0, "powerOf", "(II)I"⟩
def dkwX0_powerOf_0 : List UInt8 := [42, 180, 0, 38, 7, 27, 104, 28, 96, 46, 172]
abbrev dktX0_powerOf_0 : List UInt8 := dkwX0_powerOf_0 ++ []
theorem dksX0_powerOf_0 : cX0_powerOf.data.toList.drop 0 = dktX0_powerOf_0 := by decide +kernel
theorem dX0_powerOf_0 : decode cX0_powerOf 0 = .ok (.aload_n 0, 1) := dk_42 (dk_at dksX0_powerOf_0 0 rfl rfl)
theorem dX0_powerOf_1 : decode cX0_powerOf 1 = .ok (.getfield 38, 3) := dk_180 0 38 (dk_at dksX0_powerOf_0 1 rfl rfl)
theorem dX0_powerOf_4 : decode cX0_powerOf 4 = .ok (.iconst 4, 1) := dk_7 (dk_at dksX0_powerOf_0 4 rfl rfl)
theorem dX0_powerOf_5 : decode cX0_powerOf 5 = .ok (.iload_n 1, 1) := dk_27 (dk_at dksX0_powerOf_0 5 rfl rfl)
theorem dX0_powerOf_6 : decode cX0_powerOf 6 = .ok (.imul, 1) := dk_104 (dk_at dksX0_powerOf_0 6 rfl rfl)
theorem dX0_powerOf_7 : decode cX0_powerOf 7 = .ok (.iload_n 2, 1) := dk_28 (dk_at dksX0_powerOf_0 7 rfl rfl)
theorem dX0_powerOf_8 : decode cX0_powerOf 8 = .ok (.iadd, 1) := dk_96 (dk_at dksX0_powerOf_0 8 rfl rfl)
theorem dX0_powerOf_9 : decode cX0_powerOf 9 = .ok (.iaload, 1) := dk_46 (dk_at dksX0_powerOf_0 9 rfl rfl)
theorem dX0_powerOf_10 : decode cX0_powerOf 10 = .ok (.ireturn, 1) := dk_172 (dk_at dksX0_powerOf_0 10 rfl rfl)
abbrev cX0_come : ByteArray := prog_1_method_80_code
def yX0_come : MethodName := ⟨RX0, "come", "([Z[Z)I"⟩
def dkwX0_come_1 : List UInt8 := [167, 0, 4, 3, 184, 0, 54, 96, 61, 132, 3, 1, 167, 255, 224, 28, 172]
abbrev dktX0_come_1 : List UInt8 := dkwX0_come_1 ++ []
def dkwX0_come_0 : List UInt8 := [3, 61, 3, 62, 29, 42, 190, 162, 0, 32, 28, 42, 29, 51, 153, 0, 13, 43, 29, 51, 154, 0, 7, 4]
abbrev dktX0_come_0 : List UInt8 := dkwX0_come_0 ++ dktX0_come_1
theorem dksX0_come_0 : cX0_come.data.toList.drop 0 = dktX0_come_0 := by decide +kernel
theorem dksX0_come_1 : cX0_come.data.toList.drop 24 = dktX0_come_1 := dk_seg dksX0_come_0 24 rfl rfl
theorem dX0_come_0 : decode cX0_come 0 = .ok (.iconst 0, 1) := dk_3 (dk_at dksX0_come_0 0 rfl rfl)
theorem dX0_come_1 : decode cX0_come 1 = .ok (.istore_n 2, 1) := dk_61 (dk_at dksX0_come_0 1 rfl rfl)
theorem dX0_come_2 : decode cX0_come 2 = .ok (.iconst 0, 1) := dk_3 (dk_at dksX0_come_0 2 rfl rfl)
theorem dX0_come_3 : decode cX0_come 3 = .ok (.istore_n 3, 1) := dk_62 (dk_at dksX0_come_0 3 rfl rfl)
theorem dX0_come_4 : decode cX0_come 4 = .ok (.iload_n 3, 1) := dk_29 (dk_at dksX0_come_0 4 rfl rfl)
theorem dX0_come_5 : decode cX0_come 5 = .ok (.aload_n 0, 1) := dk_42 (dk_at dksX0_come_0 5 rfl rfl)
theorem dX0_come_6 : decode cX0_come 6 = .ok (.arraylength, 1) := dk_190 (dk_at dksX0_come_0 6 rfl rfl)
theorem dX0_come_7 : decode cX0_come 7 = .ok (.if_icmp .ge 32, 3) := dk_162 0 32 (dk_at dksX0_come_0 7 rfl rfl)
theorem dX0_come_10 : decode cX0_come 10 = .ok (.iload_n 2, 1) := dk_28 (dk_at dksX0_come_0 10 rfl rfl)
theorem dX0_come_11 : decode cX0_come 11 = .ok (.aload_n 0, 1) := dk_42 (dk_at dksX0_come_0 11 rfl rfl)
theorem dX0_come_12 : decode cX0_come 12 = .ok (.iload_n 3, 1) := dk_29 (dk_at dksX0_come_0 12 rfl rfl)
theorem dX0_come_13 : decode cX0_come 13 = .ok (.baload, 1) := dk_51 (dk_at dksX0_come_0 13 rfl rfl)
theorem dX0_come_14 : decode cX0_come 14 = .ok (.ifCond .eq 13, 3) := dk_153 0 13 (dk_at dksX0_come_0 14 rfl rfl)
theorem dX0_come_17 : decode cX0_come 17 = .ok (.aload_n 1, 1) := dk_43 (dk_at dksX0_come_0 17 rfl rfl)
theorem dX0_come_18 : decode cX0_come 18 = .ok (.iload_n 3, 1) := dk_29 (dk_at dksX0_come_0 18 rfl rfl)
theorem dX0_come_19 : decode cX0_come 19 = .ok (.baload, 1) := dk_51 (dk_at dksX0_come_0 19 rfl rfl)
theorem dX0_come_20 : decode cX0_come 20 = .ok (.ifCond .ne 7, 3) := dk_154 0 7 (dk_at dksX0_come_0 20 rfl rfl)
theorem dX0_come_23 : decode cX0_come 23 = .ok (.iconst 1, 1) := dk_4 (dk_at dksX0_come_0 23 rfl rfl)
theorem dX0_come_24 : decode cX0_come 24 = .ok (.goto 4, 3) := dk_167 0 4 (dk_at dksX0_come_1 0 rfl rfl)
theorem dX0_come_27 : decode cX0_come 27 = .ok (.iconst 0, 1) := dk_3 (dk_at dksX0_come_1 3 rfl rfl)
theorem dX0_come_28 : decode cX0_come 28 = .ok (.invokestatic 54, 3) := dk_184 0 54 (dk_at dksX0_come_1 4 rfl rfl)
theorem dX0_come_31 : decode cX0_come 31 = .ok (.iadd, 1) := dk_96 (dk_at dksX0_come_1 7 rfl rfl)
theorem dX0_come_32 : decode cX0_come 32 = .ok (.istore_n 2, 1) := dk_61 (dk_at dksX0_come_1 8 rfl rfl)
theorem dX0_come_33 : decode cX0_come 33 = .ok (.iinc 3 1, 3) := dk_132 3 1 (dk_at dksX0_come_1 9 rfl rfl)
theorem dX0_come_36 : decode cX0_come 36 = .ok (.goto (-32), 3) := dk_167 255 224 (dk_at dksX0_come_1 12 rfl rfl)
theorem dX0_come_39 : decode cX0_come 39 = .ok (.iload_n 2, 1) := dk_28 (dk_at dksX0_come_1 15 rfl rfl)
theorem dX0_come_40 : decode cX0_come 40 = .ok (.ireturn, 1) := dk_172 (dk_at dksX0_come_1 16 rfl rfl)
abbrev cX0_pressed : ByteArray := prog_1_method_82_code
def yX0_pressed : MethodName := ⟨RX0, "pressed", "(II)I"⟩
def dkwX0_pressed_3 : List UInt8 := [167, 0, 13, 42, 180, 0, 47, 27, 46, 167, 0, 4, 2, 172]
abbrev dktX0_pressed_3 : List UInt8 := dkwX0_pressed_3 ++ []
def dkwX0_pressed_2 : List UInt8 := [184, 1, 122, 4, 100, 133, 184, 0, 110, 153, 0, 25, 28, 154, 0, 12, 42, 180, 0, 44, 27, 46]
abbrev dktX0_pressed_2 : List UInt8 := dkwX0_pressed_2 ++ dktX0_pressed_3
def dkwX0_pressed_1 : List UInt8 := [28, 154, 0, 10, 42, 180, 1, 105, 167, 0, 4, 2, 172, 27, 133, 9, 42, 180, 1, 105, 16, 100]
abbrev dktX0_pressed_1 : List UInt8 := dkwX0_pressed_1 ++ dktX0_pressed_2
def dkwX0_pressed_0 : List UInt8 := [42, 180, 0, 147, 198, 0, 13, 28, 133, 9, 10, 184, 0, 110, 154, 0, 5, 2, 172, 27, 2, 160, 0, 16]
abbrev dktX0_pressed_0 : List UInt8 := dkwX0_pressed_0 ++ dktX0_pressed_1
theorem dksX0_pressed_0 : cX0_pressed.data.toList.drop 0 = dktX0_pressed_0 := by decide +kernel
theorem dksX0_pressed_1 : cX0_pressed.data.toList.drop 24 = dktX0_pressed_1 := dk_seg dksX0_pressed_0 24 rfl rfl
theorem dksX0_pressed_2 : cX0_pressed.data.toList.drop 46 = dktX0_pressed_2 := dk_seg dksX0_pressed_1 22 rfl rfl
theorem dksX0_pressed_3 : cX0_pressed.data.toList.drop 68 = dktX0_pressed_3 := dk_seg dksX0_pressed_2 22 rfl rfl
theorem dX0_pressed_0 : decode cX0_pressed 0 = .ok (.aload_n 0, 1) := dk_42 (dk_at dksX0_pressed_0 0 rfl rfl)
theorem dX0_pressed_1 : decode cX0_pressed 1 = .ok (.getfield 147, 3) := dk_180 0 147 (dk_at dksX0_pressed_0 1 rfl rfl)
theorem dX0_pressed_4 : decode cX0_pressed 4 = .ok (.ifnull 13, 3) := dk_198 0 13 (dk_at dksX0_pressed_0 4 rfl rfl)
theorem dX0_pressed_7 : decode cX0_pressed 7 = .ok (.iload_n 2, 1) := dk_28 (dk_at dksX0_pressed_0 7 rfl rfl)
theorem dX0_pressed_8 : decode cX0_pressed 8 = .ok (.i2l, 1) := dk_133 (dk_at dksX0_pressed_0 8 rfl rfl)
theorem dX0_pressed_9 : decode cX0_pressed 9 = .ok (.lconst 0, 1) := dk_9 (dk_at dksX0_pressed_0 9 rfl rfl)
theorem dX0_pressed_10 : decode cX0_pressed 10 = .ok (.lconst 1, 1) := dk_10 (dk_at dksX0_pressed_0 10 rfl rfl)
theorem dX0_pressed_11 : decode cX0_pressed 11 = .ok (.invokestatic 110, 3) := dk_184 0 110 (dk_at dksX0_pressed_0 11 rfl rfl)
theorem dX0_pressed_14 : decode cX0_pressed 14 = .ok (.ifCond .ne 5, 3) := dk_154 0 5 (dk_at dksX0_pressed_0 14 rfl rfl)
theorem dX0_pressed_17 : decode cX0_pressed 17 = .ok (.iconst (-1), 1) := dk_2 (dk_at dksX0_pressed_0 17 rfl rfl)
theorem dX0_pressed_18 : decode cX0_pressed 18 = .ok (.ireturn, 1) := dk_172 (dk_at dksX0_pressed_0 18 rfl rfl)
theorem dX0_pressed_19 : decode cX0_pressed 19 = .ok (.iload_n 1, 1) := dk_27 (dk_at dksX0_pressed_0 19 rfl rfl)
theorem dX0_pressed_20 : decode cX0_pressed 20 = .ok (.iconst (-1), 1) := dk_2 (dk_at dksX0_pressed_0 20 rfl rfl)
theorem dX0_pressed_21 : decode cX0_pressed 21 = .ok (.if_icmp .ne 16, 3) := dk_160 0 16 (dk_at dksX0_pressed_0 21 rfl rfl)
theorem dX0_pressed_24 : decode cX0_pressed 24 = .ok (.iload_n 2, 1) := dk_28 (dk_at dksX0_pressed_1 0 rfl rfl)
theorem dX0_pressed_25 : decode cX0_pressed 25 = .ok (.ifCond .ne 10, 3) := dk_154 0 10 (dk_at dksX0_pressed_1 1 rfl rfl)
theorem dX0_pressed_28 : decode cX0_pressed 28 = .ok (.aload_n 0, 1) := dk_42 (dk_at dksX0_pressed_1 4 rfl rfl)
theorem dX0_pressed_29 : decode cX0_pressed 29 = .ok (.getfield 361, 3) := dk_180 1 105 (dk_at dksX0_pressed_1 5 rfl rfl)
theorem dX0_pressed_32 : decode cX0_pressed 32 = .ok (.goto 4, 3) := dk_167 0 4 (dk_at dksX0_pressed_1 8 rfl rfl)
theorem dX0_pressed_35 : decode cX0_pressed 35 = .ok (.iconst (-1), 1) := dk_2 (dk_at dksX0_pressed_1 11 rfl rfl)
theorem dX0_pressed_36 : decode cX0_pressed 36 = .ok (.ireturn, 1) := dk_172 (dk_at dksX0_pressed_1 12 rfl rfl)
theorem dX0_pressed_37 : decode cX0_pressed 37 = .ok (.iload_n 1, 1) := dk_27 (dk_at dksX0_pressed_1 13 rfl rfl)
theorem dX0_pressed_38 : decode cX0_pressed 38 = .ok (.i2l, 1) := dk_133 (dk_at dksX0_pressed_1 14 rfl rfl)
theorem dX0_pressed_39 : decode cX0_pressed 39 = .ok (.lconst 0, 1) := dk_9 (dk_at dksX0_pressed_1 15 rfl rfl)
theorem dX0_pressed_40 : decode cX0_pressed 40 = .ok (.aload_n 0, 1) := dk_42 (dk_at dksX0_pressed_1 16 rfl rfl)
theorem dX0_pressed_41 : decode cX0_pressed 41 = .ok (.getfield 361, 3) := dk_180 1 105 (dk_at dksX0_pressed_1 17 rfl rfl)
theorem dX0_pressed_44 : decode cX0_pressed 44 = .ok (.bipush 100, 2) := dk_16 100 (dk_at dksX0_pressed_1 20 rfl rfl)
theorem dX0_pressed_46 : decode cX0_pressed 46 = .ok (.invokestatic 378, 3) := dk_184 1 122 (dk_at dksX0_pressed_2 0 rfl rfl)
theorem dX0_pressed_49 : decode cX0_pressed 49 = .ok (.iconst 1, 1) := dk_4 (dk_at dksX0_pressed_2 3 rfl rfl)
theorem dX0_pressed_50 : decode cX0_pressed 50 = .ok (.isub, 1) := dk_100 (dk_at dksX0_pressed_2 4 rfl rfl)
theorem dX0_pressed_51 : decode cX0_pressed 51 = .ok (.i2l, 1) := dk_133 (dk_at dksX0_pressed_2 5 rfl rfl)
theorem dX0_pressed_52 : decode cX0_pressed 52 = .ok (.invokestatic 110, 3) := dk_184 0 110 (dk_at dksX0_pressed_2 6 rfl rfl)
theorem dX0_pressed_55 : decode cX0_pressed 55 = .ok (.ifCond .eq 25, 3) := dk_153 0 25 (dk_at dksX0_pressed_2 9 rfl rfl)
theorem dX0_pressed_58 : decode cX0_pressed 58 = .ok (.iload_n 2, 1) := dk_28 (dk_at dksX0_pressed_2 12 rfl rfl)
theorem dX0_pressed_59 : decode cX0_pressed 59 = .ok (.ifCond .ne 12, 3) := dk_154 0 12 (dk_at dksX0_pressed_2 13 rfl rfl)
theorem dX0_pressed_62 : decode cX0_pressed 62 = .ok (.aload_n 0, 1) := dk_42 (dk_at dksX0_pressed_2 16 rfl rfl)
theorem dX0_pressed_63 : decode cX0_pressed 63 = .ok (.getfield 44, 3) := dk_180 0 44 (dk_at dksX0_pressed_2 17 rfl rfl)
theorem dX0_pressed_66 : decode cX0_pressed 66 = .ok (.iload_n 1, 1) := dk_27 (dk_at dksX0_pressed_2 20 rfl rfl)
theorem dX0_pressed_67 : decode cX0_pressed 67 = .ok (.iaload, 1) := dk_46 (dk_at dksX0_pressed_2 21 rfl rfl)
theorem dX0_pressed_68 : decode cX0_pressed 68 = .ok (.goto 13, 3) := dk_167 0 13 (dk_at dksX0_pressed_3 0 rfl rfl)
theorem dX0_pressed_71 : decode cX0_pressed 71 = .ok (.aload_n 0, 1) := dk_42 (dk_at dksX0_pressed_3 3 rfl rfl)
theorem dX0_pressed_72 : decode cX0_pressed 72 = .ok (.getfield 47, 3) := dk_180 0 47 (dk_at dksX0_pressed_3 4 rfl rfl)
theorem dX0_pressed_75 : decode cX0_pressed 75 = .ok (.iload_n 1, 1) := dk_27 (dk_at dksX0_pressed_3 7 rfl rfl)
theorem dX0_pressed_76 : decode cX0_pressed 76 = .ok (.iaload, 1) := dk_46 (dk_at dksX0_pressed_3 8 rfl rfl)
theorem dX0_pressed_77 : decode cX0_pressed 77 = .ok (.goto 4, 3) := dk_167 0 4 (dk_at dksX0_pressed_3 9 rfl rfl)
theorem dX0_pressed_80 : decode cX0_pressed 80 = .ok (.iconst (-1), 1) := dk_2 (dk_at dksX0_pressed_3 12 rfl rfl)
theorem dX0_pressed_81 : decode cX0_pressed 81 = .ok (.ireturn, 1) := dk_172 (dk_at dksX0_pressed_3 13 rfl rfl)
abbrev cX0_pressOn : ByteArray := prog_1_method_83_code
def yX0_pressOn : MethodName := ⟨RX0, "pressOn", "()I"⟩
def dkwX0_pressOn_5 : List UInt8 := [180, 0, 162, 112, 61, 167, 255, 169, 42, 180, 1, 105, 172]
abbrev dktX0_pressOn_5 : List UInt8 := dkwX0_pressOn_5 ++ []
def dkwX0_pressOn_4 : List UInt8 := [180, 1, 105, 29, 79, 42, 89, 180, 1, 105, 4, 96, 181, 1, 105, 28, 4, 96, 42, 180, 0, 20]
abbrev dktX0_pressOn_4 : List UInt8 := dkwX0_pressOn_4 ++ dktX0_pressOn_5
def dkwX0_pressOn_3 : List UInt8 := [180, 1, 105, 16, 100, 162, 0, 23, 42, 180, 0, 44, 42, 180, 1, 105, 28, 79, 42, 180, 0, 47, 42]
abbrev dktX0_pressOn_3 : List UInt8 := dkwX0_pressOn_3 ++ dktX0_pressOn_4
def dkwX0_pressOn_2 : List UInt8 := [182, 1, 124, 62, 29, 158, 0, 7, 3, 167, 0, 6, 27, 4, 96, 60, 29, 154, 0, 6, 167, 0, 42, 42]
abbrev dktX0_pressOn_2 : List UInt8 := dkwX0_pressOn_2 ++ dktX0_pressOn_3
def dkwX0_pressOn_1 : List UInt8 := [3, 60, 42, 3, 181, 1, 105, 3, 61, 27, 42, 180, 0, 20, 180, 0, 162, 162, 0, 82, 42, 28]
abbrev dktX0_pressOn_1 : List UInt8 := dkwX0_pressOn_1 ++ dktX0_pressOn_2
def dkwX0_pressOn_0 : List UInt8 := [42, 180, 0, 147, 198, 0, 14, 42, 180, 0, 20, 180, 0, 162, 4, 160, 0, 9, 42, 5, 182, 0, 93, 172]
abbrev dktX0_pressOn_0 : List UInt8 := dkwX0_pressOn_0 ++ dktX0_pressOn_1
theorem dksX0_pressOn_0 : cX0_pressOn.data.toList.drop 0 = dktX0_pressOn_0 := by decide +kernel
theorem dksX0_pressOn_1 : cX0_pressOn.data.toList.drop 24 = dktX0_pressOn_1 := dk_seg dksX0_pressOn_0 24 rfl rfl
theorem dksX0_pressOn_2 : cX0_pressOn.data.toList.drop 46 = dktX0_pressOn_2 := dk_seg dksX0_pressOn_1 22 rfl rfl
theorem dksX0_pressOn_3 : cX0_pressOn.data.toList.drop 70 = dktX0_pressOn_3 := dk_seg dksX0_pressOn_2 24 rfl rfl
theorem dksX0_pressOn_4 : cX0_pressOn.data.toList.drop 93 = dktX0_pressOn_4 := dk_seg dksX0_pressOn_3 23 rfl rfl
theorem dksX0_pressOn_5 : cX0_pressOn.data.toList.drop 115 = dktX0_pressOn_5 := dk_seg dksX0_pressOn_4 22 rfl rfl
theorem dX0_pressOn_0 : decode cX0_pressOn 0 = .ok (.aload_n 0, 1) := dk_42 (dk_at dksX0_pressOn_0 0 rfl rfl)
theorem dX0_pressOn_1 : decode cX0_pressOn 1 = .ok (.getfield 147, 3) := dk_180 0 147 (dk_at dksX0_pressOn_0 1 rfl rfl)
theorem dX0_pressOn_4 : decode cX0_pressOn 4 = .ok (.ifnull 14, 3) := dk_198 0 14 (dk_at dksX0_pressOn_0 4 rfl rfl)
theorem dX0_pressOn_7 : decode cX0_pressOn 7 = .ok (.aload_n 0, 1) := dk_42 (dk_at dksX0_pressOn_0 7 rfl rfl)
theorem dX0_pressOn_8 : decode cX0_pressOn 8 = .ok (.getfield 20, 3) := dk_180 0 20 (dk_at dksX0_pressOn_0 8 rfl rfl)
theorem dX0_pressOn_11 : decode cX0_pressOn 11 = .ok (.getfield 162, 3) := dk_180 0 162 (dk_at dksX0_pressOn_0 11 rfl rfl)
theorem dX0_pressOn_14 : decode cX0_pressOn 14 = .ok (.iconst 1, 1) := dk_4 (dk_at dksX0_pressOn_0 14 rfl rfl)
theorem dX0_pressOn_15 : decode cX0_pressOn 15 = .ok (.if_icmp .ne 9, 3) := dk_160 0 9 (dk_at dksX0_pressOn_0 15 rfl rfl)
theorem dX0_pressOn_18 : decode cX0_pressOn 18 = .ok (.aload_n 0, 1) := dk_42 (dk_at dksX0_pressOn_0 18 rfl rfl)
theorem dX0_pressOn_19 : decode cX0_pressOn 19 = .ok (.iconst 2, 1) := dk_5 (dk_at dksX0_pressOn_0 19 rfl rfl)
theorem dX0_pressOn_20 : decode cX0_pressOn 20 = .ok (.invokevirtual 93, 3) := dk_182 0 93 (dk_at dksX0_pressOn_0 20 rfl rfl)
theorem dX0_pressOn_23 : decode cX0_pressOn 23 = .ok (.ireturn, 1) := dk_172 (dk_at dksX0_pressOn_0 23 rfl rfl)
theorem dX0_pressOn_24 : decode cX0_pressOn 24 = .ok (.iconst 0, 1) := dk_3 (dk_at dksX0_pressOn_1 0 rfl rfl)
theorem dX0_pressOn_25 : decode cX0_pressOn 25 = .ok (.istore_n 1, 1) := dk_60 (dk_at dksX0_pressOn_1 1 rfl rfl)
theorem dX0_pressOn_26 : decode cX0_pressOn 26 = .ok (.aload_n 0, 1) := dk_42 (dk_at dksX0_pressOn_1 2 rfl rfl)
theorem dX0_pressOn_27 : decode cX0_pressOn 27 = .ok (.iconst 0, 1) := dk_3 (dk_at dksX0_pressOn_1 3 rfl rfl)
theorem dX0_pressOn_28 : decode cX0_pressOn 28 = .ok (.putfield 361, 3) := dk_181 1 105 (dk_at dksX0_pressOn_1 4 rfl rfl)
theorem dX0_pressOn_31 : decode cX0_pressOn 31 = .ok (.iconst 0, 1) := dk_3 (dk_at dksX0_pressOn_1 7 rfl rfl)
theorem dX0_pressOn_32 : decode cX0_pressOn 32 = .ok (.istore_n 2, 1) := dk_61 (dk_at dksX0_pressOn_1 8 rfl rfl)
theorem dX0_pressOn_33 : decode cX0_pressOn 33 = .ok (.iload_n 1, 1) := dk_27 (dk_at dksX0_pressOn_1 9 rfl rfl)
theorem dX0_pressOn_34 : decode cX0_pressOn 34 = .ok (.aload_n 0, 1) := dk_42 (dk_at dksX0_pressOn_1 10 rfl rfl)
theorem dX0_pressOn_35 : decode cX0_pressOn 35 = .ok (.getfield 20, 3) := dk_180 0 20 (dk_at dksX0_pressOn_1 11 rfl rfl)
theorem dX0_pressOn_38 : decode cX0_pressOn 38 = .ok (.getfield 162, 3) := dk_180 0 162 (dk_at dksX0_pressOn_1 14 rfl rfl)
theorem dX0_pressOn_41 : decode cX0_pressOn 41 = .ok (.if_icmp .ge 82, 3) := dk_162 0 82 (dk_at dksX0_pressOn_1 17 rfl rfl)
theorem dX0_pressOn_44 : decode cX0_pressOn 44 = .ok (.aload_n 0, 1) := dk_42 (dk_at dksX0_pressOn_1 20 rfl rfl)
theorem dX0_pressOn_45 : decode cX0_pressOn 45 = .ok (.iload_n 2, 1) := dk_28 (dk_at dksX0_pressOn_1 21 rfl rfl)
theorem dX0_pressOn_46 : decode cX0_pressOn 46 = .ok (.invokevirtual 380, 3) := dk_182 1 124 (dk_at dksX0_pressOn_2 0 rfl rfl)
theorem dX0_pressOn_49 : decode cX0_pressOn 49 = .ok (.istore_n 3, 1) := dk_62 (dk_at dksX0_pressOn_2 3 rfl rfl)
theorem dX0_pressOn_50 : decode cX0_pressOn 50 = .ok (.iload_n 3, 1) := dk_29 (dk_at dksX0_pressOn_2 4 rfl rfl)
theorem dX0_pressOn_51 : decode cX0_pressOn 51 = .ok (.ifCond .le 7, 3) := dk_158 0 7 (dk_at dksX0_pressOn_2 5 rfl rfl)
theorem dX0_pressOn_54 : decode cX0_pressOn 54 = .ok (.iconst 0, 1) := dk_3 (dk_at dksX0_pressOn_2 8 rfl rfl)
theorem dX0_pressOn_55 : decode cX0_pressOn 55 = .ok (.goto 6, 3) := dk_167 0 6 (dk_at dksX0_pressOn_2 9 rfl rfl)
theorem dX0_pressOn_58 : decode cX0_pressOn 58 = .ok (.iload_n 1, 1) := dk_27 (dk_at dksX0_pressOn_2 12 rfl rfl)
theorem dX0_pressOn_59 : decode cX0_pressOn 59 = .ok (.iconst 1, 1) := dk_4 (dk_at dksX0_pressOn_2 13 rfl rfl)
theorem dX0_pressOn_60 : decode cX0_pressOn 60 = .ok (.iadd, 1) := dk_96 (dk_at dksX0_pressOn_2 14 rfl rfl)
theorem dX0_pressOn_61 : decode cX0_pressOn 61 = .ok (.istore_n 1, 1) := dk_60 (dk_at dksX0_pressOn_2 15 rfl rfl)
theorem dX0_pressOn_62 : decode cX0_pressOn 62 = .ok (.iload_n 3, 1) := dk_29 (dk_at dksX0_pressOn_2 16 rfl rfl)
theorem dX0_pressOn_63 : decode cX0_pressOn 63 = .ok (.ifCond .ne 6, 3) := dk_154 0 6 (dk_at dksX0_pressOn_2 17 rfl rfl)
theorem dX0_pressOn_66 : decode cX0_pressOn 66 = .ok (.goto 42, 3) := dk_167 0 42 (dk_at dksX0_pressOn_2 20 rfl rfl)
theorem dX0_pressOn_69 : decode cX0_pressOn 69 = .ok (.aload_n 0, 1) := dk_42 (dk_at dksX0_pressOn_2 23 rfl rfl)
theorem dX0_pressOn_70 : decode cX0_pressOn 70 = .ok (.getfield 361, 3) := dk_180 1 105 (dk_at dksX0_pressOn_3 0 rfl rfl)
theorem dX0_pressOn_73 : decode cX0_pressOn 73 = .ok (.bipush 100, 2) := dk_16 100 (dk_at dksX0_pressOn_3 3 rfl rfl)
theorem dX0_pressOn_75 : decode cX0_pressOn 75 = .ok (.if_icmp .ge 23, 3) := dk_162 0 23 (dk_at dksX0_pressOn_3 5 rfl rfl)
theorem dX0_pressOn_78 : decode cX0_pressOn 78 = .ok (.aload_n 0, 1) := dk_42 (dk_at dksX0_pressOn_3 8 rfl rfl)
theorem dX0_pressOn_79 : decode cX0_pressOn 79 = .ok (.getfield 44, 3) := dk_180 0 44 (dk_at dksX0_pressOn_3 9 rfl rfl)
theorem dX0_pressOn_82 : decode cX0_pressOn 82 = .ok (.aload_n 0, 1) := dk_42 (dk_at dksX0_pressOn_3 12 rfl rfl)
theorem dX0_pressOn_83 : decode cX0_pressOn 83 = .ok (.getfield 361, 3) := dk_180 1 105 (dk_at dksX0_pressOn_3 13 rfl rfl)
theorem dX0_pressOn_86 : decode cX0_pressOn 86 = .ok (.iload_n 2, 1) := dk_28 (dk_at dksX0_pressOn_3 16 rfl rfl)
theorem dX0_pressOn_87 : decode cX0_pressOn 87 = .ok (.iastore, 1) := dk_79 (dk_at dksX0_pressOn_3 17 rfl rfl)
theorem dX0_pressOn_88 : decode cX0_pressOn 88 = .ok (.aload_n 0, 1) := dk_42 (dk_at dksX0_pressOn_3 18 rfl rfl)
theorem dX0_pressOn_89 : decode cX0_pressOn 89 = .ok (.getfield 47, 3) := dk_180 0 47 (dk_at dksX0_pressOn_3 19 rfl rfl)
theorem dX0_pressOn_92 : decode cX0_pressOn 92 = .ok (.aload_n 0, 1) := dk_42 (dk_at dksX0_pressOn_3 22 rfl rfl)
theorem dX0_pressOn_93 : decode cX0_pressOn 93 = .ok (.getfield 361, 3) := dk_180 1 105 (dk_at dksX0_pressOn_4 0 rfl rfl)
theorem dX0_pressOn_96 : decode cX0_pressOn 96 = .ok (.iload_n 3, 1) := dk_29 (dk_at dksX0_pressOn_4 3 rfl rfl)
theorem dX0_pressOn_97 : decode cX0_pressOn 97 = .ok (.iastore, 1) := dk_79 (dk_at dksX0_pressOn_4 4 rfl rfl)
theorem dX0_pressOn_98 : decode cX0_pressOn 98 = .ok (.aload_n 0, 1) := dk_42 (dk_at dksX0_pressOn_4 5 rfl rfl)
theorem dX0_pressOn_99 : decode cX0_pressOn 99 = .ok (.dup, 1) := dk_89 (dk_at dksX0_pressOn_4 6 rfl rfl)
theorem dX0_pressOn_100 : decode cX0_pressOn 100 = .ok (.getfield 361, 3) := dk_180 1 105 (dk_at dksX0_pressOn_4 7 rfl rfl)
theorem dX0_pressOn_103 : decode cX0_pressOn 103 = .ok (.iconst 1, 1) := dk_4 (dk_at dksX0_pressOn_4 10 rfl rfl)
theorem dX0_pressOn_104 : decode cX0_pressOn 104 = .ok (.iadd, 1) := dk_96 (dk_at dksX0_pressOn_4 11 rfl rfl)
theorem dX0_pressOn_105 : decode cX0_pressOn 105 = .ok (.putfield 361, 3) := dk_181 1 105 (dk_at dksX0_pressOn_4 12 rfl rfl)
theorem dX0_pressOn_108 : decode cX0_pressOn 108 = .ok (.iload_n 2, 1) := dk_28 (dk_at dksX0_pressOn_4 15 rfl rfl)
theorem dX0_pressOn_109 : decode cX0_pressOn 109 = .ok (.iconst 1, 1) := dk_4 (dk_at dksX0_pressOn_4 16 rfl rfl)
theorem dX0_pressOn_110 : decode cX0_pressOn 110 = .ok (.iadd, 1) := dk_96 (dk_at dksX0_pressOn_4 17 rfl rfl)
theorem dX0_pressOn_111 : decode cX0_pressOn 111 = .ok (.aload_n 0, 1) := dk_42 (dk_at dksX0_pressOn_4 18 rfl rfl)
theorem dX0_pressOn_112 : decode cX0_pressOn 112 = .ok (.getfield 20, 3) := dk_180 0 20 (dk_at dksX0_pressOn_4 19 rfl rfl)
theorem dX0_pressOn_115 : decode cX0_pressOn 115 = .ok (.getfield 162, 3) := dk_180 0 162 (dk_at dksX0_pressOn_5 0 rfl rfl)
theorem dX0_pressOn_118 : decode cX0_pressOn 118 = .ok (.irem, 1) := dk_112 (dk_at dksX0_pressOn_5 3 rfl rfl)
theorem dX0_pressOn_119 : decode cX0_pressOn 119 = .ok (.istore_n 2, 1) := dk_61 (dk_at dksX0_pressOn_5 4 rfl rfl)
theorem dX0_pressOn_120 : decode cX0_pressOn 120 = .ok (.goto (-87), 3) := dk_167 255 169 (dk_at dksX0_pressOn_5 5 rfl rfl)
theorem dX0_pressOn_123 : decode cX0_pressOn 123 = .ok (.aload_n 0, 1) := dk_42 (dk_at dksX0_pressOn_5 8 rfl rfl)
theorem dX0_pressOn_124 : decode cX0_pressOn 124 = .ok (.getfield 361, 3) := dk_180 1 105 (dk_at dksX0_pressOn_5 9 rfl rfl)
theorem dX0_pressOn_127 : decode cX0_pressOn 127 = .ok (.ireturn, 1) := dk_172 (dk_at dksX0_pressOn_5 12 rfl rfl)
abbrev cX0_shape : ByteArray := prog_1_method_87_code
def yX0_shape : MethodName := ⟨RX0, "shape", "(I)I"⟩
def dkwX0_shape_4 : List UInt8 := [42, 42, 42, 180, 0, 147, 184, 0, 168, 182, 1, 134, 182, 1, 137, 172, 2, 172]
abbrev dktX0_shape_4 : List UInt8 := dkwX0_shape_4 ++ []
def dkwX0_shape_3 : List UInt8 := [184, 1, 118, 154, 0, 7, 4, 167, 0, 4, 3, 184, 0, 54, 172, 42, 42, 180, 0, 147, 182, 1, 137, 172]
abbrev dktX0_shape_3 : List UInt8 := dkwX0_shape_3 ++ dktX0_shape_4
def dkwX0_shape_2 : List UInt8 := [42, 182, 1, 131, 184, 0, 54, 172, 42, 180, 0, 147, 42, 42, 180, 0, 147, 184, 0, 168, 182, 1, 134]
abbrev dktX0_shape_2 : List UInt8 := dkwX0_shape_2 ++ dktX0_shape_3
def dkwX0_shape_1 : List UInt8 := [170, 0, 0, 0, 0, 93, 0, 0, 0, 0, 0, 0, 0, 3, 0, 0, 0, 30, 0, 0, 0, 38, 0, 0, 0, 68, 0, 0, 0, 77]
abbrev dktX0_shape_1 : List UInt8 := dkwX0_shape_1 ++ dktX0_shape_2
def dkwX0_shape_0 : List UInt8 := [42, 180, 0, 147, 199, 0, 5, 2, 172, 27]
abbrev dktX0_shape_0 : List UInt8 := dkwX0_shape_0 ++ dktX0_shape_1
theorem dksX0_shape_0 : cX0_shape.data.toList.drop 0 = dktX0_shape_0 := by decide +kernel
theorem dksX0_shape_1 : cX0_shape.data.toList.drop 10 = dktX0_shape_1 := dk_seg dksX0_shape_0 10 rfl rfl
theorem dksX0_shape_2 : cX0_shape.data.toList.drop 40 = dktX0_shape_2 := dk_seg dksX0_shape_1 30 rfl rfl
theorem dksX0_shape_3 : cX0_shape.data.toList.drop 63 = dktX0_shape_3 := dk_seg dksX0_shape_2 23 rfl rfl
theorem dksX0_shape_4 : cX0_shape.data.toList.drop 87 = dktX0_shape_4 := dk_seg dksX0_shape_3 24 rfl rfl
theorem dX0_shape_0 : decode cX0_shape 0 = .ok (.aload_n 0, 1) := dk_42 (dk_at dksX0_shape_0 0 rfl rfl)
theorem dX0_shape_1 : decode cX0_shape 1 = .ok (.getfield 147, 3) := dk_180 0 147 (dk_at dksX0_shape_0 1 rfl rfl)
theorem dX0_shape_4 : decode cX0_shape 4 = .ok (.ifnonnull 5, 3) := dk_199 0 5 (dk_at dksX0_shape_0 4 rfl rfl)
theorem dX0_shape_7 : decode cX0_shape 7 = .ok (.iconst (-1), 1) := dk_2 (dk_at dksX0_shape_0 7 rfl rfl)
theorem dX0_shape_8 : decode cX0_shape 8 = .ok (.ireturn, 1) := dk_172 (dk_at dksX0_shape_0 8 rfl rfl)
theorem dX0_shape_9 : decode cX0_shape 9 = .ok (.iload_n 1, 1) := dk_27 (dk_at dksX0_shape_0 9 rfl rfl)
theorem dX0_shape_10 : decode cX0_shape 10 = .ok (.tableswitch 93 0 3 #[30, 38, 68, 77], 30) := by decide +kernel
theorem dX0_shape_40 : decode cX0_shape 40 = .ok (.aload_n 0, 1) := dk_42 (dk_at dksX0_shape_2 0 rfl rfl)
theorem dX0_shape_41 : decode cX0_shape 41 = .ok (.invokevirtual 387, 3) := dk_182 1 131 (dk_at dksX0_shape_2 1 rfl rfl)
theorem dX0_shape_44 : decode cX0_shape 44 = .ok (.invokestatic 54, 3) := dk_184 0 54 (dk_at dksX0_shape_2 4 rfl rfl)
theorem dX0_shape_47 : decode cX0_shape 47 = .ok (.ireturn, 1) := dk_172 (dk_at dksX0_shape_2 7 rfl rfl)
theorem dX0_shape_48 : decode cX0_shape 48 = .ok (.aload_n 0, 1) := dk_42 (dk_at dksX0_shape_2 8 rfl rfl)
theorem dX0_shape_49 : decode cX0_shape 49 = .ok (.getfield 147, 3) := dk_180 0 147 (dk_at dksX0_shape_2 9 rfl rfl)
theorem dX0_shape_52 : decode cX0_shape 52 = .ok (.aload_n 0, 1) := dk_42 (dk_at dksX0_shape_2 12 rfl rfl)
theorem dX0_shape_53 : decode cX0_shape 53 = .ok (.aload_n 0, 1) := dk_42 (dk_at dksX0_shape_2 13 rfl rfl)
theorem dX0_shape_54 : decode cX0_shape 54 = .ok (.getfield 147, 3) := dk_180 0 147 (dk_at dksX0_shape_2 14 rfl rfl)
theorem dX0_shape_57 : decode cX0_shape 57 = .ok (.invokestatic 168, 3) := dk_184 0 168 (dk_at dksX0_shape_2 17 rfl rfl)
theorem dX0_shape_60 : decode cX0_shape 60 = .ok (.invokevirtual 390, 3) := dk_182 1 134 (dk_at dksX0_shape_2 20 rfl rfl)
theorem dX0_shape_63 : decode cX0_shape 63 = .ok (.invokestatic 374, 3) := dk_184 1 118 (dk_at dksX0_shape_3 0 rfl rfl)
theorem dX0_shape_66 : decode cX0_shape 66 = .ok (.ifCond .ne 7, 3) := dk_154 0 7 (dk_at dksX0_shape_3 3 rfl rfl)
theorem dX0_shape_69 : decode cX0_shape 69 = .ok (.iconst 1, 1) := dk_4 (dk_at dksX0_shape_3 6 rfl rfl)
theorem dX0_shape_70 : decode cX0_shape 70 = .ok (.goto 4, 3) := dk_167 0 4 (dk_at dksX0_shape_3 7 rfl rfl)
theorem dX0_shape_73 : decode cX0_shape 73 = .ok (.iconst 0, 1) := dk_3 (dk_at dksX0_shape_3 10 rfl rfl)
theorem dX0_shape_74 : decode cX0_shape 74 = .ok (.invokestatic 54, 3) := dk_184 0 54 (dk_at dksX0_shape_3 11 rfl rfl)
theorem dX0_shape_77 : decode cX0_shape 77 = .ok (.ireturn, 1) := dk_172 (dk_at dksX0_shape_3 14 rfl rfl)
theorem dX0_shape_78 : decode cX0_shape 78 = .ok (.aload_n 0, 1) := dk_42 (dk_at dksX0_shape_3 15 rfl rfl)
theorem dX0_shape_79 : decode cX0_shape 79 = .ok (.aload_n 0, 1) := dk_42 (dk_at dksX0_shape_3 16 rfl rfl)
theorem dX0_shape_80 : decode cX0_shape 80 = .ok (.getfield 147, 3) := dk_180 0 147 (dk_at dksX0_shape_3 17 rfl rfl)
theorem dX0_shape_83 : decode cX0_shape 83 = .ok (.invokevirtual 393, 3) := dk_182 1 137 (dk_at dksX0_shape_3 20 rfl rfl)
theorem dX0_shape_86 : decode cX0_shape 86 = .ok (.ireturn, 1) := dk_172 (dk_at dksX0_shape_3 23 rfl rfl)
theorem dX0_shape_87 : decode cX0_shape 87 = .ok (.aload_n 0, 1) := dk_42 (dk_at dksX0_shape_4 0 rfl rfl)
theorem dX0_shape_88 : decode cX0_shape 88 = .ok (.aload_n 0, 1) := dk_42 (dk_at dksX0_shape_4 1 rfl rfl)
theorem dX0_shape_89 : decode cX0_shape 89 = .ok (.aload_n 0, 1) := dk_42 (dk_at dksX0_shape_4 2 rfl rfl)
theorem dX0_shape_90 : decode cX0_shape 90 = .ok (.getfield 147, 3) := dk_180 0 147 (dk_at dksX0_shape_4 3 rfl rfl)
theorem dX0_shape_93 : decode cX0_shape 93 = .ok (.invokestatic 168, 3) := dk_184 0 168 (dk_at dksX0_shape_4 6 rfl rfl)
theorem dX0_shape_96 : decode cX0_shape 96 = .ok (.invokevirtual 390, 3) := dk_182 1 134 (dk_at dksX0_shape_4 9 rfl rfl)
theorem dX0_shape_99 : decode cX0_shape 99 = .ok (.invokevirtual 393, 3) := dk_182 1 137 (dk_at dksX0_shape_4 12 rfl rfl)
theorem dX0_shape_102 : decode cX0_shape 102 = .ok (.ireturn, 1) := dk_172 (dk_at dksX0_shape_4 15 rfl rfl)
theorem dX0_shape_103 : decode cX0_shape 103 = .ok (.iconst (-1), 1) := dk_2 (dk_at dksX0_shape_4 16 rfl rfl)
theorem dX0_shape_104 : decode cX0_shape 104 = .ok (.ireturn, 1) := dk_172 (dk_at dksX0_shape_4 17 rfl rfl)
abbrev cX0_isPressed : ByteArray := prog_1_method_84_code
def yX0_isPressed : MethodName := ⟨RX0, "isPressed", "()Z"⟩
def dkwX0_isPressed_2 : List UInt8 := [167, 255, 210, 4, 172]
abbrev dktX0_isPressed_2 : List UInt8 := dkwX0_isPressed_2 ++ []
def dkwX0_isPressed_1 : List UInt8 := [42, 42, 180, 0, 147, 27, 182, 1, 114, 42, 180, 0, 147, 184, 1, 118, 158, 0, 5, 3, 172, 132, 1, 1]
abbrev dktX0_isPressed_1 : List UInt8 := dkwX0_isPressed_1 ++ dktX0_isPressed_2
def dkwX0_isPressed_0 : List UInt8 := [3, 60, 27, 42, 180, 0, 20, 180, 0, 162, 162, 0, 41, 42, 180, 0, 20, 180, 0, 162, 4, 164, 0, 30]
abbrev dktX0_isPressed_0 : List UInt8 := dkwX0_isPressed_0 ++ dktX0_isPressed_1
theorem dksX0_isPressed_0 : cX0_isPressed.data.toList.drop 0 = dktX0_isPressed_0 := by decide +kernel
theorem dksX0_isPressed_1 : cX0_isPressed.data.toList.drop 24 = dktX0_isPressed_1 := dk_seg dksX0_isPressed_0 24 rfl rfl
theorem dksX0_isPressed_2 : cX0_isPressed.data.toList.drop 48 = dktX0_isPressed_2 := dk_seg dksX0_isPressed_1 24 rfl rfl
theorem dX0_isPressed_0 : decode cX0_isPressed 0 = .ok (.iconst 0, 1) := dk_3 (dk_at dksX0_isPressed_0 0 rfl rfl)
theorem dX0_isPressed_1 : decode cX0_isPressed 1 = .ok (.istore_n 1, 1) := dk_60 (dk_at dksX0_isPressed_0 1 rfl rfl)
theorem dX0_isPressed_2 : decode cX0_isPressed 2 = .ok (.iload_n 1, 1) := dk_27 (dk_at dksX0_isPressed_0 2 rfl rfl)
theorem dX0_isPressed_3 : decode cX0_isPressed 3 = .ok (.aload_n 0, 1) := dk_42 (dk_at dksX0_isPressed_0 3 rfl rfl)
theorem dX0_isPressed_4 : decode cX0_isPressed 4 = .ok (.getfield 20, 3) := dk_180 0 20 (dk_at dksX0_isPressed_0 4 rfl rfl)
theorem dX0_isPressed_7 : decode cX0_isPressed 7 = .ok (.getfield 162, 3) := dk_180 0 162 (dk_at dksX0_isPressed_0 7 rfl rfl)
theorem dX0_isPressed_10 : decode cX0_isPressed 10 = .ok (.if_icmp .ge 41, 3) := dk_162 0 41 (dk_at dksX0_isPressed_0 10 rfl rfl)
theorem dX0_isPressed_13 : decode cX0_isPressed 13 = .ok (.aload_n 0, 1) := dk_42 (dk_at dksX0_isPressed_0 13 rfl rfl)
theorem dX0_isPressed_14 : decode cX0_isPressed 14 = .ok (.getfield 20, 3) := dk_180 0 20 (dk_at dksX0_isPressed_0 14 rfl rfl)
theorem dX0_isPressed_17 : decode cX0_isPressed 17 = .ok (.getfield 162, 3) := dk_180 0 162 (dk_at dksX0_isPressed_0 17 rfl rfl)
theorem dX0_isPressed_20 : decode cX0_isPressed 20 = .ok (.iconst 1, 1) := dk_4 (dk_at dksX0_isPressed_0 20 rfl rfl)
theorem dX0_isPressed_21 : decode cX0_isPressed 21 = .ok (.if_icmp .le 30, 3) := dk_164 0 30 (dk_at dksX0_isPressed_0 21 rfl rfl)
theorem dX0_isPressed_24 : decode cX0_isPressed 24 = .ok (.aload_n 0, 1) := dk_42 (dk_at dksX0_isPressed_1 0 rfl rfl)
theorem dX0_isPressed_25 : decode cX0_isPressed 25 = .ok (.aload_n 0, 1) := dk_42 (dk_at dksX0_isPressed_1 1 rfl rfl)
theorem dX0_isPressed_26 : decode cX0_isPressed 26 = .ok (.getfield 147, 3) := dk_180 0 147 (dk_at dksX0_isPressed_1 2 rfl rfl)
theorem dX0_isPressed_29 : decode cX0_isPressed 29 = .ok (.iload_n 1, 1) := dk_27 (dk_at dksX0_isPressed_1 5 rfl rfl)
theorem dX0_isPressed_30 : decode cX0_isPressed 30 = .ok (.invokevirtual 370, 3) := dk_182 1 114 (dk_at dksX0_isPressed_1 6 rfl rfl)
theorem dX0_isPressed_33 : decode cX0_isPressed 33 = .ok (.aload_n 0, 1) := dk_42 (dk_at dksX0_isPressed_1 9 rfl rfl)
theorem dX0_isPressed_34 : decode cX0_isPressed 34 = .ok (.getfield 147, 3) := dk_180 0 147 (dk_at dksX0_isPressed_1 10 rfl rfl)
theorem dX0_isPressed_37 : decode cX0_isPressed 37 = .ok (.invokestatic 374, 3) := dk_184 1 118 (dk_at dksX0_isPressed_1 13 rfl rfl)
theorem dX0_isPressed_40 : decode cX0_isPressed 40 = .ok (.ifCond .le 5, 3) := dk_158 0 5 (dk_at dksX0_isPressed_1 16 rfl rfl)
theorem dX0_isPressed_43 : decode cX0_isPressed 43 = .ok (.iconst 0, 1) := dk_3 (dk_at dksX0_isPressed_1 19 rfl rfl)
theorem dX0_isPressed_44 : decode cX0_isPressed 44 = .ok (.ireturn, 1) := dk_172 (dk_at dksX0_isPressed_1 20 rfl rfl)
theorem dX0_isPressed_45 : decode cX0_isPressed 45 = .ok (.iinc 1 1, 3) := dk_132 1 1 (dk_at dksX0_isPressed_1 21 rfl rfl)
theorem dX0_isPressed_48 : decode cX0_isPressed 48 = .ok (.goto (-46), 3) := dk_167 255 210 (dk_at dksX0_isPressed_2 0 rfl rfl)
theorem dX0_isPressed_51 : decode cX0_isPressed 51 = .ok (.iconst 1, 1) := dk_4 (dk_at dksX0_isPressed_2 3 rfl rfl)
theorem dX0_isPressed_52 : decode cX0_isPressed 52 = .ok (.ireturn, 1) := dk_172 (dk_at dksX0_isPressed_2 4 rfl rfl)
abbrev cX0_firsts : ByteArray := prog_1_method_85_code
def yX0_firsts : MethodName := ⟨RX0, "firsts", "(I)[Z"⟩
def dkwX0_firsts_1 : List UInt8 := [167, 255, 244, 44, 176]
abbrev dktX0_firsts_1 : List UInt8 := dkwX0_firsts_1 ++ []
def dkwX0_firsts_0 : List UInt8 := [42, 180, 0, 147, 190, 188, 4, 77, 3, 62, 29, 27, 162, 0, 13, 44, 29, 4, 84, 132, 3, 1]
abbrev dktX0_firsts_0 : List UInt8 := dkwX0_firsts_0 ++ dktX0_firsts_1
theorem dksX0_firsts_0 : cX0_firsts.data.toList.drop 0 = dktX0_firsts_0 := by decide +kernel
theorem dksX0_firsts_1 : cX0_firsts.data.toList.drop 22 = dktX0_firsts_1 := dk_seg dksX0_firsts_0 22 rfl rfl
theorem dX0_firsts_0 : decode cX0_firsts 0 = .ok (.aload_n 0, 1) := dk_42 (dk_at dksX0_firsts_0 0 rfl rfl)
theorem dX0_firsts_1 : decode cX0_firsts 1 = .ok (.getfield 147, 3) := dk_180 0 147 (dk_at dksX0_firsts_0 1 rfl rfl)
theorem dX0_firsts_4 : decode cX0_firsts 4 = .ok (.arraylength, 1) := dk_190 (dk_at dksX0_firsts_0 4 rfl rfl)
theorem dX0_firsts_5 : decode cX0_firsts 5 = .ok (.newarray .boolean, 2) := dk_188_4 (dk_at dksX0_firsts_0 5 rfl rfl)
theorem dX0_firsts_7 : decode cX0_firsts 7 = .ok (.astore_n 2, 1) := dk_77 (dk_at dksX0_firsts_0 7 rfl rfl)
theorem dX0_firsts_8 : decode cX0_firsts 8 = .ok (.iconst 0, 1) := dk_3 (dk_at dksX0_firsts_0 8 rfl rfl)
theorem dX0_firsts_9 : decode cX0_firsts 9 = .ok (.istore_n 3, 1) := dk_62 (dk_at dksX0_firsts_0 9 rfl rfl)
theorem dX0_firsts_10 : decode cX0_firsts 10 = .ok (.iload_n 3, 1) := dk_29 (dk_at dksX0_firsts_0 10 rfl rfl)
theorem dX0_firsts_11 : decode cX0_firsts 11 = .ok (.iload_n 1, 1) := dk_27 (dk_at dksX0_firsts_0 11 rfl rfl)
theorem dX0_firsts_12 : decode cX0_firsts 12 = .ok (.if_icmp .ge 13, 3) := dk_162 0 13 (dk_at dksX0_firsts_0 12 rfl rfl)
theorem dX0_firsts_15 : decode cX0_firsts 15 = .ok (.aload_n 2, 1) := dk_44 (dk_at dksX0_firsts_0 15 rfl rfl)
theorem dX0_firsts_16 : decode cX0_firsts 16 = .ok (.iload_n 3, 1) := dk_29 (dk_at dksX0_firsts_0 16 rfl rfl)
theorem dX0_firsts_17 : decode cX0_firsts 17 = .ok (.iconst 1, 1) := dk_4 (dk_at dksX0_firsts_0 17 rfl rfl)
theorem dX0_firsts_18 : decode cX0_firsts 18 = .ok (.bastore, 1) := dk_84 (dk_at dksX0_firsts_0 18 rfl rfl)
theorem dX0_firsts_19 : decode cX0_firsts 19 = .ok (.iinc 3 1, 3) := dk_132 3 1 (dk_at dksX0_firsts_0 19 rfl rfl)
theorem dX0_firsts_22 : decode cX0_firsts 22 = .ok (.goto (-12), 3) := dk_167 255 244 (dk_at dksX0_firsts_1 0 rfl rfl)
theorem dX0_firsts_25 : decode cX0_firsts 25 = .ok (.aload_n 2, 1) := dk_44 (dk_at dksX0_firsts_1 3 rfl rfl)
theorem dX0_firsts_26 : decode cX0_firsts 26 = .ok (.areturn, 1) := dk_176 (dk_at dksX0_firsts_1 4 rfl rfl)
abbrev cX0_shadow : ByteArray := prog_1_method_86_code
def yX0_shadow : MethodName := ⟨RX0, "shadow", "([Z)I"⟩
def dkwX0_shadow_5 : List UInt8 := [184, 0, 168, 172]
abbrev dktX0_shadow_5 : List UInt8 := dkwX0_shadow_5 ++ []
def dkwX0_shadow_4 : List UInt8 := [42, 180, 0, 41, 21, 4, 92, 46, 4, 100, 79, 132, 4, 1, 167, 255, 196, 132, 3, 1, 167, 255, 156, 44]
abbrev dktX0_shadow_4 : List UInt8 := dkwX0_shadow_4 ++ dktX0_shadow_5
def dkwX0_shadow_3 : List UInt8 := [79, 44, 42, 180, 0, 41, 42, 180, 0, 172, 4, 96, 42, 180, 0, 20, 180, 0, 162, 184, 1, 127, 4, 84]
abbrev dktX0_shadow_3 : List UInt8 := dkwX0_shadow_3 ++ dktX0_shadow_4
def dkwX0_shadow_2 : List UInt8 := [54, 4, 21, 4, 42, 180, 0, 20, 180, 0, 162, 162, 0, 54, 42, 180, 0, 41, 21, 4, 92, 46, 4, 96]
abbrev dktX0_shadow_2 : List UInt8 := dkwX0_shadow_2 ++ dktX0_shadow_3
def dkwX0_shadow_1 : List UInt8 := [154, 0, 6, 167, 0, 85, 42, 180, 0, 38, 7, 29, 104, 42, 180, 0, 41, 3, 7, 184, 1, 11, 3]
abbrev dktX0_shadow_1 : List UInt8 := dkwX0_shadow_1 ++ dktX0_shadow_2
def dkwX0_shadow_0 : List UInt8 := [42, 42, 180, 0, 172, 4, 96, 182, 0, 180, 188, 4, 77, 3, 62, 29, 43, 190, 162, 0, 100, 43, 29, 51]
abbrev dktX0_shadow_0 : List UInt8 := dkwX0_shadow_0 ++ dktX0_shadow_1
theorem dksX0_shadow_0 : cX0_shadow.data.toList.drop 0 = dktX0_shadow_0 := by decide +kernel
theorem dksX0_shadow_1 : cX0_shadow.data.toList.drop 24 = dktX0_shadow_1 := dk_seg dksX0_shadow_0 24 rfl rfl
theorem dksX0_shadow_2 : cX0_shadow.data.toList.drop 47 = dktX0_shadow_2 := dk_seg dksX0_shadow_1 23 rfl rfl
theorem dksX0_shadow_3 : cX0_shadow.data.toList.drop 71 = dktX0_shadow_3 := dk_seg dksX0_shadow_2 24 rfl rfl
theorem dksX0_shadow_4 : cX0_shadow.data.toList.drop 95 = dktX0_shadow_4 := dk_seg dksX0_shadow_3 24 rfl rfl
theorem dksX0_shadow_5 : cX0_shadow.data.toList.drop 119 = dktX0_shadow_5 := dk_seg dksX0_shadow_4 24 rfl rfl
theorem dX0_shadow_0 : decode cX0_shadow 0 = .ok (.aload_n 0, 1) := dk_42 (dk_at dksX0_shadow_0 0 rfl rfl)
theorem dX0_shadow_1 : decode cX0_shadow 1 = .ok (.aload_n 0, 1) := dk_42 (dk_at dksX0_shadow_0 1 rfl rfl)
theorem dX0_shadow_2 : decode cX0_shadow 2 = .ok (.getfield 172, 3) := dk_180 0 172 (dk_at dksX0_shadow_0 2 rfl rfl)
theorem dX0_shadow_5 : decode cX0_shadow 5 = .ok (.iconst 1, 1) := dk_4 (dk_at dksX0_shadow_0 5 rfl rfl)
theorem dX0_shadow_6 : decode cX0_shadow 6 = .ok (.iadd, 1) := dk_96 (dk_at dksX0_shadow_0 6 rfl rfl)
theorem dX0_shadow_7 : decode cX0_shadow 7 = .ok (.invokevirtual 180, 3) := dk_182 0 180 (dk_at dksX0_shadow_0 7 rfl rfl)
theorem dX0_shadow_10 : decode cX0_shadow 10 = .ok (.newarray .boolean, 2) := dk_188_4 (dk_at dksX0_shadow_0 10 rfl rfl)
theorem dX0_shadow_12 : decode cX0_shadow 12 = .ok (.astore_n 2, 1) := dk_77 (dk_at dksX0_shadow_0 12 rfl rfl)
theorem dX0_shadow_13 : decode cX0_shadow 13 = .ok (.iconst 0, 1) := dk_3 (dk_at dksX0_shadow_0 13 rfl rfl)
theorem dX0_shadow_14 : decode cX0_shadow 14 = .ok (.istore_n 3, 1) := dk_62 (dk_at dksX0_shadow_0 14 rfl rfl)
theorem dX0_shadow_15 : decode cX0_shadow 15 = .ok (.iload_n 3, 1) := dk_29 (dk_at dksX0_shadow_0 15 rfl rfl)
theorem dX0_shadow_16 : decode cX0_shadow 16 = .ok (.aload_n 1, 1) := dk_43 (dk_at dksX0_shadow_0 16 rfl rfl)
theorem dX0_shadow_17 : decode cX0_shadow 17 = .ok (.arraylength, 1) := dk_190 (dk_at dksX0_shadow_0 17 rfl rfl)
theorem dX0_shadow_18 : decode cX0_shadow 18 = .ok (.if_icmp .ge 100, 3) := dk_162 0 100 (dk_at dksX0_shadow_0 18 rfl rfl)
theorem dX0_shadow_21 : decode cX0_shadow 21 = .ok (.aload_n 1, 1) := dk_43 (dk_at dksX0_shadow_0 21 rfl rfl)
theorem dX0_shadow_22 : decode cX0_shadow 22 = .ok (.iload_n 3, 1) := dk_29 (dk_at dksX0_shadow_0 22 rfl rfl)
theorem dX0_shadow_23 : decode cX0_shadow 23 = .ok (.baload, 1) := dk_51 (dk_at dksX0_shadow_0 23 rfl rfl)
theorem dX0_shadow_24 : decode cX0_shadow 24 = .ok (.ifCond .ne 6, 3) := dk_154 0 6 (dk_at dksX0_shadow_1 0 rfl rfl)
theorem dX0_shadow_27 : decode cX0_shadow 27 = .ok (.goto 85, 3) := dk_167 0 85 (dk_at dksX0_shadow_1 3 rfl rfl)
theorem dX0_shadow_30 : decode cX0_shadow 30 = .ok (.aload_n 0, 1) := dk_42 (dk_at dksX0_shadow_1 6 rfl rfl)
theorem dX0_shadow_31 : decode cX0_shadow 31 = .ok (.getfield 38, 3) := dk_180 0 38 (dk_at dksX0_shadow_1 7 rfl rfl)
theorem dX0_shadow_34 : decode cX0_shadow 34 = .ok (.iconst 4, 1) := dk_7 (dk_at dksX0_shadow_1 10 rfl rfl)
theorem dX0_shadow_35 : decode cX0_shadow 35 = .ok (.iload_n 3, 1) := dk_29 (dk_at dksX0_shadow_1 11 rfl rfl)
theorem dX0_shadow_36 : decode cX0_shadow 36 = .ok (.imul, 1) := dk_104 (dk_at dksX0_shadow_1 12 rfl rfl)
theorem dX0_shadow_37 : decode cX0_shadow 37 = .ok (.aload_n 0, 1) := dk_42 (dk_at dksX0_shadow_1 13 rfl rfl)
theorem dX0_shadow_38 : decode cX0_shadow 38 = .ok (.getfield 41, 3) := dk_180 0 41 (dk_at dksX0_shadow_1 14 rfl rfl)
theorem dX0_shadow_41 : decode cX0_shadow 41 = .ok (.iconst 0, 1) := dk_3 (dk_at dksX0_shadow_1 17 rfl rfl)
theorem dX0_shadow_42 : decode cX0_shadow 42 = .ok (.iconst 4, 1) := dk_7 (dk_at dksX0_shadow_1 18 rfl rfl)
theorem dX0_shadow_43 : decode cX0_shadow 43 = .ok (.invokestatic 267, 3) := dk_184 1 11 (dk_at dksX0_shadow_1 19 rfl rfl)
theorem dX0_shadow_46 : decode cX0_shadow 46 = .ok (.iconst 0, 1) := dk_3 (dk_at dksX0_shadow_1 22 rfl rfl)
theorem dX0_shadow_47 : decode cX0_shadow 47 = .ok (.istore 4, 2) := dk_54 4 (dk_at dksX0_shadow_2 0 rfl rfl)
theorem dX0_shadow_49 : decode cX0_shadow 49 = .ok (.iload 4, 2) := dk_21 4 (dk_at dksX0_shadow_2 2 rfl rfl)
theorem dX0_shadow_51 : decode cX0_shadow 51 = .ok (.aload_n 0, 1) := dk_42 (dk_at dksX0_shadow_2 4 rfl rfl)
theorem dX0_shadow_52 : decode cX0_shadow 52 = .ok (.getfield 20, 3) := dk_180 0 20 (dk_at dksX0_shadow_2 5 rfl rfl)
theorem dX0_shadow_55 : decode cX0_shadow 55 = .ok (.getfield 162, 3) := dk_180 0 162 (dk_at dksX0_shadow_2 8 rfl rfl)
theorem dX0_shadow_58 : decode cX0_shadow 58 = .ok (.if_icmp .ge 54, 3) := dk_162 0 54 (dk_at dksX0_shadow_2 11 rfl rfl)
theorem dX0_shadow_61 : decode cX0_shadow 61 = .ok (.aload_n 0, 1) := dk_42 (dk_at dksX0_shadow_2 14 rfl rfl)
theorem dX0_shadow_62 : decode cX0_shadow 62 = .ok (.getfield 41, 3) := dk_180 0 41 (dk_at dksX0_shadow_2 15 rfl rfl)
theorem dX0_shadow_65 : decode cX0_shadow 65 = .ok (.iload 4, 2) := dk_21 4 (dk_at dksX0_shadow_2 18 rfl rfl)
theorem dX0_shadow_67 : decode cX0_shadow 67 = .ok (.dup2, 1) := dk_92 (dk_at dksX0_shadow_2 20 rfl rfl)
theorem dX0_shadow_68 : decode cX0_shadow 68 = .ok (.iaload, 1) := dk_46 (dk_at dksX0_shadow_2 21 rfl rfl)
theorem dX0_shadow_69 : decode cX0_shadow 69 = .ok (.iconst 1, 1) := dk_4 (dk_at dksX0_shadow_2 22 rfl rfl)
theorem dX0_shadow_70 : decode cX0_shadow 70 = .ok (.iadd, 1) := dk_96 (dk_at dksX0_shadow_2 23 rfl rfl)
theorem dX0_shadow_71 : decode cX0_shadow 71 = .ok (.iastore, 1) := dk_79 (dk_at dksX0_shadow_3 0 rfl rfl)
theorem dX0_shadow_72 : decode cX0_shadow 72 = .ok (.aload_n 2, 1) := dk_44 (dk_at dksX0_shadow_3 1 rfl rfl)
theorem dX0_shadow_73 : decode cX0_shadow 73 = .ok (.aload_n 0, 1) := dk_42 (dk_at dksX0_shadow_3 2 rfl rfl)
theorem dX0_shadow_74 : decode cX0_shadow 74 = .ok (.getfield 41, 3) := dk_180 0 41 (dk_at dksX0_shadow_3 3 rfl rfl)
theorem dX0_shadow_77 : decode cX0_shadow 77 = .ok (.aload_n 0, 1) := dk_42 (dk_at dksX0_shadow_3 6 rfl rfl)
theorem dX0_shadow_78 : decode cX0_shadow 78 = .ok (.getfield 172, 3) := dk_180 0 172 (dk_at dksX0_shadow_3 7 rfl rfl)
theorem dX0_shadow_81 : decode cX0_shadow 81 = .ok (.iconst 1, 1) := dk_4 (dk_at dksX0_shadow_3 10 rfl rfl)
theorem dX0_shadow_82 : decode cX0_shadow 82 = .ok (.iadd, 1) := dk_96 (dk_at dksX0_shadow_3 11 rfl rfl)
theorem dX0_shadow_83 : decode cX0_shadow 83 = .ok (.aload_n 0, 1) := dk_42 (dk_at dksX0_shadow_3 12 rfl rfl)
theorem dX0_shadow_84 : decode cX0_shadow 84 = .ok (.getfield 20, 3) := dk_180 0 20 (dk_at dksX0_shadow_3 13 rfl rfl)
theorem dX0_shadow_87 : decode cX0_shadow 87 = .ok (.getfield 162, 3) := dk_180 0 162 (dk_at dksX0_shadow_3 16 rfl rfl)
theorem dX0_shadow_90 : decode cX0_shadow 90 = .ok (.invokestatic 383, 3) := dk_184 1 127 (dk_at dksX0_shadow_3 19 rfl rfl)
theorem dX0_shadow_93 : decode cX0_shadow 93 = .ok (.iconst 1, 1) := dk_4 (dk_at dksX0_shadow_3 22 rfl rfl)
theorem dX0_shadow_94 : decode cX0_shadow 94 = .ok (.bastore, 1) := dk_84 (dk_at dksX0_shadow_3 23 rfl rfl)
theorem dX0_shadow_95 : decode cX0_shadow 95 = .ok (.aload_n 0, 1) := dk_42 (dk_at dksX0_shadow_4 0 rfl rfl)
theorem dX0_shadow_96 : decode cX0_shadow 96 = .ok (.getfield 41, 3) := dk_180 0 41 (dk_at dksX0_shadow_4 1 rfl rfl)
theorem dX0_shadow_99 : decode cX0_shadow 99 = .ok (.iload 4, 2) := dk_21 4 (dk_at dksX0_shadow_4 4 rfl rfl)
theorem dX0_shadow_101 : decode cX0_shadow 101 = .ok (.dup2, 1) := dk_92 (dk_at dksX0_shadow_4 6 rfl rfl)
theorem dX0_shadow_102 : decode cX0_shadow 102 = .ok (.iaload, 1) := dk_46 (dk_at dksX0_shadow_4 7 rfl rfl)
theorem dX0_shadow_103 : decode cX0_shadow 103 = .ok (.iconst 1, 1) := dk_4 (dk_at dksX0_shadow_4 8 rfl rfl)
theorem dX0_shadow_104 : decode cX0_shadow 104 = .ok (.isub, 1) := dk_100 (dk_at dksX0_shadow_4 9 rfl rfl)
theorem dX0_shadow_105 : decode cX0_shadow 105 = .ok (.iastore, 1) := dk_79 (dk_at dksX0_shadow_4 10 rfl rfl)
theorem dX0_shadow_106 : decode cX0_shadow 106 = .ok (.iinc 4 1, 3) := dk_132 4 1 (dk_at dksX0_shadow_4 11 rfl rfl)
theorem dX0_shadow_109 : decode cX0_shadow 109 = .ok (.goto (-60), 3) := dk_167 255 196 (dk_at dksX0_shadow_4 14 rfl rfl)
theorem dX0_shadow_112 : decode cX0_shadow 112 = .ok (.iinc 3 1, 3) := dk_132 3 1 (dk_at dksX0_shadow_4 17 rfl rfl)
theorem dX0_shadow_115 : decode cX0_shadow 115 = .ok (.goto (-100), 3) := dk_167 255 156 (dk_at dksX0_shadow_4 20 rfl rfl)
theorem dX0_shadow_118 : decode cX0_shadow 118 = .ok (.aload_n 2, 1) := dk_44 (dk_at dksX0_shadow_4 23 rfl rfl)
theorem dX0_shadow_119 : decode cX0_shadow 119 = .ok (.invokestatic 168, 3) := dk_184 0 168 (dk_at dksX0_shadow_5 0 rfl rfl)
theorem dX0_shadow_122 : decode cX0_shadow 122 = .ok (.ireturn, 1) := dk_172 (dk_at dksX0_shadow_5 3 rfl rfl)
abbrev cX0_join : ByteArray := prog_1_method_90_code
def yX0_join : MethodName := ⟨RX0, "join", "(II)I"⟩
def dkwX0_join_3 : List UInt8 := [164, 0, 9, 42, 5, 182, 0, 93, 172, 42, 45, 182, 0, 143, 45, 180, 0, 151, 185, 0, 114, 1, 0, 172]
abbrev dktX0_join_3 : List UInt8 := dkwX0_join_3 ++ []
def dkwX0_join_2 : List UInt8 := [182, 1, 95, 42, 27, 28, 182, 0, 192, 182, 1, 146, 78, 45, 180, 0, 151, 185, 0, 114, 1, 0, 16, 40]
abbrev dktX0_join_2 : List UInt8 := dkwX0_join_2 ++ dktX0_join_3
def dkwX0_join_1 : List UInt8 := [182, 0, 212, 153, 0, 9, 42, 5, 182, 0, 93, 172, 42, 182, 1, 143, 42, 180, 0, 20, 180, 0, 151]
abbrev dktX0_join_1 : List UInt8 := dkwX0_join_1 ++ dktX0_join_2
def dkwX0_join_0 : List UInt8 := [42, 27, 28, 182, 1, 140, 153, 0, 22, 42, 180, 0, 20, 42, 27, 28, 182, 0, 192, 180, 0, 196]
abbrev dktX0_join_0 : List UInt8 := dkwX0_join_0 ++ dktX0_join_1
theorem dksX0_join_0 : cX0_join.data.toList.drop 0 = dktX0_join_0 := by decide +kernel
theorem dksX0_join_1 : cX0_join.data.toList.drop 22 = dktX0_join_1 := dk_seg dksX0_join_0 22 rfl rfl
theorem dksX0_join_2 : cX0_join.data.toList.drop 45 = dktX0_join_2 := dk_seg dksX0_join_1 23 rfl rfl
theorem dksX0_join_3 : cX0_join.data.toList.drop 69 = dktX0_join_3 := dk_seg dksX0_join_2 24 rfl rfl
theorem dX0_join_0 : decode cX0_join 0 = .ok (.aload_n 0, 1) := dk_42 (dk_at dksX0_join_0 0 rfl rfl)
theorem dX0_join_1 : decode cX0_join 1 = .ok (.iload_n 1, 1) := dk_27 (dk_at dksX0_join_0 1 rfl rfl)
theorem dX0_join_2 : decode cX0_join 2 = .ok (.iload_n 2, 1) := dk_28 (dk_at dksX0_join_0 2 rfl rfl)
theorem dX0_join_3 : decode cX0_join 3 = .ok (.invokevirtual 396, 3) := dk_182 1 140 (dk_at dksX0_join_0 3 rfl rfl)
theorem dX0_join_6 : decode cX0_join 6 = .ok (.ifCond .eq 22, 3) := dk_153 0 22 (dk_at dksX0_join_0 6 rfl rfl)
theorem dX0_join_9 : decode cX0_join 9 = .ok (.aload_n 0, 1) := dk_42 (dk_at dksX0_join_0 9 rfl rfl)
theorem dX0_join_10 : decode cX0_join 10 = .ok (.getfield 20, 3) := dk_180 0 20 (dk_at dksX0_join_0 10 rfl rfl)
theorem dX0_join_13 : decode cX0_join 13 = .ok (.aload_n 0, 1) := dk_42 (dk_at dksX0_join_0 13 rfl rfl)
theorem dX0_join_14 : decode cX0_join 14 = .ok (.iload_n 1, 1) := dk_27 (dk_at dksX0_join_0 14 rfl rfl)
theorem dX0_join_15 : decode cX0_join 15 = .ok (.iload_n 2, 1) := dk_28 (dk_at dksX0_join_0 15 rfl rfl)
theorem dX0_join_16 : decode cX0_join 16 = .ok (.invokevirtual 192, 3) := dk_182 0 192 (dk_at dksX0_join_0 16 rfl rfl)
theorem dX0_join_19 : decode cX0_join 19 = .ok (.getfield 196, 3) := dk_180 0 196 (dk_at dksX0_join_0 19 rfl rfl)
theorem dX0_join_22 : decode cX0_join 22 = .ok (.invokevirtual 212, 3) := dk_182 0 212 (dk_at dksX0_join_1 0 rfl rfl)
theorem dX0_join_25 : decode cX0_join 25 = .ok (.ifCond .eq 9, 3) := dk_153 0 9 (dk_at dksX0_join_1 3 rfl rfl)
theorem dX0_join_28 : decode cX0_join 28 = .ok (.aload_n 0, 1) := dk_42 (dk_at dksX0_join_1 6 rfl rfl)
theorem dX0_join_29 : decode cX0_join 29 = .ok (.iconst 2, 1) := dk_5 (dk_at dksX0_join_1 7 rfl rfl)
theorem dX0_join_30 : decode cX0_join 30 = .ok (.invokevirtual 93, 3) := dk_182 0 93 (dk_at dksX0_join_1 8 rfl rfl)
theorem dX0_join_33 : decode cX0_join 33 = .ok (.ireturn, 1) := dk_172 (dk_at dksX0_join_1 11 rfl rfl)
theorem dX0_join_34 : decode cX0_join 34 = .ok (.aload_n 0, 1) := dk_42 (dk_at dksX0_join_1 12 rfl rfl)
theorem dX0_join_35 : decode cX0_join 35 = .ok (.invokevirtual 399, 3) := dk_182 1 143 (dk_at dksX0_join_1 13 rfl rfl)
theorem dX0_join_38 : decode cX0_join 38 = .ok (.aload_n 0, 1) := dk_42 (dk_at dksX0_join_1 16 rfl rfl)
theorem dX0_join_39 : decode cX0_join 39 = .ok (.getfield 20, 3) := dk_180 0 20 (dk_at dksX0_join_1 17 rfl rfl)
theorem dX0_join_42 : decode cX0_join 42 = .ok (.getfield 151, 3) := dk_180 0 151 (dk_at dksX0_join_1 20 rfl rfl)
theorem dX0_join_45 : decode cX0_join 45 = .ok (.invokevirtual 351, 3) := dk_182 1 95 (dk_at dksX0_join_2 0 rfl rfl)
theorem dX0_join_48 : decode cX0_join 48 = .ok (.aload_n 0, 1) := dk_42 (dk_at dksX0_join_2 3 rfl rfl)
theorem dX0_join_49 : decode cX0_join 49 = .ok (.iload_n 1, 1) := dk_27 (dk_at dksX0_join_2 4 rfl rfl)
theorem dX0_join_50 : decode cX0_join 50 = .ok (.iload_n 2, 1) := dk_28 (dk_at dksX0_join_2 5 rfl rfl)
theorem dX0_join_51 : decode cX0_join 51 = .ok (.invokevirtual 192, 3) := dk_182 0 192 (dk_at dksX0_join_2 6 rfl rfl)
theorem dX0_join_54 : decode cX0_join 54 = .ok (.invokevirtual 402, 3) := dk_182 1 146 (dk_at dksX0_join_2 9 rfl rfl)
theorem dX0_join_57 : decode cX0_join 57 = .ok (.astore_n 3, 1) := dk_78 (dk_at dksX0_join_2 12 rfl rfl)
theorem dX0_join_58 : decode cX0_join 58 = .ok (.aload_n 3, 1) := dk_45 (dk_at dksX0_join_2 13 rfl rfl)
theorem dX0_join_59 : decode cX0_join 59 = .ok (.getfield 151, 3) := dk_180 0 151 (dk_at dksX0_join_2 14 rfl rfl)
theorem dX0_join_62 : decode cX0_join 62 = .ok (.invokeinterface 114 1, 5) := by decide +kernel
theorem dX0_join_67 : decode cX0_join 67 = .ok (.bipush 40, 2) := dk_16 40 (dk_at dksX0_join_2 22 rfl rfl)
theorem dX0_join_69 : decode cX0_join 69 = .ok (.if_icmp .le 9, 3) := dk_164 0 9 (dk_at dksX0_join_3 0 rfl rfl)
theorem dX0_join_72 : decode cX0_join 72 = .ok (.aload_n 0, 1) := dk_42 (dk_at dksX0_join_3 3 rfl rfl)
theorem dX0_join_73 : decode cX0_join 73 = .ok (.iconst 2, 1) := dk_5 (dk_at dksX0_join_3 4 rfl rfl)
theorem dX0_join_74 : decode cX0_join 74 = .ok (.invokevirtual 93, 3) := dk_182 0 93 (dk_at dksX0_join_3 5 rfl rfl)
theorem dX0_join_77 : decode cX0_join 77 = .ok (.ireturn, 1) := dk_172 (dk_at dksX0_join_3 8 rfl rfl)
theorem dX0_join_78 : decode cX0_join 78 = .ok (.aload_n 0, 1) := dk_42 (dk_at dksX0_join_3 9 rfl rfl)
theorem dX0_join_79 : decode cX0_join 79 = .ok (.aload_n 3, 1) := dk_45 (dk_at dksX0_join_3 10 rfl rfl)
theorem dX0_join_80 : decode cX0_join 80 = .ok (.invokevirtual 143, 3) := dk_182 0 143 (dk_at dksX0_join_3 11 rfl rfl)
theorem dX0_join_83 : decode cX0_join 83 = .ok (.aload_n 3, 1) := dk_45 (dk_at dksX0_join_3 14 rfl rfl)
theorem dX0_join_84 : decode cX0_join 84 = .ok (.getfield 151, 3) := dk_180 0 151 (dk_at dksX0_join_3 15 rfl rfl)
theorem dX0_join_87 : decode cX0_join 87 = .ok (.invokeinterface 114 1, 5) := by decide +kernel
theorem dX0_join_92 : decode cX0_join 92 = .ok (.ireturn, 1) := dk_172 (dk_at dksX0_join_3 23 rfl rfl)
abbrev cX0_canAct : ByteArray := prog_1_method_88_code
def yX0_canAct : MethodName := ⟨RX0, "canAct", "(II)Z"⟩
def dkwX0_canAct_1 : List UInt8 := [167, 0, 4, 3, 172]
abbrev dktX0_canAct_1 : List UInt8 := dkwX0_canAct_1 ++ []
def dkwX0_canAct_0 : List UInt8 := [27, 133, 10, 20, 1, 99, 184, 0, 110, 153, 0, 16, 42, 27, 28, 182, 0, 188, 153, 0, 7, 4]
abbrev dktX0_canAct_0 : List UInt8 := dkwX0_canAct_0 ++ dktX0_canAct_1
theorem dksX0_canAct_0 : cX0_canAct.data.toList.drop 0 = dktX0_canAct_0 := by decide +kernel
theorem dksX0_canAct_1 : cX0_canAct.data.toList.drop 22 = dktX0_canAct_1 := dk_seg dksX0_canAct_0 22 rfl rfl
theorem dX0_canAct_0 : decode cX0_canAct 0 = .ok (.iload_n 1, 1) := dk_27 (dk_at dksX0_canAct_0 0 rfl rfl)
theorem dX0_canAct_1 : decode cX0_canAct 1 = .ok (.i2l, 1) := dk_133 (dk_at dksX0_canAct_0 1 rfl rfl)
theorem dX0_canAct_2 : decode cX0_canAct 2 = .ok (.lconst 1, 1) := dk_10 (dk_at dksX0_canAct_0 2 rfl rfl)
theorem dX0_canAct_3 : decode cX0_canAct 3 = .ok (.ldc2_w 355, 3) := dk_20 1 99 (dk_at dksX0_canAct_0 3 rfl rfl)
theorem dX0_canAct_6 : decode cX0_canAct 6 = .ok (.invokestatic 110, 3) := dk_184 0 110 (dk_at dksX0_canAct_0 6 rfl rfl)
theorem dX0_canAct_9 : decode cX0_canAct 9 = .ok (.ifCond .eq 16, 3) := dk_153 0 16 (dk_at dksX0_canAct_0 9 rfl rfl)
theorem dX0_canAct_12 : decode cX0_canAct 12 = .ok (.aload_n 0, 1) := dk_42 (dk_at dksX0_canAct_0 12 rfl rfl)
theorem dX0_canAct_13 : decode cX0_canAct 13 = .ok (.iload_n 1, 1) := dk_27 (dk_at dksX0_canAct_0 13 rfl rfl)
theorem dX0_canAct_14 : decode cX0_canAct 14 = .ok (.iload_n 2, 1) := dk_28 (dk_at dksX0_canAct_0 14 rfl rfl)
theorem dX0_canAct_15 : decode cX0_canAct 15 = .ok (.invokevirtual 188, 3) := dk_182 0 188 (dk_at dksX0_canAct_0 15 rfl rfl)
theorem dX0_canAct_18 : decode cX0_canAct 18 = .ok (.ifCond .eq 7, 3) := dk_153 0 7 (dk_at dksX0_canAct_0 18 rfl rfl)
theorem dX0_canAct_21 : decode cX0_canAct 21 = .ok (.iconst 1, 1) := dk_4 (dk_at dksX0_canAct_0 21 rfl rfl)
theorem dX0_canAct_22 : decode cX0_canAct 22 = .ok (.goto 4, 3) := dk_167 0 4 (dk_at dksX0_canAct_1 0 rfl rfl)
theorem dX0_canAct_25 : decode cX0_canAct 25 = .ok (.iconst 0, 1) := dk_3 (dk_at dksX0_canAct_1 3 rfl rfl)
theorem dX0_canAct_26 : decode cX0_canAct 26 = .ok (.ireturn, 1) := dk_172 (dk_at dksX0_canAct_1 4 rfl rfl)
abbrev cX0_like : ByteArray := prog_1_method_89_code
def yX0_like : MethodName := ⟨RX0, "like", "()LQuotientRows$State;"⟩
def dkwX0_like_0 : List UInt8 := [187, 0, 17, 89, 42, 180, 0, 20, 180, 0, 162, 42, 180, 0, 20, 180, 0, 165, 183, 1, 92, 176]
abbrev dktX0_like_0 : List UInt8 := dkwX0_like_0 ++ []
theorem dksX0_like_0 : cX0_like.data.toList.drop 0 = dktX0_like_0 := by decide +kernel
theorem dX0_like_0 : decode cX0_like 0 = .ok (.new 17, 3) := dk_187 0 17 (dk_at dksX0_like_0 0 rfl rfl)
theorem dX0_like_3 : decode cX0_like 3 = .ok (.dup, 1) := dk_89 (dk_at dksX0_like_0 3 rfl rfl)
theorem dX0_like_4 : decode cX0_like 4 = .ok (.aload_n 0, 1) := dk_42 (dk_at dksX0_like_0 4 rfl rfl)
theorem dX0_like_5 : decode cX0_like 5 = .ok (.getfield 20, 3) := dk_180 0 20 (dk_at dksX0_like_0 5 rfl rfl)
theorem dX0_like_8 : decode cX0_like 8 = .ok (.getfield 162, 3) := dk_180 0 162 (dk_at dksX0_like_0 8 rfl rfl)
theorem dX0_like_11 : decode cX0_like 11 = .ok (.aload_n 0, 1) := dk_42 (dk_at dksX0_like_0 11 rfl rfl)
theorem dX0_like_12 : decode cX0_like 12 = .ok (.getfield 20, 3) := dk_180 0 20 (dk_at dksX0_like_0 12 rfl rfl)
theorem dX0_like_15 : decode cX0_like 15 = .ok (.getfield 165, 3) := dk_180 0 165 (dk_at dksX0_like_0 15 rfl rfl)
theorem dX0_like_18 : decode cX0_like 18 = .ok (.invokespecial 348, 3) := dk_183 1 92 (dk_at dksX0_like_0 18 rfl rfl)
theorem dX0_like_21 : decode cX0_like 21 = .ok (.areturn, 1) := dk_176 (dk_at dksX0_like_0 21 rfl rfl)
abbrev cX0_divide : ByteArray := prog_1_method_91_code
def yX0_divide : MethodName := ⟨RX0, "divide", "(II)I"⟩
def dkwX0_divide_4 : List UInt8 := [185, 0, 114, 1, 0, 172]
abbrev dktX0_divide_4 : List UInt8 := dkwX0_divide_4 ++ []
def dkwX0_divide_3 : List UInt8 := [45, 182, 1, 150, 182, 1, 146, 87, 167, 255, 222, 42, 25, 4, 182, 0, 143, 25, 4, 180, 0, 151]
abbrev dktX0_divide_3 : List UInt8 := dkwX0_divide_3 ++ dktX0_divide_4
def dkwX0_divide_2 : List UInt8 := [185, 1, 44, 1, 0, 153, 0, 30, 25, 5, 185, 1, 50, 1, 0, 192, 0, 183, 58, 6, 25, 4, 25, 6]
abbrev dktX0_divide_2 : List UInt8 := dkwX0_divide_2 ++ dktX0_divide_3
def dkwX0_divide_1 : List UInt8 := [182, 1, 143, 58, 4, 42, 180, 0, 20, 180, 0, 151, 185, 1, 40, 1, 0, 58, 5, 25, 5]
abbrev dktX0_divide_1 : List UInt8 := dkwX0_divide_1 ++ dktX0_divide_2
def dkwX0_divide_0 : List UInt8 := [42, 27, 28, 182, 1, 140, 154, 0, 9, 42, 5, 182, 0, 93, 172, 42, 27, 28, 182, 0, 192, 78, 42]
abbrev dktX0_divide_0 : List UInt8 := dkwX0_divide_0 ++ dktX0_divide_1
theorem dksX0_divide_0 : cX0_divide.data.toList.drop 0 = dktX0_divide_0 := by decide +kernel
theorem dksX0_divide_1 : cX0_divide.data.toList.drop 23 = dktX0_divide_1 := dk_seg dksX0_divide_0 23 rfl rfl
theorem dksX0_divide_2 : cX0_divide.data.toList.drop 44 = dktX0_divide_2 := dk_seg dksX0_divide_1 21 rfl rfl
theorem dksX0_divide_3 : cX0_divide.data.toList.drop 68 = dktX0_divide_3 := dk_seg dksX0_divide_2 24 rfl rfl
theorem dksX0_divide_4 : cX0_divide.data.toList.drop 90 = dktX0_divide_4 := dk_seg dksX0_divide_3 22 rfl rfl
theorem dX0_divide_0 : decode cX0_divide 0 = .ok (.aload_n 0, 1) := dk_42 (dk_at dksX0_divide_0 0 rfl rfl)
theorem dX0_divide_1 : decode cX0_divide 1 = .ok (.iload_n 1, 1) := dk_27 (dk_at dksX0_divide_0 1 rfl rfl)
theorem dX0_divide_2 : decode cX0_divide 2 = .ok (.iload_n 2, 1) := dk_28 (dk_at dksX0_divide_0 2 rfl rfl)
theorem dX0_divide_3 : decode cX0_divide 3 = .ok (.invokevirtual 396, 3) := dk_182 1 140 (dk_at dksX0_divide_0 3 rfl rfl)
theorem dX0_divide_6 : decode cX0_divide 6 = .ok (.ifCond .ne 9, 3) := dk_154 0 9 (dk_at dksX0_divide_0 6 rfl rfl)
theorem dX0_divide_9 : decode cX0_divide 9 = .ok (.aload_n 0, 1) := dk_42 (dk_at dksX0_divide_0 9 rfl rfl)
theorem dX0_divide_10 : decode cX0_divide 10 = .ok (.iconst 2, 1) := dk_5 (dk_at dksX0_divide_0 10 rfl rfl)
theorem dX0_divide_11 : decode cX0_divide 11 = .ok (.invokevirtual 93, 3) := dk_182 0 93 (dk_at dksX0_divide_0 11 rfl rfl)
theorem dX0_divide_14 : decode cX0_divide 14 = .ok (.ireturn, 1) := dk_172 (dk_at dksX0_divide_0 14 rfl rfl)
theorem dX0_divide_15 : decode cX0_divide 15 = .ok (.aload_n 0, 1) := dk_42 (dk_at dksX0_divide_0 15 rfl rfl)
theorem dX0_divide_16 : decode cX0_divide 16 = .ok (.iload_n 1, 1) := dk_27 (dk_at dksX0_divide_0 16 rfl rfl)
theorem dX0_divide_17 : decode cX0_divide 17 = .ok (.iload_n 2, 1) := dk_28 (dk_at dksX0_divide_0 17 rfl rfl)
theorem dX0_divide_18 : decode cX0_divide 18 = .ok (.invokevirtual 192, 3) := dk_182 0 192 (dk_at dksX0_divide_0 18 rfl rfl)
theorem dX0_divide_21 : decode cX0_divide 21 = .ok (.astore_n 3, 1) := dk_78 (dk_at dksX0_divide_0 21 rfl rfl)
theorem dX0_divide_22 : decode cX0_divide 22 = .ok (.aload_n 0, 1) := dk_42 (dk_at dksX0_divide_0 22 rfl rfl)
theorem dX0_divide_23 : decode cX0_divide 23 = .ok (.invokevirtual 399, 3) := dk_182 1 143 (dk_at dksX0_divide_1 0 rfl rfl)
theorem dX0_divide_26 : decode cX0_divide 26 = .ok (.astore 4, 2) := dk_58 4 (dk_at dksX0_divide_1 3 rfl rfl)
theorem dX0_divide_28 : decode cX0_divide 28 = .ok (.aload_n 0, 1) := dk_42 (dk_at dksX0_divide_1 5 rfl rfl)
theorem dX0_divide_29 : decode cX0_divide 29 = .ok (.getfield 20, 3) := dk_180 0 20 (dk_at dksX0_divide_1 6 rfl rfl)
theorem dX0_divide_32 : decode cX0_divide 32 = .ok (.getfield 151, 3) := dk_180 0 151 (dk_at dksX0_divide_1 9 rfl rfl)
theorem dX0_divide_35 : decode cX0_divide 35 = .ok (.invokeinterface 296 1, 5) := by decide +kernel
theorem dX0_divide_40 : decode cX0_divide 40 = .ok (.astore 5, 2) := dk_58 5 (dk_at dksX0_divide_1 17 rfl rfl)
theorem dX0_divide_42 : decode cX0_divide 42 = .ok (.aload 5, 2) := dk_25 5 (dk_at dksX0_divide_1 19 rfl rfl)
theorem dX0_divide_44 : decode cX0_divide 44 = .ok (.invokeinterface 300 1, 5) := by decide +kernel
theorem dX0_divide_49 : decode cX0_divide 49 = .ok (.ifCond .eq 30, 3) := dk_153 0 30 (dk_at dksX0_divide_2 5 rfl rfl)
theorem dX0_divide_52 : decode cX0_divide 52 = .ok (.aload 5, 2) := dk_25 5 (dk_at dksX0_divide_2 8 rfl rfl)
theorem dX0_divide_54 : decode cX0_divide 54 = .ok (.invokeinterface 306 1, 5) := by decide +kernel
theorem dX0_divide_59 : decode cX0_divide 59 = .ok (.checkcast 183, 3) := dk_192 0 183 (dk_at dksX0_divide_2 15 rfl rfl)
theorem dX0_divide_62 : decode cX0_divide 62 = .ok (.astore 6, 2) := dk_58 6 (dk_at dksX0_divide_2 18 rfl rfl)
theorem dX0_divide_64 : decode cX0_divide 64 = .ok (.aload 4, 2) := dk_25 4 (dk_at dksX0_divide_2 20 rfl rfl)
theorem dX0_divide_66 : decode cX0_divide 66 = .ok (.aload 6, 2) := dk_25 6 (dk_at dksX0_divide_2 22 rfl rfl)
theorem dX0_divide_68 : decode cX0_divide 68 = .ok (.aload_n 3, 1) := dk_45 (dk_at dksX0_divide_3 0 rfl rfl)
theorem dX0_divide_69 : decode cX0_divide 69 = .ok (.invokevirtual 406, 3) := dk_182 1 150 (dk_at dksX0_divide_3 1 rfl rfl)
theorem dX0_divide_72 : decode cX0_divide 72 = .ok (.invokevirtual 402, 3) := dk_182 1 146 (dk_at dksX0_divide_3 4 rfl rfl)
theorem dX0_divide_75 : decode cX0_divide 75 = .ok (.pop, 1) := dk_87 (dk_at dksX0_divide_3 7 rfl rfl)
theorem dX0_divide_76 : decode cX0_divide 76 = .ok (.goto (-34), 3) := dk_167 255 222 (dk_at dksX0_divide_3 8 rfl rfl)
theorem dX0_divide_79 : decode cX0_divide 79 = .ok (.aload_n 0, 1) := dk_42 (dk_at dksX0_divide_3 11 rfl rfl)
theorem dX0_divide_80 : decode cX0_divide 80 = .ok (.aload 4, 2) := dk_25 4 (dk_at dksX0_divide_3 12 rfl rfl)
theorem dX0_divide_82 : decode cX0_divide 82 = .ok (.invokevirtual 143, 3) := dk_182 0 143 (dk_at dksX0_divide_3 14 rfl rfl)
theorem dX0_divide_85 : decode cX0_divide 85 = .ok (.aload 4, 2) := dk_25 4 (dk_at dksX0_divide_3 17 rfl rfl)
theorem dX0_divide_87 : decode cX0_divide 87 = .ok (.getfield 151, 3) := dk_180 0 151 (dk_at dksX0_divide_3 19 rfl rfl)
theorem dX0_divide_90 : decode cX0_divide 90 = .ok (.invokeinterface 114 1, 5) := by decide +kernel
theorem dX0_divide_95 : decode cX0_divide 95 = .ok (.ireturn, 1) := dk_172 (dk_at dksX0_divide_4 5 rfl rfl)
abbrev cX0_times : ByteArray := prog_1_method_92_code
def yX0_times : MethodName := ⟨RX0, "times", "(II)I"⟩
def dkwX0_times_5 : List UInt8 := [185, 0, 114, 1, 0, 172]
abbrev dktX0_times_5 : List UInt8 := dkwX0_times_5 ++ []
def dkwX0_times_4 : List UInt8 := [25, 6, 45, 182, 1, 157, 182, 1, 146, 87, 167, 255, 222, 42, 25, 4, 182, 0, 143, 25, 4, 180, 0, 151]
abbrev dktX0_times_4 : List UInt8 := dkwX0_times_4 ++ dktX0_times_5
def dkwX0_times_3 : List UInt8 := [25, 5, 185, 1, 44, 1, 0, 153, 0, 30, 25, 5, 185, 1, 50, 1, 0, 192, 0, 183, 58, 6, 25, 4]
abbrev dktX0_times_3 : List UInt8 := dkwX0_times_3 ++ dktX0_times_4
def dkwX0_times_2 : List UInt8 := [182, 0, 192, 78, 42, 182, 1, 143, 58, 4, 42, 180, 0, 20, 180, 0, 151, 185, 1, 40, 1, 0, 58, 5]
abbrev dktX0_times_2 : List UInt8 := dkwX0_times_2 ++ dktX0_times_3
def dkwX0_times_1 : List UInt8 := [180, 0, 20, 180, 0, 151, 185, 1, 154, 1, 0, 154, 0, 9, 42, 5, 182, 0, 93, 172, 42, 27, 28]
abbrev dktX0_times_1 : List UInt8 := dkwX0_times_1 ++ dktX0_times_2
def dkwX0_times_0 : List UInt8 := [42, 27, 28, 182, 1, 140, 153, 0, 32, 42, 180, 0, 20, 182, 0, 243, 27, 96, 16, 8, 164, 0, 24, 42]
abbrev dktX0_times_0 : List UInt8 := dkwX0_times_0 ++ dktX0_times_1
theorem dksX0_times_0 : cX0_times.data.toList.drop 0 = dktX0_times_0 := by decide +kernel
theorem dksX0_times_1 : cX0_times.data.toList.drop 24 = dktX0_times_1 := dk_seg dksX0_times_0 24 rfl rfl
theorem dksX0_times_2 : cX0_times.data.toList.drop 47 = dktX0_times_2 := dk_seg dksX0_times_1 23 rfl rfl
theorem dksX0_times_3 : cX0_times.data.toList.drop 71 = dktX0_times_3 := dk_seg dksX0_times_2 24 rfl rfl
theorem dksX0_times_4 : cX0_times.data.toList.drop 95 = dktX0_times_4 := dk_seg dksX0_times_3 24 rfl rfl
theorem dksX0_times_5 : cX0_times.data.toList.drop 119 = dktX0_times_5 := dk_seg dksX0_times_4 24 rfl rfl
theorem dX0_times_0 : decode cX0_times 0 = .ok (.aload_n 0, 1) := dk_42 (dk_at dksX0_times_0 0 rfl rfl)
theorem dX0_times_1 : decode cX0_times 1 = .ok (.iload_n 1, 1) := dk_27 (dk_at dksX0_times_0 1 rfl rfl)
theorem dX0_times_2 : decode cX0_times 2 = .ok (.iload_n 2, 1) := dk_28 (dk_at dksX0_times_0 2 rfl rfl)
theorem dX0_times_3 : decode cX0_times 3 = .ok (.invokevirtual 396, 3) := dk_182 1 140 (dk_at dksX0_times_0 3 rfl rfl)
theorem dX0_times_6 : decode cX0_times 6 = .ok (.ifCond .eq 32, 3) := dk_153 0 32 (dk_at dksX0_times_0 6 rfl rfl)
theorem dX0_times_9 : decode cX0_times 9 = .ok (.aload_n 0, 1) := dk_42 (dk_at dksX0_times_0 9 rfl rfl)
theorem dX0_times_10 : decode cX0_times 10 = .ok (.getfield 20, 3) := dk_180 0 20 (dk_at dksX0_times_0 10 rfl rfl)
theorem dX0_times_13 : decode cX0_times 13 = .ok (.invokevirtual 243, 3) := dk_182 0 243 (dk_at dksX0_times_0 13 rfl rfl)
theorem dX0_times_16 : decode cX0_times 16 = .ok (.iload_n 1, 1) := dk_27 (dk_at dksX0_times_0 16 rfl rfl)
theorem dX0_times_17 : decode cX0_times 17 = .ok (.iadd, 1) := dk_96 (dk_at dksX0_times_0 17 rfl rfl)
theorem dX0_times_18 : decode cX0_times 18 = .ok (.bipush 8, 2) := dk_16 8 (dk_at dksX0_times_0 18 rfl rfl)
theorem dX0_times_20 : decode cX0_times 20 = .ok (.if_icmp .le 24, 3) := dk_164 0 24 (dk_at dksX0_times_0 20 rfl rfl)
theorem dX0_times_23 : decode cX0_times 23 = .ok (.aload_n 0, 1) := dk_42 (dk_at dksX0_times_0 23 rfl rfl)
theorem dX0_times_24 : decode cX0_times 24 = .ok (.getfield 20, 3) := dk_180 0 20 (dk_at dksX0_times_1 0 rfl rfl)
theorem dX0_times_27 : decode cX0_times 27 = .ok (.getfield 151, 3) := dk_180 0 151 (dk_at dksX0_times_1 3 rfl rfl)
theorem dX0_times_30 : decode cX0_times 30 = .ok (.invokeinterface 410 1, 5) := by decide +kernel
theorem dX0_times_35 : decode cX0_times 35 = .ok (.ifCond .ne 9, 3) := dk_154 0 9 (dk_at dksX0_times_1 11 rfl rfl)
theorem dX0_times_38 : decode cX0_times 38 = .ok (.aload_n 0, 1) := dk_42 (dk_at dksX0_times_1 14 rfl rfl)
theorem dX0_times_39 : decode cX0_times 39 = .ok (.iconst 2, 1) := dk_5 (dk_at dksX0_times_1 15 rfl rfl)
theorem dX0_times_40 : decode cX0_times 40 = .ok (.invokevirtual 93, 3) := dk_182 0 93 (dk_at dksX0_times_1 16 rfl rfl)
theorem dX0_times_43 : decode cX0_times 43 = .ok (.ireturn, 1) := dk_172 (dk_at dksX0_times_1 19 rfl rfl)
theorem dX0_times_44 : decode cX0_times 44 = .ok (.aload_n 0, 1) := dk_42 (dk_at dksX0_times_1 20 rfl rfl)
theorem dX0_times_45 : decode cX0_times 45 = .ok (.iload_n 1, 1) := dk_27 (dk_at dksX0_times_1 21 rfl rfl)
theorem dX0_times_46 : decode cX0_times 46 = .ok (.iload_n 2, 1) := dk_28 (dk_at dksX0_times_1 22 rfl rfl)
theorem dX0_times_47 : decode cX0_times 47 = .ok (.invokevirtual 192, 3) := dk_182 0 192 (dk_at dksX0_times_2 0 rfl rfl)
theorem dX0_times_50 : decode cX0_times 50 = .ok (.astore_n 3, 1) := dk_78 (dk_at dksX0_times_2 3 rfl rfl)
theorem dX0_times_51 : decode cX0_times 51 = .ok (.aload_n 0, 1) := dk_42 (dk_at dksX0_times_2 4 rfl rfl)
theorem dX0_times_52 : decode cX0_times 52 = .ok (.invokevirtual 399, 3) := dk_182 1 143 (dk_at dksX0_times_2 5 rfl rfl)
theorem dX0_times_55 : decode cX0_times 55 = .ok (.astore 4, 2) := dk_58 4 (dk_at dksX0_times_2 8 rfl rfl)
theorem dX0_times_57 : decode cX0_times 57 = .ok (.aload_n 0, 1) := dk_42 (dk_at dksX0_times_2 10 rfl rfl)
theorem dX0_times_58 : decode cX0_times 58 = .ok (.getfield 20, 3) := dk_180 0 20 (dk_at dksX0_times_2 11 rfl rfl)
theorem dX0_times_61 : decode cX0_times 61 = .ok (.getfield 151, 3) := dk_180 0 151 (dk_at dksX0_times_2 14 rfl rfl)
theorem dX0_times_64 : decode cX0_times 64 = .ok (.invokeinterface 296 1, 5) := by decide +kernel
theorem dX0_times_69 : decode cX0_times 69 = .ok (.astore 5, 2) := dk_58 5 (dk_at dksX0_times_2 22 rfl rfl)
theorem dX0_times_71 : decode cX0_times 71 = .ok (.aload 5, 2) := dk_25 5 (dk_at dksX0_times_3 0 rfl rfl)
theorem dX0_times_73 : decode cX0_times 73 = .ok (.invokeinterface 300 1, 5) := by decide +kernel
theorem dX0_times_78 : decode cX0_times 78 = .ok (.ifCond .eq 30, 3) := dk_153 0 30 (dk_at dksX0_times_3 7 rfl rfl)
theorem dX0_times_81 : decode cX0_times 81 = .ok (.aload 5, 2) := dk_25 5 (dk_at dksX0_times_3 10 rfl rfl)
theorem dX0_times_83 : decode cX0_times 83 = .ok (.invokeinterface 306 1, 5) := by decide +kernel
theorem dX0_times_88 : decode cX0_times 88 = .ok (.checkcast 183, 3) := dk_192 0 183 (dk_at dksX0_times_3 17 rfl rfl)
theorem dX0_times_91 : decode cX0_times 91 = .ok (.astore 6, 2) := dk_58 6 (dk_at dksX0_times_3 20 rfl rfl)
theorem dX0_times_93 : decode cX0_times 93 = .ok (.aload 4, 2) := dk_25 4 (dk_at dksX0_times_3 22 rfl rfl)
theorem dX0_times_95 : decode cX0_times 95 = .ok (.aload 6, 2) := dk_25 6 (dk_at dksX0_times_4 0 rfl rfl)
theorem dX0_times_97 : decode cX0_times 97 = .ok (.aload_n 3, 1) := dk_45 (dk_at dksX0_times_4 2 rfl rfl)
theorem dX0_times_98 : decode cX0_times 98 = .ok (.invokevirtual 413, 3) := dk_182 1 157 (dk_at dksX0_times_4 3 rfl rfl)
theorem dX0_times_101 : decode cX0_times 101 = .ok (.invokevirtual 402, 3) := dk_182 1 146 (dk_at dksX0_times_4 6 rfl rfl)
theorem dX0_times_104 : decode cX0_times 104 = .ok (.pop, 1) := dk_87 (dk_at dksX0_times_4 9 rfl rfl)
theorem dX0_times_105 : decode cX0_times 105 = .ok (.goto (-34), 3) := dk_167 255 222 (dk_at dksX0_times_4 10 rfl rfl)
theorem dX0_times_108 : decode cX0_times 108 = .ok (.aload_n 0, 1) := dk_42 (dk_at dksX0_times_4 13 rfl rfl)
theorem dX0_times_109 : decode cX0_times 109 = .ok (.aload 4, 2) := dk_25 4 (dk_at dksX0_times_4 14 rfl rfl)
theorem dX0_times_111 : decode cX0_times 111 = .ok (.invokevirtual 143, 3) := dk_182 0 143 (dk_at dksX0_times_4 16 rfl rfl)
theorem dX0_times_114 : decode cX0_times 114 = .ok (.aload 4, 2) := dk_25 4 (dk_at dksX0_times_4 19 rfl rfl)
theorem dX0_times_116 : decode cX0_times 116 = .ok (.getfield 151, 3) := dk_180 0 151 (dk_at dksX0_times_4 21 rfl rfl)
theorem dX0_times_119 : decode cX0_times 119 = .ok (.invokeinterface 114 1, 5) := by decide +kernel
theorem dX0_times_124 : decode cX0_times 124 = .ok (.ireturn, 1) := dk_172 (dk_at dksX0_times_5 5 rfl rfl)
abbrev cX0_levelled : ByteArray := prog_1_method_94_code
def yX0_levelled : MethodName := ⟨RX0, "levelled", "()I"⟩
def dkwX0_levelled_1 : List UInt8 := [43, 44, 182, 1, 146, 87, 43, 184, 1, 54, 77, 167, 255, 241, 42, 43, 182, 1, 160, 172]
abbrev dktX0_levelled_1 : List UInt8 := dkwX0_levelled_1 ++ []
def dkwX0_levelled_0 : List UInt8 := [42, 182, 1, 143, 42, 180, 0, 20, 180, 0, 151, 182, 1, 95, 76, 43, 184, 1, 54, 77, 44, 198, 0, 17]
abbrev dktX0_levelled_0 : List UInt8 := dkwX0_levelled_0 ++ dktX0_levelled_1
theorem dksX0_levelled_0 : cX0_levelled.data.toList.drop 0 = dktX0_levelled_0 := by decide +kernel
theorem dksX0_levelled_1 : cX0_levelled.data.toList.drop 24 = dktX0_levelled_1 := dk_seg dksX0_levelled_0 24 rfl rfl
theorem dX0_levelled_0 : decode cX0_levelled 0 = .ok (.aload_n 0, 1) := dk_42 (dk_at dksX0_levelled_0 0 rfl rfl)
theorem dX0_levelled_1 : decode cX0_levelled 1 = .ok (.invokevirtual 399, 3) := dk_182 1 143 (dk_at dksX0_levelled_0 1 rfl rfl)
theorem dX0_levelled_4 : decode cX0_levelled 4 = .ok (.aload_n 0, 1) := dk_42 (dk_at dksX0_levelled_0 4 rfl rfl)
theorem dX0_levelled_5 : decode cX0_levelled 5 = .ok (.getfield 20, 3) := dk_180 0 20 (dk_at dksX0_levelled_0 5 rfl rfl)
theorem dX0_levelled_8 : decode cX0_levelled 8 = .ok (.getfield 151, 3) := dk_180 0 151 (dk_at dksX0_levelled_0 8 rfl rfl)
theorem dX0_levelled_11 : decode cX0_levelled 11 = .ok (.invokevirtual 351, 3) := dk_182 1 95 (dk_at dksX0_levelled_0 11 rfl rfl)
theorem dX0_levelled_14 : decode cX0_levelled 14 = .ok (.astore_n 1, 1) := dk_76 (dk_at dksX0_levelled_0 14 rfl rfl)
theorem dX0_levelled_15 : decode cX0_levelled 15 = .ok (.aload_n 1, 1) := dk_43 (dk_at dksX0_levelled_0 15 rfl rfl)
theorem dX0_levelled_16 : decode cX0_levelled 16 = .ok (.invokestatic 310, 3) := dk_184 1 54 (dk_at dksX0_levelled_0 16 rfl rfl)
theorem dX0_levelled_19 : decode cX0_levelled 19 = .ok (.astore_n 2, 1) := dk_77 (dk_at dksX0_levelled_0 19 rfl rfl)
theorem dX0_levelled_20 : decode cX0_levelled 20 = .ok (.aload_n 2, 1) := dk_44 (dk_at dksX0_levelled_0 20 rfl rfl)
theorem dX0_levelled_21 : decode cX0_levelled 21 = .ok (.ifnull 17, 3) := dk_198 0 17 (dk_at dksX0_levelled_0 21 rfl rfl)
theorem dX0_levelled_24 : decode cX0_levelled 24 = .ok (.aload_n 1, 1) := dk_43 (dk_at dksX0_levelled_1 0 rfl rfl)
theorem dX0_levelled_25 : decode cX0_levelled 25 = .ok (.aload_n 2, 1) := dk_44 (dk_at dksX0_levelled_1 1 rfl rfl)
theorem dX0_levelled_26 : decode cX0_levelled 26 = .ok (.invokevirtual 402, 3) := dk_182 1 146 (dk_at dksX0_levelled_1 2 rfl rfl)
theorem dX0_levelled_29 : decode cX0_levelled 29 = .ok (.pop, 1) := dk_87 (dk_at dksX0_levelled_1 5 rfl rfl)
theorem dX0_levelled_30 : decode cX0_levelled 30 = .ok (.aload_n 1, 1) := dk_43 (dk_at dksX0_levelled_1 6 rfl rfl)
theorem dX0_levelled_31 : decode cX0_levelled 31 = .ok (.invokestatic 310, 3) := dk_184 1 54 (dk_at dksX0_levelled_1 7 rfl rfl)
theorem dX0_levelled_34 : decode cX0_levelled 34 = .ok (.astore_n 2, 1) := dk_77 (dk_at dksX0_levelled_1 10 rfl rfl)
theorem dX0_levelled_35 : decode cX0_levelled 35 = .ok (.goto (-15), 3) := dk_167 255 241 (dk_at dksX0_levelled_1 11 rfl rfl)
theorem dX0_levelled_38 : decode cX0_levelled 38 = .ok (.aload_n 0, 1) := dk_42 (dk_at dksX0_levelled_1 14 rfl rfl)
theorem dX0_levelled_39 : decode cX0_levelled 39 = .ok (.aload_n 1, 1) := dk_43 (dk_at dksX0_levelled_1 15 rfl rfl)
theorem dX0_levelled_40 : decode cX0_levelled 40 = .ok (.invokevirtual 416, 3) := dk_182 1 160 (dk_at dksX0_levelled_1 16 rfl rfl)
theorem dX0_levelled_43 : decode cX0_levelled 43 = .ok (.ireturn, 1) := dk_172 (dk_at dksX0_levelled_1 19 rfl rfl)
abbrev cX0_comes : ByteArray := prog_1_method_93_code
def yX0_comes : MethodName := ⟨RX0, "comes", "(LQuotientRows$State;)I"⟩
def dkwX0_comes_1 : List UInt8 := [5, 182, 0, 93, 172, 42, 43, 182, 0, 143, 43, 180, 0, 151, 185, 0, 114, 1, 0, 172]
abbrev dktX0_comes_1 : List UInt8 := dkwX0_comes_1 ++ []
def dkwX0_comes_0 : List UInt8 := [43, 180, 0, 151, 185, 0, 114, 1, 0, 16, 40, 163, 0, 12, 43, 182, 0, 243, 16, 8, 164, 0, 9, 42]
abbrev dktX0_comes_0 : List UInt8 := dkwX0_comes_0 ++ dktX0_comes_1
theorem dksX0_comes_0 : cX0_comes.data.toList.drop 0 = dktX0_comes_0 := by decide +kernel
theorem dksX0_comes_1 : cX0_comes.data.toList.drop 24 = dktX0_comes_1 := dk_seg dksX0_comes_0 24 rfl rfl
theorem dX0_comes_0 : decode cX0_comes 0 = .ok (.aload_n 1, 1) := dk_43 (dk_at dksX0_comes_0 0 rfl rfl)
theorem dX0_comes_1 : decode cX0_comes 1 = .ok (.getfield 151, 3) := dk_180 0 151 (dk_at dksX0_comes_0 1 rfl rfl)
theorem dX0_comes_4 : decode cX0_comes 4 = .ok (.invokeinterface 114 1, 5) := by decide +kernel
theorem dX0_comes_9 : decode cX0_comes 9 = .ok (.bipush 40, 2) := dk_16 40 (dk_at dksX0_comes_0 9 rfl rfl)
theorem dX0_comes_11 : decode cX0_comes 11 = .ok (.if_icmp .gt 12, 3) := dk_163 0 12 (dk_at dksX0_comes_0 11 rfl rfl)
theorem dX0_comes_14 : decode cX0_comes 14 = .ok (.aload_n 1, 1) := dk_43 (dk_at dksX0_comes_0 14 rfl rfl)
theorem dX0_comes_15 : decode cX0_comes 15 = .ok (.invokevirtual 243, 3) := dk_182 0 243 (dk_at dksX0_comes_0 15 rfl rfl)
theorem dX0_comes_18 : decode cX0_comes 18 = .ok (.bipush 8, 2) := dk_16 8 (dk_at dksX0_comes_0 18 rfl rfl)
theorem dX0_comes_20 : decode cX0_comes 20 = .ok (.if_icmp .le 9, 3) := dk_164 0 9 (dk_at dksX0_comes_0 20 rfl rfl)
theorem dX0_comes_23 : decode cX0_comes 23 = .ok (.aload_n 0, 1) := dk_42 (dk_at dksX0_comes_0 23 rfl rfl)
theorem dX0_comes_24 : decode cX0_comes 24 = .ok (.iconst 2, 1) := dk_5 (dk_at dksX0_comes_1 0 rfl rfl)
theorem dX0_comes_25 : decode cX0_comes 25 = .ok (.invokevirtual 93, 3) := dk_182 0 93 (dk_at dksX0_comes_1 1 rfl rfl)
theorem dX0_comes_28 : decode cX0_comes 28 = .ok (.ireturn, 1) := dk_172 (dk_at dksX0_comes_1 4 rfl rfl)
theorem dX0_comes_29 : decode cX0_comes 29 = .ok (.aload_n 0, 1) := dk_42 (dk_at dksX0_comes_1 5 rfl rfl)
theorem dX0_comes_30 : decode cX0_comes 30 = .ok (.aload_n 1, 1) := dk_43 (dk_at dksX0_comes_1 6 rfl rfl)
theorem dX0_comes_31 : decode cX0_comes 31 = .ok (.invokevirtual 143, 3) := dk_182 0 143 (dk_at dksX0_comes_1 7 rfl rfl)
theorem dX0_comes_34 : decode cX0_comes 34 = .ok (.aload_n 1, 1) := dk_43 (dk_at dksX0_comes_1 10 rfl rfl)
theorem dX0_comes_35 : decode cX0_comes 35 = .ok (.getfield 151, 3) := dk_180 0 151 (dk_at dksX0_comes_1 11 rfl rfl)
theorem dX0_comes_38 : decode cX0_comes 38 = .ok (.invokeinterface 114 1, 5) := by decide +kernel
theorem dX0_comes_43 : decode cX0_comes 43 = .ok (.ireturn, 1) := dk_172 (dk_at dksX0_comes_1 19 rfl rfl)
abbrev cX0_root : ByteArray := prog_1_method_95_code
def yX0_root : MethodName := ⟨RX0, "root", "()I"⟩
def dkwX0_root_4 : List UInt8 := [182, 1, 160, 172]
abbrev dktX0_root_4 : List UInt8 := dkwX0_root_4 ++ []
def dkwX0_root_3 : List UInt8 := [167, 255, 231, 43, 187, 0, 183, 89, 25, 4, 183, 0, 203, 182, 1, 146, 87, 167, 255, 187, 42, 43]
abbrev dktX0_root_3 : List UInt8 := dkwX0_root_3 ++ dktX0_root_4
def dkwX0_root_2 : List UInt8 := [162, 0, 25, 25, 4, 21, 5, 4, 45, 180, 0, 196, 21, 5, 46, 184, 1, 122, 79, 132, 5, 1]
abbrev dktX0_root_2 : List UInt8 := dkwX0_root_2 ++ dktX0_root_3
def dkwX0_root_1 : List UInt8 := [153, 0, 66, 44, 185, 1, 50, 1, 0, 192, 0, 183, 78, 7, 188, 10, 58, 4, 3, 54, 5, 21, 5, 7]
abbrev dktX0_root_1 : List UInt8 := dkwX0_root_1 ++ dktX0_root_2
def dkwX0_root_0 : List UInt8 := [42, 182, 1, 143, 76, 42, 180, 0, 20, 180, 0, 151, 185, 1, 40, 1, 0, 77, 44, 185, 1, 44, 1, 0]
abbrev dktX0_root_0 : List UInt8 := dkwX0_root_0 ++ dktX0_root_1
theorem dksX0_root_0 : cX0_root.data.toList.drop 0 = dktX0_root_0 := by decide +kernel
theorem dksX0_root_1 : cX0_root.data.toList.drop 24 = dktX0_root_1 := dk_seg dksX0_root_0 24 rfl rfl
theorem dksX0_root_2 : cX0_root.data.toList.drop 48 = dktX0_root_2 := dk_seg dksX0_root_1 24 rfl rfl
theorem dksX0_root_3 : cX0_root.data.toList.drop 70 = dktX0_root_3 := dk_seg dksX0_root_2 22 rfl rfl
theorem dksX0_root_4 : cX0_root.data.toList.drop 92 = dktX0_root_4 := dk_seg dksX0_root_3 22 rfl rfl
theorem dX0_root_0 : decode cX0_root 0 = .ok (.aload_n 0, 1) := dk_42 (dk_at dksX0_root_0 0 rfl rfl)
theorem dX0_root_1 : decode cX0_root 1 = .ok (.invokevirtual 399, 3) := dk_182 1 143 (dk_at dksX0_root_0 1 rfl rfl)
theorem dX0_root_4 : decode cX0_root 4 = .ok (.astore_n 1, 1) := dk_76 (dk_at dksX0_root_0 4 rfl rfl)
theorem dX0_root_5 : decode cX0_root 5 = .ok (.aload_n 0, 1) := dk_42 (dk_at dksX0_root_0 5 rfl rfl)
theorem dX0_root_6 : decode cX0_root 6 = .ok (.getfield 20, 3) := dk_180 0 20 (dk_at dksX0_root_0 6 rfl rfl)
theorem dX0_root_9 : decode cX0_root 9 = .ok (.getfield 151, 3) := dk_180 0 151 (dk_at dksX0_root_0 9 rfl rfl)
theorem dX0_root_12 : decode cX0_root 12 = .ok (.invokeinterface 296 1, 5) := by decide +kernel
theorem dX0_root_17 : decode cX0_root 17 = .ok (.astore_n 2, 1) := dk_77 (dk_at dksX0_root_0 17 rfl rfl)
theorem dX0_root_18 : decode cX0_root 18 = .ok (.aload_n 2, 1) := dk_44 (dk_at dksX0_root_0 18 rfl rfl)
theorem dX0_root_19 : decode cX0_root 19 = .ok (.invokeinterface 300 1, 5) := by decide +kernel
theorem dX0_root_24 : decode cX0_root 24 = .ok (.ifCond .eq 66, 3) := dk_153 0 66 (dk_at dksX0_root_1 0 rfl rfl)
theorem dX0_root_27 : decode cX0_root 27 = .ok (.aload_n 2, 1) := dk_44 (dk_at dksX0_root_1 3 rfl rfl)
theorem dX0_root_28 : decode cX0_root 28 = .ok (.invokeinterface 306 1, 5) := by decide +kernel
theorem dX0_root_33 : decode cX0_root 33 = .ok (.checkcast 183, 3) := dk_192 0 183 (dk_at dksX0_root_1 9 rfl rfl)
theorem dX0_root_36 : decode cX0_root 36 = .ok (.astore_n 3, 1) := dk_78 (dk_at dksX0_root_1 12 rfl rfl)
theorem dX0_root_37 : decode cX0_root 37 = .ok (.iconst 4, 1) := dk_7 (dk_at dksX0_root_1 13 rfl rfl)
theorem dX0_root_38 : decode cX0_root 38 = .ok (.newarray .int, 2) := dk_188_10 (dk_at dksX0_root_1 14 rfl rfl)
theorem dX0_root_40 : decode cX0_root 40 = .ok (.astore 4, 2) := dk_58 4 (dk_at dksX0_root_1 16 rfl rfl)
theorem dX0_root_42 : decode cX0_root 42 = .ok (.iconst 0, 1) := dk_3 (dk_at dksX0_root_1 18 rfl rfl)
theorem dX0_root_43 : decode cX0_root 43 = .ok (.istore 5, 2) := dk_54 5 (dk_at dksX0_root_1 19 rfl rfl)
theorem dX0_root_45 : decode cX0_root 45 = .ok (.iload 5, 2) := dk_21 5 (dk_at dksX0_root_1 21 rfl rfl)
theorem dX0_root_47 : decode cX0_root 47 = .ok (.iconst 4, 1) := dk_7 (dk_at dksX0_root_1 23 rfl rfl)
theorem dX0_root_48 : decode cX0_root 48 = .ok (.if_icmp .ge 25, 3) := dk_162 0 25 (dk_at dksX0_root_2 0 rfl rfl)
theorem dX0_root_51 : decode cX0_root 51 = .ok (.aload 4, 2) := dk_25 4 (dk_at dksX0_root_2 3 rfl rfl)
theorem dX0_root_53 : decode cX0_root 53 = .ok (.iload 5, 2) := dk_21 5 (dk_at dksX0_root_2 5 rfl rfl)
theorem dX0_root_55 : decode cX0_root 55 = .ok (.iconst 1, 1) := dk_4 (dk_at dksX0_root_2 7 rfl rfl)
theorem dX0_root_56 : decode cX0_root 56 = .ok (.aload_n 3, 1) := dk_45 (dk_at dksX0_root_2 8 rfl rfl)
theorem dX0_root_57 : decode cX0_root 57 = .ok (.getfield 196, 3) := dk_180 0 196 (dk_at dksX0_root_2 9 rfl rfl)
theorem dX0_root_60 : decode cX0_root 60 = .ok (.iload 5, 2) := dk_21 5 (dk_at dksX0_root_2 12 rfl rfl)
theorem dX0_root_62 : decode cX0_root 62 = .ok (.iaload, 1) := dk_46 (dk_at dksX0_root_2 14 rfl rfl)
theorem dX0_root_63 : decode cX0_root 63 = .ok (.invokestatic 378, 3) := dk_184 1 122 (dk_at dksX0_root_2 15 rfl rfl)
theorem dX0_root_66 : decode cX0_root 66 = .ok (.iastore, 1) := dk_79 (dk_at dksX0_root_2 18 rfl rfl)
theorem dX0_root_67 : decode cX0_root 67 = .ok (.iinc 5 1, 3) := dk_132 5 1 (dk_at dksX0_root_2 19 rfl rfl)
theorem dX0_root_70 : decode cX0_root 70 = .ok (.goto (-25), 3) := dk_167 255 231 (dk_at dksX0_root_3 0 rfl rfl)
theorem dX0_root_73 : decode cX0_root 73 = .ok (.aload_n 1, 1) := dk_43 (dk_at dksX0_root_3 3 rfl rfl)
theorem dX0_root_74 : decode cX0_root 74 = .ok (.new 183, 3) := dk_187 0 183 (dk_at dksX0_root_3 4 rfl rfl)
theorem dX0_root_77 : decode cX0_root 77 = .ok (.dup, 1) := dk_89 (dk_at dksX0_root_3 7 rfl rfl)
theorem dX0_root_78 : decode cX0_root 78 = .ok (.aload 4, 2) := dk_25 4 (dk_at dksX0_root_3 8 rfl rfl)
theorem dX0_root_80 : decode cX0_root 80 = .ok (.invokespecial 203, 3) := dk_183 0 203 (dk_at dksX0_root_3 10 rfl rfl)
theorem dX0_root_83 : decode cX0_root 83 = .ok (.invokevirtual 402, 3) := dk_182 1 146 (dk_at dksX0_root_3 13 rfl rfl)
theorem dX0_root_86 : decode cX0_root 86 = .ok (.pop, 1) := dk_87 (dk_at dksX0_root_3 16 rfl rfl)
theorem dX0_root_87 : decode cX0_root 87 = .ok (.goto (-69), 3) := dk_167 255 187 (dk_at dksX0_root_3 17 rfl rfl)
theorem dX0_root_90 : decode cX0_root 90 = .ok (.aload_n 0, 1) := dk_42 (dk_at dksX0_root_3 20 rfl rfl)
theorem dX0_root_91 : decode cX0_root 91 = .ok (.aload_n 1, 1) := dk_43 (dk_at dksX0_root_3 21 rfl rfl)
theorem dX0_root_92 : decode cX0_root 92 = .ok (.invokevirtual 416, 3) := dk_182 1 160 (dk_at dksX0_root_4 0 rfl rfl)
theorem dX0_root_95 : decode cX0_root 95 = .ok (.ireturn, 1) := dk_172 (dk_at dksX0_root_4 3 rfl rfl)
abbrev cX0_keep : ByteArray := prog_1_method_96_code
def yX0_keep : MethodName := ⟨RX0, "keep", "(I)I"⟩
def dkwX0_keep_1 : List UInt8 := [42, 180, 0, 20, 180, 0, 151, 185, 0, 114, 1, 0, 172]
abbrev dktX0_keep_1 : List UInt8 := dkwX0_keep_1 ++ []
def dkwX0_keep_0 : List UInt8 := [27, 133, 9, 20, 1, 164, 184, 0, 110, 154, 0, 5, 2, 172, 42, 180, 0, 50, 27, 42, 180, 0, 20, 83]
abbrev dktX0_keep_0 : List UInt8 := dkwX0_keep_0 ++ dktX0_keep_1
theorem dksX0_keep_0 : cX0_keep.data.toList.drop 0 = dktX0_keep_0 := by decide +kernel
theorem dksX0_keep_1 : cX0_keep.data.toList.drop 24 = dktX0_keep_1 := dk_seg dksX0_keep_0 24 rfl rfl
theorem dX0_keep_0 : decode cX0_keep 0 = .ok (.iload_n 1, 1) := dk_27 (dk_at dksX0_keep_0 0 rfl rfl)
theorem dX0_keep_1 : decode cX0_keep 1 = .ok (.i2l, 1) := dk_133 (dk_at dksX0_keep_0 1 rfl rfl)
theorem dX0_keep_2 : decode cX0_keep 2 = .ok (.lconst 0, 1) := dk_9 (dk_at dksX0_keep_0 2 rfl rfl)
theorem dX0_keep_3 : decode cX0_keep 3 = .ok (.ldc2_w 420, 3) := dk_20 1 164 (dk_at dksX0_keep_0 3 rfl rfl)
theorem dX0_keep_6 : decode cX0_keep 6 = .ok (.invokestatic 110, 3) := dk_184 0 110 (dk_at dksX0_keep_0 6 rfl rfl)
theorem dX0_keep_9 : decode cX0_keep 9 = .ok (.ifCond .ne 5, 3) := dk_154 0 5 (dk_at dksX0_keep_0 9 rfl rfl)
theorem dX0_keep_12 : decode cX0_keep 12 = .ok (.iconst (-1), 1) := dk_2 (dk_at dksX0_keep_0 12 rfl rfl)
theorem dX0_keep_13 : decode cX0_keep 13 = .ok (.ireturn, 1) := dk_172 (dk_at dksX0_keep_0 13 rfl rfl)
theorem dX0_keep_14 : decode cX0_keep 14 = .ok (.aload_n 0, 1) := dk_42 (dk_at dksX0_keep_0 14 rfl rfl)
theorem dX0_keep_15 : decode cX0_keep 15 = .ok (.getfield 50, 3) := dk_180 0 50 (dk_at dksX0_keep_0 15 rfl rfl)
theorem dX0_keep_18 : decode cX0_keep 18 = .ok (.iload_n 1, 1) := dk_27 (dk_at dksX0_keep_0 18 rfl rfl)
theorem dX0_keep_19 : decode cX0_keep 19 = .ok (.aload_n 0, 1) := dk_42 (dk_at dksX0_keep_0 19 rfl rfl)
theorem dX0_keep_20 : decode cX0_keep 20 = .ok (.getfield 20, 3) := dk_180 0 20 (dk_at dksX0_keep_0 20 rfl rfl)
theorem dX0_keep_23 : decode cX0_keep 23 = .ok (.aastore, 1) := dk_83 (dk_at dksX0_keep_0 23 rfl rfl)
theorem dX0_keep_24 : decode cX0_keep 24 = .ok (.aload_n 0, 1) := dk_42 (dk_at dksX0_keep_1 0 rfl rfl)
theorem dX0_keep_25 : decode cX0_keep 25 = .ok (.getfield 20, 3) := dk_180 0 20 (dk_at dksX0_keep_1 1 rfl rfl)
theorem dX0_keep_28 : decode cX0_keep 28 = .ok (.getfield 151, 3) := dk_180 0 151 (dk_at dksX0_keep_1 4 rfl rfl)
theorem dX0_keep_31 : decode cX0_keep 31 = .ok (.invokeinterface 114 1, 5) := by decide +kernel
theorem dX0_keep_36 : decode cX0_keep 36 = .ok (.ireturn, 1) := dk_172 (dk_at dksX0_keep_1 12 rfl rfl)
abbrev cX0_within : ByteArray := prog_1_method_99_code
def yX0_within : MethodName := ⟨RX0, "within", "(I)I"⟩
def dkwX0_within_1 : List UInt8 := [5, 42, 180, 0, 20, 42, 180, 0, 50, 27, 50, 184, 1, 169, 184, 0, 54, 104, 96, 167, 0, 4, 2, 172]
abbrev dktX0_within_1 : List UInt8 := dkwX0_within_1 ++ []
def dkwX0_within_0 : List UInt8 := [42, 27, 182, 1, 166, 153, 0, 41, 42, 180, 0, 50, 27, 50, 42, 180, 0, 20, 184, 1, 169, 184, 0, 54]
abbrev dktX0_within_0 : List UInt8 := dkwX0_within_0 ++ dktX0_within_1
theorem dksX0_within_0 : cX0_within.data.toList.drop 0 = dktX0_within_0 := by decide +kernel
theorem dksX0_within_1 : cX0_within.data.toList.drop 24 = dktX0_within_1 := dk_seg dksX0_within_0 24 rfl rfl
theorem dX0_within_0 : decode cX0_within 0 = .ok (.aload_n 0, 1) := dk_42 (dk_at dksX0_within_0 0 rfl rfl)
theorem dX0_within_1 : decode cX0_within 1 = .ok (.iload_n 1, 1) := dk_27 (dk_at dksX0_within_0 1 rfl rfl)
theorem dX0_within_2 : decode cX0_within 2 = .ok (.invokevirtual 422, 3) := dk_182 1 166 (dk_at dksX0_within_0 2 rfl rfl)
theorem dX0_within_5 : decode cX0_within 5 = .ok (.ifCond .eq 41, 3) := dk_153 0 41 (dk_at dksX0_within_0 5 rfl rfl)
theorem dX0_within_8 : decode cX0_within 8 = .ok (.aload_n 0, 1) := dk_42 (dk_at dksX0_within_0 8 rfl rfl)
theorem dX0_within_9 : decode cX0_within 9 = .ok (.getfield 50, 3) := dk_180 0 50 (dk_at dksX0_within_0 9 rfl rfl)
theorem dX0_within_12 : decode cX0_within 12 = .ok (.iload_n 1, 1) := dk_27 (dk_at dksX0_within_0 12 rfl rfl)
theorem dX0_within_13 : decode cX0_within 13 = .ok (.aaload, 1) := dk_50 (dk_at dksX0_within_0 13 rfl rfl)
theorem dX0_within_14 : decode cX0_within 14 = .ok (.aload_n 0, 1) := dk_42 (dk_at dksX0_within_0 14 rfl rfl)
theorem dX0_within_15 : decode cX0_within 15 = .ok (.getfield 20, 3) := dk_180 0 20 (dk_at dksX0_within_0 15 rfl rfl)
theorem dX0_within_18 : decode cX0_within 18 = .ok (.invokestatic 425, 3) := dk_184 1 169 (dk_at dksX0_within_0 18 rfl rfl)
theorem dX0_within_21 : decode cX0_within 21 = .ok (.invokestatic 54, 3) := dk_184 0 54 (dk_at dksX0_within_0 21 rfl rfl)
theorem dX0_within_24 : decode cX0_within 24 = .ok (.iconst 2, 1) := dk_5 (dk_at dksX0_within_1 0 rfl rfl)
theorem dX0_within_25 : decode cX0_within 25 = .ok (.aload_n 0, 1) := dk_42 (dk_at dksX0_within_1 1 rfl rfl)
theorem dX0_within_26 : decode cX0_within 26 = .ok (.getfield 20, 3) := dk_180 0 20 (dk_at dksX0_within_1 2 rfl rfl)
theorem dX0_within_29 : decode cX0_within 29 = .ok (.aload_n 0, 1) := dk_42 (dk_at dksX0_within_1 5 rfl rfl)
theorem dX0_within_30 : decode cX0_within 30 = .ok (.getfield 50, 3) := dk_180 0 50 (dk_at dksX0_within_1 6 rfl rfl)
theorem dX0_within_33 : decode cX0_within 33 = .ok (.iload_n 1, 1) := dk_27 (dk_at dksX0_within_1 9 rfl rfl)
theorem dX0_within_34 : decode cX0_within 34 = .ok (.aaload, 1) := dk_50 (dk_at dksX0_within_1 10 rfl rfl)
theorem dX0_within_35 : decode cX0_within 35 = .ok (.invokestatic 425, 3) := dk_184 1 169 (dk_at dksX0_within_1 11 rfl rfl)
theorem dX0_within_38 : decode cX0_within 38 = .ok (.invokestatic 54, 3) := dk_184 0 54 (dk_at dksX0_within_1 14 rfl rfl)
theorem dX0_within_41 : decode cX0_within 41 = .ok (.imul, 1) := dk_104 (dk_at dksX0_within_1 17 rfl rfl)
theorem dX0_within_42 : decode cX0_within 42 = .ok (.iadd, 1) := dk_96 (dk_at dksX0_within_1 18 rfl rfl)
theorem dX0_within_43 : decode cX0_within 43 = .ok (.goto 4, 3) := dk_167 0 4 (dk_at dksX0_within_1 19 rfl rfl)
theorem dX0_within_46 : decode cX0_within 46 = .ok (.iconst (-1), 1) := dk_2 (dk_at dksX0_within_1 22 rfl rfl)
theorem dX0_within_47 : decode cX0_within 47 = .ok (.ireturn, 1) := dk_172 (dk_at dksX0_within_1 23 rfl rfl)
abbrev cX0_isKept : ByteArray := prog_1_method_97_code
def yX0_isKept : MethodName := ⟨RX0, "isKept", "(I)Z"⟩
def dkwX0_isKept_1 : List UInt8 := [180, 0, 50, 27, 50, 180, 0, 162, 42, 180, 0, 20, 180, 0, 162, 160, 0, 7, 4, 167, 0, 4, 3, 172]
abbrev dktX0_isKept_1 : List UInt8 := dkwX0_isKept_1 ++ []
def dkwX0_isKept_0 : List UInt8 := [27, 133, 9, 20, 1, 164, 184, 0, 110, 153, 0, 35, 42, 180, 0, 50, 27, 50, 198, 0, 26, 42]
abbrev dktX0_isKept_0 : List UInt8 := dkwX0_isKept_0 ++ dktX0_isKept_1
theorem dksX0_isKept_0 : cX0_isKept.data.toList.drop 0 = dktX0_isKept_0 := by decide +kernel
theorem dksX0_isKept_1 : cX0_isKept.data.toList.drop 22 = dktX0_isKept_1 := dk_seg dksX0_isKept_0 22 rfl rfl
theorem dX0_isKept_0 : decode cX0_isKept 0 = .ok (.iload_n 1, 1) := dk_27 (dk_at dksX0_isKept_0 0 rfl rfl)
theorem dX0_isKept_1 : decode cX0_isKept 1 = .ok (.i2l, 1) := dk_133 (dk_at dksX0_isKept_0 1 rfl rfl)
theorem dX0_isKept_2 : decode cX0_isKept 2 = .ok (.lconst 0, 1) := dk_9 (dk_at dksX0_isKept_0 2 rfl rfl)
theorem dX0_isKept_3 : decode cX0_isKept 3 = .ok (.ldc2_w 420, 3) := dk_20 1 164 (dk_at dksX0_isKept_0 3 rfl rfl)
theorem dX0_isKept_6 : decode cX0_isKept 6 = .ok (.invokestatic 110, 3) := dk_184 0 110 (dk_at dksX0_isKept_0 6 rfl rfl)
theorem dX0_isKept_9 : decode cX0_isKept 9 = .ok (.ifCond .eq 35, 3) := dk_153 0 35 (dk_at dksX0_isKept_0 9 rfl rfl)
theorem dX0_isKept_12 : decode cX0_isKept 12 = .ok (.aload_n 0, 1) := dk_42 (dk_at dksX0_isKept_0 12 rfl rfl)
theorem dX0_isKept_13 : decode cX0_isKept 13 = .ok (.getfield 50, 3) := dk_180 0 50 (dk_at dksX0_isKept_0 13 rfl rfl)
theorem dX0_isKept_16 : decode cX0_isKept 16 = .ok (.iload_n 1, 1) := dk_27 (dk_at dksX0_isKept_0 16 rfl rfl)
theorem dX0_isKept_17 : decode cX0_isKept 17 = .ok (.aaload, 1) := dk_50 (dk_at dksX0_isKept_0 17 rfl rfl)
theorem dX0_isKept_18 : decode cX0_isKept 18 = .ok (.ifnull 26, 3) := dk_198 0 26 (dk_at dksX0_isKept_0 18 rfl rfl)
theorem dX0_isKept_21 : decode cX0_isKept 21 = .ok (.aload_n 0, 1) := dk_42 (dk_at dksX0_isKept_0 21 rfl rfl)
theorem dX0_isKept_22 : decode cX0_isKept 22 = .ok (.getfield 50, 3) := dk_180 0 50 (dk_at dksX0_isKept_1 0 rfl rfl)
theorem dX0_isKept_25 : decode cX0_isKept 25 = .ok (.iload_n 1, 1) := dk_27 (dk_at dksX0_isKept_1 3 rfl rfl)
theorem dX0_isKept_26 : decode cX0_isKept 26 = .ok (.aaload, 1) := dk_50 (dk_at dksX0_isKept_1 4 rfl rfl)
theorem dX0_isKept_27 : decode cX0_isKept 27 = .ok (.getfield 162, 3) := dk_180 0 162 (dk_at dksX0_isKept_1 5 rfl rfl)
theorem dX0_isKept_30 : decode cX0_isKept 30 = .ok (.aload_n 0, 1) := dk_42 (dk_at dksX0_isKept_1 8 rfl rfl)
theorem dX0_isKept_31 : decode cX0_isKept 31 = .ok (.getfield 20, 3) := dk_180 0 20 (dk_at dksX0_isKept_1 9 rfl rfl)
theorem dX0_isKept_34 : decode cX0_isKept 34 = .ok (.getfield 162, 3) := dk_180 0 162 (dk_at dksX0_isKept_1 12 rfl rfl)
theorem dX0_isKept_37 : decode cX0_isKept 37 = .ok (.if_icmp .ne 7, 3) := dk_160 0 7 (dk_at dksX0_isKept_1 15 rfl rfl)
theorem dX0_isKept_40 : decode cX0_isKept 40 = .ok (.iconst 1, 1) := dk_4 (dk_at dksX0_isKept_1 18 rfl rfl)
theorem dX0_isKept_41 : decode cX0_isKept 41 = .ok (.goto 4, 3) := dk_167 0 4 (dk_at dksX0_isKept_1 19 rfl rfl)
theorem dX0_isKept_44 : decode cX0_isKept 44 = .ok (.iconst 0, 1) := dk_3 (dk_at dksX0_isKept_1 22 rfl rfl)
theorem dX0_isKept_45 : decode cX0_isKept 45 = .ok (.ireturn, 1) := dk_172 (dk_at dksX0_isKept_1 23 rfl rfl)
abbrev cX0_hasAll : ByteArray := prog_1_method_98_code
def yX0_hasAll : MethodName := ⟨RX0, "hasAll", "(LQuotientRows$State;LQuotientRows$State;)Z"⟩
def dkwX0_hasAll_2 : List UInt8 := [167, 255, 224, 4, 172]
abbrev dktX0_hasAll_2 : List UInt8 := dkwX0_hasAll_2 ++ []
def dkwX0_hasAll_1 : List UInt8 := [185, 1, 50, 1, 0, 192, 0, 183, 78, 42, 45, 180, 0, 196, 182, 0, 212, 154, 0, 5, 3, 172]
abbrev dktX0_hasAll_1 : List UInt8 := dkwX0_hasAll_1 ++ dktX0_hasAll_2
def dkwX0_hasAll_0 : List UInt8 := [43, 180, 0, 151, 185, 1, 40, 1, 0, 77, 44, 185, 1, 44, 1, 0, 153, 0, 29, 44]
abbrev dktX0_hasAll_0 : List UInt8 := dkwX0_hasAll_0 ++ dktX0_hasAll_1
theorem dksX0_hasAll_0 : cX0_hasAll.data.toList.drop 0 = dktX0_hasAll_0 := by decide +kernel
theorem dksX0_hasAll_1 : cX0_hasAll.data.toList.drop 20 = dktX0_hasAll_1 := dk_seg dksX0_hasAll_0 20 rfl rfl
theorem dksX0_hasAll_2 : cX0_hasAll.data.toList.drop 42 = dktX0_hasAll_2 := dk_seg dksX0_hasAll_1 22 rfl rfl
theorem dX0_hasAll_0 : decode cX0_hasAll 0 = .ok (.aload_n 1, 1) := dk_43 (dk_at dksX0_hasAll_0 0 rfl rfl)
theorem dX0_hasAll_1 : decode cX0_hasAll 1 = .ok (.getfield 151, 3) := dk_180 0 151 (dk_at dksX0_hasAll_0 1 rfl rfl)
theorem dX0_hasAll_4 : decode cX0_hasAll 4 = .ok (.invokeinterface 296 1, 5) := by decide +kernel
theorem dX0_hasAll_9 : decode cX0_hasAll 9 = .ok (.astore_n 2, 1) := dk_77 (dk_at dksX0_hasAll_0 9 rfl rfl)
theorem dX0_hasAll_10 : decode cX0_hasAll 10 = .ok (.aload_n 2, 1) := dk_44 (dk_at dksX0_hasAll_0 10 rfl rfl)
theorem dX0_hasAll_11 : decode cX0_hasAll 11 = .ok (.invokeinterface 300 1, 5) := by decide +kernel
theorem dX0_hasAll_16 : decode cX0_hasAll 16 = .ok (.ifCond .eq 29, 3) := dk_153 0 29 (dk_at dksX0_hasAll_0 16 rfl rfl)
theorem dX0_hasAll_19 : decode cX0_hasAll 19 = .ok (.aload_n 2, 1) := dk_44 (dk_at dksX0_hasAll_0 19 rfl rfl)
theorem dX0_hasAll_20 : decode cX0_hasAll 20 = .ok (.invokeinterface 306 1, 5) := by decide +kernel
theorem dX0_hasAll_25 : decode cX0_hasAll 25 = .ok (.checkcast 183, 3) := dk_192 0 183 (dk_at dksX0_hasAll_1 5 rfl rfl)
theorem dX0_hasAll_28 : decode cX0_hasAll 28 = .ok (.astore_n 3, 1) := dk_78 (dk_at dksX0_hasAll_1 8 rfl rfl)
theorem dX0_hasAll_29 : decode cX0_hasAll 29 = .ok (.aload_n 0, 1) := dk_42 (dk_at dksX0_hasAll_1 9 rfl rfl)
theorem dX0_hasAll_30 : decode cX0_hasAll 30 = .ok (.aload_n 3, 1) := dk_45 (dk_at dksX0_hasAll_1 10 rfl rfl)
theorem dX0_hasAll_31 : decode cX0_hasAll 31 = .ok (.getfield 196, 3) := dk_180 0 196 (dk_at dksX0_hasAll_1 11 rfl rfl)
theorem dX0_hasAll_34 : decode cX0_hasAll 34 = .ok (.invokevirtual 212, 3) := dk_182 0 212 (dk_at dksX0_hasAll_1 14 rfl rfl)
theorem dX0_hasAll_37 : decode cX0_hasAll 37 = .ok (.ifCond .ne 5, 3) := dk_154 0 5 (dk_at dksX0_hasAll_1 17 rfl rfl)
theorem dX0_hasAll_40 : decode cX0_hasAll 40 = .ok (.iconst 0, 1) := dk_3 (dk_at dksX0_hasAll_1 20 rfl rfl)
theorem dX0_hasAll_41 : decode cX0_hasAll 41 = .ok (.ireturn, 1) := dk_172 (dk_at dksX0_hasAll_1 21 rfl rfl)
theorem dX0_hasAll_42 : decode cX0_hasAll 42 = .ok (.goto (-32), 3) := dk_167 255 224 (dk_at dksX0_hasAll_2 0 rfl rfl)
theorem dX0_hasAll_45 : decode cX0_hasAll 45 = .ok (.iconst 1, 1) := dk_4 (dk_at dksX0_hasAll_2 3 rfl rfl)
theorem dX0_hasAll_46 : decode cX0_hasAll 46 = .ok (.ireturn, 1) := dk_172 (dk_at dksX0_hasAll_2 4 rfl rfl)
abbrev cX0_mix : ByteArray := prog_1_method_102_code
def yX0_mix : MethodName := ⟨RX0, "mix", "(II)I"⟩
def dkwX0_mix_5 : List UInt8 := [186, 1, 189, 0, 0, 182, 1, 185, 182, 1, 160, 172]
abbrev dktX0_mix_5 : List UInt8 := dkwX0_mix_5 ++ []
def dkwX0_mix_4 : List UInt8 := [182, 1, 160, 172, 42, 42, 45, 186, 1, 182, 0, 0, 182, 1, 185, 182, 1, 160, 172, 42, 42, 45]
abbrev dktX0_mix_4 : List UInt8 := dkwX0_mix_4 ++ dktX0_mix_5
def dkwX0_mix_3 : List UInt8 := [42, 42, 182, 1, 143, 42, 180, 0, 20, 180, 0, 151, 182, 1, 95, 45, 180, 0, 151, 182, 1, 95]
abbrev dktX0_mix_3 : List UInt8 := dkwX0_mix_3 ++ dktX0_mix_4
def dkwX0_mix_2 : List UInt8 := [171, 0, 0, 0, 0, 67, 0, 0, 0, 2, 0, 0, 0, 0, 0, 0, 0, 26, 0, 0, 0, 1, 0, 0, 0, 52]
abbrev dktX0_mix_2 : List UInt8 := dkwX0_mix_2 ++ dktX0_mix_3
def dkwX0_mix_1 : List UInt8 := [182, 0, 93, 172, 42, 180, 0, 50, 27, 50, 78, 28]
abbrev dktX0_mix_1 : List UInt8 := dkwX0_mix_1 ++ dktX0_mix_2
def dkwX0_mix_0 : List UInt8 := [42, 27, 182, 1, 166, 153, 0, 15, 28, 133, 9, 20, 1, 164, 184, 0, 110, 154, 0, 9, 42, 5]
abbrev dktX0_mix_0 : List UInt8 := dkwX0_mix_0 ++ dktX0_mix_1
theorem dksX0_mix_0 : cX0_mix.data.toList.drop 0 = dktX0_mix_0 := by decide +kernel
theorem dksX0_mix_1 : cX0_mix.data.toList.drop 22 = dktX0_mix_1 := dk_seg dksX0_mix_0 22 rfl rfl
theorem dksX0_mix_2 : cX0_mix.data.toList.drop 34 = dktX0_mix_2 := dk_seg dksX0_mix_1 12 rfl rfl
theorem dksX0_mix_3 : cX0_mix.data.toList.drop 60 = dktX0_mix_3 := dk_seg dksX0_mix_2 26 rfl rfl
theorem dksX0_mix_4 : cX0_mix.data.toList.drop 82 = dktX0_mix_4 := dk_seg dksX0_mix_3 22 rfl rfl
theorem dksX0_mix_5 : cX0_mix.data.toList.drop 104 = dktX0_mix_5 := dk_seg dksX0_mix_4 22 rfl rfl
theorem dX0_mix_0 : decode cX0_mix 0 = .ok (.aload_n 0, 1) := dk_42 (dk_at dksX0_mix_0 0 rfl rfl)
theorem dX0_mix_1 : decode cX0_mix 1 = .ok (.iload_n 1, 1) := dk_27 (dk_at dksX0_mix_0 1 rfl rfl)
theorem dX0_mix_2 : decode cX0_mix 2 = .ok (.invokevirtual 422, 3) := dk_182 1 166 (dk_at dksX0_mix_0 2 rfl rfl)
theorem dX0_mix_5 : decode cX0_mix 5 = .ok (.ifCond .eq 15, 3) := dk_153 0 15 (dk_at dksX0_mix_0 5 rfl rfl)
theorem dX0_mix_8 : decode cX0_mix 8 = .ok (.iload_n 2, 1) := dk_28 (dk_at dksX0_mix_0 8 rfl rfl)
theorem dX0_mix_9 : decode cX0_mix 9 = .ok (.i2l, 1) := dk_133 (dk_at dksX0_mix_0 9 rfl rfl)
theorem dX0_mix_10 : decode cX0_mix 10 = .ok (.lconst 0, 1) := dk_9 (dk_at dksX0_mix_0 10 rfl rfl)
theorem dX0_mix_11 : decode cX0_mix 11 = .ok (.ldc2_w 420, 3) := dk_20 1 164 (dk_at dksX0_mix_0 11 rfl rfl)
theorem dX0_mix_14 : decode cX0_mix 14 = .ok (.invokestatic 110, 3) := dk_184 0 110 (dk_at dksX0_mix_0 14 rfl rfl)
theorem dX0_mix_17 : decode cX0_mix 17 = .ok (.ifCond .ne 9, 3) := dk_154 0 9 (dk_at dksX0_mix_0 17 rfl rfl)
theorem dX0_mix_20 : decode cX0_mix 20 = .ok (.aload_n 0, 1) := dk_42 (dk_at dksX0_mix_0 20 rfl rfl)
theorem dX0_mix_21 : decode cX0_mix 21 = .ok (.iconst 2, 1) := dk_5 (dk_at dksX0_mix_0 21 rfl rfl)
theorem dX0_mix_22 : decode cX0_mix 22 = .ok (.invokevirtual 93, 3) := dk_182 0 93 (dk_at dksX0_mix_1 0 rfl rfl)
theorem dX0_mix_25 : decode cX0_mix 25 = .ok (.ireturn, 1) := dk_172 (dk_at dksX0_mix_1 3 rfl rfl)
theorem dX0_mix_26 : decode cX0_mix 26 = .ok (.aload_n 0, 1) := dk_42 (dk_at dksX0_mix_1 4 rfl rfl)
theorem dX0_mix_27 : decode cX0_mix 27 = .ok (.getfield 50, 3) := dk_180 0 50 (dk_at dksX0_mix_1 5 rfl rfl)
theorem dX0_mix_30 : decode cX0_mix 30 = .ok (.iload_n 1, 1) := dk_27 (dk_at dksX0_mix_1 8 rfl rfl)
theorem dX0_mix_31 : decode cX0_mix 31 = .ok (.aaload, 1) := dk_50 (dk_at dksX0_mix_1 9 rfl rfl)
theorem dX0_mix_32 : decode cX0_mix 32 = .ok (.astore_n 3, 1) := dk_78 (dk_at dksX0_mix_1 10 rfl rfl)
theorem dX0_mix_33 : decode cX0_mix 33 = .ok (.iload_n 2, 1) := dk_28 (dk_at dksX0_mix_1 11 rfl rfl)
theorem dX0_mix_34 : decode cX0_mix 34 = .ok (.lookupswitch 67 #[(0, 26), (1, 52)], 26) := by decide +kernel
theorem dX0_mix_60 : decode cX0_mix 60 = .ok (.aload_n 0, 1) := dk_42 (dk_at dksX0_mix_3 0 rfl rfl)
theorem dX0_mix_61 : decode cX0_mix 61 = .ok (.aload_n 0, 1) := dk_42 (dk_at dksX0_mix_3 1 rfl rfl)
theorem dX0_mix_62 : decode cX0_mix 62 = .ok (.invokevirtual 399, 3) := dk_182 1 143 (dk_at dksX0_mix_3 2 rfl rfl)
theorem dX0_mix_65 : decode cX0_mix 65 = .ok (.aload_n 0, 1) := dk_42 (dk_at dksX0_mix_3 5 rfl rfl)
theorem dX0_mix_66 : decode cX0_mix 66 = .ok (.getfield 20, 3) := dk_180 0 20 (dk_at dksX0_mix_3 6 rfl rfl)
theorem dX0_mix_69 : decode cX0_mix 69 = .ok (.getfield 151, 3) := dk_180 0 151 (dk_at dksX0_mix_3 9 rfl rfl)
theorem dX0_mix_72 : decode cX0_mix 72 = .ok (.invokevirtual 351, 3) := dk_182 1 95 (dk_at dksX0_mix_3 12 rfl rfl)
theorem dX0_mix_75 : decode cX0_mix 75 = .ok (.aload_n 3, 1) := dk_45 (dk_at dksX0_mix_3 15 rfl rfl)
theorem dX0_mix_76 : decode cX0_mix 76 = .ok (.getfield 151, 3) := dk_180 0 151 (dk_at dksX0_mix_3 16 rfl rfl)
theorem dX0_mix_79 : decode cX0_mix 79 = .ok (.invokevirtual 351, 3) := dk_182 1 95 (dk_at dksX0_mix_3 19 rfl rfl)
theorem dX0_mix_82 : decode cX0_mix 82 = .ok (.invokevirtual 416, 3) := dk_182 1 160 (dk_at dksX0_mix_4 0 rfl rfl)
theorem dX0_mix_85 : decode cX0_mix 85 = .ok (.ireturn, 1) := dk_172 (dk_at dksX0_mix_4 3 rfl rfl)
theorem dX0_mix_86 : decode cX0_mix 86 = .ok (.aload_n 0, 1) := dk_42 (dk_at dksX0_mix_4 4 rfl rfl)
theorem dX0_mix_87 : decode cX0_mix 87 = .ok (.aload_n 0, 1) := dk_42 (dk_at dksX0_mix_4 5 rfl rfl)
theorem dX0_mix_88 : decode cX0_mix 88 = .ok (.aload_n 3, 1) := dk_45 (dk_at dksX0_mix_4 6 rfl rfl)
theorem dX0_mix_89 : decode cX0_mix 89 = .ok (.invokedynamic 438, 5) := by decide +kernel
theorem dX0_mix_94 : decode cX0_mix 94 = .ok (.invokevirtual 441, 3) := dk_182 1 185 (dk_at dksX0_mix_4 12 rfl rfl)
theorem dX0_mix_97 : decode cX0_mix 97 = .ok (.invokevirtual 416, 3) := dk_182 1 160 (dk_at dksX0_mix_4 15 rfl rfl)
theorem dX0_mix_100 : decode cX0_mix 100 = .ok (.ireturn, 1) := dk_172 (dk_at dksX0_mix_4 18 rfl rfl)
theorem dX0_mix_101 : decode cX0_mix 101 = .ok (.aload_n 0, 1) := dk_42 (dk_at dksX0_mix_4 19 rfl rfl)
theorem dX0_mix_102 : decode cX0_mix 102 = .ok (.aload_n 0, 1) := dk_42 (dk_at dksX0_mix_4 20 rfl rfl)
theorem dX0_mix_103 : decode cX0_mix 103 = .ok (.aload_n 3, 1) := dk_45 (dk_at dksX0_mix_4 21 rfl rfl)
theorem dX0_mix_104 : decode cX0_mix 104 = .ok (.invokedynamic 445, 5) := by decide +kernel
theorem dX0_mix_109 : decode cX0_mix 109 = .ok (.invokevirtual 441, 3) := dk_182 1 185 (dk_at dksX0_mix_5 5 rfl rfl)
theorem dX0_mix_112 : decode cX0_mix 112 = .ok (.invokevirtual 416, 3) := dk_182 1 160 (dk_at dksX0_mix_5 8 rfl rfl)
theorem dX0_mix_115 : decode cX0_mix 115 = .ok (.ireturn, 1) := dk_172 (dk_at dksX0_mix_5 11 rfl rfl)
abbrev cX0_lambda_mix_2 : ByteArray := prog_1_method_105_code
def yX0_lambda_mix_2 : MethodName := ⟨RX0, "lambda$mix$2", "(LQuotientRows$Mono;LQuotientRows$Mono;)LQuotientRows$Mono;"⟩
def dkwX0_lambda_mix_2_0 : List UInt8 := [42, 43, 184, 1, 190, 176]
abbrev dktX0_lambda_mix_2_0 : List UInt8 := dkwX0_lambda_mix_2_0 ++ []
theorem dksX0_lambda_mix_2_0 : cX0_lambda_mix_2.data.toList.drop 0 = dktX0_lambda_mix_2_0 := by decide +kernel
theorem dX0_lambda_mix_2_0 : decode cX0_lambda_mix_2 0 = .ok (.aload_n 0, 1) := dk_42 (dk_at dksX0_lambda_mix_2_0 0 rfl rfl)
theorem dX0_lambda_mix_2_1 : decode cX0_lambda_mix_2 1 = .ok (.aload_n 1, 1) := dk_43 (dk_at dksX0_lambda_mix_2_0 1 rfl rfl)
theorem dX0_lambda_mix_2_2 : decode cX0_lambda_mix_2 2 = .ok (.invokestatic 446, 3) := dk_184 1 190 (dk_at dksX0_lambda_mix_2_0 2 rfl rfl)
theorem dX0_lambda_mix_2_5 : decode cX0_lambda_mix_2 5 = .ok (.areturn, 1) := dk_176 (dk_at dksX0_lambda_mix_2_0 5 rfl rfl)
abbrev cX0_least : ByteArray := prog_1_method_100_code
def yX0_least : MethodName := ⟨RX0, "least", "(LQuotientRows$Mono;LQuotientRows$Mono;)LQuotientRows$Mono;"⟩
def dkwX0_least_3 : List UInt8 := [180, 0, 196, 6, 46, 184, 1, 173, 79, 183, 0, 203, 176]
abbrev dktX0_least_3 : List UInt8 := dkwX0_least_3 ++ []
def dkwX0_least_2 : List UInt8 := [180, 0, 196, 5, 46, 43, 180, 0, 196, 5, 46, 184, 1, 173, 79, 89, 6, 42, 180, 0, 196, 6, 46, 43]
abbrev dktX0_least_2 : List UInt8 := dkwX0_least_2 ++ dktX0_least_3
def dkwX0_least_1 : List UInt8 := [79, 89, 4, 42, 180, 0, 196, 4, 46, 43, 180, 0, 196, 4, 46, 184, 1, 173, 79, 89, 5, 42]
abbrev dktX0_least_1 : List UInt8 := dkwX0_least_1 ++ dktX0_least_2
def dkwX0_least_0 : List UInt8 := [187, 0, 183, 89, 7, 188, 10, 89, 3, 42, 180, 0, 196, 3, 46, 43, 180, 0, 196, 3, 46, 184, 1, 173]
abbrev dktX0_least_0 : List UInt8 := dkwX0_least_0 ++ dktX0_least_1
theorem dksX0_least_0 : cX0_least.data.toList.drop 0 = dktX0_least_0 := by decide +kernel
theorem dksX0_least_1 : cX0_least.data.toList.drop 24 = dktX0_least_1 := dk_seg dksX0_least_0 24 rfl rfl
theorem dksX0_least_2 : cX0_least.data.toList.drop 46 = dktX0_least_2 := dk_seg dksX0_least_1 22 rfl rfl
theorem dksX0_least_3 : cX0_least.data.toList.drop 70 = dktX0_least_3 := dk_seg dksX0_least_2 24 rfl rfl
theorem dX0_least_0 : decode cX0_least 0 = .ok (.new 183, 3) := dk_187 0 183 (dk_at dksX0_least_0 0 rfl rfl)
theorem dX0_least_3 : decode cX0_least 3 = .ok (.dup, 1) := dk_89 (dk_at dksX0_least_0 3 rfl rfl)
theorem dX0_least_4 : decode cX0_least 4 = .ok (.iconst 4, 1) := dk_7 (dk_at dksX0_least_0 4 rfl rfl)
theorem dX0_least_5 : decode cX0_least 5 = .ok (.newarray .int, 2) := dk_188_10 (dk_at dksX0_least_0 5 rfl rfl)
theorem dX0_least_7 : decode cX0_least 7 = .ok (.dup, 1) := dk_89 (dk_at dksX0_least_0 7 rfl rfl)
theorem dX0_least_8 : decode cX0_least 8 = .ok (.iconst 0, 1) := dk_3 (dk_at dksX0_least_0 8 rfl rfl)
theorem dX0_least_9 : decode cX0_least 9 = .ok (.aload_n 0, 1) := dk_42 (dk_at dksX0_least_0 9 rfl rfl)
theorem dX0_least_10 : decode cX0_least 10 = .ok (.getfield 196, 3) := dk_180 0 196 (dk_at dksX0_least_0 10 rfl rfl)
theorem dX0_least_13 : decode cX0_least 13 = .ok (.iconst 0, 1) := dk_3 (dk_at dksX0_least_0 13 rfl rfl)
theorem dX0_least_14 : decode cX0_least 14 = .ok (.iaload, 1) := dk_46 (dk_at dksX0_least_0 14 rfl rfl)
theorem dX0_least_15 : decode cX0_least 15 = .ok (.aload_n 1, 1) := dk_43 (dk_at dksX0_least_0 15 rfl rfl)
theorem dX0_least_16 : decode cX0_least 16 = .ok (.getfield 196, 3) := dk_180 0 196 (dk_at dksX0_least_0 16 rfl rfl)
theorem dX0_least_19 : decode cX0_least 19 = .ok (.iconst 0, 1) := dk_3 (dk_at dksX0_least_0 19 rfl rfl)
theorem dX0_least_20 : decode cX0_least 20 = .ok (.iaload, 1) := dk_46 (dk_at dksX0_least_0 20 rfl rfl)
theorem dX0_least_21 : decode cX0_least 21 = .ok (.invokestatic 429, 3) := dk_184 1 173 (dk_at dksX0_least_0 21 rfl rfl)
theorem dX0_least_24 : decode cX0_least 24 = .ok (.iastore, 1) := dk_79 (dk_at dksX0_least_1 0 rfl rfl)
theorem dX0_least_25 : decode cX0_least 25 = .ok (.dup, 1) := dk_89 (dk_at dksX0_least_1 1 rfl rfl)
theorem dX0_least_26 : decode cX0_least 26 = .ok (.iconst 1, 1) := dk_4 (dk_at dksX0_least_1 2 rfl rfl)
theorem dX0_least_27 : decode cX0_least 27 = .ok (.aload_n 0, 1) := dk_42 (dk_at dksX0_least_1 3 rfl rfl)
theorem dX0_least_28 : decode cX0_least 28 = .ok (.getfield 196, 3) := dk_180 0 196 (dk_at dksX0_least_1 4 rfl rfl)
theorem dX0_least_31 : decode cX0_least 31 = .ok (.iconst 1, 1) := dk_4 (dk_at dksX0_least_1 7 rfl rfl)
theorem dX0_least_32 : decode cX0_least 32 = .ok (.iaload, 1) := dk_46 (dk_at dksX0_least_1 8 rfl rfl)
theorem dX0_least_33 : decode cX0_least 33 = .ok (.aload_n 1, 1) := dk_43 (dk_at dksX0_least_1 9 rfl rfl)
theorem dX0_least_34 : decode cX0_least 34 = .ok (.getfield 196, 3) := dk_180 0 196 (dk_at dksX0_least_1 10 rfl rfl)
theorem dX0_least_37 : decode cX0_least 37 = .ok (.iconst 1, 1) := dk_4 (dk_at dksX0_least_1 13 rfl rfl)
theorem dX0_least_38 : decode cX0_least 38 = .ok (.iaload, 1) := dk_46 (dk_at dksX0_least_1 14 rfl rfl)
theorem dX0_least_39 : decode cX0_least 39 = .ok (.invokestatic 429, 3) := dk_184 1 173 (dk_at dksX0_least_1 15 rfl rfl)
theorem dX0_least_42 : decode cX0_least 42 = .ok (.iastore, 1) := dk_79 (dk_at dksX0_least_1 18 rfl rfl)
theorem dX0_least_43 : decode cX0_least 43 = .ok (.dup, 1) := dk_89 (dk_at dksX0_least_1 19 rfl rfl)
theorem dX0_least_44 : decode cX0_least 44 = .ok (.iconst 2, 1) := dk_5 (dk_at dksX0_least_1 20 rfl rfl)
theorem dX0_least_45 : decode cX0_least 45 = .ok (.aload_n 0, 1) := dk_42 (dk_at dksX0_least_1 21 rfl rfl)
theorem dX0_least_46 : decode cX0_least 46 = .ok (.getfield 196, 3) := dk_180 0 196 (dk_at dksX0_least_2 0 rfl rfl)
theorem dX0_least_49 : decode cX0_least 49 = .ok (.iconst 2, 1) := dk_5 (dk_at dksX0_least_2 3 rfl rfl)
theorem dX0_least_50 : decode cX0_least 50 = .ok (.iaload, 1) := dk_46 (dk_at dksX0_least_2 4 rfl rfl)
theorem dX0_least_51 : decode cX0_least 51 = .ok (.aload_n 1, 1) := dk_43 (dk_at dksX0_least_2 5 rfl rfl)
theorem dX0_least_52 : decode cX0_least 52 = .ok (.getfield 196, 3) := dk_180 0 196 (dk_at dksX0_least_2 6 rfl rfl)
theorem dX0_least_55 : decode cX0_least 55 = .ok (.iconst 2, 1) := dk_5 (dk_at dksX0_least_2 9 rfl rfl)
theorem dX0_least_56 : decode cX0_least 56 = .ok (.iaload, 1) := dk_46 (dk_at dksX0_least_2 10 rfl rfl)
theorem dX0_least_57 : decode cX0_least 57 = .ok (.invokestatic 429, 3) := dk_184 1 173 (dk_at dksX0_least_2 11 rfl rfl)
theorem dX0_least_60 : decode cX0_least 60 = .ok (.iastore, 1) := dk_79 (dk_at dksX0_least_2 14 rfl rfl)
theorem dX0_least_61 : decode cX0_least 61 = .ok (.dup, 1) := dk_89 (dk_at dksX0_least_2 15 rfl rfl)
theorem dX0_least_62 : decode cX0_least 62 = .ok (.iconst 3, 1) := dk_6 (dk_at dksX0_least_2 16 rfl rfl)
theorem dX0_least_63 : decode cX0_least 63 = .ok (.aload_n 0, 1) := dk_42 (dk_at dksX0_least_2 17 rfl rfl)
theorem dX0_least_64 : decode cX0_least 64 = .ok (.getfield 196, 3) := dk_180 0 196 (dk_at dksX0_least_2 18 rfl rfl)
theorem dX0_least_67 : decode cX0_least 67 = .ok (.iconst 3, 1) := dk_6 (dk_at dksX0_least_2 21 rfl rfl)
theorem dX0_least_68 : decode cX0_least 68 = .ok (.iaload, 1) := dk_46 (dk_at dksX0_least_2 22 rfl rfl)
theorem dX0_least_69 : decode cX0_least 69 = .ok (.aload_n 1, 1) := dk_43 (dk_at dksX0_least_2 23 rfl rfl)
theorem dX0_least_70 : decode cX0_least 70 = .ok (.getfield 196, 3) := dk_180 0 196 (dk_at dksX0_least_3 0 rfl rfl)
theorem dX0_least_73 : decode cX0_least 73 = .ok (.iconst 3, 1) := dk_6 (dk_at dksX0_least_3 3 rfl rfl)
theorem dX0_least_74 : decode cX0_least 74 = .ok (.iaload, 1) := dk_46 (dk_at dksX0_least_3 4 rfl rfl)
theorem dX0_least_75 : decode cX0_least 75 = .ok (.invokestatic 429, 3) := dk_184 1 173 (dk_at dksX0_least_3 5 rfl rfl)
theorem dX0_least_78 : decode cX0_least 78 = .ok (.iastore, 1) := dk_79 (dk_at dksX0_least_3 8 rfl rfl)
theorem dX0_least_79 : decode cX0_least 79 = .ok (.invokespecial 203, 3) := dk_183 0 203 (dk_at dksX0_least_3 9 rfl rfl)
theorem dX0_least_82 : decode cX0_least 82 = .ok (.areturn, 1) := dk_176 (dk_at dksX0_least_3 12 rfl rfl)
abbrev cX0_made : ByteArray := prog_1_method_101_code
def yX0_made : MethodName := ⟨RX0, "made", "(LQuotientRows$State;LQuotientRows$Made;)LQuotientRows$State;"⟩
def dkwX0_made_4 : List UInt8 := [167, 255, 183, 45, 176]
abbrev dktX0_made_4 : List UInt8 := dkwX0_made_4 ++ []
def dkwX0_made_3 : List UInt8 := [192, 0, 183, 58, 7, 45, 44, 25, 5, 25, 7, 185, 1, 176, 3, 0, 182, 1, 146, 87, 167, 255, 219]
abbrev dktX0_made_3 : List UInt8 := dkwX0_made_3 ++ dktX0_made_4
def dkwX0_made_2 : List UInt8 := [185, 1, 40, 1, 0, 58, 6, 25, 6, 185, 1, 44, 1, 0, 153, 0, 33, 25, 6, 185, 1, 50, 1, 0]
abbrev dktX0_made_2 : List UInt8 := dkwX0_made_2 ++ dktX0_made_3
def dkwX0_made_1 : List UInt8 := [185, 1, 44, 1, 0, 153, 0, 69, 25, 4, 185, 1, 50, 1, 0, 192, 0, 183, 58, 5, 43, 180, 0, 151]
abbrev dktX0_made_1 : List UInt8 := dkwX0_made_1 ++ dktX0_made_2
def dkwX0_made_0 : List UInt8 := [42, 182, 1, 143, 78, 42, 180, 0, 20, 180, 0, 151, 185, 1, 40, 1, 0, 58, 4, 25, 4]
abbrev dktX0_made_0 : List UInt8 := dkwX0_made_0 ++ dktX0_made_1
theorem dksX0_made_0 : cX0_made.data.toList.drop 0 = dktX0_made_0 := by decide +kernel
theorem dksX0_made_1 : cX0_made.data.toList.drop 21 = dktX0_made_1 := dk_seg dksX0_made_0 21 rfl rfl
theorem dksX0_made_2 : cX0_made.data.toList.drop 45 = dktX0_made_2 := dk_seg dksX0_made_1 24 rfl rfl
theorem dksX0_made_3 : cX0_made.data.toList.drop 69 = dktX0_made_3 := dk_seg dksX0_made_2 24 rfl rfl
theorem dksX0_made_4 : cX0_made.data.toList.drop 92 = dktX0_made_4 := dk_seg dksX0_made_3 23 rfl rfl
theorem dX0_made_0 : decode cX0_made 0 = .ok (.aload_n 0, 1) := dk_42 (dk_at dksX0_made_0 0 rfl rfl)
theorem dX0_made_1 : decode cX0_made 1 = .ok (.invokevirtual 399, 3) := dk_182 1 143 (dk_at dksX0_made_0 1 rfl rfl)
theorem dX0_made_4 : decode cX0_made 4 = .ok (.astore_n 3, 1) := dk_78 (dk_at dksX0_made_0 4 rfl rfl)
theorem dX0_made_5 : decode cX0_made 5 = .ok (.aload_n 0, 1) := dk_42 (dk_at dksX0_made_0 5 rfl rfl)
theorem dX0_made_6 : decode cX0_made 6 = .ok (.getfield 20, 3) := dk_180 0 20 (dk_at dksX0_made_0 6 rfl rfl)
theorem dX0_made_9 : decode cX0_made 9 = .ok (.getfield 151, 3) := dk_180 0 151 (dk_at dksX0_made_0 9 rfl rfl)
theorem dX0_made_12 : decode cX0_made 12 = .ok (.invokeinterface 296 1, 5) := by decide +kernel
theorem dX0_made_17 : decode cX0_made 17 = .ok (.astore 4, 2) := dk_58 4 (dk_at dksX0_made_0 17 rfl rfl)
theorem dX0_made_19 : decode cX0_made 19 = .ok (.aload 4, 2) := dk_25 4 (dk_at dksX0_made_0 19 rfl rfl)
theorem dX0_made_21 : decode cX0_made 21 = .ok (.invokeinterface 300 1, 5) := by decide +kernel
theorem dX0_made_26 : decode cX0_made 26 = .ok (.ifCond .eq 69, 3) := dk_153 0 69 (dk_at dksX0_made_1 5 rfl rfl)
theorem dX0_made_29 : decode cX0_made 29 = .ok (.aload 4, 2) := dk_25 4 (dk_at dksX0_made_1 8 rfl rfl)
theorem dX0_made_31 : decode cX0_made 31 = .ok (.invokeinterface 306 1, 5) := by decide +kernel
theorem dX0_made_36 : decode cX0_made 36 = .ok (.checkcast 183, 3) := dk_192 0 183 (dk_at dksX0_made_1 15 rfl rfl)
theorem dX0_made_39 : decode cX0_made 39 = .ok (.astore 5, 2) := dk_58 5 (dk_at dksX0_made_1 18 rfl rfl)
theorem dX0_made_41 : decode cX0_made 41 = .ok (.aload_n 1, 1) := dk_43 (dk_at dksX0_made_1 20 rfl rfl)
theorem dX0_made_42 : decode cX0_made 42 = .ok (.getfield 151, 3) := dk_180 0 151 (dk_at dksX0_made_1 21 rfl rfl)
theorem dX0_made_45 : decode cX0_made 45 = .ok (.invokeinterface 296 1, 5) := by decide +kernel
theorem dX0_made_50 : decode cX0_made 50 = .ok (.astore 6, 2) := dk_58 6 (dk_at dksX0_made_2 5 rfl rfl)
theorem dX0_made_52 : decode cX0_made 52 = .ok (.aload 6, 2) := dk_25 6 (dk_at dksX0_made_2 7 rfl rfl)
theorem dX0_made_54 : decode cX0_made 54 = .ok (.invokeinterface 300 1, 5) := by decide +kernel
theorem dX0_made_59 : decode cX0_made 59 = .ok (.ifCond .eq 33, 3) := dk_153 0 33 (dk_at dksX0_made_2 14 rfl rfl)
theorem dX0_made_62 : decode cX0_made 62 = .ok (.aload 6, 2) := dk_25 6 (dk_at dksX0_made_2 17 rfl rfl)
theorem dX0_made_64 : decode cX0_made 64 = .ok (.invokeinterface 306 1, 5) := by decide +kernel
theorem dX0_made_69 : decode cX0_made 69 = .ok (.checkcast 183, 3) := dk_192 0 183 (dk_at dksX0_made_3 0 rfl rfl)
theorem dX0_made_72 : decode cX0_made 72 = .ok (.astore 7, 2) := dk_58 7 (dk_at dksX0_made_3 3 rfl rfl)
theorem dX0_made_74 : decode cX0_made 74 = .ok (.aload_n 3, 1) := dk_45 (dk_at dksX0_made_3 5 rfl rfl)
theorem dX0_made_75 : decode cX0_made 75 = .ok (.aload_n 2, 1) := dk_44 (dk_at dksX0_made_3 6 rfl rfl)
theorem dX0_made_76 : decode cX0_made 76 = .ok (.aload 5, 2) := dk_25 5 (dk_at dksX0_made_3 7 rfl rfl)
theorem dX0_made_78 : decode cX0_made 78 = .ok (.aload 7, 2) := dk_25 7 (dk_at dksX0_made_3 9 rfl rfl)
theorem dX0_made_80 : decode cX0_made 80 = .ok (.invokeinterface 432 3, 5) := by decide +kernel
theorem dX0_made_85 : decode cX0_made 85 = .ok (.invokevirtual 402, 3) := dk_182 1 146 (dk_at dksX0_made_3 16 rfl rfl)
theorem dX0_made_88 : decode cX0_made 88 = .ok (.pop, 1) := dk_87 (dk_at dksX0_made_3 19 rfl rfl)
theorem dX0_made_89 : decode cX0_made 89 = .ok (.goto (-37), 3) := dk_167 255 219 (dk_at dksX0_made_3 20 rfl rfl)
theorem dX0_made_92 : decode cX0_made 92 = .ok (.goto (-73), 3) := dk_167 255 183 (dk_at dksX0_made_4 0 rfl rfl)
theorem dX0_made_95 : decode cX0_made 95 = .ok (.aload_n 3, 1) := dk_45 (dk_at dksX0_made_4 3 rfl rfl)
theorem dX0_made_96 : decode cX0_made 96 = .ok (.areturn, 1) := dk_176 (dk_at dksX0_made_4 4 rfl rfl)
abbrev cX0_lambda_mix_3 : ByteArray := prog_1_method_104_code
def yX0_lambda_mix_3 : MethodName := ⟨RX0, "lambda$mix$3", "(LQuotientRows$Mono;LQuotientRows$Mono;)LQuotientRows$Mono;"⟩
def dkwX0_lambda_mix_3_0 : List UInt8 := [42, 43, 182, 1, 157, 176]
abbrev dktX0_lambda_mix_3_0 : List UInt8 := dkwX0_lambda_mix_3_0 ++ []
theorem dksX0_lambda_mix_3_0 : cX0_lambda_mix_3.data.toList.drop 0 = dktX0_lambda_mix_3_0 := by decide +kernel
theorem dX0_lambda_mix_3_0 : decode cX0_lambda_mix_3 0 = .ok (.aload_n 0, 1) := dk_42 (dk_at dksX0_lambda_mix_3_0 0 rfl rfl)
theorem dX0_lambda_mix_3_1 : decode cX0_lambda_mix_3 1 = .ok (.aload_n 1, 1) := dk_43 (dk_at dksX0_lambda_mix_3_0 1 rfl rfl)
theorem dX0_lambda_mix_3_2 : decode cX0_lambda_mix_3 2 = .ok (.invokevirtual 413, 3) := dk_182 1 157 (dk_at dksX0_lambda_mix_3_0 2 rfl rfl)
theorem dX0_lambda_mix_3_5 : decode cX0_lambda_mix_3 5 = .ok (.areturn, 1) := dk_176 (dk_at dksX0_lambda_mix_3_0 5 rfl rfl)
abbrev cX0_undo : ByteArray := prog_1_method_103_code
def yX0_undo : MethodName := ⟨RX0, "undo", "()Z"⟩
def dkwX0_undo_2 : List UInt8 := [181, 0, 147, 4, 172]
abbrev dktX0_undo_2 : List UInt8 := dkwX0_undo_2 ++ []
def dkwX0_undo_1 : List UInt8 := [180, 0, 31, 185, 0, 114, 1, 0, 4, 100, 185, 0, 120, 2, 0, 192, 0, 17, 181, 0, 20, 42, 1]
abbrev dktX0_undo_1 : List UInt8 := dkwX0_undo_1 ++ dktX0_undo_2
def dkwX0_undo_0 : List UInt8 := [42, 180, 0, 31, 185, 1, 154, 1, 0, 153, 0, 9, 42, 6, 182, 0, 104, 172, 42, 42, 180, 0, 31, 42]
abbrev dktX0_undo_0 : List UInt8 := dkwX0_undo_0 ++ dktX0_undo_1
theorem dksX0_undo_0 : cX0_undo.data.toList.drop 0 = dktX0_undo_0 := by decide +kernel
theorem dksX0_undo_1 : cX0_undo.data.toList.drop 24 = dktX0_undo_1 := dk_seg dksX0_undo_0 24 rfl rfl
theorem dksX0_undo_2 : cX0_undo.data.toList.drop 47 = dktX0_undo_2 := dk_seg dksX0_undo_1 23 rfl rfl
theorem dX0_undo_0 : decode cX0_undo 0 = .ok (.aload_n 0, 1) := dk_42 (dk_at dksX0_undo_0 0 rfl rfl)
theorem dX0_undo_1 : decode cX0_undo 1 = .ok (.getfield 31, 3) := dk_180 0 31 (dk_at dksX0_undo_0 1 rfl rfl)
theorem dX0_undo_4 : decode cX0_undo 4 = .ok (.invokeinterface 410 1, 5) := by decide +kernel
theorem dX0_undo_9 : decode cX0_undo 9 = .ok (.ifCond .eq 9, 3) := dk_153 0 9 (dk_at dksX0_undo_0 9 rfl rfl)
theorem dX0_undo_12 : decode cX0_undo 12 = .ok (.aload_n 0, 1) := dk_42 (dk_at dksX0_undo_0 12 rfl rfl)
theorem dX0_undo_13 : decode cX0_undo 13 = .ok (.iconst 3, 1) := dk_6 (dk_at dksX0_undo_0 13 rfl rfl)
theorem dX0_undo_14 : decode cX0_undo 14 = .ok (.invokevirtual 104, 3) := dk_182 0 104 (dk_at dksX0_undo_0 14 rfl rfl)
theorem dX0_undo_17 : decode cX0_undo 17 = .ok (.ireturn, 1) := dk_172 (dk_at dksX0_undo_0 17 rfl rfl)
theorem dX0_undo_18 : decode cX0_undo 18 = .ok (.aload_n 0, 1) := dk_42 (dk_at dksX0_undo_0 18 rfl rfl)
theorem dX0_undo_19 : decode cX0_undo 19 = .ok (.aload_n 0, 1) := dk_42 (dk_at dksX0_undo_0 19 rfl rfl)
theorem dX0_undo_20 : decode cX0_undo 20 = .ok (.getfield 31, 3) := dk_180 0 31 (dk_at dksX0_undo_0 20 rfl rfl)
theorem dX0_undo_23 : decode cX0_undo 23 = .ok (.aload_n 0, 1) := dk_42 (dk_at dksX0_undo_0 23 rfl rfl)
theorem dX0_undo_24 : decode cX0_undo 24 = .ok (.getfield 31, 3) := dk_180 0 31 (dk_at dksX0_undo_1 0 rfl rfl)
theorem dX0_undo_27 : decode cX0_undo 27 = .ok (.invokeinterface 114 1, 5) := by decide +kernel
theorem dX0_undo_32 : decode cX0_undo 32 = .ok (.iconst 1, 1) := dk_4 (dk_at dksX0_undo_1 8 rfl rfl)
theorem dX0_undo_33 : decode cX0_undo 33 = .ok (.isub, 1) := dk_100 (dk_at dksX0_undo_1 9 rfl rfl)
theorem dX0_undo_34 : decode cX0_undo 34 = .ok (.invokeinterface 120 2, 5) := by decide +kernel
theorem dX0_undo_39 : decode cX0_undo 39 = .ok (.checkcast 17, 3) := dk_192 0 17 (dk_at dksX0_undo_1 15 rfl rfl)
theorem dX0_undo_42 : decode cX0_undo 42 = .ok (.putfield 20, 3) := dk_181 0 20 (dk_at dksX0_undo_1 18 rfl rfl)
theorem dX0_undo_45 : decode cX0_undo 45 = .ok (.aload_n 0, 1) := dk_42 (dk_at dksX0_undo_1 21 rfl rfl)
theorem dX0_undo_46 : decode cX0_undo 46 = .ok (.aconst_null, 1) := dk_1 (dk_at dksX0_undo_1 22 rfl rfl)
theorem dX0_undo_47 : decode cX0_undo 47 = .ok (.putfield 147, 3) := dk_181 0 147 (dk_at dksX0_undo_2 0 rfl rfl)
theorem dX0_undo_50 : decode cX0_undo 50 = .ok (.iconst 1, 1) := dk_4 (dk_at dksX0_undo_2 3 rfl rfl)
theorem dX0_undo_51 : decode cX0_undo 51 = .ok (.ireturn, 1) := dk_172 (dk_at dksX0_undo_2 4 rfl rfl)
abbrev cX1_init : ByteArray := prog_8_method_1_code
def yX1_init : MethodName := ⟨RX1, "<init>", "()V"⟩
def dkwX1_init_0 : List UInt8 := [42, 6, 3, 188, 10, 183, 0, 3, 177]
abbrev dktX1_init_0 : List UInt8 := dkwX1_init_0 ++ []
theorem dksX1_init_0 : cX1_init.data.toList.drop 0 = dktX1_init_0 := by decide +kernel
theorem dX1_init_0 : decode cX1_init 0 = .ok (.aload_n 0, 1) := dk_42 (dk_at dksX1_init_0 0 rfl rfl)
theorem dX1_init_1 : decode cX1_init 1 = .ok (.iconst 3, 1) := dk_6 (dk_at dksX1_init_0 1 rfl rfl)
theorem dX1_init_2 : decode cX1_init 2 = .ok (.iconst 0, 1) := dk_3 (dk_at dksX1_init_0 2 rfl rfl)
theorem dX1_init_3 : decode cX1_init 3 = .ok (.newarray .int, 2) := dk_188_10 (dk_at dksX1_init_0 3 rfl rfl)
theorem dX1_init_5 : decode cX1_init 5 = .ok (.invokespecial 3, 3) := dk_183 0 3 (dk_at dksX1_init_0 5 rfl rfl)
theorem dX1_init_8 : decode cX1_init 8 = .ok (.return_, 1) := dk_177 (dk_at dksX1_init_0 8 rfl rfl)
abbrev cX1_init_2 : ByteArray := prog_8_method_2_code
def yX1_init_2 : MethodName := ⟨RX1, "<init>", "(I[I)V"⟩
def dkwX1_init_2_1 : List UInt8 := [181, 0, 25, 42, 44, 181, 0, 29, 177]
abbrev dktX1_init_2_1 : List UInt8 := dkwX1_init_2_1 ++ []
def dkwX1_init_2_0 : List UInt8 := [42, 183, 0, 9, 42, 187, 0, 14, 89, 183, 0, 16, 181, 0, 17, 42, 7, 188, 10, 181, 0, 21, 42, 27]
abbrev dktX1_init_2_0 : List UInt8 := dkwX1_init_2_0 ++ dktX1_init_2_1
theorem dksX1_init_2_0 : cX1_init_2.data.toList.drop 0 = dktX1_init_2_0 := by decide +kernel
theorem dksX1_init_2_1 : cX1_init_2.data.toList.drop 24 = dktX1_init_2_1 := dk_seg dksX1_init_2_0 24 rfl rfl
theorem dX1_init_2_0 : decode cX1_init_2 0 = .ok (.aload_n 0, 1) := dk_42 (dk_at dksX1_init_2_0 0 rfl rfl)
theorem dX1_init_2_1 : decode cX1_init_2 1 = .ok (.invokespecial 9, 3) := dk_183 0 9 (dk_at dksX1_init_2_0 1 rfl rfl)
theorem dX1_init_2_4 : decode cX1_init_2 4 = .ok (.aload_n 0, 1) := dk_42 (dk_at dksX1_init_2_0 4 rfl rfl)
theorem dX1_init_2_5 : decode cX1_init_2 5 = .ok (.new 14, 3) := dk_187 0 14 (dk_at dksX1_init_2_0 5 rfl rfl)
theorem dX1_init_2_8 : decode cX1_init_2 8 = .ok (.dup, 1) := dk_89 (dk_at dksX1_init_2_0 8 rfl rfl)
theorem dX1_init_2_9 : decode cX1_init_2 9 = .ok (.invokespecial 16, 3) := dk_183 0 16 (dk_at dksX1_init_2_0 9 rfl rfl)
theorem dX1_init_2_12 : decode cX1_init_2 12 = .ok (.putfield 17, 3) := dk_181 0 17 (dk_at dksX1_init_2_0 12 rfl rfl)
theorem dX1_init_2_15 : decode cX1_init_2 15 = .ok (.aload_n 0, 1) := dk_42 (dk_at dksX1_init_2_0 15 rfl rfl)
theorem dX1_init_2_16 : decode cX1_init_2 16 = .ok (.iconst 4, 1) := dk_7 (dk_at dksX1_init_2_0 16 rfl rfl)
theorem dX1_init_2_17 : decode cX1_init_2 17 = .ok (.newarray .int, 2) := dk_188_10 (dk_at dksX1_init_2_0 17 rfl rfl)
theorem dX1_init_2_19 : decode cX1_init_2 19 = .ok (.putfield 21, 3) := dk_181 0 21 (dk_at dksX1_init_2_0 19 rfl rfl)
theorem dX1_init_2_22 : decode cX1_init_2 22 = .ok (.aload_n 0, 1) := dk_42 (dk_at dksX1_init_2_0 22 rfl rfl)
theorem dX1_init_2_23 : decode cX1_init_2 23 = .ok (.iload_n 1, 1) := dk_27 (dk_at dksX1_init_2_0 23 rfl rfl)
theorem dX1_init_2_24 : decode cX1_init_2 24 = .ok (.putfield 25, 3) := dk_181 0 25 (dk_at dksX1_init_2_1 0 rfl rfl)
theorem dX1_init_2_27 : decode cX1_init_2 27 = .ok (.aload_n 0, 1) := dk_42 (dk_at dksX1_init_2_1 3 rfl rfl)
theorem dX1_init_2_28 : decode cX1_init_2 28 = .ok (.aload_n 2, 1) := dk_44 (dk_at dksX1_init_2_1 4 rfl rfl)
theorem dX1_init_2_29 : decode cX1_init_2 29 = .ok (.putfield 29, 3) := dk_181 0 29 (dk_at dksX1_init_2_1 5 rfl rfl)
theorem dX1_init_2_32 : decode cX1_init_2 32 = .ok (.return_, 1) := dk_177 (dk_at dksX1_init_2_1 8 rfl rfl)
abbrev cX1_withAll : ByteArray := prog_8_method_4_code
def yX1_withAll : MethodName := ⟨RX1, "withAll", "(Ljava/util/List;)LQuotientRows$State;"⟩
def dkwX1_withAll_1 : List UInt8 := [192, 0, 33, 78, 42, 45, 182, 0, 79, 87, 167, 255, 231, 42, 176]
abbrev dktX1_withAll_1 : List UInt8 := dkwX1_withAll_1 ++ []
def dkwX1_withAll_0 : List UInt8 := [43, 185, 0, 65, 1, 0, 77, 44, 185, 0, 69, 1, 0, 153, 0, 22, 44, 185, 0, 75, 1, 0]
abbrev dktX1_withAll_0 : List UInt8 := dkwX1_withAll_0 ++ dktX1_withAll_1
theorem dksX1_withAll_0 : cX1_withAll.data.toList.drop 0 = dktX1_withAll_0 := by decide +kernel
theorem dksX1_withAll_1 : cX1_withAll.data.toList.drop 22 = dktX1_withAll_1 := dk_seg dksX1_withAll_0 22 rfl rfl
theorem dX1_withAll_0 : decode cX1_withAll 0 = .ok (.aload_n 1, 1) := dk_43 (dk_at dksX1_withAll_0 0 rfl rfl)
theorem dX1_withAll_1 : decode cX1_withAll 1 = .ok (.invokeinterface 65 1, 5) := by decide +kernel
theorem dX1_withAll_6 : decode cX1_withAll 6 = .ok (.astore_n 2, 1) := dk_77 (dk_at dksX1_withAll_0 6 rfl rfl)
theorem dX1_withAll_7 : decode cX1_withAll 7 = .ok (.aload_n 2, 1) := dk_44 (dk_at dksX1_withAll_0 7 rfl rfl)
theorem dX1_withAll_8 : decode cX1_withAll 8 = .ok (.invokeinterface 69 1, 5) := by decide +kernel
theorem dX1_withAll_13 : decode cX1_withAll 13 = .ok (.ifCond .eq 22, 3) := dk_153 0 22 (dk_at dksX1_withAll_0 13 rfl rfl)
theorem dX1_withAll_16 : decode cX1_withAll 16 = .ok (.aload_n 2, 1) := dk_44 (dk_at dksX1_withAll_0 16 rfl rfl)
theorem dX1_withAll_17 : decode cX1_withAll 17 = .ok (.invokeinterface 75 1, 5) := by decide +kernel
theorem dX1_withAll_22 : decode cX1_withAll 22 = .ok (.checkcast 33, 3) := dk_192 0 33 (dk_at dksX1_withAll_1 0 rfl rfl)
theorem dX1_withAll_25 : decode cX1_withAll 25 = .ok (.astore_n 3, 1) := dk_78 (dk_at dksX1_withAll_1 3 rfl rfl)
theorem dX1_withAll_26 : decode cX1_withAll 26 = .ok (.aload_n 0, 1) := dk_42 (dk_at dksX1_withAll_1 4 rfl rfl)
theorem dX1_withAll_27 : decode cX1_withAll 27 = .ok (.aload_n 3, 1) := dk_45 (dk_at dksX1_withAll_1 5 rfl rfl)
theorem dX1_withAll_28 : decode cX1_withAll 28 = .ok (.invokevirtual 79, 3) := dk_182 0 79 (dk_at dksX1_withAll_1 6 rfl rfl)
theorem dX1_withAll_31 : decode cX1_withAll 31 = .ok (.pop, 1) := dk_87 (dk_at dksX1_withAll_1 9 rfl rfl)
theorem dX1_withAll_32 : decode cX1_withAll 32 = .ok (.goto (-25), 3) := dk_167 255 231 (dk_at dksX1_withAll_1 10 rfl rfl)
theorem dX1_withAll_35 : decode cX1_withAll 35 = .ok (.aload_n 0, 1) := dk_42 (dk_at dksX1_withAll_1 13 rfl rfl)
theorem dX1_withAll_36 : decode cX1_withAll 36 = .ok (.areturn, 1) := dk_176 (dk_at dksX1_withAll_1 14 rfl rfl)
abbrev cX1_with : ByteArray := prog_8_method_3_code
def yX1_with : MethodName := ⟨RX1, "with", "(LQuotientRows$Mono;)LQuotientRows$State;"⟩
def dkwX1_with_5 : List UInt8 := [185, 0, 61, 3, 0, 42, 176]
abbrev dktX1_with_5 : List UInt8 := dkwX1_with_5 ++ []
def dkwX1_with_4 : List UInt8 := [192, 0, 33, 43, 182, 0, 57, 153, 0, 9, 132, 2, 1, 167, 255, 220, 42, 180, 0, 17, 28, 43]
abbrev dktX1_with_4 : List UInt8 := dkwX1_with_4 ++ dktX1_with_5
def dkwX1_with_3 : List UInt8 := [61, 28, 42, 180, 0, 17, 185, 0, 41, 1, 0, 162, 0, 29, 42, 180, 0, 17, 28, 185, 0, 47, 2, 0]
abbrev dktX1_with_3 : List UInt8 := dkwX1_with_3 ++ dktX1_with_4
def dkwX1_with_2 : List UInt8 := [182, 0, 51, 153, 0, 14, 42, 180, 0, 17, 28, 185, 0, 54, 2, 0, 87, 132, 2, 255, 167, 255, 215, 3]
abbrev dktX1_with_2 : List UInt8 := dkwX1_with_2 ++ dktX1_with_3
def dkwX1_with_1 : List UInt8 := [61, 28, 155, 0, 43, 43, 42, 180, 0, 17, 28, 185, 0, 47, 2, 0, 192, 0, 33, 180, 0, 32]
abbrev dktX1_with_1 : List UInt8 := dkwX1_with_1 ++ dktX1_with_2
def dkwX1_with_0 : List UInt8 := [42, 43, 180, 0, 32, 182, 0, 37, 153, 0, 5, 42, 176, 42, 180, 0, 17, 185, 0, 41, 1, 0, 4, 100]
abbrev dktX1_with_0 : List UInt8 := dkwX1_with_0 ++ dktX1_with_1
theorem dksX1_with_0 : cX1_with.data.toList.drop 0 = dktX1_with_0 := by decide +kernel
theorem dksX1_with_1 : cX1_with.data.toList.drop 24 = dktX1_with_1 := dk_seg dksX1_with_0 24 rfl rfl
theorem dksX1_with_2 : cX1_with.data.toList.drop 46 = dktX1_with_2 := dk_seg dksX1_with_1 22 rfl rfl
theorem dksX1_with_3 : cX1_with.data.toList.drop 70 = dktX1_with_3 := dk_seg dksX1_with_2 24 rfl rfl
theorem dksX1_with_4 : cX1_with.data.toList.drop 94 = dktX1_with_4 := dk_seg dksX1_with_3 24 rfl rfl
theorem dksX1_with_5 : cX1_with.data.toList.drop 116 = dktX1_with_5 := dk_seg dksX1_with_4 22 rfl rfl
theorem dX1_with_0 : decode cX1_with 0 = .ok (.aload_n 0, 1) := dk_42 (dk_at dksX1_with_0 0 rfl rfl)
theorem dX1_with_1 : decode cX1_with 1 = .ok (.aload_n 1, 1) := dk_43 (dk_at dksX1_with_0 1 rfl rfl)
theorem dX1_with_2 : decode cX1_with 2 = .ok (.getfield 32, 3) := dk_180 0 32 (dk_at dksX1_with_0 2 rfl rfl)
theorem dX1_with_5 : decode cX1_with 5 = .ok (.invokevirtual 37, 3) := dk_182 0 37 (dk_at dksX1_with_0 5 rfl rfl)
theorem dX1_with_8 : decode cX1_with 8 = .ok (.ifCond .eq 5, 3) := dk_153 0 5 (dk_at dksX1_with_0 8 rfl rfl)
theorem dX1_with_11 : decode cX1_with 11 = .ok (.aload_n 0, 1) := dk_42 (dk_at dksX1_with_0 11 rfl rfl)
theorem dX1_with_12 : decode cX1_with 12 = .ok (.areturn, 1) := dk_176 (dk_at dksX1_with_0 12 rfl rfl)
theorem dX1_with_13 : decode cX1_with 13 = .ok (.aload_n 0, 1) := dk_42 (dk_at dksX1_with_0 13 rfl rfl)
theorem dX1_with_14 : decode cX1_with 14 = .ok (.getfield 17, 3) := dk_180 0 17 (dk_at dksX1_with_0 14 rfl rfl)
theorem dX1_with_17 : decode cX1_with 17 = .ok (.invokeinterface 41 1, 5) := by decide +kernel
theorem dX1_with_22 : decode cX1_with 22 = .ok (.iconst 1, 1) := dk_4 (dk_at dksX1_with_0 22 rfl rfl)
theorem dX1_with_23 : decode cX1_with 23 = .ok (.isub, 1) := dk_100 (dk_at dksX1_with_0 23 rfl rfl)
theorem dX1_with_24 : decode cX1_with 24 = .ok (.istore_n 2, 1) := dk_61 (dk_at dksX1_with_1 0 rfl rfl)
theorem dX1_with_25 : decode cX1_with 25 = .ok (.iload_n 2, 1) := dk_28 (dk_at dksX1_with_1 1 rfl rfl)
theorem dX1_with_26 : decode cX1_with 26 = .ok (.ifCond .lt 43, 3) := dk_155 0 43 (dk_at dksX1_with_1 2 rfl rfl)
theorem dX1_with_29 : decode cX1_with 29 = .ok (.aload_n 1, 1) := dk_43 (dk_at dksX1_with_1 5 rfl rfl)
theorem dX1_with_30 : decode cX1_with 30 = .ok (.aload_n 0, 1) := dk_42 (dk_at dksX1_with_1 6 rfl rfl)
theorem dX1_with_31 : decode cX1_with 31 = .ok (.getfield 17, 3) := dk_180 0 17 (dk_at dksX1_with_1 7 rfl rfl)
theorem dX1_with_34 : decode cX1_with 34 = .ok (.iload_n 2, 1) := dk_28 (dk_at dksX1_with_1 10 rfl rfl)
theorem dX1_with_35 : decode cX1_with 35 = .ok (.invokeinterface 47 2, 5) := by decide +kernel
theorem dX1_with_40 : decode cX1_with 40 = .ok (.checkcast 33, 3) := dk_192 0 33 (dk_at dksX1_with_1 16 rfl rfl)
theorem dX1_with_43 : decode cX1_with 43 = .ok (.getfield 32, 3) := dk_180 0 32 (dk_at dksX1_with_1 19 rfl rfl)
theorem dX1_with_46 : decode cX1_with 46 = .ok (.invokevirtual 51, 3) := dk_182 0 51 (dk_at dksX1_with_2 0 rfl rfl)
theorem dX1_with_49 : decode cX1_with 49 = .ok (.ifCond .eq 14, 3) := dk_153 0 14 (dk_at dksX1_with_2 3 rfl rfl)
theorem dX1_with_52 : decode cX1_with 52 = .ok (.aload_n 0, 1) := dk_42 (dk_at dksX1_with_2 6 rfl rfl)
theorem dX1_with_53 : decode cX1_with 53 = .ok (.getfield 17, 3) := dk_180 0 17 (dk_at dksX1_with_2 7 rfl rfl)
theorem dX1_with_56 : decode cX1_with 56 = .ok (.iload_n 2, 1) := dk_28 (dk_at dksX1_with_2 10 rfl rfl)
theorem dX1_with_57 : decode cX1_with 57 = .ok (.invokeinterface 54 2, 5) := by decide +kernel
theorem dX1_with_62 : decode cX1_with 62 = .ok (.pop, 1) := dk_87 (dk_at dksX1_with_2 16 rfl rfl)
theorem dX1_with_63 : decode cX1_with 63 = .ok (.iinc 2 (-1), 3) := dk_132 2 255 (dk_at dksX1_with_2 17 rfl rfl)
theorem dX1_with_66 : decode cX1_with 66 = .ok (.goto (-41), 3) := dk_167 255 215 (dk_at dksX1_with_2 20 rfl rfl)
theorem dX1_with_69 : decode cX1_with 69 = .ok (.iconst 0, 1) := dk_3 (dk_at dksX1_with_2 23 rfl rfl)
theorem dX1_with_70 : decode cX1_with 70 = .ok (.istore_n 2, 1) := dk_61 (dk_at dksX1_with_3 0 rfl rfl)
theorem dX1_with_71 : decode cX1_with 71 = .ok (.iload_n 2, 1) := dk_28 (dk_at dksX1_with_3 1 rfl rfl)
theorem dX1_with_72 : decode cX1_with 72 = .ok (.aload_n 0, 1) := dk_42 (dk_at dksX1_with_3 2 rfl rfl)
theorem dX1_with_73 : decode cX1_with 73 = .ok (.getfield 17, 3) := dk_180 0 17 (dk_at dksX1_with_3 3 rfl rfl)
theorem dX1_with_76 : decode cX1_with 76 = .ok (.invokeinterface 41 1, 5) := by decide +kernel
theorem dX1_with_81 : decode cX1_with 81 = .ok (.if_icmp .ge 29, 3) := dk_162 0 29 (dk_at dksX1_with_3 11 rfl rfl)
theorem dX1_with_84 : decode cX1_with 84 = .ok (.aload_n 0, 1) := dk_42 (dk_at dksX1_with_3 14 rfl rfl)
theorem dX1_with_85 : decode cX1_with 85 = .ok (.getfield 17, 3) := dk_180 0 17 (dk_at dksX1_with_3 15 rfl rfl)
theorem dX1_with_88 : decode cX1_with 88 = .ok (.iload_n 2, 1) := dk_28 (dk_at dksX1_with_3 18 rfl rfl)
theorem dX1_with_89 : decode cX1_with 89 = .ok (.invokeinterface 47 2, 5) := by decide +kernel
theorem dX1_with_94 : decode cX1_with 94 = .ok (.checkcast 33, 3) := dk_192 0 33 (dk_at dksX1_with_4 0 rfl rfl)
theorem dX1_with_97 : decode cX1_with 97 = .ok (.aload_n 1, 1) := dk_43 (dk_at dksX1_with_4 3 rfl rfl)
theorem dX1_with_98 : decode cX1_with 98 = .ok (.invokevirtual 57, 3) := dk_182 0 57 (dk_at dksX1_with_4 4 rfl rfl)
theorem dX1_with_101 : decode cX1_with 101 = .ok (.ifCond .eq 9, 3) := dk_153 0 9 (dk_at dksX1_with_4 7 rfl rfl)
theorem dX1_with_104 : decode cX1_with 104 = .ok (.iinc 2 1, 3) := dk_132 2 1 (dk_at dksX1_with_4 10 rfl rfl)
theorem dX1_with_107 : decode cX1_with 107 = .ok (.goto (-36), 3) := dk_167 255 220 (dk_at dksX1_with_4 13 rfl rfl)
theorem dX1_with_110 : decode cX1_with 110 = .ok (.aload_n 0, 1) := dk_42 (dk_at dksX1_with_4 16 rfl rfl)
theorem dX1_with_111 : decode cX1_with 111 = .ok (.getfield 17, 3) := dk_180 0 17 (dk_at dksX1_with_4 17 rfl rfl)
theorem dX1_with_114 : decode cX1_with 114 = .ok (.iload_n 2, 1) := dk_28 (dk_at dksX1_with_4 20 rfl rfl)
theorem dX1_with_115 : decode cX1_with 115 = .ok (.aload_n 1, 1) := dk_43 (dk_at dksX1_with_4 21 rfl rfl)
theorem dX1_with_116 : decode cX1_with 116 = .ok (.invokeinterface 61 3, 5) := by decide +kernel
theorem dX1_with_121 : decode cX1_with 121 = .ok (.aload_n 0, 1) := dk_42 (dk_at dksX1_with_5 5 rfl rfl)
theorem dX1_with_122 : decode cX1_with 122 = .ok (.areturn, 1) := dk_176 (dk_at dksX1_with_5 6 rfl rfl)
abbrev cX1_covers : ByteArray := prog_8_method_5_code
def yX1_covers : MethodName := ⟨RX1, "covers", "([I)Z"⟩
def dkwX1_covers_2 : List UInt8 := [172]
abbrev dktX1_covers_2 : List UInt8 := dkwX1_covers_2 ++ []
def dkwX1_covers_1 : List UInt8 := [185, 0, 47, 2, 0, 192, 0, 33, 43, 182, 0, 51, 153, 0, 5, 4, 172, 132, 2, 1, 167, 255, 218, 3]
abbrev dktX1_covers_1 : List UInt8 := dkwX1_covers_1 ++ dktX1_covers_2
def dkwX1_covers_0 : List UInt8 := [3, 61, 28, 42, 180, 0, 17, 185, 0, 41, 1, 0, 162, 0, 31, 42, 180, 0, 17, 28]
abbrev dktX1_covers_0 : List UInt8 := dkwX1_covers_0 ++ dktX1_covers_1
theorem dksX1_covers_0 : cX1_covers.data.toList.drop 0 = dktX1_covers_0 := by decide +kernel
theorem dksX1_covers_1 : cX1_covers.data.toList.drop 20 = dktX1_covers_1 := dk_seg dksX1_covers_0 20 rfl rfl
theorem dksX1_covers_2 : cX1_covers.data.toList.drop 44 = dktX1_covers_2 := dk_seg dksX1_covers_1 24 rfl rfl
theorem dX1_covers_0 : decode cX1_covers 0 = .ok (.iconst 0, 1) := dk_3 (dk_at dksX1_covers_0 0 rfl rfl)
theorem dX1_covers_1 : decode cX1_covers 1 = .ok (.istore_n 2, 1) := dk_61 (dk_at dksX1_covers_0 1 rfl rfl)
theorem dX1_covers_2 : decode cX1_covers 2 = .ok (.iload_n 2, 1) := dk_28 (dk_at dksX1_covers_0 2 rfl rfl)
theorem dX1_covers_3 : decode cX1_covers 3 = .ok (.aload_n 0, 1) := dk_42 (dk_at dksX1_covers_0 3 rfl rfl)
theorem dX1_covers_4 : decode cX1_covers 4 = .ok (.getfield 17, 3) := dk_180 0 17 (dk_at dksX1_covers_0 4 rfl rfl)
theorem dX1_covers_7 : decode cX1_covers 7 = .ok (.invokeinterface 41 1, 5) := by decide +kernel
theorem dX1_covers_12 : decode cX1_covers 12 = .ok (.if_icmp .ge 31, 3) := dk_162 0 31 (dk_at dksX1_covers_0 12 rfl rfl)
theorem dX1_covers_15 : decode cX1_covers 15 = .ok (.aload_n 0, 1) := dk_42 (dk_at dksX1_covers_0 15 rfl rfl)
theorem dX1_covers_16 : decode cX1_covers 16 = .ok (.getfield 17, 3) := dk_180 0 17 (dk_at dksX1_covers_0 16 rfl rfl)
theorem dX1_covers_19 : decode cX1_covers 19 = .ok (.iload_n 2, 1) := dk_28 (dk_at dksX1_covers_0 19 rfl rfl)
theorem dX1_covers_20 : decode cX1_covers 20 = .ok (.invokeinterface 47 2, 5) := by decide +kernel
theorem dX1_covers_25 : decode cX1_covers 25 = .ok (.checkcast 33, 3) := dk_192 0 33 (dk_at dksX1_covers_1 5 rfl rfl)
theorem dX1_covers_28 : decode cX1_covers 28 = .ok (.aload_n 1, 1) := dk_43 (dk_at dksX1_covers_1 8 rfl rfl)
theorem dX1_covers_29 : decode cX1_covers 29 = .ok (.invokevirtual 51, 3) := dk_182 0 51 (dk_at dksX1_covers_1 9 rfl rfl)
theorem dX1_covers_32 : decode cX1_covers 32 = .ok (.ifCond .eq 5, 3) := dk_153 0 5 (dk_at dksX1_covers_1 12 rfl rfl)
theorem dX1_covers_35 : decode cX1_covers 35 = .ok (.iconst 1, 1) := dk_4 (dk_at dksX1_covers_1 15 rfl rfl)
theorem dX1_covers_36 : decode cX1_covers 36 = .ok (.ireturn, 1) := dk_172 (dk_at dksX1_covers_1 16 rfl rfl)
theorem dX1_covers_37 : decode cX1_covers 37 = .ok (.iinc 2 1, 3) := dk_132 2 1 (dk_at dksX1_covers_1 17 rfl rfl)
theorem dX1_covers_40 : decode cX1_covers 40 = .ok (.goto (-38), 3) := dk_167 255 218 (dk_at dksX1_covers_1 20 rfl rfl)
theorem dX1_covers_43 : decode cX1_covers 43 = .ok (.iconst 0, 1) := dk_3 (dk_at dksX1_covers_1 23 rfl rfl)
theorem dX1_covers_44 : decode cX1_covers 44 = .ok (.ireturn, 1) := dk_172 (dk_at dksX1_covers_2 0 rfl rfl)
abbrev cX1_size : ByteArray := prog_8_method_7_code
def yX1_size : MethodName := ⟨RX1, "size", "(I)I"⟩
def dkwX1_size_2 : List UInt8 := [180, 0, 96, 27, 46, 172]
abbrev dktX1_size_2 : List UInt8 := dkwX1_size_2 ++ []
def dkwX1_size_1 : List UInt8 := [180, 0, 96, 28, 42, 3, 28, 42, 186, 0, 99, 0, 0, 182, 0, 92, 79, 132, 2, 1, 167, 255, 229, 42]
abbrev dktX1_size_1 : List UInt8 := dkwX1_size_1 ++ dktX1_size_2
def dkwX1_size_0 : List UInt8 := [42, 180, 0, 96, 199, 0, 43, 42, 16, 41, 188, 10, 181, 0, 96, 3, 61, 28, 16, 40, 163, 0, 27, 42]
abbrev dktX1_size_0 : List UInt8 := dkwX1_size_0 ++ dktX1_size_1
theorem dksX1_size_0 : cX1_size.data.toList.drop 0 = dktX1_size_0 := by decide +kernel
theorem dksX1_size_1 : cX1_size.data.toList.drop 24 = dktX1_size_1 := dk_seg dksX1_size_0 24 rfl rfl
theorem dksX1_size_2 : cX1_size.data.toList.drop 48 = dktX1_size_2 := dk_seg dksX1_size_1 24 rfl rfl
theorem dX1_size_0 : decode cX1_size 0 = .ok (.aload_n 0, 1) := dk_42 (dk_at dksX1_size_0 0 rfl rfl)
theorem dX1_size_1 : decode cX1_size 1 = .ok (.getfield 96, 3) := dk_180 0 96 (dk_at dksX1_size_0 1 rfl rfl)
theorem dX1_size_4 : decode cX1_size 4 = .ok (.ifnonnull 43, 3) := dk_199 0 43 (dk_at dksX1_size_0 4 rfl rfl)
theorem dX1_size_7 : decode cX1_size 7 = .ok (.aload_n 0, 1) := dk_42 (dk_at dksX1_size_0 7 rfl rfl)
theorem dX1_size_8 : decode cX1_size 8 = .ok (.bipush 41, 2) := dk_16 41 (dk_at dksX1_size_0 8 rfl rfl)
theorem dX1_size_10 : decode cX1_size 10 = .ok (.newarray .int, 2) := dk_188_10 (dk_at dksX1_size_0 10 rfl rfl)
theorem dX1_size_12 : decode cX1_size 12 = .ok (.putfield 96, 3) := dk_181 0 96 (dk_at dksX1_size_0 12 rfl rfl)
theorem dX1_size_15 : decode cX1_size 15 = .ok (.iconst 0, 1) := dk_3 (dk_at dksX1_size_0 15 rfl rfl)
theorem dX1_size_16 : decode cX1_size 16 = .ok (.istore_n 2, 1) := dk_61 (dk_at dksX1_size_0 16 rfl rfl)
theorem dX1_size_17 : decode cX1_size 17 = .ok (.iload_n 2, 1) := dk_28 (dk_at dksX1_size_0 17 rfl rfl)
theorem dX1_size_18 : decode cX1_size 18 = .ok (.bipush 40, 2) := dk_16 40 (dk_at dksX1_size_0 18 rfl rfl)
theorem dX1_size_20 : decode cX1_size 20 = .ok (.if_icmp .gt 27, 3) := dk_163 0 27 (dk_at dksX1_size_0 20 rfl rfl)
theorem dX1_size_23 : decode cX1_size 23 = .ok (.aload_n 0, 1) := dk_42 (dk_at dksX1_size_0 23 rfl rfl)
theorem dX1_size_24 : decode cX1_size 24 = .ok (.getfield 96, 3) := dk_180 0 96 (dk_at dksX1_size_1 0 rfl rfl)
theorem dX1_size_27 : decode cX1_size 27 = .ok (.iload_n 2, 1) := dk_28 (dk_at dksX1_size_1 3 rfl rfl)
theorem dX1_size_28 : decode cX1_size 28 = .ok (.aload_n 0, 1) := dk_42 (dk_at dksX1_size_1 4 rfl rfl)
theorem dX1_size_29 : decode cX1_size 29 = .ok (.iconst 0, 1) := dk_3 (dk_at dksX1_size_1 5 rfl rfl)
theorem dX1_size_30 : decode cX1_size 30 = .ok (.iload_n 2, 1) := dk_28 (dk_at dksX1_size_1 6 rfl rfl)
theorem dX1_size_31 : decode cX1_size 31 = .ok (.aload_n 0, 1) := dk_42 (dk_at dksX1_size_1 7 rfl rfl)
theorem dX1_size_32 : decode cX1_size 32 = .ok (.invokedynamic 99, 5) := by decide +kernel
theorem dX1_size_37 : decode cX1_size 37 = .ok (.invokevirtual 92, 3) := dk_182 0 92 (dk_at dksX1_size_1 13 rfl rfl)
theorem dX1_size_40 : decode cX1_size 40 = .ok (.iastore, 1) := dk_79 (dk_at dksX1_size_1 16 rfl rfl)
theorem dX1_size_41 : decode cX1_size 41 = .ok (.iinc 2 1, 3) := dk_132 2 1 (dk_at dksX1_size_1 17 rfl rfl)
theorem dX1_size_44 : decode cX1_size 44 = .ok (.goto (-27), 3) := dk_167 255 229 (dk_at dksX1_size_1 20 rfl rfl)
theorem dX1_size_47 : decode cX1_size 47 = .ok (.aload_n 0, 1) := dk_42 (dk_at dksX1_size_1 23 rfl rfl)
theorem dX1_size_48 : decode cX1_size 48 = .ok (.getfield 96, 3) := dk_180 0 96 (dk_at dksX1_size_2 0 rfl rfl)
theorem dX1_size_51 : decode cX1_size 51 = .ok (.iload_n 1, 1) := dk_27 (dk_at dksX1_size_2 3 rfl rfl)
theorem dX1_size_52 : decode cX1_size 52 = .ok (.iaload, 1) := dk_46 (dk_at dksX1_size_2 4 rfl rfl)
theorem dX1_size_53 : decode cX1_size 53 = .ok (.ireturn, 1) := dk_172 (dk_at dksX1_size_2 5 rfl rfl)
abbrev cX1_lambda_size_0 : ByteArray := prog_8_method_12_code
def yX1_lambda_size_0 : MethodName := ⟨RX1, "lambda$size$0", "([I)Z"⟩
def dkwX1_lambda_size_0_0 : List UInt8 := [42, 43, 182, 0, 37, 154, 0, 7, 4, 167, 0, 4, 3, 172]
abbrev dktX1_lambda_size_0_0 : List UInt8 := dkwX1_lambda_size_0_0 ++ []
theorem dksX1_lambda_size_0_0 : cX1_lambda_size_0.data.toList.drop 0 = dktX1_lambda_size_0_0 := by decide +kernel
theorem dX1_lambda_size_0_0 : decode cX1_lambda_size_0 0 = .ok (.aload_n 0, 1) := dk_42 (dk_at dksX1_lambda_size_0_0 0 rfl rfl)
theorem dX1_lambda_size_0_1 : decode cX1_lambda_size_0 1 = .ok (.aload_n 1, 1) := dk_43 (dk_at dksX1_lambda_size_0_0 1 rfl rfl)
theorem dX1_lambda_size_0_2 : decode cX1_lambda_size_0 2 = .ok (.invokevirtual 37, 3) := dk_182 0 37 (dk_at dksX1_lambda_size_0_0 2 rfl rfl)
theorem dX1_lambda_size_0_5 : decode cX1_lambda_size_0 5 = .ok (.ifCond .ne 7, 3) := dk_154 0 7 (dk_at dksX1_lambda_size_0_0 5 rfl rfl)
theorem dX1_lambda_size_0_8 : decode cX1_lambda_size_0 8 = .ok (.iconst 1, 1) := dk_4 (dk_at dksX1_lambda_size_0_0 8 rfl rfl)
theorem dX1_lambda_size_0_9 : decode cX1_lambda_size_0 9 = .ok (.goto 4, 3) := dk_167 0 4 (dk_at dksX1_lambda_size_0_0 9 rfl rfl)
theorem dX1_lambda_size_0_12 : decode cX1_lambda_size_0 12 = .ok (.iconst 0, 1) := dk_3 (dk_at dksX1_lambda_size_0_0 12 rfl rfl)
theorem dX1_lambda_size_0_13 : decode cX1_lambda_size_0 13 = .ok (.ireturn, 1) := dk_172 (dk_at dksX1_lambda_size_0_0 13 rfl rfl)
abbrev cX1_count : ByteArray := prog_8_method_6_code
def yX1_count : MethodName := ⟨RX1, "count", "(IILQuotientRows$Asked;)I"⟩
def dkwX1_count_3 : List UInt8 := [167, 255, 223, 42, 180, 0, 21, 27, 3, 79, 21, 4, 172]
abbrev dktX1_count_3 : List UInt8 := dkwX1_count_3 ++ []
def dkwX1_count_2 : List UInt8 := [27, 21, 5, 79, 21, 4, 42, 27, 4, 96, 28, 21, 5, 100, 45, 182, 0, 92, 96, 54, 4, 132, 5, 255]
abbrev dktX1_count_2 : List UInt8 := dkwX1_count_2 ++ dktX1_count_3
def dkwX1_count_1 : List UInt8 := [185, 0, 83, 2, 0, 184, 0, 88, 172, 3, 54, 4, 28, 54, 5, 21, 5, 155, 0, 34, 42, 180, 0, 21]
abbrev dktX1_count_1 : List UInt8 := dkwX1_count_1 ++ dktX1_count_2
def dkwX1_count_0 : List UInt8 := [27, 42, 180, 0, 25, 4, 100, 160, 0, 24, 42, 180, 0, 21, 27, 28, 79, 45, 42, 180, 0, 21]
abbrev dktX1_count_0 : List UInt8 := dkwX1_count_0 ++ dktX1_count_1
theorem dksX1_count_0 : cX1_count.data.toList.drop 0 = dktX1_count_0 := by decide +kernel
theorem dksX1_count_1 : cX1_count.data.toList.drop 22 = dktX1_count_1 := dk_seg dksX1_count_0 22 rfl rfl
theorem dksX1_count_2 : cX1_count.data.toList.drop 46 = dktX1_count_2 := dk_seg dksX1_count_1 24 rfl rfl
theorem dksX1_count_3 : cX1_count.data.toList.drop 70 = dktX1_count_3 := dk_seg dksX1_count_2 24 rfl rfl
theorem dX1_count_0 : decode cX1_count 0 = .ok (.iload_n 1, 1) := dk_27 (dk_at dksX1_count_0 0 rfl rfl)
theorem dX1_count_1 : decode cX1_count 1 = .ok (.aload_n 0, 1) := dk_42 (dk_at dksX1_count_0 1 rfl rfl)
theorem dX1_count_2 : decode cX1_count 2 = .ok (.getfield 25, 3) := dk_180 0 25 (dk_at dksX1_count_0 2 rfl rfl)
theorem dX1_count_5 : decode cX1_count 5 = .ok (.iconst 1, 1) := dk_4 (dk_at dksX1_count_0 5 rfl rfl)
theorem dX1_count_6 : decode cX1_count 6 = .ok (.isub, 1) := dk_100 (dk_at dksX1_count_0 6 rfl rfl)
theorem dX1_count_7 : decode cX1_count 7 = .ok (.if_icmp .ne 24, 3) := dk_160 0 24 (dk_at dksX1_count_0 7 rfl rfl)
theorem dX1_count_10 : decode cX1_count 10 = .ok (.aload_n 0, 1) := dk_42 (dk_at dksX1_count_0 10 rfl rfl)
theorem dX1_count_11 : decode cX1_count 11 = .ok (.getfield 21, 3) := dk_180 0 21 (dk_at dksX1_count_0 11 rfl rfl)
theorem dX1_count_14 : decode cX1_count 14 = .ok (.iload_n 1, 1) := dk_27 (dk_at dksX1_count_0 14 rfl rfl)
theorem dX1_count_15 : decode cX1_count 15 = .ok (.iload_n 2, 1) := dk_28 (dk_at dksX1_count_0 15 rfl rfl)
theorem dX1_count_16 : decode cX1_count 16 = .ok (.iastore, 1) := dk_79 (dk_at dksX1_count_0 16 rfl rfl)
theorem dX1_count_17 : decode cX1_count 17 = .ok (.aload_n 3, 1) := dk_45 (dk_at dksX1_count_0 17 rfl rfl)
theorem dX1_count_18 : decode cX1_count 18 = .ok (.aload_n 0, 1) := dk_42 (dk_at dksX1_count_0 18 rfl rfl)
theorem dX1_count_19 : decode cX1_count 19 = .ok (.getfield 21, 3) := dk_180 0 21 (dk_at dksX1_count_0 19 rfl rfl)
theorem dX1_count_22 : decode cX1_count 22 = .ok (.invokeinterface 83 2, 5) := by decide +kernel
theorem dX1_count_27 : decode cX1_count 27 = .ok (.invokestatic 88, 3) := dk_184 0 88 (dk_at dksX1_count_1 5 rfl rfl)
theorem dX1_count_30 : decode cX1_count 30 = .ok (.ireturn, 1) := dk_172 (dk_at dksX1_count_1 8 rfl rfl)
theorem dX1_count_31 : decode cX1_count 31 = .ok (.iconst 0, 1) := dk_3 (dk_at dksX1_count_1 9 rfl rfl)
theorem dX1_count_32 : decode cX1_count 32 = .ok (.istore 4, 2) := dk_54 4 (dk_at dksX1_count_1 10 rfl rfl)
theorem dX1_count_34 : decode cX1_count 34 = .ok (.iload_n 2, 1) := dk_28 (dk_at dksX1_count_1 12 rfl rfl)
theorem dX1_count_35 : decode cX1_count 35 = .ok (.istore 5, 2) := dk_54 5 (dk_at dksX1_count_1 13 rfl rfl)
theorem dX1_count_37 : decode cX1_count 37 = .ok (.iload 5, 2) := dk_21 5 (dk_at dksX1_count_1 15 rfl rfl)
theorem dX1_count_39 : decode cX1_count 39 = .ok (.ifCond .lt 34, 3) := dk_155 0 34 (dk_at dksX1_count_1 17 rfl rfl)
theorem dX1_count_42 : decode cX1_count 42 = .ok (.aload_n 0, 1) := dk_42 (dk_at dksX1_count_1 20 rfl rfl)
theorem dX1_count_43 : decode cX1_count 43 = .ok (.getfield 21, 3) := dk_180 0 21 (dk_at dksX1_count_1 21 rfl rfl)
theorem dX1_count_46 : decode cX1_count 46 = .ok (.iload_n 1, 1) := dk_27 (dk_at dksX1_count_2 0 rfl rfl)
theorem dX1_count_47 : decode cX1_count 47 = .ok (.iload 5, 2) := dk_21 5 (dk_at dksX1_count_2 1 rfl rfl)
theorem dX1_count_49 : decode cX1_count 49 = .ok (.iastore, 1) := dk_79 (dk_at dksX1_count_2 3 rfl rfl)
theorem dX1_count_50 : decode cX1_count 50 = .ok (.iload 4, 2) := dk_21 4 (dk_at dksX1_count_2 4 rfl rfl)
theorem dX1_count_52 : decode cX1_count 52 = .ok (.aload_n 0, 1) := dk_42 (dk_at dksX1_count_2 6 rfl rfl)
theorem dX1_count_53 : decode cX1_count 53 = .ok (.iload_n 1, 1) := dk_27 (dk_at dksX1_count_2 7 rfl rfl)
theorem dX1_count_54 : decode cX1_count 54 = .ok (.iconst 1, 1) := dk_4 (dk_at dksX1_count_2 8 rfl rfl)
theorem dX1_count_55 : decode cX1_count 55 = .ok (.iadd, 1) := dk_96 (dk_at dksX1_count_2 9 rfl rfl)
theorem dX1_count_56 : decode cX1_count 56 = .ok (.iload_n 2, 1) := dk_28 (dk_at dksX1_count_2 10 rfl rfl)
theorem dX1_count_57 : decode cX1_count 57 = .ok (.iload 5, 2) := dk_21 5 (dk_at dksX1_count_2 11 rfl rfl)
theorem dX1_count_59 : decode cX1_count 59 = .ok (.isub, 1) := dk_100 (dk_at dksX1_count_2 13 rfl rfl)
theorem dX1_count_60 : decode cX1_count 60 = .ok (.aload_n 3, 1) := dk_45 (dk_at dksX1_count_2 14 rfl rfl)
theorem dX1_count_61 : decode cX1_count 61 = .ok (.invokevirtual 92, 3) := dk_182 0 92 (dk_at dksX1_count_2 15 rfl rfl)
theorem dX1_count_64 : decode cX1_count 64 = .ok (.iadd, 1) := dk_96 (dk_at dksX1_count_2 18 rfl rfl)
theorem dX1_count_65 : decode cX1_count 65 = .ok (.istore 4, 2) := dk_54 4 (dk_at dksX1_count_2 19 rfl rfl)
theorem dX1_count_67 : decode cX1_count 67 = .ok (.iinc 5 (-1), 3) := dk_132 5 255 (dk_at dksX1_count_2 21 rfl rfl)
theorem dX1_count_70 : decode cX1_count 70 = .ok (.goto (-33), 3) := dk_167 255 223 (dk_at dksX1_count_3 0 rfl rfl)
theorem dX1_count_73 : decode cX1_count 73 = .ok (.aload_n 0, 1) := dk_42 (dk_at dksX1_count_3 3 rfl rfl)
theorem dX1_count_74 : decode cX1_count 74 = .ok (.getfield 21, 3) := dk_180 0 21 (dk_at dksX1_count_3 4 rfl rfl)
theorem dX1_count_77 : decode cX1_count 77 = .ok (.iload_n 1, 1) := dk_27 (dk_at dksX1_count_3 7 rfl rfl)
theorem dX1_count_78 : decode cX1_count 78 = .ok (.iconst 0, 1) := dk_3 (dk_at dksX1_count_3 8 rfl rfl)
theorem dX1_count_79 : decode cX1_count 79 = .ok (.iastore, 1) := dk_79 (dk_at dksX1_count_3 9 rfl rfl)
theorem dX1_count_80 : decode cX1_count 80 = .ok (.iload 4, 2) := dk_21 4 (dk_at dksX1_count_3 10 rfl rfl)
theorem dX1_count_82 : decode cX1_count 82 = .ok (.ireturn, 1) := dk_172 (dk_at dksX1_count_3 12 rfl rfl)
abbrev cX1_poly : ByteArray := prog_8_method_9_code
def yX1_poly : MethodName := ⟨RX1, "poly", "(I)J"⟩
def dkwX1_poly_4 : List UInt8 := [22, 5, 105, 97, 65, 132, 4, 1, 167, 255, 160, 32, 173]
abbrev dktX1_poly_4 : List UInt8 := dkwX1_poly_4 ++ []
def dkwX1_poly_3 : List UInt8 := [162, 0, 17, 22, 5, 21, 7, 133, 109, 55, 5, 132, 7, 1, 167, 255, 236, 32, 42, 21, 4, 182, 0, 109]
abbrev dktX1_poly_3 : List UInt8 := dkwX1_poly_3 ++ dktX1_poly_4
def dkwX1_poly_2 : List UInt8 := [21, 7, 96, 133, 105, 55, 5, 132, 7, 1, 167, 255, 231, 5, 54, 7, 21, 7, 42, 180, 0, 25]
abbrev dktX1_poly_2 : List UInt8 := dkwX1_poly_2 ++ dktX1_poly_3
def dkwX1_poly_1 : List UInt8 := [167, 0, 75, 10, 55, 5, 4, 54, 7, 21, 7, 42, 180, 0, 25, 162, 0, 22, 22, 5, 27, 21, 4, 100]
abbrev dktX1_poly_1 : List UInt8 := dkwX1_poly_1 ++ dktX1_poly_2
def dkwX1_poly_0 : List UInt8 := [9, 65, 3, 54, 4, 21, 4, 16, 40, 163, 0, 95, 42, 21, 4, 182, 0, 109, 9, 148, 154, 0, 6]
abbrev dktX1_poly_0 : List UInt8 := dkwX1_poly_0 ++ dktX1_poly_1
theorem dksX1_poly_0 : cX1_poly.data.toList.drop 0 = dktX1_poly_0 := by decide +kernel
theorem dksX1_poly_1 : cX1_poly.data.toList.drop 23 = dktX1_poly_1 := dk_seg dksX1_poly_0 23 rfl rfl
theorem dksX1_poly_2 : cX1_poly.data.toList.drop 47 = dktX1_poly_2 := dk_seg dksX1_poly_1 24 rfl rfl
theorem dksX1_poly_3 : cX1_poly.data.toList.drop 69 = dktX1_poly_3 := dk_seg dksX1_poly_2 22 rfl rfl
theorem dksX1_poly_4 : cX1_poly.data.toList.drop 93 = dktX1_poly_4 := dk_seg dksX1_poly_3 24 rfl rfl
theorem dX1_poly_0 : decode cX1_poly 0 = .ok (.lconst 0, 1) := dk_9 (dk_at dksX1_poly_0 0 rfl rfl)
theorem dX1_poly_1 : decode cX1_poly 1 = .ok (.lstore_n 2, 1) := dk_65 (dk_at dksX1_poly_0 1 rfl rfl)
theorem dX1_poly_2 : decode cX1_poly 2 = .ok (.iconst 0, 1) := dk_3 (dk_at dksX1_poly_0 2 rfl rfl)
theorem dX1_poly_3 : decode cX1_poly 3 = .ok (.istore 4, 2) := dk_54 4 (dk_at dksX1_poly_0 3 rfl rfl)
theorem dX1_poly_5 : decode cX1_poly 5 = .ok (.iload 4, 2) := dk_21 4 (dk_at dksX1_poly_0 5 rfl rfl)
theorem dX1_poly_7 : decode cX1_poly 7 = .ok (.bipush 40, 2) := dk_16 40 (dk_at dksX1_poly_0 7 rfl rfl)
theorem dX1_poly_9 : decode cX1_poly 9 = .ok (.if_icmp .gt 95, 3) := dk_163 0 95 (dk_at dksX1_poly_0 9 rfl rfl)
theorem dX1_poly_12 : decode cX1_poly 12 = .ok (.aload_n 0, 1) := dk_42 (dk_at dksX1_poly_0 12 rfl rfl)
theorem dX1_poly_13 : decode cX1_poly 13 = .ok (.iload 4, 2) := dk_21 4 (dk_at dksX1_poly_0 13 rfl rfl)
theorem dX1_poly_15 : decode cX1_poly 15 = .ok (.invokevirtual 109, 3) := dk_182 0 109 (dk_at dksX1_poly_0 15 rfl rfl)
theorem dX1_poly_18 : decode cX1_poly 18 = .ok (.lconst 0, 1) := dk_9 (dk_at dksX1_poly_0 18 rfl rfl)
theorem dX1_poly_19 : decode cX1_poly 19 = .ok (.lcmp, 1) := dk_148 (dk_at dksX1_poly_0 19 rfl rfl)
theorem dX1_poly_20 : decode cX1_poly 20 = .ok (.ifCond .ne 6, 3) := dk_154 0 6 (dk_at dksX1_poly_0 20 rfl rfl)
theorem dX1_poly_23 : decode cX1_poly 23 = .ok (.goto 75, 3) := dk_167 0 75 (dk_at dksX1_poly_1 0 rfl rfl)
theorem dX1_poly_26 : decode cX1_poly 26 = .ok (.lconst 1, 1) := dk_10 (dk_at dksX1_poly_1 3 rfl rfl)
theorem dX1_poly_27 : decode cX1_poly 27 = .ok (.lstore 5, 2) := dk_55 5 (dk_at dksX1_poly_1 4 rfl rfl)
theorem dX1_poly_29 : decode cX1_poly 29 = .ok (.iconst 1, 1) := dk_4 (dk_at dksX1_poly_1 6 rfl rfl)
theorem dX1_poly_30 : decode cX1_poly 30 = .ok (.istore 7, 2) := dk_54 7 (dk_at dksX1_poly_1 7 rfl rfl)
theorem dX1_poly_32 : decode cX1_poly 32 = .ok (.iload 7, 2) := dk_21 7 (dk_at dksX1_poly_1 9 rfl rfl)
theorem dX1_poly_34 : decode cX1_poly 34 = .ok (.aload_n 0, 1) := dk_42 (dk_at dksX1_poly_1 11 rfl rfl)
theorem dX1_poly_35 : decode cX1_poly 35 = .ok (.getfield 25, 3) := dk_180 0 25 (dk_at dksX1_poly_1 12 rfl rfl)
theorem dX1_poly_38 : decode cX1_poly 38 = .ok (.if_icmp .ge 22, 3) := dk_162 0 22 (dk_at dksX1_poly_1 15 rfl rfl)
theorem dX1_poly_41 : decode cX1_poly 41 = .ok (.lload 5, 2) := dk_22 5 (dk_at dksX1_poly_1 18 rfl rfl)
theorem dX1_poly_43 : decode cX1_poly 43 = .ok (.iload_n 1, 1) := dk_27 (dk_at dksX1_poly_1 20 rfl rfl)
theorem dX1_poly_44 : decode cX1_poly 44 = .ok (.iload 4, 2) := dk_21 4 (dk_at dksX1_poly_1 21 rfl rfl)
theorem dX1_poly_46 : decode cX1_poly 46 = .ok (.isub, 1) := dk_100 (dk_at dksX1_poly_1 23 rfl rfl)
theorem dX1_poly_47 : decode cX1_poly 47 = .ok (.iload 7, 2) := dk_21 7 (dk_at dksX1_poly_2 0 rfl rfl)
theorem dX1_poly_49 : decode cX1_poly 49 = .ok (.iadd, 1) := dk_96 (dk_at dksX1_poly_2 2 rfl rfl)
theorem dX1_poly_50 : decode cX1_poly 50 = .ok (.i2l, 1) := dk_133 (dk_at dksX1_poly_2 3 rfl rfl)
theorem dX1_poly_51 : decode cX1_poly 51 = .ok (.lmul, 1) := dk_105 (dk_at dksX1_poly_2 4 rfl rfl)
theorem dX1_poly_52 : decode cX1_poly 52 = .ok (.lstore 5, 2) := dk_55 5 (dk_at dksX1_poly_2 5 rfl rfl)
theorem dX1_poly_54 : decode cX1_poly 54 = .ok (.iinc 7 1, 3) := dk_132 7 1 (dk_at dksX1_poly_2 7 rfl rfl)
theorem dX1_poly_57 : decode cX1_poly 57 = .ok (.goto (-25), 3) := dk_167 255 231 (dk_at dksX1_poly_2 10 rfl rfl)
theorem dX1_poly_60 : decode cX1_poly 60 = .ok (.iconst 2, 1) := dk_5 (dk_at dksX1_poly_2 13 rfl rfl)
theorem dX1_poly_61 : decode cX1_poly 61 = .ok (.istore 7, 2) := dk_54 7 (dk_at dksX1_poly_2 14 rfl rfl)
theorem dX1_poly_63 : decode cX1_poly 63 = .ok (.iload 7, 2) := dk_21 7 (dk_at dksX1_poly_2 16 rfl rfl)
theorem dX1_poly_65 : decode cX1_poly 65 = .ok (.aload_n 0, 1) := dk_42 (dk_at dksX1_poly_2 18 rfl rfl)
theorem dX1_poly_66 : decode cX1_poly 66 = .ok (.getfield 25, 3) := dk_180 0 25 (dk_at dksX1_poly_2 19 rfl rfl)
theorem dX1_poly_69 : decode cX1_poly 69 = .ok (.if_icmp .ge 17, 3) := dk_162 0 17 (dk_at dksX1_poly_3 0 rfl rfl)
theorem dX1_poly_72 : decode cX1_poly 72 = .ok (.lload 5, 2) := dk_22 5 (dk_at dksX1_poly_3 3 rfl rfl)
theorem dX1_poly_74 : decode cX1_poly 74 = .ok (.iload 7, 2) := dk_21 7 (dk_at dksX1_poly_3 5 rfl rfl)
theorem dX1_poly_76 : decode cX1_poly 76 = .ok (.i2l, 1) := dk_133 (dk_at dksX1_poly_3 7 rfl rfl)
theorem dX1_poly_77 : decode cX1_poly 77 = .ok (.ldiv, 1) := dk_109 (dk_at dksX1_poly_3 8 rfl rfl)
theorem dX1_poly_78 : decode cX1_poly 78 = .ok (.lstore 5, 2) := dk_55 5 (dk_at dksX1_poly_3 9 rfl rfl)
theorem dX1_poly_80 : decode cX1_poly 80 = .ok (.iinc 7 1, 3) := dk_132 7 1 (dk_at dksX1_poly_3 11 rfl rfl)
theorem dX1_poly_83 : decode cX1_poly 83 = .ok (.goto (-20), 3) := dk_167 255 236 (dk_at dksX1_poly_3 14 rfl rfl)
theorem dX1_poly_86 : decode cX1_poly 86 = .ok (.lload_n 2, 1) := dk_32 (dk_at dksX1_poly_3 17 rfl rfl)
theorem dX1_poly_87 : decode cX1_poly 87 = .ok (.aload_n 0, 1) := dk_42 (dk_at dksX1_poly_3 18 rfl rfl)
theorem dX1_poly_88 : decode cX1_poly 88 = .ok (.iload 4, 2) := dk_21 4 (dk_at dksX1_poly_3 19 rfl rfl)
theorem dX1_poly_90 : decode cX1_poly 90 = .ok (.invokevirtual 109, 3) := dk_182 0 109 (dk_at dksX1_poly_3 21 rfl rfl)
theorem dX1_poly_93 : decode cX1_poly 93 = .ok (.lload 5, 2) := dk_22 5 (dk_at dksX1_poly_4 0 rfl rfl)
theorem dX1_poly_95 : decode cX1_poly 95 = .ok (.lmul, 1) := dk_105 (dk_at dksX1_poly_4 2 rfl rfl)
theorem dX1_poly_96 : decode cX1_poly 96 = .ok (.ladd, 1) := dk_97 (dk_at dksX1_poly_4 3 rfl rfl)
theorem dX1_poly_97 : decode cX1_poly 97 = .ok (.lstore_n 2, 1) := dk_65 (dk_at dksX1_poly_4 4 rfl rfl)
theorem dX1_poly_98 : decode cX1_poly 98 = .ok (.iinc 4 1, 3) := dk_132 4 1 (dk_at dksX1_poly_4 5 rfl rfl)
theorem dX1_poly_101 : decode cX1_poly 101 = .ok (.goto (-96), 3) := dk_167 255 160 (dk_at dksX1_poly_4 8 rfl rfl)
theorem dX1_poly_104 : decode cX1_poly 104 = .ok (.lload_n 2, 1) := dk_32 (dk_at dksX1_poly_4 11 rfl rfl)
theorem dX1_poly_105 : decode cX1_poly 105 = .ok (.lreturn, 1) := dk_173 (dk_at dksX1_poly_4 12 rfl rfl)
abbrev cX1_numerator : ByteArray := prog_8_method_8_code
def yX1_numerator : MethodName := ⟨RX1, "numerator", "(I)J"⟩
def dkwX1_numerator_3 : List UInt8 := [47, 101, 80, 132, 3, 255, 167, 255, 232, 132, 2, 1, 167, 255, 215, 42, 180, 0, 102, 27, 47, 173]
abbrev dktX1_numerator_3 : List UInt8 := dkwX1_numerator_3 ++ []
def dkwX1_numerator_2 : List UInt8 := [162, 0, 39, 16, 40, 62, 29, 158, 0, 26, 42, 180, 0, 102, 29, 92, 47, 42, 180, 0, 102, 29, 4, 100]
abbrev dktX1_numerator_2 : List UInt8 := dkwX1_numerator_2 ++ dktX1_numerator_3
def dkwX1_numerator_1 : List UInt8 := [180, 0, 102, 28, 42, 28, 182, 0, 106, 133, 80, 132, 2, 1, 167, 255, 235, 3, 61, 28, 42, 180, 0, 25]
abbrev dktX1_numerator_1 : List UInt8 := dkwX1_numerator_1 ++ dktX1_numerator_2
def dkwX1_numerator_0 : List UInt8 := [42, 180, 0, 102, 199, 0, 83, 42, 16, 41, 188, 11, 181, 0, 102, 3, 61, 28, 16, 40, 163, 0, 21, 42]
abbrev dktX1_numerator_0 : List UInt8 := dkwX1_numerator_0 ++ dktX1_numerator_1
theorem dksX1_numerator_0 : cX1_numerator.data.toList.drop 0 = dktX1_numerator_0 := by decide +kernel
theorem dksX1_numerator_1 : cX1_numerator.data.toList.drop 24 = dktX1_numerator_1 := dk_seg dksX1_numerator_0 24 rfl rfl
theorem dksX1_numerator_2 : cX1_numerator.data.toList.drop 48 = dktX1_numerator_2 := dk_seg dksX1_numerator_1 24 rfl rfl
theorem dksX1_numerator_3 : cX1_numerator.data.toList.drop 72 = dktX1_numerator_3 := dk_seg dksX1_numerator_2 24 rfl rfl
theorem dX1_numerator_0 : decode cX1_numerator 0 = .ok (.aload_n 0, 1) := dk_42 (dk_at dksX1_numerator_0 0 rfl rfl)
theorem dX1_numerator_1 : decode cX1_numerator 1 = .ok (.getfield 102, 3) := dk_180 0 102 (dk_at dksX1_numerator_0 1 rfl rfl)
theorem dX1_numerator_4 : decode cX1_numerator 4 = .ok (.ifnonnull 83, 3) := dk_199 0 83 (dk_at dksX1_numerator_0 4 rfl rfl)
theorem dX1_numerator_7 : decode cX1_numerator 7 = .ok (.aload_n 0, 1) := dk_42 (dk_at dksX1_numerator_0 7 rfl rfl)
theorem dX1_numerator_8 : decode cX1_numerator 8 = .ok (.bipush 41, 2) := dk_16 41 (dk_at dksX1_numerator_0 8 rfl rfl)
theorem dX1_numerator_10 : decode cX1_numerator 10 = .ok (.newarray .long, 2) := dk_188_11 (dk_at dksX1_numerator_0 10 rfl rfl)
theorem dX1_numerator_12 : decode cX1_numerator 12 = .ok (.putfield 102, 3) := dk_181 0 102 (dk_at dksX1_numerator_0 12 rfl rfl)
theorem dX1_numerator_15 : decode cX1_numerator 15 = .ok (.iconst 0, 1) := dk_3 (dk_at dksX1_numerator_0 15 rfl rfl)
theorem dX1_numerator_16 : decode cX1_numerator 16 = .ok (.istore_n 2, 1) := dk_61 (dk_at dksX1_numerator_0 16 rfl rfl)
theorem dX1_numerator_17 : decode cX1_numerator 17 = .ok (.iload_n 2, 1) := dk_28 (dk_at dksX1_numerator_0 17 rfl rfl)
theorem dX1_numerator_18 : decode cX1_numerator 18 = .ok (.bipush 40, 2) := dk_16 40 (dk_at dksX1_numerator_0 18 rfl rfl)
theorem dX1_numerator_20 : decode cX1_numerator 20 = .ok (.if_icmp .gt 21, 3) := dk_163 0 21 (dk_at dksX1_numerator_0 20 rfl rfl)
theorem dX1_numerator_23 : decode cX1_numerator 23 = .ok (.aload_n 0, 1) := dk_42 (dk_at dksX1_numerator_0 23 rfl rfl)
theorem dX1_numerator_24 : decode cX1_numerator 24 = .ok (.getfield 102, 3) := dk_180 0 102 (dk_at dksX1_numerator_1 0 rfl rfl)
theorem dX1_numerator_27 : decode cX1_numerator 27 = .ok (.iload_n 2, 1) := dk_28 (dk_at dksX1_numerator_1 3 rfl rfl)
theorem dX1_numerator_28 : decode cX1_numerator 28 = .ok (.aload_n 0, 1) := dk_42 (dk_at dksX1_numerator_1 4 rfl rfl)
theorem dX1_numerator_29 : decode cX1_numerator 29 = .ok (.iload_n 2, 1) := dk_28 (dk_at dksX1_numerator_1 5 rfl rfl)
theorem dX1_numerator_30 : decode cX1_numerator 30 = .ok (.invokevirtual 106, 3) := dk_182 0 106 (dk_at dksX1_numerator_1 6 rfl rfl)
theorem dX1_numerator_33 : decode cX1_numerator 33 = .ok (.i2l, 1) := dk_133 (dk_at dksX1_numerator_1 9 rfl rfl)
theorem dX1_numerator_34 : decode cX1_numerator 34 = .ok (.lastore, 1) := dk_80 (dk_at dksX1_numerator_1 10 rfl rfl)
theorem dX1_numerator_35 : decode cX1_numerator 35 = .ok (.iinc 2 1, 3) := dk_132 2 1 (dk_at dksX1_numerator_1 11 rfl rfl)
theorem dX1_numerator_38 : decode cX1_numerator 38 = .ok (.goto (-21), 3) := dk_167 255 235 (dk_at dksX1_numerator_1 14 rfl rfl)
theorem dX1_numerator_41 : decode cX1_numerator 41 = .ok (.iconst 0, 1) := dk_3 (dk_at dksX1_numerator_1 17 rfl rfl)
theorem dX1_numerator_42 : decode cX1_numerator 42 = .ok (.istore_n 2, 1) := dk_61 (dk_at dksX1_numerator_1 18 rfl rfl)
theorem dX1_numerator_43 : decode cX1_numerator 43 = .ok (.iload_n 2, 1) := dk_28 (dk_at dksX1_numerator_1 19 rfl rfl)
theorem dX1_numerator_44 : decode cX1_numerator 44 = .ok (.aload_n 0, 1) := dk_42 (dk_at dksX1_numerator_1 20 rfl rfl)
theorem dX1_numerator_45 : decode cX1_numerator 45 = .ok (.getfield 25, 3) := dk_180 0 25 (dk_at dksX1_numerator_1 21 rfl rfl)
theorem dX1_numerator_48 : decode cX1_numerator 48 = .ok (.if_icmp .ge 39, 3) := dk_162 0 39 (dk_at dksX1_numerator_2 0 rfl rfl)
theorem dX1_numerator_51 : decode cX1_numerator 51 = .ok (.bipush 40, 2) := dk_16 40 (dk_at dksX1_numerator_2 3 rfl rfl)
theorem dX1_numerator_53 : decode cX1_numerator 53 = .ok (.istore_n 3, 1) := dk_62 (dk_at dksX1_numerator_2 5 rfl rfl)
theorem dX1_numerator_54 : decode cX1_numerator 54 = .ok (.iload_n 3, 1) := dk_29 (dk_at dksX1_numerator_2 6 rfl rfl)
theorem dX1_numerator_55 : decode cX1_numerator 55 = .ok (.ifCond .le 26, 3) := dk_158 0 26 (dk_at dksX1_numerator_2 7 rfl rfl)
theorem dX1_numerator_58 : decode cX1_numerator 58 = .ok (.aload_n 0, 1) := dk_42 (dk_at dksX1_numerator_2 10 rfl rfl)
theorem dX1_numerator_59 : decode cX1_numerator 59 = .ok (.getfield 102, 3) := dk_180 0 102 (dk_at dksX1_numerator_2 11 rfl rfl)
theorem dX1_numerator_62 : decode cX1_numerator 62 = .ok (.iload_n 3, 1) := dk_29 (dk_at dksX1_numerator_2 14 rfl rfl)
theorem dX1_numerator_63 : decode cX1_numerator 63 = .ok (.dup2, 1) := dk_92 (dk_at dksX1_numerator_2 15 rfl rfl)
theorem dX1_numerator_64 : decode cX1_numerator 64 = .ok (.laload, 1) := dk_47 (dk_at dksX1_numerator_2 16 rfl rfl)
theorem dX1_numerator_65 : decode cX1_numerator 65 = .ok (.aload_n 0, 1) := dk_42 (dk_at dksX1_numerator_2 17 rfl rfl)
theorem dX1_numerator_66 : decode cX1_numerator 66 = .ok (.getfield 102, 3) := dk_180 0 102 (dk_at dksX1_numerator_2 18 rfl rfl)
theorem dX1_numerator_69 : decode cX1_numerator 69 = .ok (.iload_n 3, 1) := dk_29 (dk_at dksX1_numerator_2 21 rfl rfl)
theorem dX1_numerator_70 : decode cX1_numerator 70 = .ok (.iconst 1, 1) := dk_4 (dk_at dksX1_numerator_2 22 rfl rfl)
theorem dX1_numerator_71 : decode cX1_numerator 71 = .ok (.isub, 1) := dk_100 (dk_at dksX1_numerator_2 23 rfl rfl)
theorem dX1_numerator_72 : decode cX1_numerator 72 = .ok (.laload, 1) := dk_47 (dk_at dksX1_numerator_3 0 rfl rfl)
theorem dX1_numerator_73 : decode cX1_numerator 73 = .ok (.lsub, 1) := dk_101 (dk_at dksX1_numerator_3 1 rfl rfl)
theorem dX1_numerator_74 : decode cX1_numerator 74 = .ok (.lastore, 1) := dk_80 (dk_at dksX1_numerator_3 2 rfl rfl)
theorem dX1_numerator_75 : decode cX1_numerator 75 = .ok (.iinc 3 (-1), 3) := dk_132 3 255 (dk_at dksX1_numerator_3 3 rfl rfl)
theorem dX1_numerator_78 : decode cX1_numerator 78 = .ok (.goto (-24), 3) := dk_167 255 232 (dk_at dksX1_numerator_3 6 rfl rfl)
theorem dX1_numerator_81 : decode cX1_numerator 81 = .ok (.iinc 2 1, 3) := dk_132 2 1 (dk_at dksX1_numerator_3 9 rfl rfl)
theorem dX1_numerator_84 : decode cX1_numerator 84 = .ok (.goto (-41), 3) := dk_167 255 215 (dk_at dksX1_numerator_3 12 rfl rfl)
theorem dX1_numerator_87 : decode cX1_numerator 87 = .ok (.aload_n 0, 1) := dk_42 (dk_at dksX1_numerator_3 15 rfl rfl)
theorem dX1_numerator_88 : decode cX1_numerator 88 = .ok (.getfield 102, 3) := dk_180 0 102 (dk_at dksX1_numerator_3 16 rfl rfl)
theorem dX1_numerator_91 : decode cX1_numerator 91 = .ok (.iload_n 1, 1) := dk_27 (dk_at dksX1_numerator_3 19 rfl rfl)
theorem dX1_numerator_92 : decode cX1_numerator 92 = .ok (.laload, 1) := dk_47 (dk_at dksX1_numerator_3 20 rfl rfl)
theorem dX1_numerator_93 : decode cX1_numerator 93 = .ok (.lreturn, 1) := dk_173 (dk_at dksX1_numerator_3 21 rfl rfl)
abbrev cX1_about : ByteArray := prog_8_method_10_code
def yX1_about : MethodName := ⟨RX1, "about", "()[J"⟩
def dkwX1_about_6 : List UInt8 := [4, 32, 80, 176]
abbrev dktX1_about_6 : List UInt8 := dkwX1_about_6 ++ []
def dkwX1_about_5 : List UInt8 := [167, 255, 200, 5, 188, 11, 89, 3, 22, 4, 9, 148, 154, 0, 7, 9, 167, 0, 6, 21, 6, 133, 80, 89]
abbrev dktX1_about_5 : List UInt8 := dkwX1_about_5 ++ dktX1_about_6
def dkwX1_about_4 : List UInt8 := [47, 43, 21, 7, 4, 100, 47, 97, 80, 32, 43, 21, 7, 47, 97, 65, 132, 7, 1, 167, 255, 226]
abbrev dktX1_about_4 : List UInt8 := dkwX1_about_4 ++ dktX1_about_5
def dkwX1_about_3 : List UInt8 := [154, 0, 49, 132, 6, 255, 43, 3, 47, 65, 4, 54, 7, 21, 7, 16, 40, 163, 0, 29, 43, 21, 7, 92]
abbrev dktX1_about_3 : List UInt8 := dkwX1_about_3 ++ dktX1_about_4
def dkwX1_about_2 : List UInt8 := [132, 6, 1, 167, 255, 220, 42, 180, 0, 25, 54, 6, 22, 4, 9, 148, 153, 0, 55, 32, 9, 148]
abbrev dktX1_about_2 : List UInt8 := dkwX1_about_2 ++ dktX1_about_3
def dkwX1_about_1 : List UInt8 := [21, 6, 182, 0, 109, 80, 32, 43, 21, 6, 47, 97, 65, 22, 4, 43, 21, 6, 47, 129, 55, 4]
abbrev dktX1_about_1 : List UInt8 := dkwX1_about_1 ++ dktX1_about_2
def dkwX1_about_0 : List UInt8 := [16, 41, 188, 11, 76, 9, 65, 9, 55, 4, 3, 54, 6, 21, 6, 16, 40, 163, 0, 35, 43, 21, 6, 42]
abbrev dktX1_about_0 : List UInt8 := dkwX1_about_0 ++ dktX1_about_1
theorem dksX1_about_0 : cX1_about.data.toList.drop 0 = dktX1_about_0 := by decide +kernel
theorem dksX1_about_1 : cX1_about.data.toList.drop 24 = dktX1_about_1 := dk_seg dksX1_about_0 24 rfl rfl
theorem dksX1_about_2 : cX1_about.data.toList.drop 46 = dktX1_about_2 := dk_seg dksX1_about_1 22 rfl rfl
theorem dksX1_about_3 : cX1_about.data.toList.drop 68 = dktX1_about_3 := dk_seg dksX1_about_2 22 rfl rfl
theorem dksX1_about_4 : cX1_about.data.toList.drop 92 = dktX1_about_4 := dk_seg dksX1_about_3 24 rfl rfl
theorem dksX1_about_5 : cX1_about.data.toList.drop 114 = dktX1_about_5 := dk_seg dksX1_about_4 22 rfl rfl
theorem dksX1_about_6 : cX1_about.data.toList.drop 138 = dktX1_about_6 := dk_seg dksX1_about_5 24 rfl rfl
theorem dX1_about_0 : decode cX1_about 0 = .ok (.bipush 41, 2) := dk_16 41 (dk_at dksX1_about_0 0 rfl rfl)
theorem dX1_about_2 : decode cX1_about 2 = .ok (.newarray .long, 2) := dk_188_11 (dk_at dksX1_about_0 2 rfl rfl)
theorem dX1_about_4 : decode cX1_about 4 = .ok (.astore_n 1, 1) := dk_76 (dk_at dksX1_about_0 4 rfl rfl)
theorem dX1_about_5 : decode cX1_about 5 = .ok (.lconst 0, 1) := dk_9 (dk_at dksX1_about_0 5 rfl rfl)
theorem dX1_about_6 : decode cX1_about 6 = .ok (.lstore_n 2, 1) := dk_65 (dk_at dksX1_about_0 6 rfl rfl)
theorem dX1_about_7 : decode cX1_about 7 = .ok (.lconst 0, 1) := dk_9 (dk_at dksX1_about_0 7 rfl rfl)
theorem dX1_about_8 : decode cX1_about 8 = .ok (.lstore 4, 2) := dk_55 4 (dk_at dksX1_about_0 8 rfl rfl)
theorem dX1_about_10 : decode cX1_about 10 = .ok (.iconst 0, 1) := dk_3 (dk_at dksX1_about_0 10 rfl rfl)
theorem dX1_about_11 : decode cX1_about 11 = .ok (.istore 6, 2) := dk_54 6 (dk_at dksX1_about_0 11 rfl rfl)
theorem dX1_about_13 : decode cX1_about 13 = .ok (.iload 6, 2) := dk_21 6 (dk_at dksX1_about_0 13 rfl rfl)
theorem dX1_about_15 : decode cX1_about 15 = .ok (.bipush 40, 2) := dk_16 40 (dk_at dksX1_about_0 15 rfl rfl)
theorem dX1_about_17 : decode cX1_about 17 = .ok (.if_icmp .gt 35, 3) := dk_163 0 35 (dk_at dksX1_about_0 17 rfl rfl)
theorem dX1_about_20 : decode cX1_about 20 = .ok (.aload_n 1, 1) := dk_43 (dk_at dksX1_about_0 20 rfl rfl)
theorem dX1_about_21 : decode cX1_about 21 = .ok (.iload 6, 2) := dk_21 6 (dk_at dksX1_about_0 21 rfl rfl)
theorem dX1_about_23 : decode cX1_about 23 = .ok (.aload_n 0, 1) := dk_42 (dk_at dksX1_about_0 23 rfl rfl)
theorem dX1_about_24 : decode cX1_about 24 = .ok (.iload 6, 2) := dk_21 6 (dk_at dksX1_about_1 0 rfl rfl)
theorem dX1_about_26 : decode cX1_about 26 = .ok (.invokevirtual 109, 3) := dk_182 0 109 (dk_at dksX1_about_1 2 rfl rfl)
theorem dX1_about_29 : decode cX1_about 29 = .ok (.lastore, 1) := dk_80 (dk_at dksX1_about_1 5 rfl rfl)
theorem dX1_about_30 : decode cX1_about 30 = .ok (.lload_n 2, 1) := dk_32 (dk_at dksX1_about_1 6 rfl rfl)
theorem dX1_about_31 : decode cX1_about 31 = .ok (.aload_n 1, 1) := dk_43 (dk_at dksX1_about_1 7 rfl rfl)
theorem dX1_about_32 : decode cX1_about 32 = .ok (.iload 6, 2) := dk_21 6 (dk_at dksX1_about_1 8 rfl rfl)
theorem dX1_about_34 : decode cX1_about 34 = .ok (.laload, 1) := dk_47 (dk_at dksX1_about_1 10 rfl rfl)
theorem dX1_about_35 : decode cX1_about 35 = .ok (.ladd, 1) := dk_97 (dk_at dksX1_about_1 11 rfl rfl)
theorem dX1_about_36 : decode cX1_about 36 = .ok (.lstore_n 2, 1) := dk_65 (dk_at dksX1_about_1 12 rfl rfl)
theorem dX1_about_37 : decode cX1_about 37 = .ok (.lload 4, 2) := dk_22 4 (dk_at dksX1_about_1 13 rfl rfl)
theorem dX1_about_39 : decode cX1_about 39 = .ok (.aload_n 1, 1) := dk_43 (dk_at dksX1_about_1 15 rfl rfl)
theorem dX1_about_40 : decode cX1_about 40 = .ok (.iload 6, 2) := dk_21 6 (dk_at dksX1_about_1 16 rfl rfl)
theorem dX1_about_42 : decode cX1_about 42 = .ok (.laload, 1) := dk_47 (dk_at dksX1_about_1 18 rfl rfl)
theorem dX1_about_43 : decode cX1_about 43 = .ok (.lor, 1) := dk_129 (dk_at dksX1_about_1 19 rfl rfl)
theorem dX1_about_44 : decode cX1_about 44 = .ok (.lstore 4, 2) := dk_55 4 (dk_at dksX1_about_1 20 rfl rfl)
theorem dX1_about_46 : decode cX1_about 46 = .ok (.iinc 6 1, 3) := dk_132 6 1 (dk_at dksX1_about_2 0 rfl rfl)
theorem dX1_about_49 : decode cX1_about 49 = .ok (.goto (-36), 3) := dk_167 255 220 (dk_at dksX1_about_2 3 rfl rfl)
theorem dX1_about_52 : decode cX1_about 52 = .ok (.aload_n 0, 1) := dk_42 (dk_at dksX1_about_2 6 rfl rfl)
theorem dX1_about_53 : decode cX1_about 53 = .ok (.getfield 25, 3) := dk_180 0 25 (dk_at dksX1_about_2 7 rfl rfl)
theorem dX1_about_56 : decode cX1_about 56 = .ok (.istore 6, 2) := dk_54 6 (dk_at dksX1_about_2 10 rfl rfl)
theorem dX1_about_58 : decode cX1_about 58 = .ok (.lload 4, 2) := dk_22 4 (dk_at dksX1_about_2 12 rfl rfl)
theorem dX1_about_60 : decode cX1_about 60 = .ok (.lconst 0, 1) := dk_9 (dk_at dksX1_about_2 14 rfl rfl)
theorem dX1_about_61 : decode cX1_about 61 = .ok (.lcmp, 1) := dk_148 (dk_at dksX1_about_2 15 rfl rfl)
theorem dX1_about_62 : decode cX1_about 62 = .ok (.ifCond .eq 55, 3) := dk_153 0 55 (dk_at dksX1_about_2 16 rfl rfl)
theorem dX1_about_65 : decode cX1_about 65 = .ok (.lload_n 2, 1) := dk_32 (dk_at dksX1_about_2 19 rfl rfl)
theorem dX1_about_66 : decode cX1_about 66 = .ok (.lconst 0, 1) := dk_9 (dk_at dksX1_about_2 20 rfl rfl)
theorem dX1_about_67 : decode cX1_about 67 = .ok (.lcmp, 1) := dk_148 (dk_at dksX1_about_2 21 rfl rfl)
theorem dX1_about_68 : decode cX1_about 68 = .ok (.ifCond .ne 49, 3) := dk_154 0 49 (dk_at dksX1_about_3 0 rfl rfl)
theorem dX1_about_71 : decode cX1_about 71 = .ok (.iinc 6 (-1), 3) := dk_132 6 255 (dk_at dksX1_about_3 3 rfl rfl)
theorem dX1_about_74 : decode cX1_about 74 = .ok (.aload_n 1, 1) := dk_43 (dk_at dksX1_about_3 6 rfl rfl)
theorem dX1_about_75 : decode cX1_about 75 = .ok (.iconst 0, 1) := dk_3 (dk_at dksX1_about_3 7 rfl rfl)
theorem dX1_about_76 : decode cX1_about 76 = .ok (.laload, 1) := dk_47 (dk_at dksX1_about_3 8 rfl rfl)
theorem dX1_about_77 : decode cX1_about 77 = .ok (.lstore_n 2, 1) := dk_65 (dk_at dksX1_about_3 9 rfl rfl)
theorem dX1_about_78 : decode cX1_about 78 = .ok (.iconst 1, 1) := dk_4 (dk_at dksX1_about_3 10 rfl rfl)
theorem dX1_about_79 : decode cX1_about 79 = .ok (.istore 7, 2) := dk_54 7 (dk_at dksX1_about_3 11 rfl rfl)
theorem dX1_about_81 : decode cX1_about 81 = .ok (.iload 7, 2) := dk_21 7 (dk_at dksX1_about_3 13 rfl rfl)
theorem dX1_about_83 : decode cX1_about 83 = .ok (.bipush 40, 2) := dk_16 40 (dk_at dksX1_about_3 15 rfl rfl)
theorem dX1_about_85 : decode cX1_about 85 = .ok (.if_icmp .gt 29, 3) := dk_163 0 29 (dk_at dksX1_about_3 17 rfl rfl)
theorem dX1_about_88 : decode cX1_about 88 = .ok (.aload_n 1, 1) := dk_43 (dk_at dksX1_about_3 20 rfl rfl)
theorem dX1_about_89 : decode cX1_about 89 = .ok (.iload 7, 2) := dk_21 7 (dk_at dksX1_about_3 21 rfl rfl)
theorem dX1_about_91 : decode cX1_about 91 = .ok (.dup2, 1) := dk_92 (dk_at dksX1_about_3 23 rfl rfl)
theorem dX1_about_92 : decode cX1_about 92 = .ok (.laload, 1) := dk_47 (dk_at dksX1_about_4 0 rfl rfl)
theorem dX1_about_93 : decode cX1_about 93 = .ok (.aload_n 1, 1) := dk_43 (dk_at dksX1_about_4 1 rfl rfl)
theorem dX1_about_94 : decode cX1_about 94 = .ok (.iload 7, 2) := dk_21 7 (dk_at dksX1_about_4 2 rfl rfl)
theorem dX1_about_96 : decode cX1_about 96 = .ok (.iconst 1, 1) := dk_4 (dk_at dksX1_about_4 4 rfl rfl)
theorem dX1_about_97 : decode cX1_about 97 = .ok (.isub, 1) := dk_100 (dk_at dksX1_about_4 5 rfl rfl)
theorem dX1_about_98 : decode cX1_about 98 = .ok (.laload, 1) := dk_47 (dk_at dksX1_about_4 6 rfl rfl)
theorem dX1_about_99 : decode cX1_about 99 = .ok (.ladd, 1) := dk_97 (dk_at dksX1_about_4 7 rfl rfl)
theorem dX1_about_100 : decode cX1_about 100 = .ok (.lastore, 1) := dk_80 (dk_at dksX1_about_4 8 rfl rfl)
theorem dX1_about_101 : decode cX1_about 101 = .ok (.lload_n 2, 1) := dk_32 (dk_at dksX1_about_4 9 rfl rfl)
theorem dX1_about_102 : decode cX1_about 102 = .ok (.aload_n 1, 1) := dk_43 (dk_at dksX1_about_4 10 rfl rfl)
theorem dX1_about_103 : decode cX1_about 103 = .ok (.iload 7, 2) := dk_21 7 (dk_at dksX1_about_4 11 rfl rfl)
theorem dX1_about_105 : decode cX1_about 105 = .ok (.laload, 1) := dk_47 (dk_at dksX1_about_4 13 rfl rfl)
theorem dX1_about_106 : decode cX1_about 106 = .ok (.ladd, 1) := dk_97 (dk_at dksX1_about_4 14 rfl rfl)
theorem dX1_about_107 : decode cX1_about 107 = .ok (.lstore_n 2, 1) := dk_65 (dk_at dksX1_about_4 15 rfl rfl)
theorem dX1_about_108 : decode cX1_about 108 = .ok (.iinc 7 1, 3) := dk_132 7 1 (dk_at dksX1_about_4 16 rfl rfl)
theorem dX1_about_111 : decode cX1_about 111 = .ok (.goto (-30), 3) := dk_167 255 226 (dk_at dksX1_about_4 19 rfl rfl)
theorem dX1_about_114 : decode cX1_about 114 = .ok (.goto (-56), 3) := dk_167 255 200 (dk_at dksX1_about_5 0 rfl rfl)
theorem dX1_about_117 : decode cX1_about 117 = .ok (.iconst 2, 1) := dk_5 (dk_at dksX1_about_5 3 rfl rfl)
theorem dX1_about_118 : decode cX1_about 118 = .ok (.newarray .long, 2) := dk_188_11 (dk_at dksX1_about_5 4 rfl rfl)
theorem dX1_about_120 : decode cX1_about 120 = .ok (.dup, 1) := dk_89 (dk_at dksX1_about_5 6 rfl rfl)
theorem dX1_about_121 : decode cX1_about 121 = .ok (.iconst 0, 1) := dk_3 (dk_at dksX1_about_5 7 rfl rfl)
theorem dX1_about_122 : decode cX1_about 122 = .ok (.lload 4, 2) := dk_22 4 (dk_at dksX1_about_5 8 rfl rfl)
theorem dX1_about_124 : decode cX1_about 124 = .ok (.lconst 0, 1) := dk_9 (dk_at dksX1_about_5 10 rfl rfl)
theorem dX1_about_125 : decode cX1_about 125 = .ok (.lcmp, 1) := dk_148 (dk_at dksX1_about_5 11 rfl rfl)
theorem dX1_about_126 : decode cX1_about 126 = .ok (.ifCond .ne 7, 3) := dk_154 0 7 (dk_at dksX1_about_5 12 rfl rfl)
theorem dX1_about_129 : decode cX1_about 129 = .ok (.lconst 0, 1) := dk_9 (dk_at dksX1_about_5 15 rfl rfl)
theorem dX1_about_130 : decode cX1_about 130 = .ok (.goto 6, 3) := dk_167 0 6 (dk_at dksX1_about_5 16 rfl rfl)
theorem dX1_about_133 : decode cX1_about 133 = .ok (.iload 6, 2) := dk_21 6 (dk_at dksX1_about_5 19 rfl rfl)
theorem dX1_about_135 : decode cX1_about 135 = .ok (.i2l, 1) := dk_133 (dk_at dksX1_about_5 21 rfl rfl)
theorem dX1_about_136 : decode cX1_about 136 = .ok (.lastore, 1) := dk_80 (dk_at dksX1_about_5 22 rfl rfl)
theorem dX1_about_137 : decode cX1_about 137 = .ok (.dup, 1) := dk_89 (dk_at dksX1_about_5 23 rfl rfl)
theorem dX1_about_138 : decode cX1_about 138 = .ok (.iconst 1, 1) := dk_4 (dk_at dksX1_about_6 0 rfl rfl)
theorem dX1_about_139 : decode cX1_about 139 = .ok (.lload_n 2, 1) := dk_32 (dk_at dksX1_about_6 1 rfl rfl)
theorem dX1_about_140 : decode cX1_about 140 = .ok (.lastore, 1) := dk_80 (dk_at dksX1_about_6 2 rfl rfl)
theorem dX1_about_141 : decode cX1_about 141 = .ok (.areturn, 1) := dk_176 (dk_at dksX1_about_6 3 rfl rfl)
abbrev cX1_highest : ByteArray := prog_8_method_11_code
def yX1_highest : MethodName := ⟨RX1, "highest", "()I"⟩
def dkwX1_highest_1 : List UInt8 := [185, 0, 41, 1, 0, 4, 100, 185, 0, 47, 2, 0, 192, 0, 33, 180, 0, 115, 172]
abbrev dktX1_highest_1 : List UInt8 := dkwX1_highest_1 ++ []
def dkwX1_highest_0 : List UInt8 := [42, 180, 0, 17, 185, 0, 112, 1, 0, 153, 0, 7, 3, 167, 0, 29, 42, 180, 0, 17, 42, 180, 0, 17]
abbrev dktX1_highest_0 : List UInt8 := dkwX1_highest_0 ++ dktX1_highest_1
theorem dksX1_highest_0 : cX1_highest.data.toList.drop 0 = dktX1_highest_0 := by decide +kernel
theorem dksX1_highest_1 : cX1_highest.data.toList.drop 24 = dktX1_highest_1 := dk_seg dksX1_highest_0 24 rfl rfl
theorem dX1_highest_0 : decode cX1_highest 0 = .ok (.aload_n 0, 1) := dk_42 (dk_at dksX1_highest_0 0 rfl rfl)
theorem dX1_highest_1 : decode cX1_highest 1 = .ok (.getfield 17, 3) := dk_180 0 17 (dk_at dksX1_highest_0 1 rfl rfl)
theorem dX1_highest_4 : decode cX1_highest 4 = .ok (.invokeinterface 112 1, 5) := by decide +kernel
theorem dX1_highest_9 : decode cX1_highest 9 = .ok (.ifCond .eq 7, 3) := dk_153 0 7 (dk_at dksX1_highest_0 9 rfl rfl)
theorem dX1_highest_12 : decode cX1_highest 12 = .ok (.iconst 0, 1) := dk_3 (dk_at dksX1_highest_0 12 rfl rfl)
theorem dX1_highest_13 : decode cX1_highest 13 = .ok (.goto 29, 3) := dk_167 0 29 (dk_at dksX1_highest_0 13 rfl rfl)
theorem dX1_highest_16 : decode cX1_highest 16 = .ok (.aload_n 0, 1) := dk_42 (dk_at dksX1_highest_0 16 rfl rfl)
theorem dX1_highest_17 : decode cX1_highest 17 = .ok (.getfield 17, 3) := dk_180 0 17 (dk_at dksX1_highest_0 17 rfl rfl)
theorem dX1_highest_20 : decode cX1_highest 20 = .ok (.aload_n 0, 1) := dk_42 (dk_at dksX1_highest_0 20 rfl rfl)
theorem dX1_highest_21 : decode cX1_highest 21 = .ok (.getfield 17, 3) := dk_180 0 17 (dk_at dksX1_highest_0 21 rfl rfl)
theorem dX1_highest_24 : decode cX1_highest 24 = .ok (.invokeinterface 41 1, 5) := by decide +kernel
theorem dX1_highest_29 : decode cX1_highest 29 = .ok (.iconst 1, 1) := dk_4 (dk_at dksX1_highest_1 5 rfl rfl)
theorem dX1_highest_30 : decode cX1_highest 30 = .ok (.isub, 1) := dk_100 (dk_at dksX1_highest_1 6 rfl rfl)
theorem dX1_highest_31 : decode cX1_highest 31 = .ok (.invokeinterface 47 2, 5) := by decide +kernel
theorem dX1_highest_36 : decode cX1_highest 36 = .ok (.checkcast 33, 3) := dk_192 0 33 (dk_at dksX1_highest_1 12 rfl rfl)
theorem dX1_highest_39 : decode cX1_highest 39 = .ok (.getfield 115, 3) := dk_180 0 115 (dk_at dksX1_highest_1 15 rfl rfl)
theorem dX1_highest_42 : decode cX1_highest 42 = .ok (.ireturn, 1) := dk_172 (dk_at dksX1_highest_1 18 rfl rfl)
abbrev cX3_init : ByteArray := prog_7_method_1_code
def yX3_init : MethodName := ⟨RX3, "<init>", "(LQuotientRows;I)V"⟩
def dkwX3_init_1 : List UInt8 := [183, 0, 24, 181, 0, 25, 42, 16, 13, 188, 10, 181, 0, 29, 42, 28, 181, 0, 33, 177]
abbrev dktX3_init_1 : List UInt8 := dkwX3_init_1 ++ []
def dkwX3_init_0 : List UInt8 := [42, 43, 181, 0, 3, 42, 183, 0, 9, 42, 2, 181, 0, 15, 42, 6, 181, 0, 19, 42, 187, 0, 22, 89]
abbrev dktX3_init_0 : List UInt8 := dkwX3_init_0 ++ dktX3_init_1
theorem dksX3_init_0 : cX3_init.data.toList.drop 0 = dktX3_init_0 := by decide +kernel
theorem dksX3_init_1 : cX3_init.data.toList.drop 24 = dktX3_init_1 := dk_seg dksX3_init_0 24 rfl rfl
theorem dX3_init_0 : decode cX3_init 0 = .ok (.aload_n 0, 1) := dk_42 (dk_at dksX3_init_0 0 rfl rfl)
theorem dX3_init_1 : decode cX3_init 1 = .ok (.aload_n 1, 1) := dk_43 (dk_at dksX3_init_0 1 rfl rfl)
theorem dX3_init_2 : decode cX3_init 2 = .ok (.putfield 3, 3) := dk_181 0 3 (dk_at dksX3_init_0 2 rfl rfl)
theorem dX3_init_5 : decode cX3_init 5 = .ok (.aload_n 0, 1) := dk_42 (dk_at dksX3_init_0 5 rfl rfl)
theorem dX3_init_6 : decode cX3_init 6 = .ok (.invokespecial 9, 3) := dk_183 0 9 (dk_at dksX3_init_0 6 rfl rfl)
theorem dX3_init_9 : decode cX3_init 9 = .ok (.aload_n 0, 1) := dk_42 (dk_at dksX3_init_0 9 rfl rfl)
theorem dX3_init_10 : decode cX3_init 10 = .ok (.iconst (-1), 1) := dk_2 (dk_at dksX3_init_0 10 rfl rfl)
theorem dX3_init_11 : decode cX3_init 11 = .ok (.putfield 15, 3) := dk_181 0 15 (dk_at dksX3_init_0 11 rfl rfl)
theorem dX3_init_14 : decode cX3_init 14 = .ok (.aload_n 0, 1) := dk_42 (dk_at dksX3_init_0 14 rfl rfl)
theorem dX3_init_15 : decode cX3_init 15 = .ok (.iconst 3, 1) := dk_6 (dk_at dksX3_init_0 15 rfl rfl)
theorem dX3_init_16 : decode cX3_init 16 = .ok (.putfield 19, 3) := dk_181 0 19 (dk_at dksX3_init_0 16 rfl rfl)
theorem dX3_init_19 : decode cX3_init 19 = .ok (.aload_n 0, 1) := dk_42 (dk_at dksX3_init_0 19 rfl rfl)
theorem dX3_init_20 : decode cX3_init 20 = .ok (.new 22, 3) := dk_187 0 22 (dk_at dksX3_init_0 20 rfl rfl)
theorem dX3_init_23 : decode cX3_init 23 = .ok (.dup, 1) := dk_89 (dk_at dksX3_init_0 23 rfl rfl)
theorem dX3_init_24 : decode cX3_init 24 = .ok (.invokespecial 24, 3) := dk_183 0 24 (dk_at dksX3_init_1 0 rfl rfl)
theorem dX3_init_27 : decode cX3_init 27 = .ok (.putfield 25, 3) := dk_181 0 25 (dk_at dksX3_init_1 3 rfl rfl)
theorem dX3_init_30 : decode cX3_init 30 = .ok (.aload_n 0, 1) := dk_42 (dk_at dksX3_init_1 6 rfl rfl)
theorem dX3_init_31 : decode cX3_init 31 = .ok (.bipush 13, 2) := dk_16 13 (dk_at dksX3_init_1 7 rfl rfl)
theorem dX3_init_33 : decode cX3_init 33 = .ok (.newarray .int, 2) := dk_188_10 (dk_at dksX3_init_1 9 rfl rfl)
theorem dX3_init_35 : decode cX3_init 35 = .ok (.putfield 29, 3) := dk_181 0 29 (dk_at dksX3_init_1 11 rfl rfl)
theorem dX3_init_38 : decode cX3_init 38 = .ok (.aload_n 0, 1) := dk_42 (dk_at dksX3_init_1 14 rfl rfl)
theorem dX3_init_39 : decode cX3_init 39 = .ok (.iload_n 2, 1) := dk_28 (dk_at dksX3_init_1 15 rfl rfl)
theorem dX3_init_40 : decode cX3_init 40 = .ok (.putfield 33, 3) := dk_181 0 33 (dk_at dksX3_init_1 16 rfl rfl)
theorem dX3_init_43 : decode cX3_init 43 = .ok (.return_, 1) := dk_177 (dk_at dksX3_init_1 19 rfl rfl)
abbrev cX3_read : ByteArray := prog_7_method_14_code
def yX3_read : MethodName := ⟨RX3, "read", "()LQuotientRows$State;"⟩
def dkwX3_read_3 : List UInt8 := [182, 0, 155, 176]
abbrev dktX3_read_3 : List UInt8 := dkwX3_read_3 ++ []
def dkwX3_read_2 : List UInt8 := [180, 0, 121, 184, 0, 144, 187, 0, 150, 89, 42, 180, 0, 19, 43, 183, 0, 152, 42, 180, 0, 25]
abbrev dktX3_read_2 : List UInt8 := dkwX3_read_2 ++ dktX3_read_3
def dkwX3_read_1 : List UInt8 := [42, 182, 0, 141, 167, 255, 241, 42, 180, 0, 121, 188, 10, 76, 42, 180, 0, 29, 3, 43, 3, 42]
abbrev dktX3_read_1 : List UInt8 := dkwX3_read_1 ++ dktX3_read_2
def dkwX3_read_0 : List UInt8 := [42, 18, 137, 182, 0, 126, 153, 0, 7, 42, 182, 0, 138, 42, 182, 0, 57, 42, 180, 0, 33, 162, 0, 10]
abbrev dktX3_read_0 : List UInt8 := dkwX3_read_0 ++ dktX3_read_1
theorem dksX3_read_0 : cX3_read.data.toList.drop 0 = dktX3_read_0 := by decide +kernel
theorem dksX3_read_1 : cX3_read.data.toList.drop 24 = dktX3_read_1 := dk_seg dksX3_read_0 24 rfl rfl
theorem dksX3_read_2 : cX3_read.data.toList.drop 46 = dktX3_read_2 := dk_seg dksX3_read_1 22 rfl rfl
theorem dksX3_read_3 : cX3_read.data.toList.drop 68 = dktX3_read_3 := dk_seg dksX3_read_2 22 rfl rfl
theorem dX3_read_0 : decode cX3_read 0 = .ok (.aload_n 0, 1) := dk_42 (dk_at dksX3_read_0 0 rfl rfl)
theorem dX3_read_1 : decode cX3_read 1 = .ok (.ldc 137, 2) := dk_18 137 (dk_at dksX3_read_0 1 rfl rfl)
theorem dX3_read_3 : decode cX3_read 3 = .ok (.invokevirtual 126, 3) := dk_182 0 126 (dk_at dksX3_read_0 3 rfl rfl)
theorem dX3_read_6 : decode cX3_read 6 = .ok (.ifCond .eq 7, 3) := dk_153 0 7 (dk_at dksX3_read_0 6 rfl rfl)
theorem dX3_read_9 : decode cX3_read 9 = .ok (.aload_n 0, 1) := dk_42 (dk_at dksX3_read_0 9 rfl rfl)
theorem dX3_read_10 : decode cX3_read 10 = .ok (.invokevirtual 138, 3) := dk_182 0 138 (dk_at dksX3_read_0 10 rfl rfl)
theorem dX3_read_13 : decode cX3_read 13 = .ok (.aload_n 0, 1) := dk_42 (dk_at dksX3_read_0 13 rfl rfl)
theorem dX3_read_14 : decode cX3_read 14 = .ok (.invokevirtual 57, 3) := dk_182 0 57 (dk_at dksX3_read_0 14 rfl rfl)
theorem dX3_read_17 : decode cX3_read 17 = .ok (.aload_n 0, 1) := dk_42 (dk_at dksX3_read_0 17 rfl rfl)
theorem dX3_read_18 : decode cX3_read 18 = .ok (.getfield 33, 3) := dk_180 0 33 (dk_at dksX3_read_0 18 rfl rfl)
theorem dX3_read_21 : decode cX3_read 21 = .ok (.if_icmp .ge 10, 3) := dk_162 0 10 (dk_at dksX3_read_0 21 rfl rfl)
theorem dX3_read_24 : decode cX3_read 24 = .ok (.aload_n 0, 1) := dk_42 (dk_at dksX3_read_1 0 rfl rfl)
theorem dX3_read_25 : decode cX3_read 25 = .ok (.invokevirtual 141, 3) := dk_182 0 141 (dk_at dksX3_read_1 1 rfl rfl)
theorem dX3_read_28 : decode cX3_read 28 = .ok (.goto (-15), 3) := dk_167 255 241 (dk_at dksX3_read_1 4 rfl rfl)
theorem dX3_read_31 : decode cX3_read 31 = .ok (.aload_n 0, 1) := dk_42 (dk_at dksX3_read_1 7 rfl rfl)
theorem dX3_read_32 : decode cX3_read 32 = .ok (.getfield 121, 3) := dk_180 0 121 (dk_at dksX3_read_1 8 rfl rfl)
theorem dX3_read_35 : decode cX3_read 35 = .ok (.newarray .int, 2) := dk_188_10 (dk_at dksX3_read_1 11 rfl rfl)
theorem dX3_read_37 : decode cX3_read 37 = .ok (.astore_n 1, 1) := dk_76 (dk_at dksX3_read_1 13 rfl rfl)
theorem dX3_read_38 : decode cX3_read 38 = .ok (.aload_n 0, 1) := dk_42 (dk_at dksX3_read_1 14 rfl rfl)
theorem dX3_read_39 : decode cX3_read 39 = .ok (.getfield 29, 3) := dk_180 0 29 (dk_at dksX3_read_1 15 rfl rfl)
theorem dX3_read_42 : decode cX3_read 42 = .ok (.iconst 0, 1) := dk_3 (dk_at dksX3_read_1 18 rfl rfl)
theorem dX3_read_43 : decode cX3_read 43 = .ok (.aload_n 1, 1) := dk_43 (dk_at dksX3_read_1 19 rfl rfl)
theorem dX3_read_44 : decode cX3_read 44 = .ok (.iconst 0, 1) := dk_3 (dk_at dksX3_read_1 20 rfl rfl)
theorem dX3_read_45 : decode cX3_read 45 = .ok (.aload_n 0, 1) := dk_42 (dk_at dksX3_read_1 21 rfl rfl)
theorem dX3_read_46 : decode cX3_read 46 = .ok (.getfield 121, 3) := dk_180 0 121 (dk_at dksX3_read_2 0 rfl rfl)
theorem dX3_read_49 : decode cX3_read 49 = .ok (.invokestatic 144, 3) := dk_184 0 144 (dk_at dksX3_read_2 3 rfl rfl)
theorem dX3_read_52 : decode cX3_read 52 = .ok (.new 150, 3) := dk_187 0 150 (dk_at dksX3_read_2 6 rfl rfl)
theorem dX3_read_55 : decode cX3_read 55 = .ok (.dup, 1) := dk_89 (dk_at dksX3_read_2 9 rfl rfl)
theorem dX3_read_56 : decode cX3_read 56 = .ok (.aload_n 0, 1) := dk_42 (dk_at dksX3_read_2 10 rfl rfl)
theorem dX3_read_57 : decode cX3_read 57 = .ok (.getfield 19, 3) := dk_180 0 19 (dk_at dksX3_read_2 11 rfl rfl)
theorem dX3_read_60 : decode cX3_read 60 = .ok (.aload_n 1, 1) := dk_43 (dk_at dksX3_read_2 14 rfl rfl)
theorem dX3_read_61 : decode cX3_read 61 = .ok (.invokespecial 152, 3) := dk_183 0 152 (dk_at dksX3_read_2 15 rfl rfl)
theorem dX3_read_64 : decode cX3_read 64 = .ok (.aload_n 0, 1) := dk_42 (dk_at dksX3_read_2 18 rfl rfl)
theorem dX3_read_65 : decode cX3_read 65 = .ok (.getfield 25, 3) := dk_180 0 25 (dk_at dksX3_read_2 19 rfl rfl)
theorem dX3_read_68 : decode cX3_read 68 = .ok (.invokevirtual 155, 3) := dk_182 0 155 (dk_at dksX3_read_3 0 rfl rfl)
theorem dX3_read_71 : decode cX3_read 71 = .ok (.areturn, 1) := dk_176 (dk_at dksX3_read_3 3 rfl rfl)
abbrev cX3_takes : ByteArray := prog_7_method_7_code
def yX3_takes : MethodName := ⟨RX3, "takes", "(Ljava/lang/String;)Z"⟩
def dkwX3_takes_1 : List UInt8 := [181, 0, 52, 42, 42, 180, 0, 52, 181, 0, 15, 4, 172]
abbrev dktX3_takes_1 : List UInt8 := dkwX3_takes_1 ++ []
def dkwX3_takes_0 : List UInt8 := [42, 182, 0, 81, 43, 182, 0, 84, 154, 0, 5, 3, 172, 42, 89, 180, 0, 52, 43, 182, 0, 90, 96]
abbrev dktX3_takes_0 : List UInt8 := dkwX3_takes_0 ++ dktX3_takes_1
theorem dksX3_takes_0 : cX3_takes.data.toList.drop 0 = dktX3_takes_0 := by decide +kernel
theorem dksX3_takes_1 : cX3_takes.data.toList.drop 23 = dktX3_takes_1 := dk_seg dksX3_takes_0 23 rfl rfl
theorem dX3_takes_0 : decode cX3_takes 0 = .ok (.aload_n 0, 1) := dk_42 (dk_at dksX3_takes_0 0 rfl rfl)
theorem dX3_takes_1 : decode cX3_takes 1 = .ok (.invokevirtual 81, 3) := dk_182 0 81 (dk_at dksX3_takes_0 1 rfl rfl)
theorem dX3_takes_4 : decode cX3_takes 4 = .ok (.aload_n 1, 1) := dk_43 (dk_at dksX3_takes_0 4 rfl rfl)
theorem dX3_takes_5 : decode cX3_takes 5 = .ok (.invokevirtual 84, 3) := dk_182 0 84 (dk_at dksX3_takes_0 5 rfl rfl)
theorem dX3_takes_8 : decode cX3_takes 8 = .ok (.ifCond .ne 5, 3) := dk_154 0 5 (dk_at dksX3_takes_0 8 rfl rfl)
theorem dX3_takes_11 : decode cX3_takes 11 = .ok (.iconst 0, 1) := dk_3 (dk_at dksX3_takes_0 11 rfl rfl)
theorem dX3_takes_12 : decode cX3_takes 12 = .ok (.ireturn, 1) := dk_172 (dk_at dksX3_takes_0 12 rfl rfl)
theorem dX3_takes_13 : decode cX3_takes 13 = .ok (.aload_n 0, 1) := dk_42 (dk_at dksX3_takes_0 13 rfl rfl)
theorem dX3_takes_14 : decode cX3_takes 14 = .ok (.dup, 1) := dk_89 (dk_at dksX3_takes_0 14 rfl rfl)
theorem dX3_takes_15 : decode cX3_takes 15 = .ok (.getfield 52, 3) := dk_180 0 52 (dk_at dksX3_takes_0 15 rfl rfl)
theorem dX3_takes_18 : decode cX3_takes 18 = .ok (.aload_n 1, 1) := dk_43 (dk_at dksX3_takes_0 18 rfl rfl)
theorem dX3_takes_19 : decode cX3_takes 19 = .ok (.invokevirtual 90, 3) := dk_182 0 90 (dk_at dksX3_takes_0 19 rfl rfl)
theorem dX3_takes_22 : decode cX3_takes 22 = .ok (.iadd, 1) := dk_96 (dk_at dksX3_takes_0 22 rfl rfl)
theorem dX3_takes_23 : decode cX3_takes 23 = .ok (.putfield 52, 3) := dk_181 0 52 (dk_at dksX3_takes_1 0 rfl rfl)
theorem dX3_takes_26 : decode cX3_takes 26 = .ok (.aload_n 0, 1) := dk_42 (dk_at dksX3_takes_1 3 rfl rfl)
theorem dX3_takes_27 : decode cX3_takes 27 = .ok (.aload_n 0, 1) := dk_42 (dk_at dksX3_takes_1 4 rfl rfl)
theorem dX3_takes_28 : decode cX3_takes 28 = .ok (.getfield 52, 3) := dk_180 0 52 (dk_at dksX3_takes_1 5 rfl rfl)
theorem dX3_takes_31 : decode cX3_takes 31 = .ok (.putfield 15, 3) := dk_181 0 15 (dk_at dksX3_takes_1 8 rfl rfl)
theorem dX3_takes_34 : decode cX3_takes 34 = .ok (.iconst 1, 1) := dk_4 (dk_at dksX3_takes_1 11 rfl rfl)
theorem dX3_takes_35 : decode cX3_takes 35 = .ok (.ireturn, 1) := dk_172 (dk_at dksX3_takes_1 12 rfl rfl)
abbrev cX3_wordHere : ByteArray := prog_7_method_6_code
def yX3_wordHere : MethodName := ⟨RX3, "wordHere", "()Ljava/lang/String;"⟩
def dkwX3_wordHere_2 : List UInt8 := [27, 51, 146, 182, 0, 73, 87, 132, 1, 1, 167, 255, 230, 44, 182, 0, 77, 176]
abbrev dktX3_wordHere_2 : List UInt8 := dkwX3_wordHere_2 ++ []
def dkwX3_wordHere_1 : List UInt8 := [187, 0, 70, 89, 183, 0, 72, 77, 42, 27, 182, 0, 64, 153, 0, 24, 44, 42, 180, 0, 3, 180, 0, 36]
abbrev dktX3_wordHere_1 : List UInt8 := dkwX3_wordHere_1 ++ dktX3_wordHere_2
def dkwX3_wordHere_0 : List UInt8 := [42, 182, 0, 57, 60, 42, 27, 182, 0, 64, 153, 0, 11, 27, 42, 180, 0, 15, 160, 0, 6, 18, 68, 176]
abbrev dktX3_wordHere_0 : List UInt8 := dkwX3_wordHere_0 ++ dktX3_wordHere_1
theorem dksX3_wordHere_0 : cX3_wordHere.data.toList.drop 0 = dktX3_wordHere_0 := by decide +kernel
theorem dksX3_wordHere_1 : cX3_wordHere.data.toList.drop 24 = dktX3_wordHere_1 := dk_seg dksX3_wordHere_0 24 rfl rfl
theorem dksX3_wordHere_2 : cX3_wordHere.data.toList.drop 48 = dktX3_wordHere_2 := dk_seg dksX3_wordHere_1 24 rfl rfl
theorem dX3_wordHere_0 : decode cX3_wordHere 0 = .ok (.aload_n 0, 1) := dk_42 (dk_at dksX3_wordHere_0 0 rfl rfl)
theorem dX3_wordHere_1 : decode cX3_wordHere 1 = .ok (.invokevirtual 57, 3) := dk_182 0 57 (dk_at dksX3_wordHere_0 1 rfl rfl)
theorem dX3_wordHere_4 : decode cX3_wordHere 4 = .ok (.istore_n 1, 1) := dk_60 (dk_at dksX3_wordHere_0 4 rfl rfl)
theorem dX3_wordHere_5 : decode cX3_wordHere 5 = .ok (.aload_n 0, 1) := dk_42 (dk_at dksX3_wordHere_0 5 rfl rfl)
theorem dX3_wordHere_6 : decode cX3_wordHere 6 = .ok (.iload_n 1, 1) := dk_27 (dk_at dksX3_wordHere_0 6 rfl rfl)
theorem dX3_wordHere_7 : decode cX3_wordHere 7 = .ok (.invokevirtual 64, 3) := dk_182 0 64 (dk_at dksX3_wordHere_0 7 rfl rfl)
theorem dX3_wordHere_10 : decode cX3_wordHere 10 = .ok (.ifCond .eq 11, 3) := dk_153 0 11 (dk_at dksX3_wordHere_0 10 rfl rfl)
theorem dX3_wordHere_13 : decode cX3_wordHere 13 = .ok (.iload_n 1, 1) := dk_27 (dk_at dksX3_wordHere_0 13 rfl rfl)
theorem dX3_wordHere_14 : decode cX3_wordHere 14 = .ok (.aload_n 0, 1) := dk_42 (dk_at dksX3_wordHere_0 14 rfl rfl)
theorem dX3_wordHere_15 : decode cX3_wordHere 15 = .ok (.getfield 15, 3) := dk_180 0 15 (dk_at dksX3_wordHere_0 15 rfl rfl)
theorem dX3_wordHere_18 : decode cX3_wordHere 18 = .ok (.if_icmp .ne 6, 3) := dk_160 0 6 (dk_at dksX3_wordHere_0 18 rfl rfl)
theorem dX3_wordHere_21 : decode cX3_wordHere 21 = .ok (.ldc 68, 2) := dk_18 68 (dk_at dksX3_wordHere_0 21 rfl rfl)
theorem dX3_wordHere_23 : decode cX3_wordHere 23 = .ok (.areturn, 1) := dk_176 (dk_at dksX3_wordHere_0 23 rfl rfl)
theorem dX3_wordHere_24 : decode cX3_wordHere 24 = .ok (.new 70, 3) := dk_187 0 70 (dk_at dksX3_wordHere_1 0 rfl rfl)
theorem dX3_wordHere_27 : decode cX3_wordHere 27 = .ok (.dup, 1) := dk_89 (dk_at dksX3_wordHere_1 3 rfl rfl)
theorem dX3_wordHere_28 : decode cX3_wordHere 28 = .ok (.invokespecial 72, 3) := dk_183 0 72 (dk_at dksX3_wordHere_1 4 rfl rfl)
theorem dX3_wordHere_31 : decode cX3_wordHere 31 = .ok (.astore_n 2, 1) := dk_77 (dk_at dksX3_wordHere_1 7 rfl rfl)
theorem dX3_wordHere_32 : decode cX3_wordHere 32 = .ok (.aload_n 0, 1) := dk_42 (dk_at dksX3_wordHere_1 8 rfl rfl)
theorem dX3_wordHere_33 : decode cX3_wordHere 33 = .ok (.iload_n 1, 1) := dk_27 (dk_at dksX3_wordHere_1 9 rfl rfl)
theorem dX3_wordHere_34 : decode cX3_wordHere 34 = .ok (.invokevirtual 64, 3) := dk_182 0 64 (dk_at dksX3_wordHere_1 10 rfl rfl)
theorem dX3_wordHere_37 : decode cX3_wordHere 37 = .ok (.ifCond .eq 24, 3) := dk_153 0 24 (dk_at dksX3_wordHere_1 13 rfl rfl)
theorem dX3_wordHere_40 : decode cX3_wordHere 40 = .ok (.aload_n 2, 1) := dk_44 (dk_at dksX3_wordHere_1 16 rfl rfl)
theorem dX3_wordHere_41 : decode cX3_wordHere 41 = .ok (.aload_n 0, 1) := dk_42 (dk_at dksX3_wordHere_1 17 rfl rfl)
theorem dX3_wordHere_42 : decode cX3_wordHere 42 = .ok (.getfield 3, 3) := dk_180 0 3 (dk_at dksX3_wordHere_1 18 rfl rfl)
theorem dX3_wordHere_45 : decode cX3_wordHere 45 = .ok (.getfield 36, 3) := dk_180 0 36 (dk_at dksX3_wordHere_1 21 rfl rfl)
theorem dX3_wordHere_48 : decode cX3_wordHere 48 = .ok (.iload_n 1, 1) := dk_27 (dk_at dksX3_wordHere_2 0 rfl rfl)
theorem dX3_wordHere_49 : decode cX3_wordHere 49 = .ok (.baload, 1) := dk_51 (dk_at dksX3_wordHere_2 1 rfl rfl)
theorem dX3_wordHere_50 : decode cX3_wordHere 50 = .ok (.i2c, 1) := dk_146 (dk_at dksX3_wordHere_2 2 rfl rfl)
theorem dX3_wordHere_51 : decode cX3_wordHere 51 = .ok (.invokevirtual 73, 3) := dk_182 0 73 (dk_at dksX3_wordHere_2 3 rfl rfl)
theorem dX3_wordHere_54 : decode cX3_wordHere 54 = .ok (.pop, 1) := dk_87 (dk_at dksX3_wordHere_2 6 rfl rfl)
theorem dX3_wordHere_55 : decode cX3_wordHere 55 = .ok (.iinc 1 1, 3) := dk_132 1 1 (dk_at dksX3_wordHere_2 7 rfl rfl)
theorem dX3_wordHere_58 : decode cX3_wordHere 58 = .ok (.goto (-26), 3) := dk_167 255 230 (dk_at dksX3_wordHere_2 10 rfl rfl)
theorem dX3_wordHere_61 : decode cX3_wordHere 61 = .ok (.aload_n 2, 1) := dk_44 (dk_at dksX3_wordHere_2 13 rfl rfl)
theorem dX3_wordHere_62 : decode cX3_wordHere 62 = .ok (.invokevirtual 77, 3) := dk_182 0 77 (dk_at dksX3_wordHere_2 14 rfl rfl)
theorem dX3_wordHere_65 : decode cX3_wordHere 65 = .ok (.areturn, 1) := dk_176 (dk_at dksX3_wordHere_2 17 rfl rfl)
abbrev cX3_next : ByteArray := prog_7_method_4_code
def yX3_next : MethodName := ⟨RX3, "next", "()I"⟩
def dkwX3_next_2 : List UInt8 := [180, 0, 52, 4, 96, 181, 0, 52, 167, 255, 201, 42, 180, 0, 52, 172]
abbrev dktX3_next_2 : List UInt8 := dkwX3_next_2 ++ []
def dkwX3_next_1 : List UInt8 := [16, 32, 159, 0, 20, 42, 180, 0, 3, 180, 0, 36, 42, 180, 0, 52, 51, 16, 10, 160, 0, 16, 42, 89]
abbrev dktX3_next_1 : List UInt8 := dkwX3_next_1 ++ dktX3_next_2
def dkwX3_next_0 : List UInt8 := [42, 180, 0, 52, 42, 180, 0, 33, 162, 0, 50, 42, 180, 0, 3, 180, 0, 36, 42, 180, 0, 52, 51]
abbrev dktX3_next_0 : List UInt8 := dkwX3_next_0 ++ dktX3_next_1
theorem dksX3_next_0 : cX3_next.data.toList.drop 0 = dktX3_next_0 := by decide +kernel
theorem dksX3_next_1 : cX3_next.data.toList.drop 23 = dktX3_next_1 := dk_seg dksX3_next_0 23 rfl rfl
theorem dksX3_next_2 : cX3_next.data.toList.drop 47 = dktX3_next_2 := dk_seg dksX3_next_1 24 rfl rfl
theorem dX3_next_0 : decode cX3_next 0 = .ok (.aload_n 0, 1) := dk_42 (dk_at dksX3_next_0 0 rfl rfl)
theorem dX3_next_1 : decode cX3_next 1 = .ok (.getfield 52, 3) := dk_180 0 52 (dk_at dksX3_next_0 1 rfl rfl)
theorem dX3_next_4 : decode cX3_next 4 = .ok (.aload_n 0, 1) := dk_42 (dk_at dksX3_next_0 4 rfl rfl)
theorem dX3_next_5 : decode cX3_next 5 = .ok (.getfield 33, 3) := dk_180 0 33 (dk_at dksX3_next_0 5 rfl rfl)
theorem dX3_next_8 : decode cX3_next 8 = .ok (.if_icmp .ge 50, 3) := dk_162 0 50 (dk_at dksX3_next_0 8 rfl rfl)
theorem dX3_next_11 : decode cX3_next 11 = .ok (.aload_n 0, 1) := dk_42 (dk_at dksX3_next_0 11 rfl rfl)
theorem dX3_next_12 : decode cX3_next 12 = .ok (.getfield 3, 3) := dk_180 0 3 (dk_at dksX3_next_0 12 rfl rfl)
theorem dX3_next_15 : decode cX3_next 15 = .ok (.getfield 36, 3) := dk_180 0 36 (dk_at dksX3_next_0 15 rfl rfl)
theorem dX3_next_18 : decode cX3_next 18 = .ok (.aload_n 0, 1) := dk_42 (dk_at dksX3_next_0 18 rfl rfl)
theorem dX3_next_19 : decode cX3_next 19 = .ok (.getfield 52, 3) := dk_180 0 52 (dk_at dksX3_next_0 19 rfl rfl)
theorem dX3_next_22 : decode cX3_next 22 = .ok (.baload, 1) := dk_51 (dk_at dksX3_next_0 22 rfl rfl)
theorem dX3_next_23 : decode cX3_next 23 = .ok (.bipush 32, 2) := dk_16 32 (dk_at dksX3_next_1 0 rfl rfl)
theorem dX3_next_25 : decode cX3_next 25 = .ok (.if_icmp .eq 20, 3) := dk_159 0 20 (dk_at dksX3_next_1 2 rfl rfl)
theorem dX3_next_28 : decode cX3_next 28 = .ok (.aload_n 0, 1) := dk_42 (dk_at dksX3_next_1 5 rfl rfl)
theorem dX3_next_29 : decode cX3_next 29 = .ok (.getfield 3, 3) := dk_180 0 3 (dk_at dksX3_next_1 6 rfl rfl)
theorem dX3_next_32 : decode cX3_next 32 = .ok (.getfield 36, 3) := dk_180 0 36 (dk_at dksX3_next_1 9 rfl rfl)
theorem dX3_next_35 : decode cX3_next 35 = .ok (.aload_n 0, 1) := dk_42 (dk_at dksX3_next_1 12 rfl rfl)
theorem dX3_next_36 : decode cX3_next 36 = .ok (.getfield 52, 3) := dk_180 0 52 (dk_at dksX3_next_1 13 rfl rfl)
theorem dX3_next_39 : decode cX3_next 39 = .ok (.baload, 1) := dk_51 (dk_at dksX3_next_1 16 rfl rfl)
theorem dX3_next_40 : decode cX3_next 40 = .ok (.bipush 10, 2) := dk_16 10 (dk_at dksX3_next_1 17 rfl rfl)
theorem dX3_next_42 : decode cX3_next 42 = .ok (.if_icmp .ne 16, 3) := dk_160 0 16 (dk_at dksX3_next_1 19 rfl rfl)
theorem dX3_next_45 : decode cX3_next 45 = .ok (.aload_n 0, 1) := dk_42 (dk_at dksX3_next_1 22 rfl rfl)
theorem dX3_next_46 : decode cX3_next 46 = .ok (.dup, 1) := dk_89 (dk_at dksX3_next_1 23 rfl rfl)
theorem dX3_next_47 : decode cX3_next 47 = .ok (.getfield 52, 3) := dk_180 0 52 (dk_at dksX3_next_2 0 rfl rfl)
theorem dX3_next_50 : decode cX3_next 50 = .ok (.iconst 1, 1) := dk_4 (dk_at dksX3_next_2 3 rfl rfl)
theorem dX3_next_51 : decode cX3_next 51 = .ok (.iadd, 1) := dk_96 (dk_at dksX3_next_2 4 rfl rfl)
theorem dX3_next_52 : decode cX3_next 52 = .ok (.putfield 52, 3) := dk_181 0 52 (dk_at dksX3_next_2 5 rfl rfl)
theorem dX3_next_55 : decode cX3_next 55 = .ok (.goto (-55), 3) := dk_167 255 201 (dk_at dksX3_next_2 8 rfl rfl)
theorem dX3_next_58 : decode cX3_next 58 = .ok (.aload_n 0, 1) := dk_42 (dk_at dksX3_next_2 11 rfl rfl)
theorem dX3_next_59 : decode cX3_next 59 = .ok (.getfield 52, 3) := dk_180 0 52 (dk_at dksX3_next_2 12 rfl rfl)
theorem dX3_next_62 : decode cX3_next 62 = .ok (.ireturn, 1) := dk_172 (dk_at dksX3_next_2 15 rfl rfl)
abbrev cX3_isLetter : ByteArray := prog_7_method_2_code
def yX3_isLetter : MethodName := ⟨RX3, "isLetter", "(I)Z"⟩
def dkwX3_isLetter_1 : List UInt8 := [184, 0, 44, 153, 0, 7, 4, 167, 0, 4, 3, 172]
abbrev dktX3_isLetter_1 : List UInt8 := dkwX3_isLetter_1 ++ []
def dkwX3_isLetter_0 : List UInt8 := [27, 42, 180, 0, 33, 162, 0, 29, 42, 180, 0, 3, 180, 0, 36, 27, 51, 133, 20, 0, 40, 20, 0, 42]
abbrev dktX3_isLetter_0 : List UInt8 := dkwX3_isLetter_0 ++ dktX3_isLetter_1
theorem dksX3_isLetter_0 : cX3_isLetter.data.toList.drop 0 = dktX3_isLetter_0 := by decide +kernel
theorem dksX3_isLetter_1 : cX3_isLetter.data.toList.drop 24 = dktX3_isLetter_1 := dk_seg dksX3_isLetter_0 24 rfl rfl
theorem dX3_isLetter_0 : decode cX3_isLetter 0 = .ok (.iload_n 1, 1) := dk_27 (dk_at dksX3_isLetter_0 0 rfl rfl)
theorem dX3_isLetter_1 : decode cX3_isLetter 1 = .ok (.aload_n 0, 1) := dk_42 (dk_at dksX3_isLetter_0 1 rfl rfl)
theorem dX3_isLetter_2 : decode cX3_isLetter 2 = .ok (.getfield 33, 3) := dk_180 0 33 (dk_at dksX3_isLetter_0 2 rfl rfl)
theorem dX3_isLetter_5 : decode cX3_isLetter 5 = .ok (.if_icmp .ge 29, 3) := dk_162 0 29 (dk_at dksX3_isLetter_0 5 rfl rfl)
theorem dX3_isLetter_8 : decode cX3_isLetter 8 = .ok (.aload_n 0, 1) := dk_42 (dk_at dksX3_isLetter_0 8 rfl rfl)
theorem dX3_isLetter_9 : decode cX3_isLetter 9 = .ok (.getfield 3, 3) := dk_180 0 3 (dk_at dksX3_isLetter_0 9 rfl rfl)
theorem dX3_isLetter_12 : decode cX3_isLetter 12 = .ok (.getfield 36, 3) := dk_180 0 36 (dk_at dksX3_isLetter_0 12 rfl rfl)
theorem dX3_isLetter_15 : decode cX3_isLetter 15 = .ok (.iload_n 1, 1) := dk_27 (dk_at dksX3_isLetter_0 15 rfl rfl)
theorem dX3_isLetter_16 : decode cX3_isLetter 16 = .ok (.baload, 1) := dk_51 (dk_at dksX3_isLetter_0 16 rfl rfl)
theorem dX3_isLetter_17 : decode cX3_isLetter 17 = .ok (.i2l, 1) := dk_133 (dk_at dksX3_isLetter_0 17 rfl rfl)
theorem dX3_isLetter_18 : decode cX3_isLetter 18 = .ok (.ldc2_w 40, 3) := dk_20 0 40 (dk_at dksX3_isLetter_0 18 rfl rfl)
theorem dX3_isLetter_21 : decode cX3_isLetter 21 = .ok (.ldc2_w 42, 3) := dk_20 0 42 (dk_at dksX3_isLetter_0 21 rfl rfl)
theorem dX3_isLetter_24 : decode cX3_isLetter 24 = .ok (.invokestatic 44, 3) := dk_184 0 44 (dk_at dksX3_isLetter_1 0 rfl rfl)
theorem dX3_isLetter_27 : decode cX3_isLetter 27 = .ok (.ifCond .eq 7, 3) := dk_153 0 7 (dk_at dksX3_isLetter_1 3 rfl rfl)
theorem dX3_isLetter_30 : decode cX3_isLetter 30 = .ok (.iconst 1, 1) := dk_4 (dk_at dksX3_isLetter_1 6 rfl rfl)
theorem dX3_isLetter_31 : decode cX3_isLetter 31 = .ok (.goto 4, 3) := dk_167 0 4 (dk_at dksX3_isLetter_1 7 rfl rfl)
theorem dX3_isLetter_34 : decode cX3_isLetter 34 = .ok (.iconst 0, 1) := dk_3 (dk_at dksX3_isLetter_1 10 rfl rfl)
theorem dX3_isLetter_35 : decode cX3_isLetter 35 = .ok (.ireturn, 1) := dk_172 (dk_at dksX3_isLetter_1 11 rfl rfl)
abbrev cX3_varsRead : ByteArray := prog_7_method_10_code
def yX3_varsRead : MethodName := ⟨RX3, "varsRead", "()V"⟩
def dkwX3_varsRead_2 : List UInt8 := [182, 0, 96, 191, 177]
abbrev dktX3_varsRead_2 : List UInt8 := dkwX3_varsRead_2 ++ []
def dkwX3_varsRead_1 : List UInt8 := [187, 0, 55, 89, 5, 27, 183, 0, 61, 191, 42, 28, 181, 0, 19, 42, 182, 0, 105, 154, 0, 8, 42]
abbrev dktX3_varsRead_1 : List UInt8 := dkwX3_varsRead_1 ++ dktX3_varsRead_2
def dkwX3_varsRead_0 : List UInt8 := [42, 182, 0, 57, 60, 42, 182, 0, 100, 61, 28, 133, 10, 20, 0, 103, 184, 0, 44, 154, 0, 13]
abbrev dktX3_varsRead_0 : List UInt8 := dkwX3_varsRead_0 ++ dktX3_varsRead_1
theorem dksX3_varsRead_0 : cX3_varsRead.data.toList.drop 0 = dktX3_varsRead_0 := by decide +kernel
theorem dksX3_varsRead_1 : cX3_varsRead.data.toList.drop 22 = dktX3_varsRead_1 := dk_seg dksX3_varsRead_0 22 rfl rfl
theorem dksX3_varsRead_2 : cX3_varsRead.data.toList.drop 45 = dktX3_varsRead_2 := dk_seg dksX3_varsRead_1 23 rfl rfl
theorem dX3_varsRead_0 : decode cX3_varsRead 0 = .ok (.aload_n 0, 1) := dk_42 (dk_at dksX3_varsRead_0 0 rfl rfl)
theorem dX3_varsRead_1 : decode cX3_varsRead 1 = .ok (.invokevirtual 57, 3) := dk_182 0 57 (dk_at dksX3_varsRead_0 1 rfl rfl)
theorem dX3_varsRead_4 : decode cX3_varsRead 4 = .ok (.istore_n 1, 1) := dk_60 (dk_at dksX3_varsRead_0 4 rfl rfl)
theorem dX3_varsRead_5 : decode cX3_varsRead 5 = .ok (.aload_n 0, 1) := dk_42 (dk_at dksX3_varsRead_0 5 rfl rfl)
theorem dX3_varsRead_6 : decode cX3_varsRead 6 = .ok (.invokevirtual 100, 3) := dk_182 0 100 (dk_at dksX3_varsRead_0 6 rfl rfl)
theorem dX3_varsRead_9 : decode cX3_varsRead 9 = .ok (.istore_n 2, 1) := dk_61 (dk_at dksX3_varsRead_0 9 rfl rfl)
theorem dX3_varsRead_10 : decode cX3_varsRead 10 = .ok (.iload_n 2, 1) := dk_28 (dk_at dksX3_varsRead_0 10 rfl rfl)
theorem dX3_varsRead_11 : decode cX3_varsRead 11 = .ok (.i2l, 1) := dk_133 (dk_at dksX3_varsRead_0 11 rfl rfl)
theorem dX3_varsRead_12 : decode cX3_varsRead 12 = .ok (.lconst 1, 1) := dk_10 (dk_at dksX3_varsRead_0 12 rfl rfl)
theorem dX3_varsRead_13 : decode cX3_varsRead 13 = .ok (.ldc2_w 103, 3) := dk_20 0 103 (dk_at dksX3_varsRead_0 13 rfl rfl)
theorem dX3_varsRead_16 : decode cX3_varsRead 16 = .ok (.invokestatic 44, 3) := dk_184 0 44 (dk_at dksX3_varsRead_0 16 rfl rfl)
theorem dX3_varsRead_19 : decode cX3_varsRead 19 = .ok (.ifCond .ne 13, 3) := dk_154 0 13 (dk_at dksX3_varsRead_0 19 rfl rfl)
theorem dX3_varsRead_22 : decode cX3_varsRead 22 = .ok (.new 55, 3) := dk_187 0 55 (dk_at dksX3_varsRead_1 0 rfl rfl)
theorem dX3_varsRead_25 : decode cX3_varsRead 25 = .ok (.dup, 1) := dk_89 (dk_at dksX3_varsRead_1 3 rfl rfl)
theorem dX3_varsRead_26 : decode cX3_varsRead 26 = .ok (.iconst 2, 1) := dk_5 (dk_at dksX3_varsRead_1 4 rfl rfl)
theorem dX3_varsRead_27 : decode cX3_varsRead 27 = .ok (.iload_n 1, 1) := dk_27 (dk_at dksX3_varsRead_1 5 rfl rfl)
theorem dX3_varsRead_28 : decode cX3_varsRead 28 = .ok (.invokespecial 61, 3) := dk_183 0 61 (dk_at dksX3_varsRead_1 6 rfl rfl)
theorem dX3_varsRead_31 : decode cX3_varsRead 31 = .ok (.athrow, 1) := dk_191 (dk_at dksX3_varsRead_1 9 rfl rfl)
theorem dX3_varsRead_32 : decode cX3_varsRead 32 = .ok (.aload_n 0, 1) := dk_42 (dk_at dksX3_varsRead_1 10 rfl rfl)
theorem dX3_varsRead_33 : decode cX3_varsRead 33 = .ok (.iload_n 2, 1) := dk_28 (dk_at dksX3_varsRead_1 11 rfl rfl)
theorem dX3_varsRead_34 : decode cX3_varsRead 34 = .ok (.putfield 19, 3) := dk_181 0 19 (dk_at dksX3_varsRead_1 12 rfl rfl)
theorem dX3_varsRead_37 : decode cX3_varsRead 37 = .ok (.aload_n 0, 1) := dk_42 (dk_at dksX3_varsRead_1 15 rfl rfl)
theorem dX3_varsRead_38 : decode cX3_varsRead 38 = .ok (.invokevirtual 105, 3) := dk_182 0 105 (dk_at dksX3_varsRead_1 16 rfl rfl)
theorem dX3_varsRead_41 : decode cX3_varsRead 41 = .ok (.ifCond .ne 8, 3) := dk_154 0 8 (dk_at dksX3_varsRead_1 19 rfl rfl)
theorem dX3_varsRead_44 : decode cX3_varsRead 44 = .ok (.aload_n 0, 1) := dk_42 (dk_at dksX3_varsRead_1 22 rfl rfl)
theorem dX3_varsRead_45 : decode cX3_varsRead 45 = .ok (.invokevirtual 96, 3) := dk_182 0 96 (dk_at dksX3_varsRead_2 0 rfl rfl)
theorem dX3_varsRead_48 : decode cX3_varsRead 48 = .ok (.athrow, 1) := dk_191 (dk_at dksX3_varsRead_2 3 rfl rfl)
theorem dX3_varsRead_49 : decode cX3_varsRead 49 = .ok (.return_, 1) := dk_177 (dk_at dksX3_varsRead_2 4 rfl rfl)
abbrev cX3_number : ByteArray := prog_7_method_9_code
def yX3_number : MethodName := ⟨RX3, "number", "()I"⟩
def dkwX3_number_4 : List UInt8 := [29, 172]
abbrev dktX3_number_4 : List UInt8 := dkwX3_number_4 ++ []
def dkwX3_number_3 : List UInt8 := [51, 96, 16, 48, 100, 62, 42, 89, 180, 0, 52, 4, 96, 181, 0, 52, 167, 255, 217, 42, 28, 181, 0, 15]
abbrev dktX3_number_3 : List UInt8 := dkwX3_number_3 ++ dktX3_number_4
def dkwX3_number_2 : List UInt8 := [191, 42, 180, 0, 52, 28, 162, 0, 37, 16, 10, 29, 104, 42, 180, 0, 3, 180, 0, 36, 42, 180, 0, 52]
abbrev dktX3_number_2 : List UInt8 := dkwX3_number_2 ++ dktX3_number_3
def dkwX3_number_1 : List UInt8 := [27, 159, 0, 19, 28, 27, 100, 16, 6, 163, 0, 11, 27, 42, 180, 0, 15, 160, 0, 8, 42, 182, 0, 96]
abbrev dktX3_number_1 : List UInt8 := dkwX3_number_1 ++ dktX3_number_2
def dkwX3_number_0 : List UInt8 := [42, 182, 0, 57, 60, 27, 61, 3, 62, 42, 28, 182, 0, 93, 153, 0, 9, 132, 2, 1, 167, 255, 245, 28]
abbrev dktX3_number_0 : List UInt8 := dkwX3_number_0 ++ dktX3_number_1
theorem dksX3_number_0 : cX3_number.data.toList.drop 0 = dktX3_number_0 := by decide +kernel
theorem dksX3_number_1 : cX3_number.data.toList.drop 24 = dktX3_number_1 := dk_seg dksX3_number_0 24 rfl rfl
theorem dksX3_number_2 : cX3_number.data.toList.drop 48 = dktX3_number_2 := dk_seg dksX3_number_1 24 rfl rfl
theorem dksX3_number_3 : cX3_number.data.toList.drop 72 = dktX3_number_3 := dk_seg dksX3_number_2 24 rfl rfl
theorem dksX3_number_4 : cX3_number.data.toList.drop 96 = dktX3_number_4 := dk_seg dksX3_number_3 24 rfl rfl
theorem dX3_number_0 : decode cX3_number 0 = .ok (.aload_n 0, 1) := dk_42 (dk_at dksX3_number_0 0 rfl rfl)
theorem dX3_number_1 : decode cX3_number 1 = .ok (.invokevirtual 57, 3) := dk_182 0 57 (dk_at dksX3_number_0 1 rfl rfl)
theorem dX3_number_4 : decode cX3_number 4 = .ok (.istore_n 1, 1) := dk_60 (dk_at dksX3_number_0 4 rfl rfl)
theorem dX3_number_5 : decode cX3_number 5 = .ok (.iload_n 1, 1) := dk_27 (dk_at dksX3_number_0 5 rfl rfl)
theorem dX3_number_6 : decode cX3_number 6 = .ok (.istore_n 2, 1) := dk_61 (dk_at dksX3_number_0 6 rfl rfl)
theorem dX3_number_7 : decode cX3_number 7 = .ok (.iconst 0, 1) := dk_3 (dk_at dksX3_number_0 7 rfl rfl)
theorem dX3_number_8 : decode cX3_number 8 = .ok (.istore_n 3, 1) := dk_62 (dk_at dksX3_number_0 8 rfl rfl)
theorem dX3_number_9 : decode cX3_number 9 = .ok (.aload_n 0, 1) := dk_42 (dk_at dksX3_number_0 9 rfl rfl)
theorem dX3_number_10 : decode cX3_number 10 = .ok (.iload_n 2, 1) := dk_28 (dk_at dksX3_number_0 10 rfl rfl)
theorem dX3_number_11 : decode cX3_number 11 = .ok (.invokevirtual 93, 3) := dk_182 0 93 (dk_at dksX3_number_0 11 rfl rfl)
theorem dX3_number_14 : decode cX3_number 14 = .ok (.ifCond .eq 9, 3) := dk_153 0 9 (dk_at dksX3_number_0 14 rfl rfl)
theorem dX3_number_17 : decode cX3_number 17 = .ok (.iinc 2 1, 3) := dk_132 2 1 (dk_at dksX3_number_0 17 rfl rfl)
theorem dX3_number_20 : decode cX3_number 20 = .ok (.goto (-11), 3) := dk_167 255 245 (dk_at dksX3_number_0 20 rfl rfl)
theorem dX3_number_23 : decode cX3_number 23 = .ok (.iload_n 2, 1) := dk_28 (dk_at dksX3_number_0 23 rfl rfl)
theorem dX3_number_24 : decode cX3_number 24 = .ok (.iload_n 1, 1) := dk_27 (dk_at dksX3_number_1 0 rfl rfl)
theorem dX3_number_25 : decode cX3_number 25 = .ok (.if_icmp .eq 19, 3) := dk_159 0 19 (dk_at dksX3_number_1 1 rfl rfl)
theorem dX3_number_28 : decode cX3_number 28 = .ok (.iload_n 2, 1) := dk_28 (dk_at dksX3_number_1 4 rfl rfl)
theorem dX3_number_29 : decode cX3_number 29 = .ok (.iload_n 1, 1) := dk_27 (dk_at dksX3_number_1 5 rfl rfl)
theorem dX3_number_30 : decode cX3_number 30 = .ok (.isub, 1) := dk_100 (dk_at dksX3_number_1 6 rfl rfl)
theorem dX3_number_31 : decode cX3_number 31 = .ok (.bipush 6, 2) := dk_16 6 (dk_at dksX3_number_1 7 rfl rfl)
theorem dX3_number_33 : decode cX3_number 33 = .ok (.if_icmp .gt 11, 3) := dk_163 0 11 (dk_at dksX3_number_1 9 rfl rfl)
theorem dX3_number_36 : decode cX3_number 36 = .ok (.iload_n 1, 1) := dk_27 (dk_at dksX3_number_1 12 rfl rfl)
theorem dX3_number_37 : decode cX3_number 37 = .ok (.aload_n 0, 1) := dk_42 (dk_at dksX3_number_1 13 rfl rfl)
theorem dX3_number_38 : decode cX3_number 38 = .ok (.getfield 15, 3) := dk_180 0 15 (dk_at dksX3_number_1 14 rfl rfl)
theorem dX3_number_41 : decode cX3_number 41 = .ok (.if_icmp .ne 8, 3) := dk_160 0 8 (dk_at dksX3_number_1 17 rfl rfl)
theorem dX3_number_44 : decode cX3_number 44 = .ok (.aload_n 0, 1) := dk_42 (dk_at dksX3_number_1 20 rfl rfl)
theorem dX3_number_45 : decode cX3_number 45 = .ok (.invokevirtual 96, 3) := dk_182 0 96 (dk_at dksX3_number_1 21 rfl rfl)
theorem dX3_number_48 : decode cX3_number 48 = .ok (.athrow, 1) := dk_191 (dk_at dksX3_number_2 0 rfl rfl)
theorem dX3_number_49 : decode cX3_number 49 = .ok (.aload_n 0, 1) := dk_42 (dk_at dksX3_number_2 1 rfl rfl)
theorem dX3_number_50 : decode cX3_number 50 = .ok (.getfield 52, 3) := dk_180 0 52 (dk_at dksX3_number_2 2 rfl rfl)
theorem dX3_number_53 : decode cX3_number 53 = .ok (.iload_n 2, 1) := dk_28 (dk_at dksX3_number_2 5 rfl rfl)
theorem dX3_number_54 : decode cX3_number 54 = .ok (.if_icmp .ge 37, 3) := dk_162 0 37 (dk_at dksX3_number_2 6 rfl rfl)
theorem dX3_number_57 : decode cX3_number 57 = .ok (.bipush 10, 2) := dk_16 10 (dk_at dksX3_number_2 9 rfl rfl)
theorem dX3_number_59 : decode cX3_number 59 = .ok (.iload_n 3, 1) := dk_29 (dk_at dksX3_number_2 11 rfl rfl)
theorem dX3_number_60 : decode cX3_number 60 = .ok (.imul, 1) := dk_104 (dk_at dksX3_number_2 12 rfl rfl)
theorem dX3_number_61 : decode cX3_number 61 = .ok (.aload_n 0, 1) := dk_42 (dk_at dksX3_number_2 13 rfl rfl)
theorem dX3_number_62 : decode cX3_number 62 = .ok (.getfield 3, 3) := dk_180 0 3 (dk_at dksX3_number_2 14 rfl rfl)
theorem dX3_number_65 : decode cX3_number 65 = .ok (.getfield 36, 3) := dk_180 0 36 (dk_at dksX3_number_2 17 rfl rfl)
theorem dX3_number_68 : decode cX3_number 68 = .ok (.aload_n 0, 1) := dk_42 (dk_at dksX3_number_2 20 rfl rfl)
theorem dX3_number_69 : decode cX3_number 69 = .ok (.getfield 52, 3) := dk_180 0 52 (dk_at dksX3_number_2 21 rfl rfl)
theorem dX3_number_72 : decode cX3_number 72 = .ok (.baload, 1) := dk_51 (dk_at dksX3_number_3 0 rfl rfl)
theorem dX3_number_73 : decode cX3_number 73 = .ok (.iadd, 1) := dk_96 (dk_at dksX3_number_3 1 rfl rfl)
theorem dX3_number_74 : decode cX3_number 74 = .ok (.bipush 48, 2) := dk_16 48 (dk_at dksX3_number_3 2 rfl rfl)
theorem dX3_number_76 : decode cX3_number 76 = .ok (.isub, 1) := dk_100 (dk_at dksX3_number_3 4 rfl rfl)
theorem dX3_number_77 : decode cX3_number 77 = .ok (.istore_n 3, 1) := dk_62 (dk_at dksX3_number_3 5 rfl rfl)
theorem dX3_number_78 : decode cX3_number 78 = .ok (.aload_n 0, 1) := dk_42 (dk_at dksX3_number_3 6 rfl rfl)
theorem dX3_number_79 : decode cX3_number 79 = .ok (.dup, 1) := dk_89 (dk_at dksX3_number_3 7 rfl rfl)
theorem dX3_number_80 : decode cX3_number 80 = .ok (.getfield 52, 3) := dk_180 0 52 (dk_at dksX3_number_3 8 rfl rfl)
theorem dX3_number_83 : decode cX3_number 83 = .ok (.iconst 1, 1) := dk_4 (dk_at dksX3_number_3 11 rfl rfl)
theorem dX3_number_84 : decode cX3_number 84 = .ok (.iadd, 1) := dk_96 (dk_at dksX3_number_3 12 rfl rfl)
theorem dX3_number_85 : decode cX3_number 85 = .ok (.putfield 52, 3) := dk_181 0 52 (dk_at dksX3_number_3 13 rfl rfl)
theorem dX3_number_88 : decode cX3_number 88 = .ok (.goto (-39), 3) := dk_167 255 217 (dk_at dksX3_number_3 16 rfl rfl)
theorem dX3_number_91 : decode cX3_number 91 = .ok (.aload_n 0, 1) := dk_42 (dk_at dksX3_number_3 19 rfl rfl)
theorem dX3_number_92 : decode cX3_number 92 = .ok (.iload_n 2, 1) := dk_28 (dk_at dksX3_number_3 20 rfl rfl)
theorem dX3_number_93 : decode cX3_number 93 = .ok (.putfield 15, 3) := dk_181 0 15 (dk_at dksX3_number_3 21 rfl rfl)
theorem dX3_number_96 : decode cX3_number 96 = .ok (.iload_n 3, 1) := dk_29 (dk_at dksX3_number_4 0 rfl rfl)
theorem dX3_number_97 : decode cX3_number 97 = .ok (.ireturn, 1) := dk_172 (dk_at dksX3_number_4 1 rfl rfl)
abbrev cX3_isDigit : ByteArray := prog_7_method_3_code
def yX3_isDigit : MethodName := ⟨RX3, "isDigit", "(I)Z"⟩
def dkwX3_isDigit_1 : List UInt8 := [184, 0, 44, 153, 0, 7, 4, 167, 0, 4, 3, 172]
abbrev dktX3_isDigit_1 : List UInt8 := dkwX3_isDigit_1 ++ []
def dkwX3_isDigit_0 : List UInt8 := [27, 42, 180, 0, 33, 162, 0, 29, 42, 180, 0, 3, 180, 0, 36, 27, 51, 133, 20, 0, 48, 20, 0, 50]
abbrev dktX3_isDigit_0 : List UInt8 := dkwX3_isDigit_0 ++ dktX3_isDigit_1
theorem dksX3_isDigit_0 : cX3_isDigit.data.toList.drop 0 = dktX3_isDigit_0 := by decide +kernel
theorem dksX3_isDigit_1 : cX3_isDigit.data.toList.drop 24 = dktX3_isDigit_1 := dk_seg dksX3_isDigit_0 24 rfl rfl
theorem dX3_isDigit_0 : decode cX3_isDigit 0 = .ok (.iload_n 1, 1) := dk_27 (dk_at dksX3_isDigit_0 0 rfl rfl)
theorem dX3_isDigit_1 : decode cX3_isDigit 1 = .ok (.aload_n 0, 1) := dk_42 (dk_at dksX3_isDigit_0 1 rfl rfl)
theorem dX3_isDigit_2 : decode cX3_isDigit 2 = .ok (.getfield 33, 3) := dk_180 0 33 (dk_at dksX3_isDigit_0 2 rfl rfl)
theorem dX3_isDigit_5 : decode cX3_isDigit 5 = .ok (.if_icmp .ge 29, 3) := dk_162 0 29 (dk_at dksX3_isDigit_0 5 rfl rfl)
theorem dX3_isDigit_8 : decode cX3_isDigit 8 = .ok (.aload_n 0, 1) := dk_42 (dk_at dksX3_isDigit_0 8 rfl rfl)
theorem dX3_isDigit_9 : decode cX3_isDigit 9 = .ok (.getfield 3, 3) := dk_180 0 3 (dk_at dksX3_isDigit_0 9 rfl rfl)
theorem dX3_isDigit_12 : decode cX3_isDigit 12 = .ok (.getfield 36, 3) := dk_180 0 36 (dk_at dksX3_isDigit_0 12 rfl rfl)
theorem dX3_isDigit_15 : decode cX3_isDigit 15 = .ok (.iload_n 1, 1) := dk_27 (dk_at dksX3_isDigit_0 15 rfl rfl)
theorem dX3_isDigit_16 : decode cX3_isDigit 16 = .ok (.baload, 1) := dk_51 (dk_at dksX3_isDigit_0 16 rfl rfl)
theorem dX3_isDigit_17 : decode cX3_isDigit 17 = .ok (.i2l, 1) := dk_133 (dk_at dksX3_isDigit_0 17 rfl rfl)
theorem dX3_isDigit_18 : decode cX3_isDigit 18 = .ok (.ldc2_w 48, 3) := dk_20 0 48 (dk_at dksX3_isDigit_0 18 rfl rfl)
theorem dX3_isDigit_21 : decode cX3_isDigit 21 = .ok (.ldc2_w 50, 3) := dk_20 0 50 (dk_at dksX3_isDigit_0 21 rfl rfl)
theorem dX3_isDigit_24 : decode cX3_isDigit 24 = .ok (.invokestatic 44, 3) := dk_184 0 44 (dk_at dksX3_isDigit_1 0 rfl rfl)
theorem dX3_isDigit_27 : decode cX3_isDigit 27 = .ok (.ifCond .eq 7, 3) := dk_153 0 7 (dk_at dksX3_isDigit_1 3 rfl rfl)
theorem dX3_isDigit_30 : decode cX3_isDigit 30 = .ok (.iconst 1, 1) := dk_4 (dk_at dksX3_isDigit_1 6 rfl rfl)
theorem dX3_isDigit_31 : decode cX3_isDigit 31 = .ok (.goto 4, 3) := dk_167 0 4 (dk_at dksX3_isDigit_1 7 rfl rfl)
theorem dX3_isDigit_34 : decode cX3_isDigit 34 = .ok (.iconst 0, 1) := dk_3 (dk_at dksX3_isDigit_1 10 rfl rfl)
theorem dX3_isDigit_35 : decode cX3_isDigit 35 = .ok (.ireturn, 1) := dk_172 (dk_at dksX3_isDigit_1 11 rfl rfl)
abbrev cX3_unlike : ByteArray := prog_7_method_5_code
def yX3_unlike : MethodName := ⟨RX3, "unlike", "()LQuotientRows$Fault;"⟩
def dkwX3_unlike_0 : List UInt8 := [187, 0, 55, 89, 4, 42, 182, 0, 57, 183, 0, 61, 176]
abbrev dktX3_unlike_0 : List UInt8 := dkwX3_unlike_0 ++ []
theorem dksX3_unlike_0 : cX3_unlike.data.toList.drop 0 = dktX3_unlike_0 := by decide +kernel
theorem dX3_unlike_0 : decode cX3_unlike 0 = .ok (.new 55, 3) := dk_187 0 55 (dk_at dksX3_unlike_0 0 rfl rfl)
theorem dX3_unlike_3 : decode cX3_unlike 3 = .ok (.dup, 1) := dk_89 (dk_at dksX3_unlike_0 3 rfl rfl)
theorem dX3_unlike_4 : decode cX3_unlike 4 = .ok (.iconst 1, 1) := dk_4 (dk_at dksX3_unlike_0 4 rfl rfl)
theorem dX3_unlike_5 : decode cX3_unlike 5 = .ok (.aload_n 0, 1) := dk_42 (dk_at dksX3_unlike_0 5 rfl rfl)
theorem dX3_unlike_6 : decode cX3_unlike 6 = .ok (.invokevirtual 57, 3) := dk_182 0 57 (dk_at dksX3_unlike_0 6 rfl rfl)
theorem dX3_unlike_9 : decode cX3_unlike 9 = .ok (.invokespecial 61, 3) := dk_183 0 61 (dk_at dksX3_unlike_0 9 rfl rfl)
theorem dX3_unlike_12 : decode cX3_unlike 12 = .ok (.areturn, 1) := dk_176 (dk_at dksX3_unlike_0 12 rfl rfl)
abbrev cX3_takesEnd : ByteArray := prog_7_method_8_code
def yX3_takesEnd : MethodName := ⟨RX3, "takesEnd", "()Z"⟩
def dkwX3_takesEnd_1 : List UInt8 := [16, 59, 159, 0, 5, 3, 172, 42, 89, 180, 0, 52, 4, 96, 181, 0, 52, 4, 172]
abbrev dktX3_takesEnd_1 : List UInt8 := dkwX3_takesEnd_1 ++ []
def dkwX3_takesEnd_0 : List UInt8 := [42, 182, 0, 57, 42, 180, 0, 33, 159, 0, 20, 42, 180, 0, 3, 180, 0, 36, 42, 180, 0, 52, 51]
abbrev dktX3_takesEnd_0 : List UInt8 := dkwX3_takesEnd_0 ++ dktX3_takesEnd_1
theorem dksX3_takesEnd_0 : cX3_takesEnd.data.toList.drop 0 = dktX3_takesEnd_0 := by decide +kernel
theorem dksX3_takesEnd_1 : cX3_takesEnd.data.toList.drop 23 = dktX3_takesEnd_1 := dk_seg dksX3_takesEnd_0 23 rfl rfl
theorem dX3_takesEnd_0 : decode cX3_takesEnd 0 = .ok (.aload_n 0, 1) := dk_42 (dk_at dksX3_takesEnd_0 0 rfl rfl)
theorem dX3_takesEnd_1 : decode cX3_takesEnd 1 = .ok (.invokevirtual 57, 3) := dk_182 0 57 (dk_at dksX3_takesEnd_0 1 rfl rfl)
theorem dX3_takesEnd_4 : decode cX3_takesEnd 4 = .ok (.aload_n 0, 1) := dk_42 (dk_at dksX3_takesEnd_0 4 rfl rfl)
theorem dX3_takesEnd_5 : decode cX3_takesEnd 5 = .ok (.getfield 33, 3) := dk_180 0 33 (dk_at dksX3_takesEnd_0 5 rfl rfl)
theorem dX3_takesEnd_8 : decode cX3_takesEnd 8 = .ok (.if_icmp .eq 20, 3) := dk_159 0 20 (dk_at dksX3_takesEnd_0 8 rfl rfl)
theorem dX3_takesEnd_11 : decode cX3_takesEnd 11 = .ok (.aload_n 0, 1) := dk_42 (dk_at dksX3_takesEnd_0 11 rfl rfl)
theorem dX3_takesEnd_12 : decode cX3_takesEnd 12 = .ok (.getfield 3, 3) := dk_180 0 3 (dk_at dksX3_takesEnd_0 12 rfl rfl)
theorem dX3_takesEnd_15 : decode cX3_takesEnd 15 = .ok (.getfield 36, 3) := dk_180 0 36 (dk_at dksX3_takesEnd_0 15 rfl rfl)
theorem dX3_takesEnd_18 : decode cX3_takesEnd 18 = .ok (.aload_n 0, 1) := dk_42 (dk_at dksX3_takesEnd_0 18 rfl rfl)
theorem dX3_takesEnd_19 : decode cX3_takesEnd 19 = .ok (.getfield 52, 3) := dk_180 0 52 (dk_at dksX3_takesEnd_0 19 rfl rfl)
theorem dX3_takesEnd_22 : decode cX3_takesEnd 22 = .ok (.baload, 1) := dk_51 (dk_at dksX3_takesEnd_0 22 rfl rfl)
theorem dX3_takesEnd_23 : decode cX3_takesEnd 23 = .ok (.bipush 59, 2) := dk_16 59 (dk_at dksX3_takesEnd_1 0 rfl rfl)
theorem dX3_takesEnd_25 : decode cX3_takesEnd 25 = .ok (.if_icmp .eq 5, 3) := dk_159 0 5 (dk_at dksX3_takesEnd_1 2 rfl rfl)
theorem dX3_takesEnd_28 : decode cX3_takesEnd 28 = .ok (.iconst 0, 1) := dk_3 (dk_at dksX3_takesEnd_1 5 rfl rfl)
theorem dX3_takesEnd_29 : decode cX3_takesEnd 29 = .ok (.ireturn, 1) := dk_172 (dk_at dksX3_takesEnd_1 6 rfl rfl)
theorem dX3_takesEnd_30 : decode cX3_takesEnd 30 = .ok (.aload_n 0, 1) := dk_42 (dk_at dksX3_takesEnd_1 7 rfl rfl)
theorem dX3_takesEnd_31 : decode cX3_takesEnd 31 = .ok (.dup, 1) := dk_89 (dk_at dksX3_takesEnd_1 8 rfl rfl)
theorem dX3_takesEnd_32 : decode cX3_takesEnd 32 = .ok (.getfield 52, 3) := dk_180 0 52 (dk_at dksX3_takesEnd_1 9 rfl rfl)
theorem dX3_takesEnd_35 : decode cX3_takesEnd 35 = .ok (.iconst 1, 1) := dk_4 (dk_at dksX3_takesEnd_1 12 rfl rfl)
theorem dX3_takesEnd_36 : decode cX3_takesEnd 36 = .ok (.iadd, 1) := dk_96 (dk_at dksX3_takesEnd_1 13 rfl rfl)
theorem dX3_takesEnd_37 : decode cX3_takesEnd 37 = .ok (.putfield 52, 3) := dk_181 0 52 (dk_at dksX3_takesEnd_1 14 rfl rfl)
theorem dX3_takesEnd_40 : decode cX3_takesEnd 40 = .ok (.iconst 1, 1) := dk_4 (dk_at dksX3_takesEnd_1 17 rfl rfl)
theorem dX3_takesEnd_41 : decode cX3_takesEnd 41 = .ok (.ireturn, 1) := dk_172 (dk_at dksX3_takesEnd_1 18 rfl rfl)
abbrev cX3_statement : ByteArray := prog_7_method_13_code
def yX3_statement : MethodName := ⟨RX3, "statement", "()V"⟩
def dkwX3_statement_3 : List UInt8 := [167, 0, 8, 42, 182, 0, 96, 191, 177]
abbrev dktX3_statement_3 : List UInt8 := dkwX3_statement_3 ++ []
def dkwX3_statement_2 : List UInt8 := [158, 0, 13, 187, 0, 55, 89, 6, 27, 183, 0, 61, 191, 42, 18, 133, 182, 0, 126, 87, 42, 182, 0, 134]
abbrev dktX3_statement_2 : List UInt8 := dkwX3_statement_2 ++ dktX3_statement_3
def dkwX3_statement_1 : List UInt8 := [153, 255, 248, 167, 0, 51, 42, 182, 0, 81, 18, 133, 182, 0, 84, 153, 0, 34, 42, 180, 0, 121]
abbrev dktX3_statement_1 : List UInt8 := dkwX3_statement_1 ++ dktX3_statement_2
def dkwX3_statement_0 : List UInt8 := [42, 182, 0, 57, 60, 42, 18, 124, 182, 0, 126, 153, 0, 17, 42, 182, 0, 130, 42, 182, 0, 105]
abbrev dktX3_statement_0 : List UInt8 := dkwX3_statement_0 ++ dktX3_statement_1
theorem dksX3_statement_0 : cX3_statement.data.toList.drop 0 = dktX3_statement_0 := by decide +kernel
theorem dksX3_statement_1 : cX3_statement.data.toList.drop 22 = dktX3_statement_1 := dk_seg dksX3_statement_0 22 rfl rfl
theorem dksX3_statement_2 : cX3_statement.data.toList.drop 44 = dktX3_statement_2 := dk_seg dksX3_statement_1 22 rfl rfl
theorem dksX3_statement_3 : cX3_statement.data.toList.drop 68 = dktX3_statement_3 := dk_seg dksX3_statement_2 24 rfl rfl
theorem dX3_statement_0 : decode cX3_statement 0 = .ok (.aload_n 0, 1) := dk_42 (dk_at dksX3_statement_0 0 rfl rfl)
theorem dX3_statement_1 : decode cX3_statement 1 = .ok (.invokevirtual 57, 3) := dk_182 0 57 (dk_at dksX3_statement_0 1 rfl rfl)
theorem dX3_statement_4 : decode cX3_statement 4 = .ok (.istore_n 1, 1) := dk_60 (dk_at dksX3_statement_0 4 rfl rfl)
theorem dX3_statement_5 : decode cX3_statement 5 = .ok (.aload_n 0, 1) := dk_42 (dk_at dksX3_statement_0 5 rfl rfl)
theorem dX3_statement_6 : decode cX3_statement 6 = .ok (.ldc 124, 2) := dk_18 124 (dk_at dksX3_statement_0 6 rfl rfl)
theorem dX3_statement_8 : decode cX3_statement 8 = .ok (.invokevirtual 126, 3) := dk_182 0 126 (dk_at dksX3_statement_0 8 rfl rfl)
theorem dX3_statement_11 : decode cX3_statement 11 = .ok (.ifCond .eq 17, 3) := dk_153 0 17 (dk_at dksX3_statement_0 11 rfl rfl)
theorem dX3_statement_14 : decode cX3_statement 14 = .ok (.aload_n 0, 1) := dk_42 (dk_at dksX3_statement_0 14 rfl rfl)
theorem dX3_statement_15 : decode cX3_statement 15 = .ok (.invokevirtual 130, 3) := dk_182 0 130 (dk_at dksX3_statement_0 15 rfl rfl)
theorem dX3_statement_18 : decode cX3_statement 18 = .ok (.aload_n 0, 1) := dk_42 (dk_at dksX3_statement_0 18 rfl rfl)
theorem dX3_statement_19 : decode cX3_statement 19 = .ok (.invokevirtual 105, 3) := dk_182 0 105 (dk_at dksX3_statement_0 19 rfl rfl)
theorem dX3_statement_22 : decode cX3_statement 22 = .ok (.ifCond .eq (-8), 3) := dk_153 255 248 (dk_at dksX3_statement_1 0 rfl rfl)
theorem dX3_statement_25 : decode cX3_statement 25 = .ok (.goto 51, 3) := dk_167 0 51 (dk_at dksX3_statement_1 3 rfl rfl)
theorem dX3_statement_28 : decode cX3_statement 28 = .ok (.aload_n 0, 1) := dk_42 (dk_at dksX3_statement_1 6 rfl rfl)
theorem dX3_statement_29 : decode cX3_statement 29 = .ok (.invokevirtual 81, 3) := dk_182 0 81 (dk_at dksX3_statement_1 7 rfl rfl)
theorem dX3_statement_32 : decode cX3_statement 32 = .ok (.ldc 133, 2) := dk_18 133 (dk_at dksX3_statement_1 10 rfl rfl)
theorem dX3_statement_34 : decode cX3_statement 34 = .ok (.invokevirtual 84, 3) := dk_182 0 84 (dk_at dksX3_statement_1 12 rfl rfl)
theorem dX3_statement_37 : decode cX3_statement 37 = .ok (.ifCond .eq 34, 3) := dk_153 0 34 (dk_at dksX3_statement_1 15 rfl rfl)
theorem dX3_statement_40 : decode cX3_statement 40 = .ok (.aload_n 0, 1) := dk_42 (dk_at dksX3_statement_1 18 rfl rfl)
theorem dX3_statement_41 : decode cX3_statement 41 = .ok (.getfield 121, 3) := dk_180 0 121 (dk_at dksX3_statement_1 19 rfl rfl)
theorem dX3_statement_44 : decode cX3_statement 44 = .ok (.ifCond .le 13, 3) := dk_158 0 13 (dk_at dksX3_statement_2 0 rfl rfl)
theorem dX3_statement_47 : decode cX3_statement 47 = .ok (.new 55, 3) := dk_187 0 55 (dk_at dksX3_statement_2 3 rfl rfl)
theorem dX3_statement_50 : decode cX3_statement 50 = .ok (.dup, 1) := dk_89 (dk_at dksX3_statement_2 6 rfl rfl)
theorem dX3_statement_51 : decode cX3_statement 51 = .ok (.iconst 3, 1) := dk_6 (dk_at dksX3_statement_2 7 rfl rfl)
theorem dX3_statement_52 : decode cX3_statement 52 = .ok (.iload_n 1, 1) := dk_27 (dk_at dksX3_statement_2 8 rfl rfl)
theorem dX3_statement_53 : decode cX3_statement 53 = .ok (.invokespecial 61, 3) := dk_183 0 61 (dk_at dksX3_statement_2 9 rfl rfl)
theorem dX3_statement_56 : decode cX3_statement 56 = .ok (.athrow, 1) := dk_191 (dk_at dksX3_statement_2 12 rfl rfl)
theorem dX3_statement_57 : decode cX3_statement 57 = .ok (.aload_n 0, 1) := dk_42 (dk_at dksX3_statement_2 13 rfl rfl)
theorem dX3_statement_58 : decode cX3_statement 58 = .ok (.ldc 133, 2) := dk_18 133 (dk_at dksX3_statement_2 14 rfl rfl)
theorem dX3_statement_60 : decode cX3_statement 60 = .ok (.invokevirtual 126, 3) := dk_182 0 126 (dk_at dksX3_statement_2 16 rfl rfl)
theorem dX3_statement_63 : decode cX3_statement 63 = .ok (.pop, 1) := dk_87 (dk_at dksX3_statement_2 19 rfl rfl)
theorem dX3_statement_64 : decode cX3_statement 64 = .ok (.aload_n 0, 1) := dk_42 (dk_at dksX3_statement_2 20 rfl rfl)
theorem dX3_statement_65 : decode cX3_statement 65 = .ok (.invokevirtual 134, 3) := dk_182 0 134 (dk_at dksX3_statement_2 21 rfl rfl)
theorem dX3_statement_68 : decode cX3_statement 68 = .ok (.goto 8, 3) := dk_167 0 8 (dk_at dksX3_statement_3 0 rfl rfl)
theorem dX3_statement_71 : decode cX3_statement 71 = .ok (.aload_n 0, 1) := dk_42 (dk_at dksX3_statement_3 3 rfl rfl)
theorem dX3_statement_72 : decode cX3_statement 72 = .ok (.invokevirtual 96, 3) := dk_182 0 96 (dk_at dksX3_statement_3 4 rfl rfl)
theorem dX3_statement_75 : decode cX3_statement 75 = .ok (.athrow, 1) := dk_191 (dk_at dksX3_statement_3 7 rfl rfl)
theorem dX3_statement_76 : decode cX3_statement 76 = .ok (.return_, 1) := dk_177 (dk_at dksX3_statement_3 8 rfl rfl)
abbrev cX3_monoRead : ByteArray := prog_7_method_11_code
def yX3_monoRead : MethodName := ⟨RX3, "monoRead", "()V"⟩
def dkwX3_monoRead_11 : List UInt8 := [183, 0, 115, 185, 0, 118, 2, 0, 87, 177]
abbrev dktX3_monoRead_11 : List UInt8 := dkwX3_monoRead_11 ++ []
def dkwX3_monoRead_10 : List UInt8 := [183, 0, 61, 191, 167, 255, 92, 42, 42, 180, 0, 52, 181, 0, 15, 42, 180, 0, 25, 187, 0, 113, 89, 44]
abbrev dktX3_monoRead_10 : List UInt8 := dkwX3_monoRead_10 ++ dktX3_monoRead_11
def dkwX3_monoRead_9 : List UInt8 := [46, 21, 5, 96, 79, 29, 21, 5, 96, 62, 29, 16, 8, 164, 0, 13, 187, 0, 55, 89, 6, 27]
abbrev dktX3_monoRead_9 : List UInt8 := dkwX3_monoRead_9 ++ dktX3_monoRead_10
def dkwX3_monoRead_8 : List UInt8 := [42, 180, 0, 52, 182, 0, 93, 153, 0, 13, 42, 89, 180, 0, 52, 4, 96, 181, 0, 52, 44, 21, 4, 92]
abbrev dktX3_monoRead_8 : List UInt8 := dkwX3_monoRead_8 ++ dktX3_monoRead_9
def dkwX3_monoRead_7 : List UInt8 := [180, 0, 52, 51, 16, 48, 100, 167, 0, 4, 4, 54, 5, 21, 5, 154, 0, 8, 42, 182, 0, 96, 191, 42]
abbrev dktX3_monoRead_7 : List UInt8 := dkwX3_monoRead_7 ++ dktX3_monoRead_8
def dkwX3_monoRead_6 : List UInt8 := [96, 181, 0, 52, 42, 42, 180, 0, 52, 182, 0, 93, 153, 0, 21, 42, 180, 0, 3, 180, 0, 36, 42]
abbrev dktX3_monoRead_6 : List UInt8 := dkwX3_monoRead_6 ++ dktX3_monoRead_7
def dkwX3_monoRead_5 : List UInt8 := [42, 180, 0, 19, 4, 100, 133, 184, 0, 44, 154, 0, 8, 42, 182, 0, 96, 191, 42, 89, 180, 0, 52, 4]
abbrev dktX3_monoRead_5 : List UInt8 := dkwX3_monoRead_5 ++ dktX3_monoRead_6
def dkwX3_monoRead_4 : List UInt8 := [153, 0, 148, 42, 180, 0, 3, 180, 0, 36, 42, 180, 0, 52, 51, 16, 97, 100, 54, 4, 21, 4, 133, 9]
abbrev dktX3_monoRead_4 : List UInt8 := dkwX3_monoRead_4 ++ dktX3_monoRead_5
def dkwX3_monoRead_3 : List UInt8 := [188, 10, 77, 3, 62, 42, 42, 180, 0, 52, 182, 0, 64, 154, 0, 14, 42, 42, 180, 0, 52, 182, 0, 93]
abbrev dktX3_monoRead_3 : List UInt8 := dkwX3_monoRead_3 ++ dktX3_monoRead_4
def dkwX3_monoRead_2 : List UInt8 := [180, 0, 25, 185, 0, 109, 1, 0, 16, 40, 160, 0, 13, 187, 0, 55, 89, 6, 27, 183, 0, 61, 191, 7]
abbrev dktX3_monoRead_2 : List UInt8 := dkwX3_monoRead_2 ++ dktX3_monoRead_3
def dkwX3_monoRead_1 : List UInt8 := [180, 0, 3, 180, 0, 36, 27, 51, 16, 97, 42, 180, 0, 19, 96, 161, 0, 8, 42, 182, 0, 96, 191, 42]
abbrev dktX3_monoRead_1 : List UInt8 := dkwX3_monoRead_1 ++ dktX3_monoRead_2
def dkwX3_monoRead_0 : List UInt8 := [42, 182, 0, 57, 60, 27, 42, 180, 0, 15, 159, 0, 30, 42, 27, 182, 0, 64, 153, 0, 22, 42]
abbrev dktX3_monoRead_0 : List UInt8 := dkwX3_monoRead_0 ++ dktX3_monoRead_1
theorem dksX3_monoRead_0 : cX3_monoRead.data.toList.drop 0 = dktX3_monoRead_0 := by decide +kernel
theorem dksX3_monoRead_1 : cX3_monoRead.data.toList.drop 22 = dktX3_monoRead_1 := dk_seg dksX3_monoRead_0 22 rfl rfl
theorem dksX3_monoRead_2 : cX3_monoRead.data.toList.drop 46 = dktX3_monoRead_2 := dk_seg dksX3_monoRead_1 24 rfl rfl
theorem dksX3_monoRead_3 : cX3_monoRead.data.toList.drop 70 = dktX3_monoRead_3 := dk_seg dksX3_monoRead_2 24 rfl rfl
theorem dksX3_monoRead_4 : cX3_monoRead.data.toList.drop 94 = dktX3_monoRead_4 := dk_seg dksX3_monoRead_3 24 rfl rfl
theorem dksX3_monoRead_5 : cX3_monoRead.data.toList.drop 118 = dktX3_monoRead_5 := dk_seg dksX3_monoRead_4 24 rfl rfl
theorem dksX3_monoRead_6 : cX3_monoRead.data.toList.drop 142 = dktX3_monoRead_6 := dk_seg dksX3_monoRead_5 24 rfl rfl
theorem dksX3_monoRead_7 : cX3_monoRead.data.toList.drop 165 = dktX3_monoRead_7 := dk_seg dksX3_monoRead_6 23 rfl rfl
theorem dksX3_monoRead_8 : cX3_monoRead.data.toList.drop 189 = dktX3_monoRead_8 := dk_seg dksX3_monoRead_7 24 rfl rfl
theorem dksX3_monoRead_9 : cX3_monoRead.data.toList.drop 213 = dktX3_monoRead_9 := dk_seg dksX3_monoRead_8 24 rfl rfl
theorem dksX3_monoRead_10 : cX3_monoRead.data.toList.drop 235 = dktX3_monoRead_10 := dk_seg dksX3_monoRead_9 22 rfl rfl
theorem dksX3_monoRead_11 : cX3_monoRead.data.toList.drop 259 = dktX3_monoRead_11 := dk_seg dksX3_monoRead_10 24 rfl rfl
theorem dX3_monoRead_0 : decode cX3_monoRead 0 = .ok (.aload_n 0, 1) := dk_42 (dk_at dksX3_monoRead_0 0 rfl rfl)
theorem dX3_monoRead_1 : decode cX3_monoRead 1 = .ok (.invokevirtual 57, 3) := dk_182 0 57 (dk_at dksX3_monoRead_0 1 rfl rfl)
theorem dX3_monoRead_4 : decode cX3_monoRead 4 = .ok (.istore_n 1, 1) := dk_60 (dk_at dksX3_monoRead_0 4 rfl rfl)
theorem dX3_monoRead_5 : decode cX3_monoRead 5 = .ok (.iload_n 1, 1) := dk_27 (dk_at dksX3_monoRead_0 5 rfl rfl)
theorem dX3_monoRead_6 : decode cX3_monoRead 6 = .ok (.aload_n 0, 1) := dk_42 (dk_at dksX3_monoRead_0 6 rfl rfl)
theorem dX3_monoRead_7 : decode cX3_monoRead 7 = .ok (.getfield 15, 3) := dk_180 0 15 (dk_at dksX3_monoRead_0 7 rfl rfl)
theorem dX3_monoRead_10 : decode cX3_monoRead 10 = .ok (.if_icmp .eq 30, 3) := dk_159 0 30 (dk_at dksX3_monoRead_0 10 rfl rfl)
theorem dX3_monoRead_13 : decode cX3_monoRead 13 = .ok (.aload_n 0, 1) := dk_42 (dk_at dksX3_monoRead_0 13 rfl rfl)
theorem dX3_monoRead_14 : decode cX3_monoRead 14 = .ok (.iload_n 1, 1) := dk_27 (dk_at dksX3_monoRead_0 14 rfl rfl)
theorem dX3_monoRead_15 : decode cX3_monoRead 15 = .ok (.invokevirtual 64, 3) := dk_182 0 64 (dk_at dksX3_monoRead_0 15 rfl rfl)
theorem dX3_monoRead_18 : decode cX3_monoRead 18 = .ok (.ifCond .eq 22, 3) := dk_153 0 22 (dk_at dksX3_monoRead_0 18 rfl rfl)
theorem dX3_monoRead_21 : decode cX3_monoRead 21 = .ok (.aload_n 0, 1) := dk_42 (dk_at dksX3_monoRead_0 21 rfl rfl)
theorem dX3_monoRead_22 : decode cX3_monoRead 22 = .ok (.getfield 3, 3) := dk_180 0 3 (dk_at dksX3_monoRead_1 0 rfl rfl)
theorem dX3_monoRead_25 : decode cX3_monoRead 25 = .ok (.getfield 36, 3) := dk_180 0 36 (dk_at dksX3_monoRead_1 3 rfl rfl)
theorem dX3_monoRead_28 : decode cX3_monoRead 28 = .ok (.iload_n 1, 1) := dk_27 (dk_at dksX3_monoRead_1 6 rfl rfl)
theorem dX3_monoRead_29 : decode cX3_monoRead 29 = .ok (.baload, 1) := dk_51 (dk_at dksX3_monoRead_1 7 rfl rfl)
theorem dX3_monoRead_30 : decode cX3_monoRead 30 = .ok (.bipush 97, 2) := dk_16 97 (dk_at dksX3_monoRead_1 8 rfl rfl)
theorem dX3_monoRead_32 : decode cX3_monoRead 32 = .ok (.aload_n 0, 1) := dk_42 (dk_at dksX3_monoRead_1 10 rfl rfl)
theorem dX3_monoRead_33 : decode cX3_monoRead 33 = .ok (.getfield 19, 3) := dk_180 0 19 (dk_at dksX3_monoRead_1 11 rfl rfl)
theorem dX3_monoRead_36 : decode cX3_monoRead 36 = .ok (.iadd, 1) := dk_96 (dk_at dksX3_monoRead_1 14 rfl rfl)
theorem dX3_monoRead_37 : decode cX3_monoRead 37 = .ok (.if_icmp .lt 8, 3) := dk_161 0 8 (dk_at dksX3_monoRead_1 15 rfl rfl)
theorem dX3_monoRead_40 : decode cX3_monoRead 40 = .ok (.aload_n 0, 1) := dk_42 (dk_at dksX3_monoRead_1 18 rfl rfl)
theorem dX3_monoRead_41 : decode cX3_monoRead 41 = .ok (.invokevirtual 96, 3) := dk_182 0 96 (dk_at dksX3_monoRead_1 19 rfl rfl)
theorem dX3_monoRead_44 : decode cX3_monoRead 44 = .ok (.athrow, 1) := dk_191 (dk_at dksX3_monoRead_1 22 rfl rfl)
theorem dX3_monoRead_45 : decode cX3_monoRead 45 = .ok (.aload_n 0, 1) := dk_42 (dk_at dksX3_monoRead_1 23 rfl rfl)
theorem dX3_monoRead_46 : decode cX3_monoRead 46 = .ok (.getfield 25, 3) := dk_180 0 25 (dk_at dksX3_monoRead_2 0 rfl rfl)
theorem dX3_monoRead_49 : decode cX3_monoRead 49 = .ok (.invokeinterface 109 1, 5) := by decide +kernel
theorem dX3_monoRead_54 : decode cX3_monoRead 54 = .ok (.bipush 40, 2) := dk_16 40 (dk_at dksX3_monoRead_2 8 rfl rfl)
theorem dX3_monoRead_56 : decode cX3_monoRead 56 = .ok (.if_icmp .ne 13, 3) := dk_160 0 13 (dk_at dksX3_monoRead_2 10 rfl rfl)
theorem dX3_monoRead_59 : decode cX3_monoRead 59 = .ok (.new 55, 3) := dk_187 0 55 (dk_at dksX3_monoRead_2 13 rfl rfl)
theorem dX3_monoRead_62 : decode cX3_monoRead 62 = .ok (.dup, 1) := dk_89 (dk_at dksX3_monoRead_2 16 rfl rfl)
theorem dX3_monoRead_63 : decode cX3_monoRead 63 = .ok (.iconst 3, 1) := dk_6 (dk_at dksX3_monoRead_2 17 rfl rfl)
theorem dX3_monoRead_64 : decode cX3_monoRead 64 = .ok (.iload_n 1, 1) := dk_27 (dk_at dksX3_monoRead_2 18 rfl rfl)
theorem dX3_monoRead_65 : decode cX3_monoRead 65 = .ok (.invokespecial 61, 3) := dk_183 0 61 (dk_at dksX3_monoRead_2 19 rfl rfl)
theorem dX3_monoRead_68 : decode cX3_monoRead 68 = .ok (.athrow, 1) := dk_191 (dk_at dksX3_monoRead_2 22 rfl rfl)
theorem dX3_monoRead_69 : decode cX3_monoRead 69 = .ok (.iconst 4, 1) := dk_7 (dk_at dksX3_monoRead_2 23 rfl rfl)
theorem dX3_monoRead_70 : decode cX3_monoRead 70 = .ok (.newarray .int, 2) := dk_188_10 (dk_at dksX3_monoRead_3 0 rfl rfl)
theorem dX3_monoRead_72 : decode cX3_monoRead 72 = .ok (.astore_n 2, 1) := dk_77 (dk_at dksX3_monoRead_3 2 rfl rfl)
theorem dX3_monoRead_73 : decode cX3_monoRead 73 = .ok (.iconst 0, 1) := dk_3 (dk_at dksX3_monoRead_3 3 rfl rfl)
theorem dX3_monoRead_74 : decode cX3_monoRead 74 = .ok (.istore_n 3, 1) := dk_62 (dk_at dksX3_monoRead_3 4 rfl rfl)
theorem dX3_monoRead_75 : decode cX3_monoRead 75 = .ok (.aload_n 0, 1) := dk_42 (dk_at dksX3_monoRead_3 5 rfl rfl)
theorem dX3_monoRead_76 : decode cX3_monoRead 76 = .ok (.aload_n 0, 1) := dk_42 (dk_at dksX3_monoRead_3 6 rfl rfl)
theorem dX3_monoRead_77 : decode cX3_monoRead 77 = .ok (.getfield 52, 3) := dk_180 0 52 (dk_at dksX3_monoRead_3 7 rfl rfl)
theorem dX3_monoRead_80 : decode cX3_monoRead 80 = .ok (.invokevirtual 64, 3) := dk_182 0 64 (dk_at dksX3_monoRead_3 10 rfl rfl)
theorem dX3_monoRead_83 : decode cX3_monoRead 83 = .ok (.ifCond .ne 14, 3) := dk_154 0 14 (dk_at dksX3_monoRead_3 13 rfl rfl)
theorem dX3_monoRead_86 : decode cX3_monoRead 86 = .ok (.aload_n 0, 1) := dk_42 (dk_at dksX3_monoRead_3 16 rfl rfl)
theorem dX3_monoRead_87 : decode cX3_monoRead 87 = .ok (.aload_n 0, 1) := dk_42 (dk_at dksX3_monoRead_3 17 rfl rfl)
theorem dX3_monoRead_88 : decode cX3_monoRead 88 = .ok (.getfield 52, 3) := dk_180 0 52 (dk_at dksX3_monoRead_3 18 rfl rfl)
theorem dX3_monoRead_91 : decode cX3_monoRead 91 = .ok (.invokevirtual 93, 3) := dk_182 0 93 (dk_at dksX3_monoRead_3 21 rfl rfl)
theorem dX3_monoRead_94 : decode cX3_monoRead 94 = .ok (.ifCond .eq 148, 3) := dk_153 0 148 (dk_at dksX3_monoRead_4 0 rfl rfl)
theorem dX3_monoRead_97 : decode cX3_monoRead 97 = .ok (.aload_n 0, 1) := dk_42 (dk_at dksX3_monoRead_4 3 rfl rfl)
theorem dX3_monoRead_98 : decode cX3_monoRead 98 = .ok (.getfield 3, 3) := dk_180 0 3 (dk_at dksX3_monoRead_4 4 rfl rfl)
theorem dX3_monoRead_101 : decode cX3_monoRead 101 = .ok (.getfield 36, 3) := dk_180 0 36 (dk_at dksX3_monoRead_4 7 rfl rfl)
theorem dX3_monoRead_104 : decode cX3_monoRead 104 = .ok (.aload_n 0, 1) := dk_42 (dk_at dksX3_monoRead_4 10 rfl rfl)
theorem dX3_monoRead_105 : decode cX3_monoRead 105 = .ok (.getfield 52, 3) := dk_180 0 52 (dk_at dksX3_monoRead_4 11 rfl rfl)
theorem dX3_monoRead_108 : decode cX3_monoRead 108 = .ok (.baload, 1) := dk_51 (dk_at dksX3_monoRead_4 14 rfl rfl)
theorem dX3_monoRead_109 : decode cX3_monoRead 109 = .ok (.bipush 97, 2) := dk_16 97 (dk_at dksX3_monoRead_4 15 rfl rfl)
theorem dX3_monoRead_111 : decode cX3_monoRead 111 = .ok (.isub, 1) := dk_100 (dk_at dksX3_monoRead_4 17 rfl rfl)
theorem dX3_monoRead_112 : decode cX3_monoRead 112 = .ok (.istore 4, 2) := dk_54 4 (dk_at dksX3_monoRead_4 18 rfl rfl)
theorem dX3_monoRead_114 : decode cX3_monoRead 114 = .ok (.iload 4, 2) := dk_21 4 (dk_at dksX3_monoRead_4 20 rfl rfl)
theorem dX3_monoRead_116 : decode cX3_monoRead 116 = .ok (.i2l, 1) := dk_133 (dk_at dksX3_monoRead_4 22 rfl rfl)
theorem dX3_monoRead_117 : decode cX3_monoRead 117 = .ok (.lconst 0, 1) := dk_9 (dk_at dksX3_monoRead_4 23 rfl rfl)
theorem dX3_monoRead_118 : decode cX3_monoRead 118 = .ok (.aload_n 0, 1) := dk_42 (dk_at dksX3_monoRead_5 0 rfl rfl)
theorem dX3_monoRead_119 : decode cX3_monoRead 119 = .ok (.getfield 19, 3) := dk_180 0 19 (dk_at dksX3_monoRead_5 1 rfl rfl)
theorem dX3_monoRead_122 : decode cX3_monoRead 122 = .ok (.iconst 1, 1) := dk_4 (dk_at dksX3_monoRead_5 4 rfl rfl)
theorem dX3_monoRead_123 : decode cX3_monoRead 123 = .ok (.isub, 1) := dk_100 (dk_at dksX3_monoRead_5 5 rfl rfl)
theorem dX3_monoRead_124 : decode cX3_monoRead 124 = .ok (.i2l, 1) := dk_133 (dk_at dksX3_monoRead_5 6 rfl rfl)
theorem dX3_monoRead_125 : decode cX3_monoRead 125 = .ok (.invokestatic 44, 3) := dk_184 0 44 (dk_at dksX3_monoRead_5 7 rfl rfl)
theorem dX3_monoRead_128 : decode cX3_monoRead 128 = .ok (.ifCond .ne 8, 3) := dk_154 0 8 (dk_at dksX3_monoRead_5 10 rfl rfl)
theorem dX3_monoRead_131 : decode cX3_monoRead 131 = .ok (.aload_n 0, 1) := dk_42 (dk_at dksX3_monoRead_5 13 rfl rfl)
theorem dX3_monoRead_132 : decode cX3_monoRead 132 = .ok (.invokevirtual 96, 3) := dk_182 0 96 (dk_at dksX3_monoRead_5 14 rfl rfl)
theorem dX3_monoRead_135 : decode cX3_monoRead 135 = .ok (.athrow, 1) := dk_191 (dk_at dksX3_monoRead_5 17 rfl rfl)
theorem dX3_monoRead_136 : decode cX3_monoRead 136 = .ok (.aload_n 0, 1) := dk_42 (dk_at dksX3_monoRead_5 18 rfl rfl)
theorem dX3_monoRead_137 : decode cX3_monoRead 137 = .ok (.dup, 1) := dk_89 (dk_at dksX3_monoRead_5 19 rfl rfl)
theorem dX3_monoRead_138 : decode cX3_monoRead 138 = .ok (.getfield 52, 3) := dk_180 0 52 (dk_at dksX3_monoRead_5 20 rfl rfl)
theorem dX3_monoRead_141 : decode cX3_monoRead 141 = .ok (.iconst 1, 1) := dk_4 (dk_at dksX3_monoRead_5 23 rfl rfl)
theorem dX3_monoRead_142 : decode cX3_monoRead 142 = .ok (.iadd, 1) := dk_96 (dk_at dksX3_monoRead_6 0 rfl rfl)
theorem dX3_monoRead_143 : decode cX3_monoRead 143 = .ok (.putfield 52, 3) := dk_181 0 52 (dk_at dksX3_monoRead_6 1 rfl rfl)
theorem dX3_monoRead_146 : decode cX3_monoRead 146 = .ok (.aload_n 0, 1) := dk_42 (dk_at dksX3_monoRead_6 4 rfl rfl)
theorem dX3_monoRead_147 : decode cX3_monoRead 147 = .ok (.aload_n 0, 1) := dk_42 (dk_at dksX3_monoRead_6 5 rfl rfl)
theorem dX3_monoRead_148 : decode cX3_monoRead 148 = .ok (.getfield 52, 3) := dk_180 0 52 (dk_at dksX3_monoRead_6 6 rfl rfl)
theorem dX3_monoRead_151 : decode cX3_monoRead 151 = .ok (.invokevirtual 93, 3) := dk_182 0 93 (dk_at dksX3_monoRead_6 9 rfl rfl)
theorem dX3_monoRead_154 : decode cX3_monoRead 154 = .ok (.ifCond .eq 21, 3) := dk_153 0 21 (dk_at dksX3_monoRead_6 12 rfl rfl)
theorem dX3_monoRead_157 : decode cX3_monoRead 157 = .ok (.aload_n 0, 1) := dk_42 (dk_at dksX3_monoRead_6 15 rfl rfl)
theorem dX3_monoRead_158 : decode cX3_monoRead 158 = .ok (.getfield 3, 3) := dk_180 0 3 (dk_at dksX3_monoRead_6 16 rfl rfl)
theorem dX3_monoRead_161 : decode cX3_monoRead 161 = .ok (.getfield 36, 3) := dk_180 0 36 (dk_at dksX3_monoRead_6 19 rfl rfl)
theorem dX3_monoRead_164 : decode cX3_monoRead 164 = .ok (.aload_n 0, 1) := dk_42 (dk_at dksX3_monoRead_6 22 rfl rfl)
theorem dX3_monoRead_165 : decode cX3_monoRead 165 = .ok (.getfield 52, 3) := dk_180 0 52 (dk_at dksX3_monoRead_7 0 rfl rfl)
theorem dX3_monoRead_168 : decode cX3_monoRead 168 = .ok (.baload, 1) := dk_51 (dk_at dksX3_monoRead_7 3 rfl rfl)
theorem dX3_monoRead_169 : decode cX3_monoRead 169 = .ok (.bipush 48, 2) := dk_16 48 (dk_at dksX3_monoRead_7 4 rfl rfl)
theorem dX3_monoRead_171 : decode cX3_monoRead 171 = .ok (.isub, 1) := dk_100 (dk_at dksX3_monoRead_7 6 rfl rfl)
theorem dX3_monoRead_172 : decode cX3_monoRead 172 = .ok (.goto 4, 3) := dk_167 0 4 (dk_at dksX3_monoRead_7 7 rfl rfl)
theorem dX3_monoRead_175 : decode cX3_monoRead 175 = .ok (.iconst 1, 1) := dk_4 (dk_at dksX3_monoRead_7 10 rfl rfl)
theorem dX3_monoRead_176 : decode cX3_monoRead 176 = .ok (.istore 5, 2) := dk_54 5 (dk_at dksX3_monoRead_7 11 rfl rfl)
theorem dX3_monoRead_178 : decode cX3_monoRead 178 = .ok (.iload 5, 2) := dk_21 5 (dk_at dksX3_monoRead_7 13 rfl rfl)
theorem dX3_monoRead_180 : decode cX3_monoRead 180 = .ok (.ifCond .ne 8, 3) := dk_154 0 8 (dk_at dksX3_monoRead_7 15 rfl rfl)
theorem dX3_monoRead_183 : decode cX3_monoRead 183 = .ok (.aload_n 0, 1) := dk_42 (dk_at dksX3_monoRead_7 18 rfl rfl)
theorem dX3_monoRead_184 : decode cX3_monoRead 184 = .ok (.invokevirtual 96, 3) := dk_182 0 96 (dk_at dksX3_monoRead_7 19 rfl rfl)
theorem dX3_monoRead_187 : decode cX3_monoRead 187 = .ok (.athrow, 1) := dk_191 (dk_at dksX3_monoRead_7 22 rfl rfl)
theorem dX3_monoRead_188 : decode cX3_monoRead 188 = .ok (.aload_n 0, 1) := dk_42 (dk_at dksX3_monoRead_7 23 rfl rfl)
theorem dX3_monoRead_189 : decode cX3_monoRead 189 = .ok (.aload_n 0, 1) := dk_42 (dk_at dksX3_monoRead_8 0 rfl rfl)
theorem dX3_monoRead_190 : decode cX3_monoRead 190 = .ok (.getfield 52, 3) := dk_180 0 52 (dk_at dksX3_monoRead_8 1 rfl rfl)
theorem dX3_monoRead_193 : decode cX3_monoRead 193 = .ok (.invokevirtual 93, 3) := dk_182 0 93 (dk_at dksX3_monoRead_8 4 rfl rfl)
theorem dX3_monoRead_196 : decode cX3_monoRead 196 = .ok (.ifCond .eq 13, 3) := dk_153 0 13 (dk_at dksX3_monoRead_8 7 rfl rfl)
theorem dX3_monoRead_199 : decode cX3_monoRead 199 = .ok (.aload_n 0, 1) := dk_42 (dk_at dksX3_monoRead_8 10 rfl rfl)
theorem dX3_monoRead_200 : decode cX3_monoRead 200 = .ok (.dup, 1) := dk_89 (dk_at dksX3_monoRead_8 11 rfl rfl)
theorem dX3_monoRead_201 : decode cX3_monoRead 201 = .ok (.getfield 52, 3) := dk_180 0 52 (dk_at dksX3_monoRead_8 12 rfl rfl)
theorem dX3_monoRead_204 : decode cX3_monoRead 204 = .ok (.iconst 1, 1) := dk_4 (dk_at dksX3_monoRead_8 15 rfl rfl)
theorem dX3_monoRead_205 : decode cX3_monoRead 205 = .ok (.iadd, 1) := dk_96 (dk_at dksX3_monoRead_8 16 rfl rfl)
theorem dX3_monoRead_206 : decode cX3_monoRead 206 = .ok (.putfield 52, 3) := dk_181 0 52 (dk_at dksX3_monoRead_8 17 rfl rfl)
theorem dX3_monoRead_209 : decode cX3_monoRead 209 = .ok (.aload_n 2, 1) := dk_44 (dk_at dksX3_monoRead_8 20 rfl rfl)
theorem dX3_monoRead_210 : decode cX3_monoRead 210 = .ok (.iload 4, 2) := dk_21 4 (dk_at dksX3_monoRead_8 21 rfl rfl)
theorem dX3_monoRead_212 : decode cX3_monoRead 212 = .ok (.dup2, 1) := dk_92 (dk_at dksX3_monoRead_8 23 rfl rfl)
theorem dX3_monoRead_213 : decode cX3_monoRead 213 = .ok (.iaload, 1) := dk_46 (dk_at dksX3_monoRead_9 0 rfl rfl)
theorem dX3_monoRead_214 : decode cX3_monoRead 214 = .ok (.iload 5, 2) := dk_21 5 (dk_at dksX3_monoRead_9 1 rfl rfl)
theorem dX3_monoRead_216 : decode cX3_monoRead 216 = .ok (.iadd, 1) := dk_96 (dk_at dksX3_monoRead_9 3 rfl rfl)
theorem dX3_monoRead_217 : decode cX3_monoRead 217 = .ok (.iastore, 1) := dk_79 (dk_at dksX3_monoRead_9 4 rfl rfl)
theorem dX3_monoRead_218 : decode cX3_monoRead 218 = .ok (.iload_n 3, 1) := dk_29 (dk_at dksX3_monoRead_9 5 rfl rfl)
theorem dX3_monoRead_219 : decode cX3_monoRead 219 = .ok (.iload 5, 2) := dk_21 5 (dk_at dksX3_monoRead_9 6 rfl rfl)
theorem dX3_monoRead_221 : decode cX3_monoRead 221 = .ok (.iadd, 1) := dk_96 (dk_at dksX3_monoRead_9 8 rfl rfl)
theorem dX3_monoRead_222 : decode cX3_monoRead 222 = .ok (.istore_n 3, 1) := dk_62 (dk_at dksX3_monoRead_9 9 rfl rfl)
theorem dX3_monoRead_223 : decode cX3_monoRead 223 = .ok (.iload_n 3, 1) := dk_29 (dk_at dksX3_monoRead_9 10 rfl rfl)
theorem dX3_monoRead_224 : decode cX3_monoRead 224 = .ok (.bipush 8, 2) := dk_16 8 (dk_at dksX3_monoRead_9 11 rfl rfl)
theorem dX3_monoRead_226 : decode cX3_monoRead 226 = .ok (.if_icmp .le 13, 3) := dk_164 0 13 (dk_at dksX3_monoRead_9 13 rfl rfl)
theorem dX3_monoRead_229 : decode cX3_monoRead 229 = .ok (.new 55, 3) := dk_187 0 55 (dk_at dksX3_monoRead_9 16 rfl rfl)
theorem dX3_monoRead_232 : decode cX3_monoRead 232 = .ok (.dup, 1) := dk_89 (dk_at dksX3_monoRead_9 19 rfl rfl)
theorem dX3_monoRead_233 : decode cX3_monoRead 233 = .ok (.iconst 3, 1) := dk_6 (dk_at dksX3_monoRead_9 20 rfl rfl)
theorem dX3_monoRead_234 : decode cX3_monoRead 234 = .ok (.iload_n 1, 1) := dk_27 (dk_at dksX3_monoRead_9 21 rfl rfl)
theorem dX3_monoRead_235 : decode cX3_monoRead 235 = .ok (.invokespecial 61, 3) := dk_183 0 61 (dk_at dksX3_monoRead_10 0 rfl rfl)
theorem dX3_monoRead_238 : decode cX3_monoRead 238 = .ok (.athrow, 1) := dk_191 (dk_at dksX3_monoRead_10 3 rfl rfl)
theorem dX3_monoRead_239 : decode cX3_monoRead 239 = .ok (.goto (-164), 3) := dk_167 255 92 (dk_at dksX3_monoRead_10 4 rfl rfl)
theorem dX3_monoRead_242 : decode cX3_monoRead 242 = .ok (.aload_n 0, 1) := dk_42 (dk_at dksX3_monoRead_10 7 rfl rfl)
theorem dX3_monoRead_243 : decode cX3_monoRead 243 = .ok (.aload_n 0, 1) := dk_42 (dk_at dksX3_monoRead_10 8 rfl rfl)
theorem dX3_monoRead_244 : decode cX3_monoRead 244 = .ok (.getfield 52, 3) := dk_180 0 52 (dk_at dksX3_monoRead_10 9 rfl rfl)
theorem dX3_monoRead_247 : decode cX3_monoRead 247 = .ok (.putfield 15, 3) := dk_181 0 15 (dk_at dksX3_monoRead_10 12 rfl rfl)
theorem dX3_monoRead_250 : decode cX3_monoRead 250 = .ok (.aload_n 0, 1) := dk_42 (dk_at dksX3_monoRead_10 15 rfl rfl)
theorem dX3_monoRead_251 : decode cX3_monoRead 251 = .ok (.getfield 25, 3) := dk_180 0 25 (dk_at dksX3_monoRead_10 16 rfl rfl)
theorem dX3_monoRead_254 : decode cX3_monoRead 254 = .ok (.new 113, 3) := dk_187 0 113 (dk_at dksX3_monoRead_10 19 rfl rfl)
theorem dX3_monoRead_257 : decode cX3_monoRead 257 = .ok (.dup, 1) := dk_89 (dk_at dksX3_monoRead_10 22 rfl rfl)
theorem dX3_monoRead_258 : decode cX3_monoRead 258 = .ok (.aload_n 2, 1) := dk_44 (dk_at dksX3_monoRead_10 23 rfl rfl)
theorem dX3_monoRead_259 : decode cX3_monoRead 259 = .ok (.invokespecial 115, 3) := dk_183 0 115 (dk_at dksX3_monoRead_11 0 rfl rfl)
theorem dX3_monoRead_262 : decode cX3_monoRead 262 = .ok (.invokeinterface 118 2, 5) := by decide +kernel
theorem dX3_monoRead_267 : decode cX3_monoRead 267 = .ok (.pop, 1) := dk_87 (dk_at dksX3_monoRead_11 8 rfl rfl)
theorem dX3_monoRead_268 : decode cX3_monoRead 268 = .ok (.return_, 1) := dk_177 (dk_at dksX3_monoRead_11 9 rfl rfl)
abbrev cX3_rowRead : ByteArray := prog_7_method_12_code
def yX3_rowRead : MethodName := ⟨RX3, "rowRead", "()V"⟩
def dkwX3_rowRead_2 : List UInt8 := [181, 0, 121, 42, 182, 0, 105, 153, 255, 203, 177]
abbrev dktX3_rowRead_2 : List UInt8 := dkwX3_rowRead_2 ++ []
def dkwX3_rowRead_1 : List UInt8 := [27, 183, 0, 61, 191, 42, 180, 0, 29, 42, 180, 0, 121, 28, 79, 42, 89, 180, 0, 121, 4, 96]
abbrev dktX3_rowRead_1 : List UInt8 := dkwX3_rowRead_1 ++ dktX3_rowRead_2
def dkwX3_rowRead_0 : List UInt8 := [42, 182, 0, 57, 60, 42, 182, 0, 100, 61, 42, 180, 0, 121, 16, 13, 160, 0, 13, 187, 0, 55, 89, 6]
abbrev dktX3_rowRead_0 : List UInt8 := dkwX3_rowRead_0 ++ dktX3_rowRead_1
theorem dksX3_rowRead_0 : cX3_rowRead.data.toList.drop 0 = dktX3_rowRead_0 := by decide +kernel
theorem dksX3_rowRead_1 : cX3_rowRead.data.toList.drop 24 = dktX3_rowRead_1 := dk_seg dksX3_rowRead_0 24 rfl rfl
theorem dksX3_rowRead_2 : cX3_rowRead.data.toList.drop 46 = dktX3_rowRead_2 := dk_seg dksX3_rowRead_1 22 rfl rfl
theorem dX3_rowRead_0 : decode cX3_rowRead 0 = .ok (.aload_n 0, 1) := dk_42 (dk_at dksX3_rowRead_0 0 rfl rfl)
theorem dX3_rowRead_1 : decode cX3_rowRead 1 = .ok (.invokevirtual 57, 3) := dk_182 0 57 (dk_at dksX3_rowRead_0 1 rfl rfl)
theorem dX3_rowRead_4 : decode cX3_rowRead 4 = .ok (.istore_n 1, 1) := dk_60 (dk_at dksX3_rowRead_0 4 rfl rfl)
theorem dX3_rowRead_5 : decode cX3_rowRead 5 = .ok (.aload_n 0, 1) := dk_42 (dk_at dksX3_rowRead_0 5 rfl rfl)
theorem dX3_rowRead_6 : decode cX3_rowRead 6 = .ok (.invokevirtual 100, 3) := dk_182 0 100 (dk_at dksX3_rowRead_0 6 rfl rfl)
theorem dX3_rowRead_9 : decode cX3_rowRead 9 = .ok (.istore_n 2, 1) := dk_61 (dk_at dksX3_rowRead_0 9 rfl rfl)
theorem dX3_rowRead_10 : decode cX3_rowRead 10 = .ok (.aload_n 0, 1) := dk_42 (dk_at dksX3_rowRead_0 10 rfl rfl)
theorem dX3_rowRead_11 : decode cX3_rowRead 11 = .ok (.getfield 121, 3) := dk_180 0 121 (dk_at dksX3_rowRead_0 11 rfl rfl)
theorem dX3_rowRead_14 : decode cX3_rowRead 14 = .ok (.bipush 13, 2) := dk_16 13 (dk_at dksX3_rowRead_0 14 rfl rfl)
theorem dX3_rowRead_16 : decode cX3_rowRead 16 = .ok (.if_icmp .ne 13, 3) := dk_160 0 13 (dk_at dksX3_rowRead_0 16 rfl rfl)
theorem dX3_rowRead_19 : decode cX3_rowRead 19 = .ok (.new 55, 3) := dk_187 0 55 (dk_at dksX3_rowRead_0 19 rfl rfl)
theorem dX3_rowRead_22 : decode cX3_rowRead 22 = .ok (.dup, 1) := dk_89 (dk_at dksX3_rowRead_0 22 rfl rfl)
theorem dX3_rowRead_23 : decode cX3_rowRead 23 = .ok (.iconst 3, 1) := dk_6 (dk_at dksX3_rowRead_0 23 rfl rfl)
theorem dX3_rowRead_24 : decode cX3_rowRead 24 = .ok (.iload_n 1, 1) := dk_27 (dk_at dksX3_rowRead_1 0 rfl rfl)
theorem dX3_rowRead_25 : decode cX3_rowRead 25 = .ok (.invokespecial 61, 3) := dk_183 0 61 (dk_at dksX3_rowRead_1 1 rfl rfl)
theorem dX3_rowRead_28 : decode cX3_rowRead 28 = .ok (.athrow, 1) := dk_191 (dk_at dksX3_rowRead_1 4 rfl rfl)
theorem dX3_rowRead_29 : decode cX3_rowRead 29 = .ok (.aload_n 0, 1) := dk_42 (dk_at dksX3_rowRead_1 5 rfl rfl)
theorem dX3_rowRead_30 : decode cX3_rowRead 30 = .ok (.getfield 29, 3) := dk_180 0 29 (dk_at dksX3_rowRead_1 6 rfl rfl)
theorem dX3_rowRead_33 : decode cX3_rowRead 33 = .ok (.aload_n 0, 1) := dk_42 (dk_at dksX3_rowRead_1 9 rfl rfl)
theorem dX3_rowRead_34 : decode cX3_rowRead 34 = .ok (.getfield 121, 3) := dk_180 0 121 (dk_at dksX3_rowRead_1 10 rfl rfl)
theorem dX3_rowRead_37 : decode cX3_rowRead 37 = .ok (.iload_n 2, 1) := dk_28 (dk_at dksX3_rowRead_1 13 rfl rfl)
theorem dX3_rowRead_38 : decode cX3_rowRead 38 = .ok (.iastore, 1) := dk_79 (dk_at dksX3_rowRead_1 14 rfl rfl)
theorem dX3_rowRead_39 : decode cX3_rowRead 39 = .ok (.aload_n 0, 1) := dk_42 (dk_at dksX3_rowRead_1 15 rfl rfl)
theorem dX3_rowRead_40 : decode cX3_rowRead 40 = .ok (.dup, 1) := dk_89 (dk_at dksX3_rowRead_1 16 rfl rfl)
theorem dX3_rowRead_41 : decode cX3_rowRead 41 = .ok (.getfield 121, 3) := dk_180 0 121 (dk_at dksX3_rowRead_1 17 rfl rfl)
theorem dX3_rowRead_44 : decode cX3_rowRead 44 = .ok (.iconst 1, 1) := dk_4 (dk_at dksX3_rowRead_1 20 rfl rfl)
theorem dX3_rowRead_45 : decode cX3_rowRead 45 = .ok (.iadd, 1) := dk_96 (dk_at dksX3_rowRead_1 21 rfl rfl)
theorem dX3_rowRead_46 : decode cX3_rowRead 46 = .ok (.putfield 121, 3) := dk_181 0 121 (dk_at dksX3_rowRead_2 0 rfl rfl)
theorem dX3_rowRead_49 : decode cX3_rowRead 49 = .ok (.aload_n 0, 1) := dk_42 (dk_at dksX3_rowRead_2 3 rfl rfl)
theorem dX3_rowRead_50 : decode cX3_rowRead 50 = .ok (.invokevirtual 105, 3) := dk_182 0 105 (dk_at dksX3_rowRead_2 4 rfl rfl)
theorem dX3_rowRead_53 : decode cX3_rowRead 53 = .ok (.ifCond .eq (-53), 3) := dk_153 255 203 (dk_at dksX3_rowRead_2 7 rfl rfl)
theorem dX3_rowRead_56 : decode cX3_rowRead 56 = .ok (.return_, 1) := dk_177 (dk_at dksX3_rowRead_2 10 rfl rfl)
abbrev cX4_init : ByteArray := prog_4_method_1_code
def yX4_init : MethodName := ⟨RX4, "<init>", "(II)V"⟩
def dkwX4_init_0 : List UInt8 := [42, 1, 1, 3, 3, 183, 0, 1, 42, 27, 181, 0, 7, 42, 28, 181, 0, 13, 177]
abbrev dktX4_init_0 : List UInt8 := dkwX4_init_0 ++ []
theorem dksX4_init_0 : cX4_init.data.toList.drop 0 = dktX4_init_0 := by decide +kernel
theorem dX4_init_0 : decode cX4_init 0 = .ok (.aload_n 0, 1) := dk_42 (dk_at dksX4_init_0 0 rfl rfl)
theorem dX4_init_1 : decode cX4_init 1 = .ok (.aconst_null, 1) := dk_1 (dk_at dksX4_init_0 1 rfl rfl)
theorem dX4_init_2 : decode cX4_init 2 = .ok (.aconst_null, 1) := dk_1 (dk_at dksX4_init_0 2 rfl rfl)
theorem dX4_init_3 : decode cX4_init 3 = .ok (.iconst 0, 1) := dk_3 (dk_at dksX4_init_0 3 rfl rfl)
theorem dX4_init_4 : decode cX4_init 4 = .ok (.iconst 0, 1) := dk_3 (dk_at dksX4_init_0 4 rfl rfl)
theorem dX4_init_5 : decode cX4_init 5 = .ok (.invokespecial 1, 3) := dk_183 0 1 (dk_at dksX4_init_0 5 rfl rfl)
theorem dX4_init_8 : decode cX4_init 8 = .ok (.aload_n 0, 1) := dk_42 (dk_at dksX4_init_0 8 rfl rfl)
theorem dX4_init_9 : decode cX4_init 9 = .ok (.iload_n 1, 1) := dk_27 (dk_at dksX4_init_0 9 rfl rfl)
theorem dX4_init_10 : decode cX4_init 10 = .ok (.putfield 7, 3) := dk_181 0 7 (dk_at dksX4_init_0 10 rfl rfl)
theorem dX4_init_13 : decode cX4_init 13 = .ok (.aload_n 0, 1) := dk_42 (dk_at dksX4_init_0 13 rfl rfl)
theorem dX4_init_14 : decode cX4_init 14 = .ok (.iload_n 2, 1) := dk_28 (dk_at dksX4_init_0 14 rfl rfl)
theorem dX4_init_15 : decode cX4_init 15 = .ok (.putfield 13, 3) := dk_181 0 13 (dk_at dksX4_init_0 15 rfl rfl)
theorem dX4_init_18 : decode cX4_init 18 = .ok (.return_, 1) := dk_177 (dk_at dksX4_init_0 18 rfl rfl)
abbrev cX5_init : ByteArray := prog_6_method_1_code
def yX5_init : MethodName := ⟨RX5, "<init>", "([I)V"⟩
def dkwX5_init_1 : List UInt8 := [43, 28, 46, 79, 42, 89, 180, 0, 15, 43, 28, 46, 96, 181, 0, 15, 132, 2, 1, 167, 255, 226, 177]
abbrev dktX5_init_1 : List UInt8 := dkwX5_init_1 ++ []
def dkwX5_init_0 : List UInt8 := [42, 183, 0, 3, 42, 7, 188, 10, 181, 0, 9, 3, 61, 28, 43, 190, 162, 0, 30, 42, 180, 0, 9, 28]
abbrev dktX5_init_0 : List UInt8 := dkwX5_init_0 ++ dktX5_init_1
theorem dksX5_init_0 : cX5_init.data.toList.drop 0 = dktX5_init_0 := by decide +kernel
theorem dksX5_init_1 : cX5_init.data.toList.drop 24 = dktX5_init_1 := dk_seg dksX5_init_0 24 rfl rfl
theorem dX5_init_0 : decode cX5_init 0 = .ok (.aload_n 0, 1) := dk_42 (dk_at dksX5_init_0 0 rfl rfl)
theorem dX5_init_1 : decode cX5_init 1 = .ok (.invokespecial 3, 3) := dk_183 0 3 (dk_at dksX5_init_0 1 rfl rfl)
theorem dX5_init_4 : decode cX5_init 4 = .ok (.aload_n 0, 1) := dk_42 (dk_at dksX5_init_0 4 rfl rfl)
theorem dX5_init_5 : decode cX5_init 5 = .ok (.iconst 4, 1) := dk_7 (dk_at dksX5_init_0 5 rfl rfl)
theorem dX5_init_6 : decode cX5_init 6 = .ok (.newarray .int, 2) := dk_188_10 (dk_at dksX5_init_0 6 rfl rfl)
theorem dX5_init_8 : decode cX5_init 8 = .ok (.putfield 9, 3) := dk_181 0 9 (dk_at dksX5_init_0 8 rfl rfl)
theorem dX5_init_11 : decode cX5_init 11 = .ok (.iconst 0, 1) := dk_3 (dk_at dksX5_init_0 11 rfl rfl)
theorem dX5_init_12 : decode cX5_init 12 = .ok (.istore_n 2, 1) := dk_61 (dk_at dksX5_init_0 12 rfl rfl)
theorem dX5_init_13 : decode cX5_init 13 = .ok (.iload_n 2, 1) := dk_28 (dk_at dksX5_init_0 13 rfl rfl)
theorem dX5_init_14 : decode cX5_init 14 = .ok (.aload_n 1, 1) := dk_43 (dk_at dksX5_init_0 14 rfl rfl)
theorem dX5_init_15 : decode cX5_init 15 = .ok (.arraylength, 1) := dk_190 (dk_at dksX5_init_0 15 rfl rfl)
theorem dX5_init_16 : decode cX5_init 16 = .ok (.if_icmp .ge 30, 3) := dk_162 0 30 (dk_at dksX5_init_0 16 rfl rfl)
theorem dX5_init_19 : decode cX5_init 19 = .ok (.aload_n 0, 1) := dk_42 (dk_at dksX5_init_0 19 rfl rfl)
theorem dX5_init_20 : decode cX5_init 20 = .ok (.getfield 9, 3) := dk_180 0 9 (dk_at dksX5_init_0 20 rfl rfl)
theorem dX5_init_23 : decode cX5_init 23 = .ok (.iload_n 2, 1) := dk_28 (dk_at dksX5_init_0 23 rfl rfl)
theorem dX5_init_24 : decode cX5_init 24 = .ok (.aload_n 1, 1) := dk_43 (dk_at dksX5_init_1 0 rfl rfl)
theorem dX5_init_25 : decode cX5_init 25 = .ok (.iload_n 2, 1) := dk_28 (dk_at dksX5_init_1 1 rfl rfl)
theorem dX5_init_26 : decode cX5_init 26 = .ok (.iaload, 1) := dk_46 (dk_at dksX5_init_1 2 rfl rfl)
theorem dX5_init_27 : decode cX5_init 27 = .ok (.iastore, 1) := dk_79 (dk_at dksX5_init_1 3 rfl rfl)
theorem dX5_init_28 : decode cX5_init 28 = .ok (.aload_n 0, 1) := dk_42 (dk_at dksX5_init_1 4 rfl rfl)
theorem dX5_init_29 : decode cX5_init 29 = .ok (.dup, 1) := dk_89 (dk_at dksX5_init_1 5 rfl rfl)
theorem dX5_init_30 : decode cX5_init 30 = .ok (.getfield 15, 3) := dk_180 0 15 (dk_at dksX5_init_1 6 rfl rfl)
theorem dX5_init_33 : decode cX5_init 33 = .ok (.aload_n 1, 1) := dk_43 (dk_at dksX5_init_1 9 rfl rfl)
theorem dX5_init_34 : decode cX5_init 34 = .ok (.iload_n 2, 1) := dk_28 (dk_at dksX5_init_1 10 rfl rfl)
theorem dX5_init_35 : decode cX5_init 35 = .ok (.iaload, 1) := dk_46 (dk_at dksX5_init_1 11 rfl rfl)
theorem dX5_init_36 : decode cX5_init 36 = .ok (.iadd, 1) := dk_96 (dk_at dksX5_init_1 12 rfl rfl)
theorem dX5_init_37 : decode cX5_init 37 = .ok (.putfield 15, 3) := dk_181 0 15 (dk_at dksX5_init_1 13 rfl rfl)
theorem dX5_init_40 : decode cX5_init 40 = .ok (.iinc 2 1, 3) := dk_132 2 1 (dk_at dksX5_init_1 16 rfl rfl)
theorem dX5_init_43 : decode cX5_init 43 = .ok (.goto (-30), 3) := dk_167 255 226 (dk_at dksX5_init_1 19 rfl rfl)
theorem dX5_init_46 : decode cX5_init 46 = .ok (.return_, 1) := dk_177 (dk_at dksX5_init_1 22 rfl rfl)
abbrev cX5_fits : ByteArray := prog_6_method_4_code
def yX5_fits : MethodName := ⟨RX5, "fits", "([I)Z"⟩
def dkwX5_fits_1 : List UInt8 := [167, 255, 234, 4, 172]
abbrev dktX5_fits_1 : List UInt8 := dkwX5_fits_1 ++ []
def dkwX5_fits_0 : List UInt8 := [3, 61, 28, 7, 162, 0, 23, 42, 180, 0, 9, 28, 46, 43, 28, 46, 164, 0, 5, 3, 172, 132, 2, 1]
abbrev dktX5_fits_0 : List UInt8 := dkwX5_fits_0 ++ dktX5_fits_1
theorem dksX5_fits_0 : cX5_fits.data.toList.drop 0 = dktX5_fits_0 := by decide +kernel
theorem dksX5_fits_1 : cX5_fits.data.toList.drop 24 = dktX5_fits_1 := dk_seg dksX5_fits_0 24 rfl rfl
theorem dX5_fits_0 : decode cX5_fits 0 = .ok (.iconst 0, 1) := dk_3 (dk_at dksX5_fits_0 0 rfl rfl)
theorem dX5_fits_1 : decode cX5_fits 1 = .ok (.istore_n 2, 1) := dk_61 (dk_at dksX5_fits_0 1 rfl rfl)
theorem dX5_fits_2 : decode cX5_fits 2 = .ok (.iload_n 2, 1) := dk_28 (dk_at dksX5_fits_0 2 rfl rfl)
theorem dX5_fits_3 : decode cX5_fits 3 = .ok (.iconst 4, 1) := dk_7 (dk_at dksX5_fits_0 3 rfl rfl)
theorem dX5_fits_4 : decode cX5_fits 4 = .ok (.if_icmp .ge 23, 3) := dk_162 0 23 (dk_at dksX5_fits_0 4 rfl rfl)
theorem dX5_fits_7 : decode cX5_fits 7 = .ok (.aload_n 0, 1) := dk_42 (dk_at dksX5_fits_0 7 rfl rfl)
theorem dX5_fits_8 : decode cX5_fits 8 = .ok (.getfield 9, 3) := dk_180 0 9 (dk_at dksX5_fits_0 8 rfl rfl)
theorem dX5_fits_11 : decode cX5_fits 11 = .ok (.iload_n 2, 1) := dk_28 (dk_at dksX5_fits_0 11 rfl rfl)
theorem dX5_fits_12 : decode cX5_fits 12 = .ok (.iaload, 1) := dk_46 (dk_at dksX5_fits_0 12 rfl rfl)
theorem dX5_fits_13 : decode cX5_fits 13 = .ok (.aload_n 1, 1) := dk_43 (dk_at dksX5_fits_0 13 rfl rfl)
theorem dX5_fits_14 : decode cX5_fits 14 = .ok (.iload_n 2, 1) := dk_28 (dk_at dksX5_fits_0 14 rfl rfl)
theorem dX5_fits_15 : decode cX5_fits 15 = .ok (.iaload, 1) := dk_46 (dk_at dksX5_fits_0 15 rfl rfl)
theorem dX5_fits_16 : decode cX5_fits 16 = .ok (.if_icmp .le 5, 3) := dk_164 0 5 (dk_at dksX5_fits_0 16 rfl rfl)
theorem dX5_fits_19 : decode cX5_fits 19 = .ok (.iconst 0, 1) := dk_3 (dk_at dksX5_fits_0 19 rfl rfl)
theorem dX5_fits_20 : decode cX5_fits 20 = .ok (.ireturn, 1) := dk_172 (dk_at dksX5_fits_0 20 rfl rfl)
theorem dX5_fits_21 : decode cX5_fits 21 = .ok (.iinc 2 1, 3) := dk_132 2 1 (dk_at dksX5_fits_0 21 rfl rfl)
theorem dX5_fits_24 : decode cX5_fits 24 = .ok (.goto (-22), 3) := dk_167 255 234 (dk_at dksX5_fits_1 0 rfl rfl)
theorem dX5_fits_27 : decode cX5_fits 27 = .ok (.iconst 1, 1) := dk_4 (dk_at dksX5_fits_1 3 rfl rfl)
theorem dX5_fits_28 : decode cX5_fits 28 = .ok (.ireturn, 1) := dk_172 (dk_at dksX5_fits_1 4 rfl rfl)
abbrev cX5_isLess : ByteArray := prog_6_method_7_code
def yX5_isLess : MethodName := ⟨RX5, "isLess", "(LQuotientRows$Mono;)Z"⟩
def dkwX5_isLess_3 : List UInt8 := [28, 46, 164, 0, 7, 4, 167, 0, 4, 3, 172]
abbrev dktX5_isLess_3 : List UInt8 := dkwX5_isLess_3 ++ []
def dkwX5_isLess_2 : List UInt8 := [160, 0, 9, 132, 2, 1, 167, 255, 233, 28, 7, 162, 0, 22, 42, 180, 0, 9, 28, 46, 43, 180, 0, 9]
abbrev dktX5_isLess_2 : List UInt8 := dkwX5_isLess_2 ++ dktX5_isLess_3
def dkwX5_isLess_1 : List UInt8 := [167, 0, 4, 3, 172, 3, 61, 28, 7, 162, 0, 24, 42, 180, 0, 9, 28, 46, 43, 180, 0, 9, 28, 46]
abbrev dktX5_isLess_1 : List UInt8 := dkwX5_isLess_1 ++ dktX5_isLess_2
def dkwX5_isLess_0 : List UInt8 := [42, 180, 0, 15, 43, 180, 0, 15, 159, 0, 20, 42, 180, 0, 15, 43, 180, 0, 15, 162, 0, 7, 4]
abbrev dktX5_isLess_0 : List UInt8 := dkwX5_isLess_0 ++ dktX5_isLess_1
theorem dksX5_isLess_0 : cX5_isLess.data.toList.drop 0 = dktX5_isLess_0 := by decide +kernel
theorem dksX5_isLess_1 : cX5_isLess.data.toList.drop 23 = dktX5_isLess_1 := dk_seg dksX5_isLess_0 23 rfl rfl
theorem dksX5_isLess_2 : cX5_isLess.data.toList.drop 47 = dktX5_isLess_2 := dk_seg dksX5_isLess_1 24 rfl rfl
theorem dksX5_isLess_3 : cX5_isLess.data.toList.drop 71 = dktX5_isLess_3 := dk_seg dksX5_isLess_2 24 rfl rfl
theorem dX5_isLess_0 : decode cX5_isLess 0 = .ok (.aload_n 0, 1) := dk_42 (dk_at dksX5_isLess_0 0 rfl rfl)
theorem dX5_isLess_1 : decode cX5_isLess 1 = .ok (.getfield 15, 3) := dk_180 0 15 (dk_at dksX5_isLess_0 1 rfl rfl)
theorem dX5_isLess_4 : decode cX5_isLess 4 = .ok (.aload_n 1, 1) := dk_43 (dk_at dksX5_isLess_0 4 rfl rfl)
theorem dX5_isLess_5 : decode cX5_isLess 5 = .ok (.getfield 15, 3) := dk_180 0 15 (dk_at dksX5_isLess_0 5 rfl rfl)
theorem dX5_isLess_8 : decode cX5_isLess 8 = .ok (.if_icmp .eq 20, 3) := dk_159 0 20 (dk_at dksX5_isLess_0 8 rfl rfl)
theorem dX5_isLess_11 : decode cX5_isLess 11 = .ok (.aload_n 0, 1) := dk_42 (dk_at dksX5_isLess_0 11 rfl rfl)
theorem dX5_isLess_12 : decode cX5_isLess 12 = .ok (.getfield 15, 3) := dk_180 0 15 (dk_at dksX5_isLess_0 12 rfl rfl)
theorem dX5_isLess_15 : decode cX5_isLess 15 = .ok (.aload_n 1, 1) := dk_43 (dk_at dksX5_isLess_0 15 rfl rfl)
theorem dX5_isLess_16 : decode cX5_isLess 16 = .ok (.getfield 15, 3) := dk_180 0 15 (dk_at dksX5_isLess_0 16 rfl rfl)
theorem dX5_isLess_19 : decode cX5_isLess 19 = .ok (.if_icmp .ge 7, 3) := dk_162 0 7 (dk_at dksX5_isLess_0 19 rfl rfl)
theorem dX5_isLess_22 : decode cX5_isLess 22 = .ok (.iconst 1, 1) := dk_4 (dk_at dksX5_isLess_0 22 rfl rfl)
theorem dX5_isLess_23 : decode cX5_isLess 23 = .ok (.goto 4, 3) := dk_167 0 4 (dk_at dksX5_isLess_1 0 rfl rfl)
theorem dX5_isLess_26 : decode cX5_isLess 26 = .ok (.iconst 0, 1) := dk_3 (dk_at dksX5_isLess_1 3 rfl rfl)
theorem dX5_isLess_27 : decode cX5_isLess 27 = .ok (.ireturn, 1) := dk_172 (dk_at dksX5_isLess_1 4 rfl rfl)
theorem dX5_isLess_28 : decode cX5_isLess 28 = .ok (.iconst 0, 1) := dk_3 (dk_at dksX5_isLess_1 5 rfl rfl)
theorem dX5_isLess_29 : decode cX5_isLess 29 = .ok (.istore_n 2, 1) := dk_61 (dk_at dksX5_isLess_1 6 rfl rfl)
theorem dX5_isLess_30 : decode cX5_isLess 30 = .ok (.iload_n 2, 1) := dk_28 (dk_at dksX5_isLess_1 7 rfl rfl)
theorem dX5_isLess_31 : decode cX5_isLess 31 = .ok (.iconst 4, 1) := dk_7 (dk_at dksX5_isLess_1 8 rfl rfl)
theorem dX5_isLess_32 : decode cX5_isLess 32 = .ok (.if_icmp .ge 24, 3) := dk_162 0 24 (dk_at dksX5_isLess_1 9 rfl rfl)
theorem dX5_isLess_35 : decode cX5_isLess 35 = .ok (.aload_n 0, 1) := dk_42 (dk_at dksX5_isLess_1 12 rfl rfl)
theorem dX5_isLess_36 : decode cX5_isLess 36 = .ok (.getfield 9, 3) := dk_180 0 9 (dk_at dksX5_isLess_1 13 rfl rfl)
theorem dX5_isLess_39 : decode cX5_isLess 39 = .ok (.iload_n 2, 1) := dk_28 (dk_at dksX5_isLess_1 16 rfl rfl)
theorem dX5_isLess_40 : decode cX5_isLess 40 = .ok (.iaload, 1) := dk_46 (dk_at dksX5_isLess_1 17 rfl rfl)
theorem dX5_isLess_41 : decode cX5_isLess 41 = .ok (.aload_n 1, 1) := dk_43 (dk_at dksX5_isLess_1 18 rfl rfl)
theorem dX5_isLess_42 : decode cX5_isLess 42 = .ok (.getfield 9, 3) := dk_180 0 9 (dk_at dksX5_isLess_1 19 rfl rfl)
theorem dX5_isLess_45 : decode cX5_isLess 45 = .ok (.iload_n 2, 1) := dk_28 (dk_at dksX5_isLess_1 22 rfl rfl)
theorem dX5_isLess_46 : decode cX5_isLess 46 = .ok (.iaload, 1) := dk_46 (dk_at dksX5_isLess_1 23 rfl rfl)
theorem dX5_isLess_47 : decode cX5_isLess 47 = .ok (.if_icmp .ne 9, 3) := dk_160 0 9 (dk_at dksX5_isLess_2 0 rfl rfl)
theorem dX5_isLess_50 : decode cX5_isLess 50 = .ok (.iinc 2 1, 3) := dk_132 2 1 (dk_at dksX5_isLess_2 3 rfl rfl)
theorem dX5_isLess_53 : decode cX5_isLess 53 = .ok (.goto (-23), 3) := dk_167 255 233 (dk_at dksX5_isLess_2 6 rfl rfl)
theorem dX5_isLess_56 : decode cX5_isLess 56 = .ok (.iload_n 2, 1) := dk_28 (dk_at dksX5_isLess_2 9 rfl rfl)
theorem dX5_isLess_57 : decode cX5_isLess 57 = .ok (.iconst 4, 1) := dk_7 (dk_at dksX5_isLess_2 10 rfl rfl)
theorem dX5_isLess_58 : decode cX5_isLess 58 = .ok (.if_icmp .ge 22, 3) := dk_162 0 22 (dk_at dksX5_isLess_2 11 rfl rfl)
theorem dX5_isLess_61 : decode cX5_isLess 61 = .ok (.aload_n 0, 1) := dk_42 (dk_at dksX5_isLess_2 14 rfl rfl)
theorem dX5_isLess_62 : decode cX5_isLess 62 = .ok (.getfield 9, 3) := dk_180 0 9 (dk_at dksX5_isLess_2 15 rfl rfl)
theorem dX5_isLess_65 : decode cX5_isLess 65 = .ok (.iload_n 2, 1) := dk_28 (dk_at dksX5_isLess_2 18 rfl rfl)
theorem dX5_isLess_66 : decode cX5_isLess 66 = .ok (.iaload, 1) := dk_46 (dk_at dksX5_isLess_2 19 rfl rfl)
theorem dX5_isLess_67 : decode cX5_isLess 67 = .ok (.aload_n 1, 1) := dk_43 (dk_at dksX5_isLess_2 20 rfl rfl)
theorem dX5_isLess_68 : decode cX5_isLess 68 = .ok (.getfield 9, 3) := dk_180 0 9 (dk_at dksX5_isLess_2 21 rfl rfl)
theorem dX5_isLess_71 : decode cX5_isLess 71 = .ok (.iload_n 2, 1) := dk_28 (dk_at dksX5_isLess_3 0 rfl rfl)
theorem dX5_isLess_72 : decode cX5_isLess 72 = .ok (.iaload, 1) := dk_46 (dk_at dksX5_isLess_3 1 rfl rfl)
theorem dX5_isLess_73 : decode cX5_isLess 73 = .ok (.if_icmp .le 7, 3) := dk_164 0 7 (dk_at dksX5_isLess_3 2 rfl rfl)
theorem dX5_isLess_76 : decode cX5_isLess 76 = .ok (.iconst 1, 1) := dk_4 (dk_at dksX5_isLess_3 5 rfl rfl)
theorem dX5_isLess_77 : decode cX5_isLess 77 = .ok (.goto 4, 3) := dk_167 0 4 (dk_at dksX5_isLess_3 6 rfl rfl)
theorem dX5_isLess_80 : decode cX5_isLess 80 = .ok (.iconst 0, 1) := dk_3 (dk_at dksX5_isLess_3 9 rfl rfl)
theorem dX5_isLess_81 : decode cX5_isLess 81 = .ok (.ireturn, 1) := dk_172 (dk_at dksX5_isLess_3 10 rfl rfl)
abbrev cX5_init_2 : ByteArray := prog_6_method_2_code
def yX5_init_2 : MethodName := ⟨RX5, "<init>", "(III)V"⟩
def dkwX5_init_2_0 : List UInt8 := [42, 3, 188, 10, 183, 0, 19, 42, 180, 0, 9, 27, 28, 29, 184, 0, 22, 42, 28, 181, 0, 15, 177]
abbrev dktX5_init_2_0 : List UInt8 := dkwX5_init_2_0 ++ []
theorem dksX5_init_2_0 : cX5_init_2.data.toList.drop 0 = dktX5_init_2_0 := by decide +kernel
theorem dX5_init_2_0 : decode cX5_init_2 0 = .ok (.aload_n 0, 1) := dk_42 (dk_at dksX5_init_2_0 0 rfl rfl)
theorem dX5_init_2_1 : decode cX5_init_2 1 = .ok (.iconst 0, 1) := dk_3 (dk_at dksX5_init_2_0 1 rfl rfl)
theorem dX5_init_2_2 : decode cX5_init_2 2 = .ok (.newarray .int, 2) := dk_188_10 (dk_at dksX5_init_2_0 2 rfl rfl)
theorem dX5_init_2_4 : decode cX5_init_2 4 = .ok (.invokespecial 19, 3) := dk_183 0 19 (dk_at dksX5_init_2_0 4 rfl rfl)
theorem dX5_init_2_7 : decode cX5_init_2 7 = .ok (.aload_n 0, 1) := dk_42 (dk_at dksX5_init_2_0 7 rfl rfl)
theorem dX5_init_2_8 : decode cX5_init_2 8 = .ok (.getfield 9, 3) := dk_180 0 9 (dk_at dksX5_init_2_0 8 rfl rfl)
theorem dX5_init_2_11 : decode cX5_init_2 11 = .ok (.iload_n 1, 1) := dk_27 (dk_at dksX5_init_2_0 11 rfl rfl)
theorem dX5_init_2_12 : decode cX5_init_2 12 = .ok (.iload_n 2, 1) := dk_28 (dk_at dksX5_init_2_0 12 rfl rfl)
theorem dX5_init_2_13 : decode cX5_init_2 13 = .ok (.iload_n 3, 1) := dk_29 (dk_at dksX5_init_2_0 13 rfl rfl)
theorem dX5_init_2_14 : decode cX5_init_2 14 = .ok (.invokestatic 22, 3) := dk_184 0 22 (dk_at dksX5_init_2_0 14 rfl rfl)
theorem dX5_init_2_17 : decode cX5_init_2 17 = .ok (.aload_n 0, 1) := dk_42 (dk_at dksX5_init_2_0 17 rfl rfl)
theorem dX5_init_2_18 : decode cX5_init_2 18 = .ok (.iload_n 2, 1) := dk_28 (dk_at dksX5_init_2_0 18 rfl rfl)
theorem dX5_init_2_19 : decode cX5_init_2 19 = .ok (.putfield 15, 3) := dk_181 0 15 (dk_at dksX5_init_2_0 19 rfl rfl)
theorem dX5_init_2_22 : decode cX5_init_2 22 = .ok (.return_, 1) := dk_177 (dk_at dksX5_init_2_0 22 rfl rfl)
abbrev cX5_number : ByteArray := prog_6_method_3_code
def yX5_number : MethodName := ⟨RX5, "number", "(I)I"⟩
def dkwX5_number_0 : List UInt8 := [42, 180, 0, 9, 42, 180, 0, 15, 27, 184, 0, 26, 172]
abbrev dktX5_number_0 : List UInt8 := dkwX5_number_0 ++ []
theorem dksX5_number_0 : cX5_number.data.toList.drop 0 = dktX5_number_0 := by decide +kernel
theorem dX5_number_0 : decode cX5_number 0 = .ok (.aload_n 0, 1) := dk_42 (dk_at dksX5_number_0 0 rfl rfl)
theorem dX5_number_1 : decode cX5_number 1 = .ok (.getfield 9, 3) := dk_180 0 9 (dk_at dksX5_number_0 1 rfl rfl)
theorem dX5_number_4 : decode cX5_number 4 = .ok (.aload_n 0, 1) := dk_42 (dk_at dksX5_number_0 4 rfl rfl)
theorem dX5_number_5 : decode cX5_number 5 = .ok (.getfield 15, 3) := dk_180 0 15 (dk_at dksX5_number_0 5 rfl rfl)
theorem dX5_number_8 : decode cX5_number 8 = .ok (.iload_n 1, 1) := dk_27 (dk_at dksX5_number_0 8 rfl rfl)
theorem dX5_number_9 : decode cX5_number 9 = .ok (.invokestatic 26, 3) := dk_184 0 26 (dk_at dksX5_number_0 9 rfl rfl)
theorem dX5_number_12 : decode cX5_number 12 = .ok (.ireturn, 1) := dk_172 (dk_at dksX5_number_0 12 rfl rfl)
abbrev cX5_over : ByteArray := prog_6_method_6_code
def yX5_over : MethodName := ⟨RX5, "over", "(LQuotientRows$Mono;)LQuotientRows$Mono;"⟩
def dkwX5_over_1 : List UInt8 := [29, 46, 100, 184, 0, 30, 79, 132, 3, 1, 167, 255, 228, 187, 0, 10, 89, 44, 183, 0, 19, 176]
abbrev dktX5_over_1 : List UInt8 := dkwX5_over_1 ++ []
def dkwX5_over_0 : List UInt8 := [7, 188, 10, 77, 3, 62, 29, 7, 162, 0, 29, 44, 29, 3, 42, 180, 0, 9, 29, 46, 43, 180, 0, 9]
abbrev dktX5_over_0 : List UInt8 := dkwX5_over_0 ++ dktX5_over_1
theorem dksX5_over_0 : cX5_over.data.toList.drop 0 = dktX5_over_0 := by decide +kernel
theorem dksX5_over_1 : cX5_over.data.toList.drop 24 = dktX5_over_1 := dk_seg dksX5_over_0 24 rfl rfl
theorem dX5_over_0 : decode cX5_over 0 = .ok (.iconst 4, 1) := dk_7 (dk_at dksX5_over_0 0 rfl rfl)
theorem dX5_over_1 : decode cX5_over 1 = .ok (.newarray .int, 2) := dk_188_10 (dk_at dksX5_over_0 1 rfl rfl)
theorem dX5_over_3 : decode cX5_over 3 = .ok (.astore_n 2, 1) := dk_77 (dk_at dksX5_over_0 3 rfl rfl)
theorem dX5_over_4 : decode cX5_over 4 = .ok (.iconst 0, 1) := dk_3 (dk_at dksX5_over_0 4 rfl rfl)
theorem dX5_over_5 : decode cX5_over 5 = .ok (.istore_n 3, 1) := dk_62 (dk_at dksX5_over_0 5 rfl rfl)
theorem dX5_over_6 : decode cX5_over 6 = .ok (.iload_n 3, 1) := dk_29 (dk_at dksX5_over_0 6 rfl rfl)
theorem dX5_over_7 : decode cX5_over 7 = .ok (.iconst 4, 1) := dk_7 (dk_at dksX5_over_0 7 rfl rfl)
theorem dX5_over_8 : decode cX5_over 8 = .ok (.if_icmp .ge 29, 3) := dk_162 0 29 (dk_at dksX5_over_0 8 rfl rfl)
theorem dX5_over_11 : decode cX5_over 11 = .ok (.aload_n 2, 1) := dk_44 (dk_at dksX5_over_0 11 rfl rfl)
theorem dX5_over_12 : decode cX5_over 12 = .ok (.iload_n 3, 1) := dk_29 (dk_at dksX5_over_0 12 rfl rfl)
theorem dX5_over_13 : decode cX5_over 13 = .ok (.iconst 0, 1) := dk_3 (dk_at dksX5_over_0 13 rfl rfl)
theorem dX5_over_14 : decode cX5_over 14 = .ok (.aload_n 0, 1) := dk_42 (dk_at dksX5_over_0 14 rfl rfl)
theorem dX5_over_15 : decode cX5_over 15 = .ok (.getfield 9, 3) := dk_180 0 9 (dk_at dksX5_over_0 15 rfl rfl)
theorem dX5_over_18 : decode cX5_over 18 = .ok (.iload_n 3, 1) := dk_29 (dk_at dksX5_over_0 18 rfl rfl)
theorem dX5_over_19 : decode cX5_over 19 = .ok (.iaload, 1) := dk_46 (dk_at dksX5_over_0 19 rfl rfl)
theorem dX5_over_20 : decode cX5_over 20 = .ok (.aload_n 1, 1) := dk_43 (dk_at dksX5_over_0 20 rfl rfl)
theorem dX5_over_21 : decode cX5_over 21 = .ok (.getfield 9, 3) := dk_180 0 9 (dk_at dksX5_over_0 21 rfl rfl)
theorem dX5_over_24 : decode cX5_over 24 = .ok (.iload_n 3, 1) := dk_29 (dk_at dksX5_over_1 0 rfl rfl)
theorem dX5_over_25 : decode cX5_over 25 = .ok (.iaload, 1) := dk_46 (dk_at dksX5_over_1 1 rfl rfl)
theorem dX5_over_26 : decode cX5_over 26 = .ok (.isub, 1) := dk_100 (dk_at dksX5_over_1 2 rfl rfl)
theorem dX5_over_27 : decode cX5_over 27 = .ok (.invokestatic 30, 3) := dk_184 0 30 (dk_at dksX5_over_1 3 rfl rfl)
theorem dX5_over_30 : decode cX5_over 30 = .ok (.iastore, 1) := dk_79 (dk_at dksX5_over_1 6 rfl rfl)
theorem dX5_over_31 : decode cX5_over 31 = .ok (.iinc 3 1, 3) := dk_132 3 1 (dk_at dksX5_over_1 7 rfl rfl)
theorem dX5_over_34 : decode cX5_over 34 = .ok (.goto (-28), 3) := dk_167 255 228 (dk_at dksX5_over_1 10 rfl rfl)
theorem dX5_over_37 : decode cX5_over 37 = .ok (.new 10, 3) := dk_187 0 10 (dk_at dksX5_over_1 13 rfl rfl)
theorem dX5_over_40 : decode cX5_over 40 = .ok (.dup, 1) := dk_89 (dk_at dksX5_over_1 16 rfl rfl)
theorem dX5_over_41 : decode cX5_over 41 = .ok (.aload_n 2, 1) := dk_44 (dk_at dksX5_over_1 17 rfl rfl)
theorem dX5_over_42 : decode cX5_over 42 = .ok (.invokespecial 19, 3) := dk_183 0 19 (dk_at dksX5_over_1 18 rfl rfl)
theorem dX5_over_45 : decode cX5_over 45 = .ok (.areturn, 1) := dk_176 (dk_at dksX5_over_1 21 rfl rfl)
abbrev cX5_times : ByteArray := prog_6_method_5_code
def yX5_times : MethodName := ⟨RX5, "times", "(LQuotientRows$Mono;)LQuotientRows$Mono;"⟩
def dkwX5_times_3 : List UInt8 := [183, 0, 19, 176]
abbrev dktX5_times_3 : List UInt8 := dkwX5_times_3 ++ []
def dkwX5_times_2 : List UInt8 := [180, 0, 9, 5, 46, 96, 79, 89, 6, 42, 180, 0, 9, 6, 46, 43, 180, 0, 9, 6, 46, 96, 79]
abbrev dktX5_times_2 : List UInt8 := dkwX5_times_2 ++ dktX5_times_3
def dkwX5_times_1 : List UInt8 := [4, 42, 180, 0, 9, 4, 46, 43, 180, 0, 9, 4, 46, 96, 79, 89, 5, 42, 180, 0, 9, 5, 46, 43]
abbrev dktX5_times_1 : List UInt8 := dkwX5_times_1 ++ dktX5_times_2
def dkwX5_times_0 : List UInt8 := [187, 0, 10, 89, 7, 188, 10, 89, 3, 42, 180, 0, 9, 3, 46, 43, 180, 0, 9, 3, 46, 96, 79, 89]
abbrev dktX5_times_0 : List UInt8 := dkwX5_times_0 ++ dktX5_times_1
theorem dksX5_times_0 : cX5_times.data.toList.drop 0 = dktX5_times_0 := by decide +kernel
theorem dksX5_times_1 : cX5_times.data.toList.drop 24 = dktX5_times_1 := dk_seg dksX5_times_0 24 rfl rfl
theorem dksX5_times_2 : cX5_times.data.toList.drop 48 = dktX5_times_2 := dk_seg dksX5_times_1 24 rfl rfl
theorem dksX5_times_3 : cX5_times.data.toList.drop 71 = dktX5_times_3 := dk_seg dksX5_times_2 23 rfl rfl
theorem dX5_times_0 : decode cX5_times 0 = .ok (.new 10, 3) := dk_187 0 10 (dk_at dksX5_times_0 0 rfl rfl)
theorem dX5_times_3 : decode cX5_times 3 = .ok (.dup, 1) := dk_89 (dk_at dksX5_times_0 3 rfl rfl)
theorem dX5_times_4 : decode cX5_times 4 = .ok (.iconst 4, 1) := dk_7 (dk_at dksX5_times_0 4 rfl rfl)
theorem dX5_times_5 : decode cX5_times 5 = .ok (.newarray .int, 2) := dk_188_10 (dk_at dksX5_times_0 5 rfl rfl)
theorem dX5_times_7 : decode cX5_times 7 = .ok (.dup, 1) := dk_89 (dk_at dksX5_times_0 7 rfl rfl)
theorem dX5_times_8 : decode cX5_times 8 = .ok (.iconst 0, 1) := dk_3 (dk_at dksX5_times_0 8 rfl rfl)
theorem dX5_times_9 : decode cX5_times 9 = .ok (.aload_n 0, 1) := dk_42 (dk_at dksX5_times_0 9 rfl rfl)
theorem dX5_times_10 : decode cX5_times 10 = .ok (.getfield 9, 3) := dk_180 0 9 (dk_at dksX5_times_0 10 rfl rfl)
theorem dX5_times_13 : decode cX5_times 13 = .ok (.iconst 0, 1) := dk_3 (dk_at dksX5_times_0 13 rfl rfl)
theorem dX5_times_14 : decode cX5_times 14 = .ok (.iaload, 1) := dk_46 (dk_at dksX5_times_0 14 rfl rfl)
theorem dX5_times_15 : decode cX5_times 15 = .ok (.aload_n 1, 1) := dk_43 (dk_at dksX5_times_0 15 rfl rfl)
theorem dX5_times_16 : decode cX5_times 16 = .ok (.getfield 9, 3) := dk_180 0 9 (dk_at dksX5_times_0 16 rfl rfl)
theorem dX5_times_19 : decode cX5_times 19 = .ok (.iconst 0, 1) := dk_3 (dk_at dksX5_times_0 19 rfl rfl)
theorem dX5_times_20 : decode cX5_times 20 = .ok (.iaload, 1) := dk_46 (dk_at dksX5_times_0 20 rfl rfl)
theorem dX5_times_21 : decode cX5_times 21 = .ok (.iadd, 1) := dk_96 (dk_at dksX5_times_0 21 rfl rfl)
theorem dX5_times_22 : decode cX5_times 22 = .ok (.iastore, 1) := dk_79 (dk_at dksX5_times_0 22 rfl rfl)
theorem dX5_times_23 : decode cX5_times 23 = .ok (.dup, 1) := dk_89 (dk_at dksX5_times_0 23 rfl rfl)
theorem dX5_times_24 : decode cX5_times 24 = .ok (.iconst 1, 1) := dk_4 (dk_at dksX5_times_1 0 rfl rfl)
theorem dX5_times_25 : decode cX5_times 25 = .ok (.aload_n 0, 1) := dk_42 (dk_at dksX5_times_1 1 rfl rfl)
theorem dX5_times_26 : decode cX5_times 26 = .ok (.getfield 9, 3) := dk_180 0 9 (dk_at dksX5_times_1 2 rfl rfl)
theorem dX5_times_29 : decode cX5_times 29 = .ok (.iconst 1, 1) := dk_4 (dk_at dksX5_times_1 5 rfl rfl)
theorem dX5_times_30 : decode cX5_times 30 = .ok (.iaload, 1) := dk_46 (dk_at dksX5_times_1 6 rfl rfl)
theorem dX5_times_31 : decode cX5_times 31 = .ok (.aload_n 1, 1) := dk_43 (dk_at dksX5_times_1 7 rfl rfl)
theorem dX5_times_32 : decode cX5_times 32 = .ok (.getfield 9, 3) := dk_180 0 9 (dk_at dksX5_times_1 8 rfl rfl)
theorem dX5_times_35 : decode cX5_times 35 = .ok (.iconst 1, 1) := dk_4 (dk_at dksX5_times_1 11 rfl rfl)
theorem dX5_times_36 : decode cX5_times 36 = .ok (.iaload, 1) := dk_46 (dk_at dksX5_times_1 12 rfl rfl)
theorem dX5_times_37 : decode cX5_times 37 = .ok (.iadd, 1) := dk_96 (dk_at dksX5_times_1 13 rfl rfl)
theorem dX5_times_38 : decode cX5_times 38 = .ok (.iastore, 1) := dk_79 (dk_at dksX5_times_1 14 rfl rfl)
theorem dX5_times_39 : decode cX5_times 39 = .ok (.dup, 1) := dk_89 (dk_at dksX5_times_1 15 rfl rfl)
theorem dX5_times_40 : decode cX5_times 40 = .ok (.iconst 2, 1) := dk_5 (dk_at dksX5_times_1 16 rfl rfl)
theorem dX5_times_41 : decode cX5_times 41 = .ok (.aload_n 0, 1) := dk_42 (dk_at dksX5_times_1 17 rfl rfl)
theorem dX5_times_42 : decode cX5_times 42 = .ok (.getfield 9, 3) := dk_180 0 9 (dk_at dksX5_times_1 18 rfl rfl)
theorem dX5_times_45 : decode cX5_times 45 = .ok (.iconst 2, 1) := dk_5 (dk_at dksX5_times_1 21 rfl rfl)
theorem dX5_times_46 : decode cX5_times 46 = .ok (.iaload, 1) := dk_46 (dk_at dksX5_times_1 22 rfl rfl)
theorem dX5_times_47 : decode cX5_times 47 = .ok (.aload_n 1, 1) := dk_43 (dk_at dksX5_times_1 23 rfl rfl)
theorem dX5_times_48 : decode cX5_times 48 = .ok (.getfield 9, 3) := dk_180 0 9 (dk_at dksX5_times_2 0 rfl rfl)
theorem dX5_times_51 : decode cX5_times 51 = .ok (.iconst 2, 1) := dk_5 (dk_at dksX5_times_2 3 rfl rfl)
theorem dX5_times_52 : decode cX5_times 52 = .ok (.iaload, 1) := dk_46 (dk_at dksX5_times_2 4 rfl rfl)
theorem dX5_times_53 : decode cX5_times 53 = .ok (.iadd, 1) := dk_96 (dk_at dksX5_times_2 5 rfl rfl)
theorem dX5_times_54 : decode cX5_times 54 = .ok (.iastore, 1) := dk_79 (dk_at dksX5_times_2 6 rfl rfl)
theorem dX5_times_55 : decode cX5_times 55 = .ok (.dup, 1) := dk_89 (dk_at dksX5_times_2 7 rfl rfl)
theorem dX5_times_56 : decode cX5_times 56 = .ok (.iconst 3, 1) := dk_6 (dk_at dksX5_times_2 8 rfl rfl)
theorem dX5_times_57 : decode cX5_times 57 = .ok (.aload_n 0, 1) := dk_42 (dk_at dksX5_times_2 9 rfl rfl)
theorem dX5_times_58 : decode cX5_times 58 = .ok (.getfield 9, 3) := dk_180 0 9 (dk_at dksX5_times_2 10 rfl rfl)
theorem dX5_times_61 : decode cX5_times 61 = .ok (.iconst 3, 1) := dk_6 (dk_at dksX5_times_2 13 rfl rfl)
theorem dX5_times_62 : decode cX5_times 62 = .ok (.iaload, 1) := dk_46 (dk_at dksX5_times_2 14 rfl rfl)
theorem dX5_times_63 : decode cX5_times 63 = .ok (.aload_n 1, 1) := dk_43 (dk_at dksX5_times_2 15 rfl rfl)
theorem dX5_times_64 : decode cX5_times 64 = .ok (.getfield 9, 3) := dk_180 0 9 (dk_at dksX5_times_2 16 rfl rfl)
theorem dX5_times_67 : decode cX5_times 67 = .ok (.iconst 3, 1) := dk_6 (dk_at dksX5_times_2 19 rfl rfl)
theorem dX5_times_68 : decode cX5_times 68 = .ok (.iaload, 1) := dk_46 (dk_at dksX5_times_2 20 rfl rfl)
theorem dX5_times_69 : decode cX5_times 69 = .ok (.iadd, 1) := dk_96 (dk_at dksX5_times_2 21 rfl rfl)
theorem dX5_times_70 : decode cX5_times 70 = .ok (.iastore, 1) := dk_79 (dk_at dksX5_times_2 22 rfl rfl)
theorem dX5_times_71 : decode cX5_times 71 = .ok (.invokespecial 19, 3) := dk_183 0 19 (dk_at dksX5_times_3 0 rfl rfl)
theorem dX5_times_74 : decode cX5_times 74 = .ok (.areturn, 1) := dk_176 (dk_at dksX5_times_3 3 rfl rfl)
abbrev cX6_init : ByteArray := prog_3_method_1_code
def yX6_init : MethodName := ⟨RX6, "<init>", "(JI)V"⟩
def dkwX6_init_3 : List UInt8 := [55, 4, 42, 21, 6, 181, 0, 15, 132, 6, 255, 167, 255, 203, 177]
abbrev dktX6_init_3 : List UInt8 := dkwX6_init_3 ++ []
def dkwX6_init_2 : List UInt8 := [22, 4, 21, 6, 184, 0, 22, 80, 22, 4, 42, 180, 0, 9, 21, 6, 47, 21, 6, 133, 184, 0, 26, 101]
abbrev dktX6_init_2 : List UInt8 := dkwX6_init_2 ++ dktX6_init_3
def dkwX6_init_1 : List UInt8 := [55, 4, 29, 54, 6, 21, 6, 158, 0, 54, 22, 4, 9, 148, 158, 0, 47, 42, 180, 0, 9, 21, 6]
abbrev dktX6_init_1 : List UInt8 := dkwX6_init_1 ++ dktX6_init_2
def dkwX6_init_0 : List UInt8 := [42, 183, 0, 3, 42, 16, 42, 188, 11, 181, 0, 9, 42, 16, 42, 181, 0, 15, 42, 29, 181, 0, 19, 31]
abbrev dktX6_init_0 : List UInt8 := dkwX6_init_0 ++ dktX6_init_1
theorem dksX6_init_0 : cX6_init.data.toList.drop 0 = dktX6_init_0 := by decide +kernel
theorem dksX6_init_1 : cX6_init.data.toList.drop 24 = dktX6_init_1 := dk_seg dksX6_init_0 24 rfl rfl
theorem dksX6_init_2 : cX6_init.data.toList.drop 47 = dktX6_init_2 := dk_seg dksX6_init_1 23 rfl rfl
theorem dksX6_init_3 : cX6_init.data.toList.drop 71 = dktX6_init_3 := dk_seg dksX6_init_2 24 rfl rfl
theorem dX6_init_0 : decode cX6_init 0 = .ok (.aload_n 0, 1) := dk_42 (dk_at dksX6_init_0 0 rfl rfl)
theorem dX6_init_1 : decode cX6_init 1 = .ok (.invokespecial 3, 3) := dk_183 0 3 (dk_at dksX6_init_0 1 rfl rfl)
theorem dX6_init_4 : decode cX6_init 4 = .ok (.aload_n 0, 1) := dk_42 (dk_at dksX6_init_0 4 rfl rfl)
theorem dX6_init_5 : decode cX6_init 5 = .ok (.bipush 42, 2) := dk_16 42 (dk_at dksX6_init_0 5 rfl rfl)
theorem dX6_init_7 : decode cX6_init 7 = .ok (.newarray .long, 2) := dk_188_11 (dk_at dksX6_init_0 7 rfl rfl)
theorem dX6_init_9 : decode cX6_init 9 = .ok (.putfield 9, 3) := dk_181 0 9 (dk_at dksX6_init_0 9 rfl rfl)
theorem dX6_init_12 : decode cX6_init 12 = .ok (.aload_n 0, 1) := dk_42 (dk_at dksX6_init_0 12 rfl rfl)
theorem dX6_init_13 : decode cX6_init 13 = .ok (.bipush 42, 2) := dk_16 42 (dk_at dksX6_init_0 13 rfl rfl)
theorem dX6_init_15 : decode cX6_init 15 = .ok (.putfield 15, 3) := dk_181 0 15 (dk_at dksX6_init_0 15 rfl rfl)
theorem dX6_init_18 : decode cX6_init 18 = .ok (.aload_n 0, 1) := dk_42 (dk_at dksX6_init_0 18 rfl rfl)
theorem dX6_init_19 : decode cX6_init 19 = .ok (.iload_n 3, 1) := dk_29 (dk_at dksX6_init_0 19 rfl rfl)
theorem dX6_init_20 : decode cX6_init 20 = .ok (.putfield 19, 3) := dk_181 0 19 (dk_at dksX6_init_0 20 rfl rfl)
theorem dX6_init_23 : decode cX6_init 23 = .ok (.lload_n 1, 1) := dk_31 (dk_at dksX6_init_0 23 rfl rfl)
theorem dX6_init_24 : decode cX6_init 24 = .ok (.lstore 4, 2) := dk_55 4 (dk_at dksX6_init_1 0 rfl rfl)
theorem dX6_init_26 : decode cX6_init 26 = .ok (.iload_n 3, 1) := dk_29 (dk_at dksX6_init_1 2 rfl rfl)
theorem dX6_init_27 : decode cX6_init 27 = .ok (.istore 6, 2) := dk_54 6 (dk_at dksX6_init_1 3 rfl rfl)
theorem dX6_init_29 : decode cX6_init 29 = .ok (.iload 6, 2) := dk_21 6 (dk_at dksX6_init_1 5 rfl rfl)
theorem dX6_init_31 : decode cX6_init 31 = .ok (.ifCond .le 54, 3) := dk_158 0 54 (dk_at dksX6_init_1 7 rfl rfl)
theorem dX6_init_34 : decode cX6_init 34 = .ok (.lload 4, 2) := dk_22 4 (dk_at dksX6_init_1 10 rfl rfl)
theorem dX6_init_36 : decode cX6_init 36 = .ok (.lconst 0, 1) := dk_9 (dk_at dksX6_init_1 12 rfl rfl)
theorem dX6_init_37 : decode cX6_init 37 = .ok (.lcmp, 1) := dk_148 (dk_at dksX6_init_1 13 rfl rfl)
theorem dX6_init_38 : decode cX6_init 38 = .ok (.ifCond .le 47, 3) := dk_158 0 47 (dk_at dksX6_init_1 14 rfl rfl)
theorem dX6_init_41 : decode cX6_init 41 = .ok (.aload_n 0, 1) := dk_42 (dk_at dksX6_init_1 17 rfl rfl)
theorem dX6_init_42 : decode cX6_init 42 = .ok (.getfield 9, 3) := dk_180 0 9 (dk_at dksX6_init_1 18 rfl rfl)
theorem dX6_init_45 : decode cX6_init 45 = .ok (.iload 6, 2) := dk_21 6 (dk_at dksX6_init_1 21 rfl rfl)
theorem dX6_init_47 : decode cX6_init 47 = .ok (.lload 4, 2) := dk_22 4 (dk_at dksX6_init_2 0 rfl rfl)
theorem dX6_init_49 : decode cX6_init 49 = .ok (.iload 6, 2) := dk_21 6 (dk_at dksX6_init_2 2 rfl rfl)
theorem dX6_init_51 : decode cX6_init 51 = .ok (.invokestatic 22, 3) := dk_184 0 22 (dk_at dksX6_init_2 4 rfl rfl)
theorem dX6_init_54 : decode cX6_init 54 = .ok (.lastore, 1) := dk_80 (dk_at dksX6_init_2 7 rfl rfl)
theorem dX6_init_55 : decode cX6_init 55 = .ok (.lload 4, 2) := dk_22 4 (dk_at dksX6_init_2 8 rfl rfl)
theorem dX6_init_57 : decode cX6_init 57 = .ok (.aload_n 0, 1) := dk_42 (dk_at dksX6_init_2 10 rfl rfl)
theorem dX6_init_58 : decode cX6_init 58 = .ok (.getfield 9, 3) := dk_180 0 9 (dk_at dksX6_init_2 11 rfl rfl)
theorem dX6_init_61 : decode cX6_init 61 = .ok (.iload 6, 2) := dk_21 6 (dk_at dksX6_init_2 14 rfl rfl)
theorem dX6_init_63 : decode cX6_init 63 = .ok (.laload, 1) := dk_47 (dk_at dksX6_init_2 16 rfl rfl)
theorem dX6_init_64 : decode cX6_init 64 = .ok (.iload 6, 2) := dk_21 6 (dk_at dksX6_init_2 17 rfl rfl)
theorem dX6_init_66 : decode cX6_init 66 = .ok (.i2l, 1) := dk_133 (dk_at dksX6_init_2 19 rfl rfl)
theorem dX6_init_67 : decode cX6_init 67 = .ok (.invokestatic 26, 3) := dk_184 0 26 (dk_at dksX6_init_2 20 rfl rfl)
theorem dX6_init_70 : decode cX6_init 70 = .ok (.lsub, 1) := dk_101 (dk_at dksX6_init_2 23 rfl rfl)
theorem dX6_init_71 : decode cX6_init 71 = .ok (.lstore 4, 2) := dk_55 4 (dk_at dksX6_init_3 0 rfl rfl)
theorem dX6_init_73 : decode cX6_init 73 = .ok (.aload_n 0, 1) := dk_42 (dk_at dksX6_init_3 2 rfl rfl)
theorem dX6_init_74 : decode cX6_init 74 = .ok (.iload 6, 2) := dk_21 6 (dk_at dksX6_init_3 3 rfl rfl)
theorem dX6_init_76 : decode cX6_init 76 = .ok (.putfield 15, 3) := dk_181 0 15 (dk_at dksX6_init_3 5 rfl rfl)
theorem dX6_init_79 : decode cX6_init 79 = .ok (.iinc 6 (-1), 3) := dk_132 6 255 (dk_at dksX6_init_3 8 rfl rfl)
theorem dX6_init_82 : decode cX6_init 82 = .ok (.goto (-53), 3) := dk_167 255 203 (dk_at dksX6_init_3 11 rfl rfl)
theorem dX6_init_85 : decode cX6_init 85 = .ok (.return_, 1) := dk_177 (dk_at dksX6_init_3 14 rfl rfl)
abbrev cX6_greatest : ByteArray := prog_3_method_2_code
def yX6_greatest : MethodName := ⟨RX6, "greatest", "(JI)J"⟩
def dkwX6_greatest_2 : List UInt8 := [22, 7, 10, 101, 55, 5, 167, 255, 213, 33, 173]
abbrev dktX6_greatest_2 : List UInt8 := dkwX6_greatest_2 ++ []
def dkwX6_greatest_1 : List UInt8 := [20, 0, 30, 109, 55, 7, 22, 7, 28, 133, 184, 0, 26, 30, 148, 157, 0, 9, 22, 7, 66, 167, 0, 9]
abbrev dktX6_greatest_1 : List UInt8 := dkwX6_greatest_1 ++ dktX6_greatest_2
def dkwX6_greatest_0 : List UInt8 := [28, 133, 66, 30, 28, 133, 97, 55, 5, 33, 22, 5, 148, 156, 0, 42, 33, 22, 5, 97, 10, 97]
abbrev dktX6_greatest_0 : List UInt8 := dkwX6_greatest_0 ++ dktX6_greatest_1
theorem dksX6_greatest_0 : cX6_greatest.data.toList.drop 0 = dktX6_greatest_0 := by decide +kernel
theorem dksX6_greatest_1 : cX6_greatest.data.toList.drop 22 = dktX6_greatest_1 := dk_seg dksX6_greatest_0 22 rfl rfl
theorem dksX6_greatest_2 : cX6_greatest.data.toList.drop 46 = dktX6_greatest_2 := dk_seg dksX6_greatest_1 24 rfl rfl
theorem dX6_greatest_0 : decode cX6_greatest 0 = .ok (.iload_n 2, 1) := dk_28 (dk_at dksX6_greatest_0 0 rfl rfl)
theorem dX6_greatest_1 : decode cX6_greatest 1 = .ok (.i2l, 1) := dk_133 (dk_at dksX6_greatest_0 1 rfl rfl)
theorem dX6_greatest_2 : decode cX6_greatest 2 = .ok (.lstore_n 3, 1) := dk_66 (dk_at dksX6_greatest_0 2 rfl rfl)
theorem dX6_greatest_3 : decode cX6_greatest 3 = .ok (.lload_n 0, 1) := dk_30 (dk_at dksX6_greatest_0 3 rfl rfl)
theorem dX6_greatest_4 : decode cX6_greatest 4 = .ok (.iload_n 2, 1) := dk_28 (dk_at dksX6_greatest_0 4 rfl rfl)
theorem dX6_greatest_5 : decode cX6_greatest 5 = .ok (.i2l, 1) := dk_133 (dk_at dksX6_greatest_0 5 rfl rfl)
theorem dX6_greatest_6 : decode cX6_greatest 6 = .ok (.ladd, 1) := dk_97 (dk_at dksX6_greatest_0 6 rfl rfl)
theorem dX6_greatest_7 : decode cX6_greatest 7 = .ok (.lstore 5, 2) := dk_55 5 (dk_at dksX6_greatest_0 7 rfl rfl)
theorem dX6_greatest_9 : decode cX6_greatest 9 = .ok (.lload_n 3, 1) := dk_33 (dk_at dksX6_greatest_0 9 rfl rfl)
theorem dX6_greatest_10 : decode cX6_greatest 10 = .ok (.lload 5, 2) := dk_22 5 (dk_at dksX6_greatest_0 10 rfl rfl)
theorem dX6_greatest_12 : decode cX6_greatest 12 = .ok (.lcmp, 1) := dk_148 (dk_at dksX6_greatest_0 12 rfl rfl)
theorem dX6_greatest_13 : decode cX6_greatest 13 = .ok (.ifCond .ge 42, 3) := dk_156 0 42 (dk_at dksX6_greatest_0 13 rfl rfl)
theorem dX6_greatest_16 : decode cX6_greatest 16 = .ok (.lload_n 3, 1) := dk_33 (dk_at dksX6_greatest_0 16 rfl rfl)
theorem dX6_greatest_17 : decode cX6_greatest 17 = .ok (.lload 5, 2) := dk_22 5 (dk_at dksX6_greatest_0 17 rfl rfl)
theorem dX6_greatest_19 : decode cX6_greatest 19 = .ok (.ladd, 1) := dk_97 (dk_at dksX6_greatest_0 19 rfl rfl)
theorem dX6_greatest_20 : decode cX6_greatest 20 = .ok (.lconst 1, 1) := dk_10 (dk_at dksX6_greatest_0 20 rfl rfl)
theorem dX6_greatest_21 : decode cX6_greatest 21 = .ok (.ladd, 1) := dk_97 (dk_at dksX6_greatest_0 21 rfl rfl)
theorem dX6_greatest_22 : decode cX6_greatest 22 = .ok (.ldc2_w 30, 3) := dk_20 0 30 (dk_at dksX6_greatest_1 0 rfl rfl)
theorem dX6_greatest_25 : decode cX6_greatest 25 = .ok (.ldiv, 1) := dk_109 (dk_at dksX6_greatest_1 3 rfl rfl)
theorem dX6_greatest_26 : decode cX6_greatest 26 = .ok (.lstore 7, 2) := dk_55 7 (dk_at dksX6_greatest_1 4 rfl rfl)
theorem dX6_greatest_28 : decode cX6_greatest 28 = .ok (.lload 7, 2) := dk_22 7 (dk_at dksX6_greatest_1 6 rfl rfl)
theorem dX6_greatest_30 : decode cX6_greatest 30 = .ok (.iload_n 2, 1) := dk_28 (dk_at dksX6_greatest_1 8 rfl rfl)
theorem dX6_greatest_31 : decode cX6_greatest 31 = .ok (.i2l, 1) := dk_133 (dk_at dksX6_greatest_1 9 rfl rfl)
theorem dX6_greatest_32 : decode cX6_greatest 32 = .ok (.invokestatic 26, 3) := dk_184 0 26 (dk_at dksX6_greatest_1 10 rfl rfl)
theorem dX6_greatest_35 : decode cX6_greatest 35 = .ok (.lload_n 0, 1) := dk_30 (dk_at dksX6_greatest_1 13 rfl rfl)
theorem dX6_greatest_36 : decode cX6_greatest 36 = .ok (.lcmp, 1) := dk_148 (dk_at dksX6_greatest_1 14 rfl rfl)
theorem dX6_greatest_37 : decode cX6_greatest 37 = .ok (.ifCond .gt 9, 3) := dk_157 0 9 (dk_at dksX6_greatest_1 15 rfl rfl)
theorem dX6_greatest_40 : decode cX6_greatest 40 = .ok (.lload 7, 2) := dk_22 7 (dk_at dksX6_greatest_1 18 rfl rfl)
theorem dX6_greatest_42 : decode cX6_greatest 42 = .ok (.lstore_n 3, 1) := dk_66 (dk_at dksX6_greatest_1 20 rfl rfl)
theorem dX6_greatest_43 : decode cX6_greatest 43 = .ok (.goto 9, 3) := dk_167 0 9 (dk_at dksX6_greatest_1 21 rfl rfl)
theorem dX6_greatest_46 : decode cX6_greatest 46 = .ok (.lload 7, 2) := dk_22 7 (dk_at dksX6_greatest_2 0 rfl rfl)
theorem dX6_greatest_48 : decode cX6_greatest 48 = .ok (.lconst 1, 1) := dk_10 (dk_at dksX6_greatest_2 2 rfl rfl)
theorem dX6_greatest_49 : decode cX6_greatest 49 = .ok (.lsub, 1) := dk_101 (dk_at dksX6_greatest_2 3 rfl rfl)
theorem dX6_greatest_50 : decode cX6_greatest 50 = .ok (.lstore 5, 2) := dk_55 5 (dk_at dksX6_greatest_2 4 rfl rfl)
theorem dX6_greatest_52 : decode cX6_greatest 52 = .ok (.goto (-43), 3) := dk_167 255 213 (dk_at dksX6_greatest_2 6 rfl rfl)
theorem dX6_greatest_55 : decode cX6_greatest 55 = .ok (.lload_n 3, 1) := dk_33 (dk_at dksX6_greatest_2 9 rfl rfl)
theorem dX6_greatest_56 : decode cX6_greatest 56 = .ok (.lreturn, 1) := dk_173 (dk_at dksX6_greatest_2 10 rfl rfl)
abbrev cX6_moved : ByteArray := prog_3_method_4_code
def yX6_moved : MethodName := ⟨RX6, "moved", "(II)J"⟩
def dkwX6_moved_1 : List UInt8 := [47, 27, 133, 97, 21, 5, 28, 96, 133, 184, 0, 34, 184, 0, 37, 66, 132, 5, 255, 167, 255, 221, 33, 173]
abbrev dktX6_moved_1 : List UInt8 := dkwX6_moved_1 ++ []
def dkwX6_moved_0 : List UInt8 := [9, 66, 42, 180, 0, 19, 54, 5, 21, 5, 42, 180, 0, 15, 161, 0, 32, 33, 42, 180, 0, 9, 21, 5]
abbrev dktX6_moved_0 : List UInt8 := dkwX6_moved_0 ++ dktX6_moved_1
theorem dksX6_moved_0 : cX6_moved.data.toList.drop 0 = dktX6_moved_0 := by decide +kernel
theorem dksX6_moved_1 : cX6_moved.data.toList.drop 24 = dktX6_moved_1 := dk_seg dksX6_moved_0 24 rfl rfl
theorem dX6_moved_0 : decode cX6_moved 0 = .ok (.lconst 0, 1) := dk_9 (dk_at dksX6_moved_0 0 rfl rfl)
theorem dX6_moved_1 : decode cX6_moved 1 = .ok (.lstore_n 3, 1) := dk_66 (dk_at dksX6_moved_0 1 rfl rfl)
theorem dX6_moved_2 : decode cX6_moved 2 = .ok (.aload_n 0, 1) := dk_42 (dk_at dksX6_moved_0 2 rfl rfl)
theorem dX6_moved_3 : decode cX6_moved 3 = .ok (.getfield 19, 3) := dk_180 0 19 (dk_at dksX6_moved_0 3 rfl rfl)
theorem dX6_moved_6 : decode cX6_moved 6 = .ok (.istore 5, 2) := dk_54 5 (dk_at dksX6_moved_0 6 rfl rfl)
theorem dX6_moved_8 : decode cX6_moved 8 = .ok (.iload 5, 2) := dk_21 5 (dk_at dksX6_moved_0 8 rfl rfl)
theorem dX6_moved_10 : decode cX6_moved 10 = .ok (.aload_n 0, 1) := dk_42 (dk_at dksX6_moved_0 10 rfl rfl)
theorem dX6_moved_11 : decode cX6_moved 11 = .ok (.getfield 15, 3) := dk_180 0 15 (dk_at dksX6_moved_0 11 rfl rfl)
theorem dX6_moved_14 : decode cX6_moved 14 = .ok (.if_icmp .lt 32, 3) := dk_161 0 32 (dk_at dksX6_moved_0 14 rfl rfl)
theorem dX6_moved_17 : decode cX6_moved 17 = .ok (.lload_n 3, 1) := dk_33 (dk_at dksX6_moved_0 17 rfl rfl)
theorem dX6_moved_18 : decode cX6_moved 18 = .ok (.aload_n 0, 1) := dk_42 (dk_at dksX6_moved_0 18 rfl rfl)
theorem dX6_moved_19 : decode cX6_moved 19 = .ok (.getfield 9, 3) := dk_180 0 9 (dk_at dksX6_moved_0 19 rfl rfl)
theorem dX6_moved_22 : decode cX6_moved 22 = .ok (.iload 5, 2) := dk_21 5 (dk_at dksX6_moved_0 22 rfl rfl)
theorem dX6_moved_24 : decode cX6_moved 24 = .ok (.laload, 1) := dk_47 (dk_at dksX6_moved_1 0 rfl rfl)
theorem dX6_moved_25 : decode cX6_moved 25 = .ok (.iload_n 1, 1) := dk_27 (dk_at dksX6_moved_1 1 rfl rfl)
theorem dX6_moved_26 : decode cX6_moved 26 = .ok (.i2l, 1) := dk_133 (dk_at dksX6_moved_1 2 rfl rfl)
theorem dX6_moved_27 : decode cX6_moved 27 = .ok (.ladd, 1) := dk_97 (dk_at dksX6_moved_1 3 rfl rfl)
theorem dX6_moved_28 : decode cX6_moved 28 = .ok (.iload 5, 2) := dk_21 5 (dk_at dksX6_moved_1 4 rfl rfl)
theorem dX6_moved_30 : decode cX6_moved 30 = .ok (.iload_n 2, 1) := dk_28 (dk_at dksX6_moved_1 6 rfl rfl)
theorem dX6_moved_31 : decode cX6_moved 31 = .ok (.iadd, 1) := dk_96 (dk_at dksX6_moved_1 7 rfl rfl)
theorem dX6_moved_32 : decode cX6_moved 32 = .ok (.i2l, 1) := dk_133 (dk_at dksX6_moved_1 8 rfl rfl)
theorem dX6_moved_33 : decode cX6_moved 33 = .ok (.invokestatic 34, 3) := dk_184 0 34 (dk_at dksX6_moved_1 9 rfl rfl)
theorem dX6_moved_36 : decode cX6_moved 36 = .ok (.invokestatic 37, 3) := dk_184 0 37 (dk_at dksX6_moved_1 12 rfl rfl)
theorem dX6_moved_39 : decode cX6_moved 39 = .ok (.lstore_n 3, 1) := dk_66 (dk_at dksX6_moved_1 15 rfl rfl)
theorem dX6_moved_40 : decode cX6_moved 40 = .ok (.iinc 5 (-1), 3) := dk_132 5 255 (dk_at dksX6_moved_1 16 rfl rfl)
theorem dX6_moved_43 : decode cX6_moved 43 = .ok (.goto (-35), 3) := dk_167 255 221 (dk_at dksX6_moved_1 19 rfl rfl)
theorem dX6_moved_46 : decode cX6_moved 46 = .ok (.lload_n 3, 1) := dk_33 (dk_at dksX6_moved_1 22 rfl rfl)
theorem dX6_moved_47 : decode cX6_moved 47 = .ok (.lreturn, 1) := dk_173 (dk_at dksX6_moved_1 23 rfl rfl)
abbrev cX6_top : ByteArray := prog_3_method_3_code
def yX6_top : MethodName := ⟨RX6, "top", "(I)J"⟩
def dkwX6_top_1 : List UInt8 := [180, 0, 9, 27, 47, 173]
abbrev dktX6_top_1 : List UInt8 := dkwX6_top_1 ++ []
def dkwX6_top_0 : List UInt8 := [27, 42, 180, 0, 15, 161, 0, 11, 27, 42, 180, 0, 19, 164, 0, 9, 20, 0, 32, 167, 0, 9, 42]
abbrev dktX6_top_0 : List UInt8 := dkwX6_top_0 ++ dktX6_top_1
theorem dksX6_top_0 : cX6_top.data.toList.drop 0 = dktX6_top_0 := by decide +kernel
theorem dksX6_top_1 : cX6_top.data.toList.drop 23 = dktX6_top_1 := dk_seg dksX6_top_0 23 rfl rfl
theorem dX6_top_0 : decode cX6_top 0 = .ok (.iload_n 1, 1) := dk_27 (dk_at dksX6_top_0 0 rfl rfl)
theorem dX6_top_1 : decode cX6_top 1 = .ok (.aload_n 0, 1) := dk_42 (dk_at dksX6_top_0 1 rfl rfl)
theorem dX6_top_2 : decode cX6_top 2 = .ok (.getfield 15, 3) := dk_180 0 15 (dk_at dksX6_top_0 2 rfl rfl)
theorem dX6_top_5 : decode cX6_top 5 = .ok (.if_icmp .lt 11, 3) := dk_161 0 11 (dk_at dksX6_top_0 5 rfl rfl)
theorem dX6_top_8 : decode cX6_top 8 = .ok (.iload_n 1, 1) := dk_27 (dk_at dksX6_top_0 8 rfl rfl)
theorem dX6_top_9 : decode cX6_top 9 = .ok (.aload_n 0, 1) := dk_42 (dk_at dksX6_top_0 9 rfl rfl)
theorem dX6_top_10 : decode cX6_top 10 = .ok (.getfield 19, 3) := dk_180 0 19 (dk_at dksX6_top_0 10 rfl rfl)
theorem dX6_top_13 : decode cX6_top 13 = .ok (.if_icmp .le 9, 3) := dk_164 0 9 (dk_at dksX6_top_0 13 rfl rfl)
theorem dX6_top_16 : decode cX6_top 16 = .ok (.ldc2_w 32, 3) := dk_20 0 32 (dk_at dksX6_top_0 16 rfl rfl)
theorem dX6_top_19 : decode cX6_top 19 = .ok (.goto 9, 3) := dk_167 0 9 (dk_at dksX6_top_0 19 rfl rfl)
theorem dX6_top_22 : decode cX6_top 22 = .ok (.aload_n 0, 1) := dk_42 (dk_at dksX6_top_0 22 rfl rfl)
theorem dX6_top_23 : decode cX6_top 23 = .ok (.getfield 9, 3) := dk_180 0 9 (dk_at dksX6_top_1 0 rfl rfl)
theorem dX6_top_26 : decode cX6_top 26 = .ok (.iload_n 1, 1) := dk_27 (dk_at dksX6_top_1 3 rfl rfl)
theorem dX6_top_27 : decode cX6_top 27 = .ok (.laload, 1) := dk_47 (dk_at dksX6_top_1 4 rfl rfl)
theorem dX6_top_28 : decode cX6_top 28 = .ok (.lreturn, 1) := dk_173 (dk_at dksX6_top_1 5 rfl rfl)
